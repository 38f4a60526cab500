/-! THE COMPONENT'S YEAR: the whole -/
set_option maxRecDepth 100000
section
variable {n : Nat} {c : jCo} {K : jK} {ci : jI} {cj : jJ} {cr : jR} {t Y : Nat} {v : jV8}
theorem sp_mending {p : Nat} (hc : CR c) (hC : jCW K cr) (h : CC n c K ci cj cr) (ht : isSt t) (hs : SRm c ci t v) (htk : ∀ b, b < coB c → ci (t + 5) b = tks c v b) (hp : p < coP c) :
    ∃ cj', fX5_mending n t (nI p) K ci cj cr = some (mnd c v p, ci, cj', cr) ∧ jM12 cj cj' := by
  obtain ⟨c1, c2, c3, c4, c5, c6, c7⟩ := hc
  obtain ⟨s1, s2, s3⟩ := hs
  have hb := c6 p hp
  obtain ⟨rp, p1, p2, p3, p4, p5⟩ := e0_pairOf h hp
  obtain ⟨r0, lb, lp, ls, fb, fp, fs, h1, h2, h3, h4, h5, h6, h7, h8, h9, h10, h11, h12, h13, h14, h15, h16, h17, h18⟩ := h
  unfold fX5_mending mnd
  rw [if_pos ht, h1, Option.bind_some, if_pos ⟨h2, h3⟩]
  cases ho : coE c with
  | none =>
    rw [ho] at h16
    rw [if_pos (show cr r0 6 = none from h16), if_pos (by rw [jok_t (by omega) (by omega)]; trivial), nI_cl (by omega), (s3 p hp).1]
    exact ⟨cj, rfl, fun _ _ => rfl⟩
  | some e =>
    rw [ho] at h16
    have hne : ¬ cr r0 6 = none := by
      obtain ⟨r, q1, -⟩ := h16
      rw [q1]; exact fun h => by cases h
    rw [if_neg hne, p1]
    unfold jpb
    simp only [Option.bind_some]
    rw [if_pos ⟨p2, p3⟩, p5]
    simp (disch := omega) only [jok_t, if_true, nI_cl]
    rw [h1, Option.bind_some, if_pos ⟨h2, h3⟩, (s2 _ hb).1, (s2 _ hb).2, s1, (s3 p hp).1, (s3 p hp).2, htk _ hb]
    have J : jM12 cj (ju (ju (ju (ju (ju (ju cj 12 0 (vw c v (coN c p)).toInt64) 12 1 (v (7 + 3 * coN c p)).toInt64) 12 4 (v 0).toInt64) 12 6 (v (25 + 2 * p)).toInt64) 12 7 (tks c v (coN c p)).toInt64) 12 8 (v (26 + 2 * p)).toInt64) := (((((jM12.up (fun _ _ => rfl)).up).up).up).up).up
    obtain ⟨r, q1, q2⟩ := xV_at (m := 60) (cj' := ju (ju (ju (ju (ju (ju cj 12 0 (vw c v (coN c p)).toInt64) 12 1 (v (7 + 3 * coN c p)).toInt64) 12 4 (v 0).toInt64) 12 6 (v (25 + 2 * p)).toInt64) 12 7 (tks c v (coN c p)).toInt64) 12 8 (v (26 + 2 * p)).toInt64) (en := vM c v p) h16 (by omega) hC J (fun k hk => by
      simp only [alE, decide_eq_true_eq] at hk
      have hk' : k = 0 ∨ k = 1 ∨ k = 2 ∨ k = 6 ∨ k = 7 ∨ k = 8 := by omega
      rcases hk' with z | z | z | z | z | z <;> subst z <;> refine ⟨by omega, ?_⟩ <;> simp [vL, vM, aOf, ju_ap])
    rw [q1, Option.bind_some]
    show ∃ cj', Option.bind ((fev n 60).1 r 11 K ci _ cr) _ = _ ∧ _
    rw [q2]
    simp only [Option.bind_some]
    rw [e0_within (by omega)]
    exact ⟨_, rfl, J⟩
theorem sp_starving {b : Nat} (hC : jCW K cr) (h : CC n c K ci cj cr) (ht : isSt t) (h0 : ci t 0 = v 0) (hh : ci (t + 4) b = v (7 + 3 * b)) (hw : ci (t + 7) b = vw c v b) (htk : ci (t + 5) b = tks c v b) (hb6 : b < 6) :
    ∃ cj', fX5_starving n t (nI b) K ci cj cr = some (stv c v b, ci, cj', cr) ∧ jM12 cj cj' := by
  obtain ⟨r0, lb, lp, ls, fb, fp, fs, h1, h2, h3, h4, h5, h6, h7, h8, h9, h10, h11, h12, h13, h14, h15, h16, h17, h18⟩ := h
  unfold fX5_starving stv
  rw [if_pos ht, h1, Option.bind_some, if_pos ⟨h2, h3⟩]
  cases ho : coT c with
  | none =>
    rw [ho] at h17
    rw [if_pos (show cr r0 7 = none from h17)]
    simp (disch := omega) only [jok_t, if_true, nI_cl]
    rw [hh, htk, e0_within (by omega)]
    exact ⟨cj, rfl, fun _ _ => rfl⟩
  | some e =>
    rw [ho] at h17
    have hne : ¬ cr r0 7 = none := by
      obtain ⟨r, q1, -⟩ := h17
      rw [q1]; exact fun h => by cases h
    rw [if_neg hne]
    simp (disch := omega) only [jok_t, if_true, nI_cl]
    rw [Option.bind_some, if_pos ⟨h2, h3⟩, hh, hw, htk, h0]
    have J : jM12 cj (ju (ju (ju (ju cj 12 0 (vw c v b).toInt64) 12 1 (v (7 + 3 * b)).toInt64) 12 4 (v 0).toInt64) 12 7 (tks c v b).toInt64) := ((((jM12.up (fun _ _ => rfl)).up).up).up)
    obtain ⟨r, q1, q2⟩ := xV_at (m := 60) (cj' := ju (ju (ju (ju cj 12 0 (vw c v b).toInt64) 12 1 (v (7 + 3 * b)).toInt64) 12 4 (v 0).toInt64) 12 7 (tks c v b).toInt64) (en := vS c v b) h17 (by omega) hC J (fun k hk => by
      simp only [alT, decide_eq_true_eq] at hk
      have hk' : k = 0 ∨ k = 1 ∨ k = 2 ∨ k = 6 := by omega
      rcases hk' with z | z | z | z <;> subst z <;> refine ⟨by omega, ?_⟩ <;> simp [vC, vS, aOf, ju_ap])
    rw [q1, Option.bind_some]
    show ∃ cj', jpb ((fev n 60).1 r 11 K ci _ cr) _ = _ ∧ _
    unfold jpb
    rw [q2]
    simp only [Option.bind_some]
    rw [e0_within (by omega)]
    exact ⟨_, rfl, J⟩
theorem eJ_min99 {x : Int32} (h : rg x 99) : fJ12_min n (nI 99) (x + nI 1) K ci cj cr = some (snc x, ci, cj, cr) := by
  obtain ⟨k, h1, h2⟩ := h
  unfold fJ12_min fJ12_min_10 snc
  rw [h2, nI_add]
  by_cases hk : k + 1 < 99
  · rw [if_pos (nI_lt hk (by omega)), if_neg (nI_ge (by omega) (by omega))]
  · rw [if_neg (nI_nlt (by omega) (by omega))]
    by_cases hk2 : 99 ≤ k
    · rw [if_pos (nI_le hk2 (by omega))]
      have : k = 99 := by omega
      subst this; rfl
    · rw [if_neg (nI_ge (by omega) (by omega))]
      have : k = 98 := by omega
      subst this; rfl
/-- the State at t is v, with what it keeps -/
def StR (c : jCo) (K : jK) (ci : jI) (cr : jR) (t : Nat) (v : jV8) : Prop := SR c ci t v ∧ ∃ f, RW K cr t f ∧ KR ci t f v
theorem sp_goes (hn : 4000 ≤ n) (hc : CR c) (hC : jCW K cr) (h : CC n c K ci cj cr) (ht : isSt t) (hst : StR c K ci cr t v) (hv : VR c v Y) :
    Wp (fX5_goes n t K ci cj cr) (fun q => q.1 = cms c v ∧ StR c K q.2.1 q.2.2.2 t (goF c v) ∧ FS t ci cj cr q.2.1 q.2.2.1 q.2.2.2) := by
  obtain ⟨hs, f, hR, hk⟩ := hst
  have hB := hc.1
  have hP := hc.2.1
  have hS := hc.2.2.1
  have htr := st_rg ht
  unfold fX5_goes
  rw [if_pos ht, wp_jpb]
  refine (sp_vows hn hc hC h ht hs).mono ?_
  rintro ⟨u, ci1, cj1, cr1⟩ ⟨a1, a2, a3, a4⟩
  simp only at a1 a2 a3 a4 ⊢
  subst a4
  have F1 : FS t ci cj cr1 ci1 cj1 cr1 := ⟨fun i hi => a2 i (by omega), a3, fun _ _ => rfl⟩
  refine Wp.loop3 (fun k (a0 : Int32) (a1 : jI) (a2 : jJ) => fX5_goes_6 n t k a0 K a1 a2 cr1) (fun r x => ∃ s, s + r = coS c ∧ x.1 = nI s ∧ (∀ j, j < s → x.2.1 (t + 3) j = tos c v j) ∧ (∀ i, i ≠ t + 3 → x.2.1 i = ci1 i) ∧ jM12 cj x.2.2) _ ?_ n (coS c) (nI 0) ci1 cj1 (by omega) ⟨0, by omega, rfl, fun j hj => absurd hj (Nat.not_lt_zero j), fun _ _ => rfl, a3⟩
  rintro k r l ci2 cj2 ⟨s, b1, b2, b3, b4, b5⟩ ih
  simp only at b2 b3 b4 b5 ⊢
  subst b2
  have F2 : FS t ci cj cr1 ci2 cj2 cr1 := ⟨fun i hi => by rw [b4 i (by omega)]; exact F1.1 i hi, b5, fun _ _ => rfl⟩
  have h2 := h.fs ht F2
  have hs2 : SR c ci2 t v := hs.fr (fun i i1 i2 i3 i4 i5 => by rw [b4 i i3, a2 i i4])
  have w2 : ∀ b, b < coB c → ci2 (t + 7) b = vw c v b := fun b hb => by rw [b4 _ (by omega)]; exact a1 b hb
  rw [fX5_goes_6.eq_2, wp_jpb, e0_shoals h2, wp_some]
  simp only
  simp (disch := omega) only [nI_leN]
  by_cases hsl : coS c ≤ s
  · have hse : s = coS c := by omega
    rw [if_pos hsl, wp_jpb]
    clear ih
    refine (sp_come hn hc h2 ht hs2 (fun s hs => b3 s (by omega)) hR (hk.fr hR (by rw [b4 t (by omega), a2 t (by omega)]) (fun i i1 i2 => by rw [b4 i (by omega), a2 i (by omega)]))).mono ?_
    rintro ⟨x, ci3, cj3, cr3⟩ ⟨d1, d2, d3, d4, d5, ⟨f1, d6, d7⟩, d8, d9⟩
    simp only at d1 d2 d3 d4 d5 d6 d7 d8 d9 ⊢
    subst d1 d9
    have F3 : FS t ci cj cr1 ci3 cj3 cr3 := F2.tr d8
    have hm3 : SRm c ci3 t v := by
      refine ⟨d5.trans hs2.1, fun b hb => ⟨?_, ?_⟩, fun p hp => ⟨?_, ?_⟩⟩
      · rw [d4 (t + 4) (by omega) (by omega) (by omega) (by omega) (by omega) (by omega)]; exact (hs2.2.2.1 b hb).1
      · rw [d4 (t + 7) (by omega) (by omega) (by omega) (by omega) (by omega) (by omega)]; exact w2 b hb
      · rw [d4 (t + 8) (by omega) (by omega) (by omega) (by omega) (by omega) (by omega)]; exact (hs2.2.2.2 p hp).1
      · rw [d4 (t + 10) (by omega) (by omega) (by omega) (by omega) (by omega) (by omega)]; exact (hs2.2.2.2 p hp).2
    -- pairs mend
    refine Wp.loop3 (fun k (a0 : Int32) (a1 : jI) (a2 : jJ) => fX5_goes_41 n t k (cms c v) a0 K a1 a2 cr3) (fun r x => ∃ p, p + r = coP c ∧ x.1 = nI p ∧ (∀ j, j < p → x.2.1 (t + 9) j = mnd c v j) ∧ (∀ i, i ≠ t + 9 → x.2.1 i = ci3 i) ∧ jM12 cj x.2.2) _ ?_ n (coP c) (nI 0) ci3 cj3 (by omega) ⟨0, by omega, rfl, fun j hj => absurd hj (Nat.not_lt_zero j), fun _ _ => rfl, b5⟩
    rintro k r l ci4 cj4 ⟨p, e1, e2, e3, e4, e5⟩ ih
    simp only at e2 e3 e4 e5 ⊢
    subst e2
    have F4 : FS t ci cj cr1 ci4 cj4 cr3 := ⟨fun i hi => by rw [e4 i (by omega)]; exact F3.1 i hi, e5, F3.2.2⟩
    have h4 := h.fs ht F4
    have hC4 := hC.fs ht F4
    rw [fX5_goes_41.eq_2, wp_jpb, e0_pairs h4, wp_some]
    simp only
    simp (disch := omega) only [nI_leN]
    by_cases hpl : coP c ≤ p
    · have hpe : p = coP c := by omega
      rw [if_pos hpl]
      clear ih
      -- pairs are written
      refine Wp.loop3 (fun k (a0 : Int32) (a1 : jI) (a2 : jJ) => fX5_goes_71 n t k (cms c v) a0 K a1 a2 cr3) (fun r x => ∃ p, p + r = coP c ∧ x.1 = nI p ∧ (∀ j, j < coP c → x.2.1 (t + 8) j = if j < p then mnd c v j else v (25 + 2 * j)) ∧ (∀ j, j < coP c → x.2.1 (t + 10) j = if j < p then snc (v (26 + 2 * j)) else v (26 + 2 * j)) ∧ (∀ i, i ≠ t + 8 → i ≠ t + 10 → x.2.1 i = ci4 i) ∧ x.2.2 = cj4) _ ?_ n (coP c) (nI 0) ci4 cj4 (by omega) ⟨0, by omega, rfl, fun j hj => by rw [if_neg (by omega)]; show ci4 _ j = _; rw [e4 _ (by omega)]; exact (hm3.2.2 j hj).1, fun j hj => by rw [if_neg (by omega)]; show ci4 _ j = _; rw [e4 _ (by omega)]; exact (hm3.2.2 j hj).2, fun _ _ _ => rfl, rfl⟩
      rintro k r l ci5 cj5 ⟨p, g1, g2, g3, g4, g5, g6⟩ ih
      simp only at g2 g3 g4 g5 g6 ⊢
      subst g2 g6
      have F5 : FS t ci cj cr1 ci5 cj5 cr3 := ⟨fun i hi => by rw [g5 i (by omega) (by omega)]; exact F4.1 i hi, e5, F3.2.2⟩
      have h5 := h.fs ht F5
      rw [fX5_goes_71.eq_2, wp_jpb, e0_pairs h5, wp_some]
      simp only
      simp (disch := omega) only [nI_leN]
      by_cases hpl2 : coP c ≤ p
      · have hpe2 : p = coP c := by omega
        rw [if_pos hpl2]
        clear ih
        -- bays are written
        refine Wp.loop3 (fun k (a0 : Int32) (a1 : jI) (a2 : jJ) => fX5_goes_121 n t k (cms c v) a0 K a1 a2 cr3) (fun r x => ∃ b, b + r = coB c ∧ x.1 = nI b ∧ (∀ j, j < coB c → x.2.1 (t + 4) j = if j < b then stv c v j else v (7 + 3 * j)) ∧ (∀ j, j < b → x.2.1 (t + 6) j = vw c v j) ∧ (∀ i, i ≠ t + 4 → i ≠ t + 6 → x.2.1 i = ci5 i) ∧ jM12 cj x.2.2) _ ?_ n (coB c) (nI 0) ci5 cj5 (by omega) ⟨0, by omega, rfl, fun j hj => by rw [if_neg (by omega)]; show ci5 _ j = _; rw [g5 _ (by omega) (by omega), e4 _ (by omega)]; exact (hm3.2.1 j hj).1, fun j hj => absurd hj (Nat.not_lt_zero j), fun _ _ _ => rfl, e5⟩
        rintro k r l ci6 cj6 ⟨b, k1, k2, k3, k4, k5, k6⟩ ih
        simp only at k2 k3 k4 k5 k6 ⊢
        subst k2
        have F6 : FS t ci cj cr1 ci6 cj6 cr3 := ⟨fun i hi => by rw [k5 i (by omega) (by omega)]; exact F5.1 i hi, k6, F3.2.2⟩
        have h6 := h.fs ht F6
        have hC6 := hC.fs ht F6
        have z3 : ∀ i, i ≠ t + 4 → i ≠ t + 6 → i ≠ t + 8 → i ≠ t + 10 → i ≠ t + 9 → ci6 i = ci3 i := fun i i1 i2 i3 i4 i5 => by rw [k5 i i1 i2, g5 i i3 i4, e4 i i5]
        rw [fX5_goes_121.eq_2, wp_jpb, e0_bays h6, wp_some]
        simp only
        simp (disch := omega) only [nI_leN]
        by_cases hbl : coB c ≤ b
        · have hbe : b = coB c := by omega
          rw [if_pos hbl, wp_some]
          try dsimp only
          refine ⟨rfl, ⟨⟨?_, fun s hs => ⟨?_, ?_⟩, fun j hj => ⟨?_, ?_, ?_⟩, fun j hj => ⟨?_, ?_⟩⟩, f1, d6, ?_⟩, F6.up (by omega) (by omega)⟩
          · show ju ci6 t 0 _ t 0 = goF c v 0
            rw [ju_eq, z3 t (by omega) (by omega) (by omega) (by omega) (by omega), hm3.1]; rfl
          · show ju ci6 t 0 _ (t + 1) s = goF c v (1 + 2 * s)
            rw [ju_row _ _ (by omega), z3 _ (by omega) (by omega) (by omega) (by omega) (by omega), (d2 s hs).1]
            unfold goF; rw [if_pos (by omega)]
          · show ju ci6 t 0 _ (t + 2) s = goF c v (2 + 2 * s)
            rw [ju_row _ _ (by omega), z3 _ (by omega) (by omega) (by omega) (by omega) (by omega), (d2 s hs).2]
            unfold goF; rw [if_pos (by omega), goV_a hs (by omega)]
          · show ju ci6 t 0 _ (t + 4) j = goF c v (7 + 3 * j)
            rw [ju_row _ _ (by omega), k3 j hj, if_pos (by omega)]
            unfold goF; rw [if_pos (by omega), goV_h hj (by omega)]
          · show ju ci6 t 0 _ (t + 5) j = goF c v (8 + 3 * j)
            rw [ju_row _ _ (by omega), z3 _ (by omega) (by omega) (by omega) (by omega) (by omega), d3 j hj]
            unfold goF; rw [if_pos (by omega), goV_t hj (by omega)]
          · show ju ci6 t 0 _ (t + 6) j = goF c v (9 + 3 * j)
            rw [ju_row _ _ (by omega), k4 j (by omega)]
            unfold goF; rw [if_pos (by omega), goV_l hj (by omega)]
          · show ju ci6 t 0 _ (t + 8) j = goF c v (25 + 2 * j)
            rw [ju_row _ _ (by omega), k5 _ (by omega) (by omega), g3 j hj, if_pos (by omega)]
            unfold goF; rw [if_pos (by omega), goV_b hj (by omega)]
          · show ju ci6 t 0 _ (t + 10) j = goF c v (26 + 2 * j)
            rw [ju_row _ _ (by omega), k5 _ (by omega) (by omega), g4 j hj, if_pos (by omega)]
            unfold goF; rw [if_pos (by omega), goV_s hj (by omega)]
          · obtain ⟨m, m1, m2, m3, m4⟩ := d7
            refine ⟨m, m1, by unfold goF; rw [if_neg (by omega)]; exact m2, ?_, fun k i hk hi => ?_⟩
            · show ju ci6 t 0 _ t 1 = _
              rw [ju_ne2 _ _ (by decide), z3 t (by omega) (by omega) (by omega) (by omega) (by omega)]; exact m3
            · obtain ⟨-, -, -, -, r1, r2⟩ := d6.1 k (by omega)
              show ju ci6 t 0 _ (f1 k) i = _
              rw [ju_row _ _ (by omega), z3 _ (by omega) (by omega) (by omega) (by omega) (by omega), m4 k i hk hi]
              unfold goF; rw [if_neg (by omega)]
        · rw [if_neg hbl, wp_jpb]
          obtain ⟨cj7, q1, q2⟩ := sp_starving (v := v) (b := b) hC6 h6 ht (by rw [z3 t (by omega) (by omega) (by omega) (by omega) (by omega)]; exact hm3.1) (by rw [k3 b (by omega), if_neg (by omega)]) (by rw [z3 _ (by omega) (by omega) (by omega) (by omega) (by omega)]; exact (hm3.2.1 b (by omega)).2) (by rw [z3 _ (by omega) (by omega) (by omega) (by omega) (by omega)]; exact d3 b (by omega)) (by omega)
          rw [q1, wp_some]
          try dsimp only
          have e7 : ci6 (t + 7) b = vw c v b := by rw [z3 _ (by omega) (by omega) (by omega) (by omega) (by omega)]; exact (hm3.2.1 b (by omega)).2
          simp (disch := omega) only [jok_t, if_true, nI_cl, ju_row, nI_add, e7]
          refine ih (r - 1) (nI (b + 1)) _ cj7 (by omega) ⟨b + 1, by omega, rfl, fun j hj => ?_, fun j hj => ?_, fun i i1 i2 => ?_, k6.tr q2⟩
          · show ju (ju ci6 (t + 4) b _) (t + 6) b _ (t + 4) j = _
            rw [ju_row _ _ (by omega)]
            by_cases j2 : j = b
            · subst j2; rw [ju_eq, if_pos (by omega)]
            · rw [ju_ne2 _ _ j2, k3 j hj]
              by_cases j3 : j < b
              · rw [if_pos j3, if_pos (by omega)]
              · rw [if_neg j3, if_neg (by omega)]
          · show ju (ju ci6 (t + 4) b _) (t + 6) b _ (t + 6) j = _
            by_cases j2 : j = b
            · subst j2; rw [ju_eq]
            · rw [ju_ne2 _ _ j2, ju_row _ _ (by omega)]; exact k4 j (by omega)
          · show ju (ju ci6 (t + 4) b _) (t + 6) b _ i = _
            rw [ju_row _ _ i2, ju_row _ _ i1]; exact k5 i i1 i2
      · rw [if_neg hpl2]
        have e9 : ci5 (t + 9) p = mnd c v p := by rw [g5 _ (by omega) (by omega)]; exact e3 p (by omega)
        have e10 : ci5 (t + 10) p = v (26 + 2 * p) := by rw [g4 p (by omega), if_neg (by omega)]
        simp (disch := omega) only [jok_t, if_true, nI_cl, ju_row, e9, e10]
        rw [wp_jpb, eJ_min99 (hv.2.2.2 p (by omega)).2, wp_some]
        try dsimp only
        simp (disch := omega) only [jok_t, if_true, nI_cl, nI_add]
        refine ih (r - 1) (nI (p + 1)) _ cj5 (by omega) ⟨p + 1, by omega, rfl, fun j hj => ?_, fun j hj => ?_, fun i i1 i2 => ?_, rfl⟩
        · show ju (ju ci5 (t + 8) p _) (t + 10) p _ (t + 8) j = _
          rw [ju_row _ _ (by omega)]
          by_cases j2 : j = p
          · subst j2; rw [ju_eq, if_pos (by omega)]
          · rw [ju_ne2 _ _ j2, g3 j hj]
            by_cases j3 : j < p
            · rw [if_pos j3, if_pos (by omega)]
            · rw [if_neg j3, if_neg (by omega)]
        · show ju (ju ci5 (t + 8) p _) (t + 10) p _ (t + 10) j = _
          by_cases j2 : j = p
          · subst j2; rw [ju_eq, if_pos (by omega)]
          · rw [ju_ne2 _ _ j2, ju_row _ _ (by omega), g4 j hj]
            by_cases j3 : j < p
            · rw [if_pos j3, if_pos (by omega)]
            · rw [if_neg j3, if_neg (by omega)]
        · show ju (ju ci5 (t + 8) p _) (t + 10) p _ i = _
          rw [ju_row _ _ i2, ju_row _ _ i1]; exact g5 i i1 i2
    · rw [if_neg hpl, wp_jpb]
      have hm4 : SRm c ci4 t v := ⟨by rw [e4 t (by omega)]; exact hm3.1, fun b hb => ⟨by rw [e4 _ (by omega)]; exact (hm3.2.1 b hb).1, by rw [e4 _ (by omega)]; exact (hm3.2.1 b hb).2⟩, fun p hp => ⟨by rw [e4 _ (by omega)]; exact (hm3.2.2 p hp).1, by rw [e4 _ (by omega)]; exact (hm3.2.2 p hp).2⟩⟩
      obtain ⟨cj5, q1, q2⟩ := sp_mending (v := v) (p := p) hc hC4 h4 ht hm4 (fun b hb => by rw [e4 _ (by omega)]; exact d3 b hb) (by omega)
      rw [q1, wp_some]
      try dsimp only
      simp (disch := omega) only [jok_t, if_true, nI_cl, nI_add]
      refine ih (r - 1) (nI (p + 1)) _ cj5 (by omega) ⟨p + 1, by omega, rfl, fun j hj => ?_, fun i hi => ?_, e5.tr q2⟩
      · show ju ci4 (t + 9) p _ (t + 9) j = _
        by_cases j2 : j = p
        · subst j2; exact ju_eq _ _ _ _
        · rw [ju_ne2 _ _ j2]; exact e3 j (by omega)
      · show ju ci4 (t + 9) p _ i = _
        rw [ju_row _ _ hi]; exact e4 i hi
  · rw [if_neg hsl, wp_jpb]
    obtain ⟨cj3, q1, q2⟩ := sp_choice (s := s) hn hc hC h2 ht hs2 (by omega)
    have e : (chs c v (ci2 (t + 7)) s (coB c)).1 = tos c v s := by
      unfold tos
      rw [chs_congr rfl rfl (fun b hb => ⟨rfl, rfl, w2 b hb⟩)]
    rw [q1, wp_some, e]
    simp (disch := omega) only [jok_t, if_true, nI_cl, nI_add]
    refine ih (r - 1) (nI (s + 1)) _ cj3 (by omega) ⟨s + 1, by omega, rfl, fun j hj => ?_, fun i hi => ?_, b5.tr q2⟩
    · show ju ci2 (t + 3) s _ (t + 3) j = _
      by_cases j2 : j = s
      · subst j2; exact ju_eq _ _ _ _
      · rw [ju_ne2 _ _ j2]; exact b3 j (by omega)
    · show ju ci2 (t + 3) s _ i = _
      rw [ju_row _ _ hi]; exact b4 i hi
end
