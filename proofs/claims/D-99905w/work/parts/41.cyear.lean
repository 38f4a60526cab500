/-! THE COMPONENT'S YEAR: vows, lures -/
set_option maxRecDepth 100000
/-- the State at t is v, where it counts -/
def SR (c : jCo) (ci : jI) (t : Nat) (v : jV8) : Prop := ci t 0 = v 0 ∧ (∀ s, s < coS c → ci (t + 1) s = v (1 + 2 * s) ∧ ci (t + 2) s = v (2 + 2 * s)) ∧ (∀ b, b < coB c → ci (t + 4) b = v (7 + 3 * b) ∧ ci (t + 5) b = v (8 + 3 * b) ∧ ci (t + 6) b = v (9 + 3 * b)) ∧ ∀ p, p < coP c → ci (t + 8) p = v (25 + 2 * p) ∧ ci (t + 10) p = v (26 + 2 * p)
/-- the moment's parts -/
def mEn (cj : jJ) : jEn := fun k _ => if k < 11 then cj 12 (aOf k) else 0
theorem enM_m {n : Nat} {K : jK} {ci : jI} {cj : jJ} {cr : jR} : enM n false (mEn cj) K ci cj cr := by
  refine ⟨fun k hk => ?_, fun h => by cases h⟩
  unfold mEn
  rw [if_pos hk]; rfl
/-- a tree of the coast, told with the moment -/
theorem xV_at {n m r0 k : Nat} {al : Nat → Bool} {e : jEE} {K : jK} {ci : jI} {cj cj' : jJ} {cr : jR} {en : jEn} (h : xV n K ci cj cr r0 k al (some e)) (hm : 30 ≤ m) (hC : jCW K cr) (hj : ∀ i, i ≠ 12 → cj' i = cj i) (he : ∀ k, al k = true → k < 11 ∧ en k 0 = cj' 12 (aOf k)) :
    ∃ r, cr r0 k = some r ∧ (fev n m).1 r 11 K ci cj' cr = some (e en, ci, cj', cr) := by
  obtain ⟨r, h1, ⟨a1, a2, a3, a4, a5⟩, h3⟩ := h
  obtain ⟨cj2, b1, b2, b3⟩ := a5 m hm K ci cj' cr (mEn cj') ⟨Nat.le_refl _, fun i i1 i2 => ⟨rfl, rfl, rfl, hj i (by omega), rfl⟩⟩ hC enM_m
  refine ⟨r, h1, ?_⟩
  have e1 : e (mEn cj') = e en := h3 _ _ (fun k hk => by
    obtain ⟨k1, k2⟩ := he k hk
    unfold mEn
    rw [if_pos k1]; exact k2.symm)
  have e2 := b3 rfl
  subst e2
  rw [← e1]; exact b1
theorem xT_at {n m r0 k : Nat} {al : Nat → Bool} {e : jTT} {K : jK} {ci : jI} {cj cj' : jJ} {cr : jR} {en : jEn} (h : xT n K ci cj cr r0 k al (some e)) (hm : 30 ≤ m) (hC : jCW K cr) (hj : ∀ i, i ≠ 12 → cj' i = cj i) (he : ∀ k, al k = true → k < 11 ∧ en k 0 = cj' 12 (aOf k)) :
    ∃ r, cr r0 k = some r ∧ (fev n m).2 r 11 K ci cj' cr = some (if e en = true then nI 1 else nI 0, ci, cj', cr) := by
  obtain ⟨r, h1, ⟨a1, a2, a3, a4, a5⟩, h3⟩ := h
  obtain ⟨cj2, b1, b2, b3⟩ := a5 m hm K ci cj' cr (mEn cj') ⟨Nat.le_refl _, fun i i1 i2 => ⟨rfl, rfl, rfl, hj i (by omega), rfl⟩⟩ hC enM_m
  refine ⟨r, h1, ?_⟩
  have e1 : e (mEn cj') = e en := h3 _ _ (fun k hk => by
    obtain ⟨k1, k2⟩ := he k hk
    unfold mEn
    rw [if_pos k1]; exact k2.symm)
  have e2 := b3 rfl
  subst e2
  rw [← e1]; exact b1
/-- all but the moment stays -/
def jM12 (cj cj' : jJ) : Prop := ∀ i, i ≠ 12 → cj' i = cj i
theorem jM12.tr {a b d : jJ} (h : jM12 a b) (h' : jM12 b d) : jM12 a d := fun i hi => (h' i hi).trans (h i hi)
theorem jM12.up {a b : jJ} {k : Nat} {v : Int64} (h : jM12 a b) : jM12 a (ju b 12 k v) := fun i hi => by rw [ju_row _ _ hi]; exact h i hi
theorem CC.m12 {n : Nat} {c : jCo} {K : jK} {ci : jI} {cj cj' : jJ} {cr : jR} (h : CC n c K ci cj cr) (g : jM12 cj cj') : CC n c K ci cj' cr :=
  h.fr rfl (Nat.le_refl _) (fun i hi _ => ⟨rfl, rfl, rfl, g i (by omega), rfl⟩)
section
variable {n : Nat} {c : jCo} {K : jK} {ci : jI} {cj : jJ} {cr : jR} {t Y : Nat} {v : jV8}
theorem sp_isCounted {m p : Nat} (hm : 30 ≤ m) (hc : CR c) (hC : jCW K cr) (h : CC n c K ci cj cr) (ht : isSt t) (hs : SR c ci t v) (hp : p < coP c) :
    ∃ cj', fX5_isCounted n (fev n m).2 t (nI p) K ci cj cr = some (if cnt c v p = true then nI 1 else nI 0, ci, cj', cr) ∧ jM12 cj cj' := by
  obtain ⟨c1, c2, c3, c4, c5, c6, c7⟩ := hc
  obtain ⟨s1, s2, s3, s4⟩ := hs
  have hb := c6 p hp
  obtain ⟨rp, p1, p2, p3, p4, p5⟩ := e0_pairOf h hp
  obtain ⟨r0, lb, lp, ls, fb, fp, fs, h1, h2, h3, h4, h5, h6, h7, h8, h9, h10, h11, h12, h13, h14, h15, h16, h17, h18⟩ := h
  unfold fX5_isCounted fX5_isCounted_27 cnt
  rw [if_pos ht, h1, Option.bind_some, if_pos ⟨h2, h3⟩]
  cases ho : coC c with
  | none =>
    rw [ho] at h18
    rw [if_pos (show cr r0 8 = none from h18), if_pos (by rw [jok_t (by omega) (by omega)]; trivial), nI_cl (by omega), (s4 p hp).1]
    refine ⟨cj, ?_, fun _ _ => rfl⟩
    by_cases h0 : v (25 + 2 * p) ≤ 0
    · rw [if_pos h0, if_pos bt0, if_neg (by simpa using i32_nlt.mpr h0)]
    · rw [if_neg h0, if_pos bt1, if_pos (by simpa using i32_nle.mp h0)]
  | some e =>
    rw [ho] at h18
    have hne : ¬ cr r0 8 = none := by
      obtain ⟨r, q1, -⟩ := h18
      rw [q1]; exact fun h => by cases h
    rw [if_neg hne, p1]
    unfold jpb
    simp only [Option.bind_some]
    rw [if_pos ⟨p2, p3⟩, p5]
    simp (disch := omega) only [jok_t, if_true, nI_cl]
    rw [h1, Option.bind_some, if_pos ⟨h2, h3⟩, (s3 _ hb).1, s1, (s4 p hp).1, (s4 p hp).2]
    have J : jM12 cj (ju (ju (ju (ju cj 12 1 (v (7 + 3 * coN c p)).toInt64) 12 4 (v 0).toInt64) 12 6 (v (25 + 2 * p)).toInt64) 12 8 (v (26 + 2 * p)).toInt64) := (((jM12.up (fun _ _ => rfl)).up).up).up
    obtain ⟨r, q1, q2⟩ := xT_at (m := m) (cj' := ju (ju (ju (ju cj 12 1 (v (7 + 3 * coN c p)).toInt64) 12 4 (v 0).toInt64) 12 6 (v (25 + 2 * p)).toInt64) 12 8 (v (26 + 2 * p)).toInt64) (en := vC v p (coN c p)) h18 hm hC J (fun k hk => by
      simp only [alC, decide_eq_true_eq] at hk
      have hk' : k = 0 ∨ k = 1 ∨ k = 7 ∨ k = 8 := by omega
      rcases hk' with z | z | z | z <;> subst z <;> refine ⟨by omega, ?_⟩ <;> simp [vC, vS, aOf, ju_ap])
    rw [q1, Option.bind_some, q2]
    simp only [Option.bind_some]
    refine ⟨_, ?_, J⟩
    by_cases h0 : e (vC v p (coN c p)) = true
    · rw [if_pos h0, if_pos bt1]
    · rw [if_neg h0, if_pos bt0]
theorem sp_vowsOf {m b : Nat} (hn : 4000 ≤ n) (hm : 30 ≤ m) (hc : CR c) (hC : jCW K cr) (h : CC n c K ci cj cr) (ht : isSt t) (hs : SR c ci t v) (hb : b < coB c) :
    ∃ cj', fX5_vowsOf n (fev n m).2 t (nI b) K ci cj cr = some (vw c v b, ci, cj', cr) ∧ jM12 cj cj' := by
  have hP := hc.2.1
  have hB := hc.1
  have key : Wp (fX5_vowsOf_4 n (fev n m).2 t n (nI b) (nI 0) (nI 0) K ci cj cr) (fun q => q.1 = vw c v b ∧ q.2.1 = ci ∧ q.2.2.2 = cr ∧ jM12 cj q.2.2.1) := by
    refine Wp.loop3 (fun k (a0 : Int32) (a1 : Int32) (a2 : jJ) => fX5_vowsOf_4 n (fev n m).2 t k (nI b) a0 a1 K ci a2 cr) (fun r x => ∃ p, p + r = coP c ∧ x.2.1 = nI p ∧ x.1 = sg (fun p => if coN c p = b ∧ cnt c v p = true then v (25 + 2 * p) else nI 0) p ∧ jM12 cj x.2.2) _ ?_ n (coP c) (nI 0) (nI 0) cj (by omega) ⟨0, by omega, rfl, rfl, fun _ _ => rfl⟩
    rintro k r x l cj1 ⟨p, g1, g2, g3, g4⟩ ih
    simp only at g2 g3 g4 ⊢
    subst g2
    have h' := h.m12 g4
    rw [fX5_vowsOf_4.eq_2, wp_jpb, e0_pairs h', wp_some]
    simp only
    simp (disch := omega) only [nI_leN]
    by_cases hp : coP c ≤ p
    · have : p = coP c := by omega
      rw [if_pos hp, wp_some]
      try dsimp only
      exact ⟨by rw [g3, this]; rfl, rfl, rfl, g4⟩
    · rw [if_neg hp]
      obtain ⟨rp, p1, p2, p3, p4, p5⟩ := e0_pairOf h' (show p < coP c by omega)
      have hbp := hc.2.2.2.2.2.1 p (by omega)
      rw [wp_jpb, p1, wp_some]
      simp only
      rw [if_pos ⟨p2, p3⟩, p5]
      unfold fX5_vowsOf_48 fX5_vowsOf_49
      by_cases hbb : coN c p = b
      · rw [if_pos (show nI (coN c p) = nI b by rw [hbb]), wp_jpb]
        obtain ⟨cj2, q1, q2⟩ := sp_isCounted hm hc hC h' ht hs (show p < coP c by omega)
        rw [q1, wp_some]
        simp only
        by_cases hcn : cnt c v p = true
        · rw [if_pos hcn, if_neg n10, if_pos (by rw [jok_t (by omega) (by omega)]; trivial), nI_cl (by omega), nI_add, (hs.2.2.2 p (by omega)).1]
          refine ih (r - 1) _ (nI (p + 1)) cj2 (by omega) ⟨p + 1, by omega, rfl, ?_, g4.tr q2⟩
          show x + _ = sg _ p + (if coN c p = b ∧ cnt c v p = true then v (25 + 2 * p) else nI 0)
          rw [g3, if_pos ⟨hbb, hcn⟩]
        · rw [if_neg hcn, if_pos z00, nI_add]
          refine ih (r - 1) _ (nI (p + 1)) cj2 (by omega) ⟨p + 1, by omega, rfl, ?_, g4.tr q2⟩
          show x + _ = sg _ p + (if coN c p = b ∧ cnt c v p = true then v (25 + 2 * p) else nI 0)
          rw [g3, if_neg (fun z => hcn z.2)]
      · rw [if_neg (show ¬ nI (coN c p) = nI b by rw [nI_eqN (by omega) (by omega)]; exact hbb), nI_add]
        refine ih (r - 1) _ (nI (p + 1)) cj1 (by omega) ⟨p + 1, by omega, rfl, ?_, g4⟩
        show x + _ = sg _ p + (if coN c p = b ∧ cnt c v p = true then v (25 + 2 * p) else nI 0)
        rw [g3, if_neg (fun z => hbb z.1)]
  obtain ⟨⟨x, ci', cj', cr'⟩, k1, k2, k3, k4, k5⟩ := key
  simp only at k2 k3 k4 k5
  subst k2 k3 k4
  exact ⟨cj', by unfold fX5_vowsOf; rw [if_pos ht]; exact k1, k5⟩
/-- what a State's methods may write -/
def FS (t : Nat) (ci : jI) (cj : jJ) (cr : jR) (ci' : jI) (cj' : jJ) (cr' : jR) : Prop := (∀ i, i < t ∨ t + 52 ≤ i → ci' i = ci i) ∧ jM12 cj cj' ∧ ∀ i, i ≠ t + 11 → cr' i = cr i
theorem FS.tr {a1 a2 a3 : jI} {b1 b2 b3 : jJ} {d1 d2 d3 : jR} (h : FS t a1 b1 d1 a2 b2 d2) (h' : FS t a2 b2 d2 a3 b3 d3) : FS t a1 b1 d1 a3 b3 d3 :=
  ⟨fun i hi => (h'.1 i hi).trans (h.1 i hi), h.2.1.tr h'.2.1, fun i hi => (h'.2.2 i hi).trans (h.2.2 i hi)⟩
theorem FS.rfl' : FS t ci cj cr ci cj cr := ⟨fun _ _ => rfl, fun _ _ => rfl, fun _ _ => rfl⟩
theorem FS.up {a2 : jI} {b2 : jJ} {d2 : jR} {i k : Nat} {x : Int32} (h : FS t ci cj cr a2 b2 d2) (h1 : t ≤ i) (h2 : i < t + 52) : FS t ci cj cr (ju a2 i k x) b2 d2 :=
  ⟨fun j hj => by rw [ju_row _ _ (by omega)]; exact h.1 j hj, h.2⟩
theorem FS.j {a2 : jI} {b2 b3 : jJ} {d2 : jR} (h : FS t ci cj cr a2 b2 d2) (h1 : jM12 b2 b3) : FS t ci cj cr a2 b3 d2 := ⟨h.1, h.2.1.tr h1, h.2.2⟩
theorem st_rg (ht : isSt t) : 16 ≤ t ∧ t + 52 ≤ 1546 := by
  rcases ht with h | h | ⟨h1, h2, h3⟩ <;> omega
theorem CC.fs {ci' : jI} {cj' : jJ} {cr' : jR} (h : CC n c K ci cj cr) (ht : isSt t) (g : FS t ci cj cr ci' cj' cr') : CC n c K ci' cj' cr' := by
  have := st_rg ht
  refine h.fr (by rw [g.2.2 0 (by omega)]) (Nat.le_refl _) (fun i hi _ => ⟨rfl, rfl, g.1 i (by omega), g.2.1 i (by omega), g.2.2 i (by omega)⟩)
theorem jCW.fs {ci' : jI} {cj' : jJ} {cr' : jR} (h : jCW K cr) (ht : isSt t) (g : FS t ci cj cr ci' cj' cr') : jCW K cr' := by
  refine h.cr' (fun a ha k => ?_)
  rw [g.2.2 a (fun e => ?_)]
  have hk := sk11 h ht
  rw [← e] at hk
  omega
theorem SR.fr {ci' : jI} (h : SR c ci t v) (g : ∀ i, t ≤ i → i < t + 52 → i ≠ t + 3 → i ≠ t + 7 → i ≠ t + 9 → ci' i = ci i) : SR c ci' t v := by
  unfold SR
  rw [g t (by omega) (by omega) (by omega) (by omega) (by omega), g (t + 1) (by omega) (by omega) (by omega) (by omega) (by omega), g (t + 2) (by omega) (by omega) (by omega) (by omega) (by omega), g (t + 4) (by omega) (by omega) (by omega) (by omega) (by omega), g (t + 5) (by omega) (by omega) (by omega) (by omega) (by omega), g (t + 6) (by omega) (by omega) (by omega) (by omega) (by omega), g (t + 8) (by omega) (by omega) (by omega) (by omega) (by omega), g (t + 10) (by omega) (by omega) (by omega) (by omega) (by omega)]
  exact h
theorem sp_vows (hn : 4000 ≤ n) (hc : CR c) (hC : jCW K cr) (h : CC n c K ci cj cr) (ht : isSt t) (hs : SR c ci t v) :
    Wp (fX5_vows n t K ci cj cr) (fun q => (∀ b, b < coB c → q.2.1 (t + 7) b = vw c v b) ∧ (∀ i, i ≠ t + 7 → q.2.1 i = ci i) ∧ jM12 cj q.2.2.1 ∧ q.2.2.2 = cr) := by
  have hB := hc.1
  have htr := st_rg ht
  unfold fX5_vows
  rw [if_pos ht]
  refine Wp.loop3 (fun k (a0 : Int32) (a1 : jI) (a2 : jJ) => fX5_vows_2 n t k a0 K a1 a2 cr) (fun r x => ∃ b, b + r = coB c ∧ x.1 = nI b ∧ (∀ j, j < b → x.2.1 (t + 7) j = vw c v j) ∧ (∀ i, i ≠ t + 7 → x.2.1 i = ci i) ∧ jM12 cj x.2.2) _ ?_ n (coB c) (nI 0) ci cj (by omega) ⟨0, by omega, rfl, fun j hj => absurd hj (Nat.not_lt_zero j), fun _ _ => rfl, fun _ _ => rfl⟩
  rintro k r l ci1 cj1 ⟨b, g1, g2, g3, g4, g5⟩ ih
  simp only at g2 g3 g4 g5 ⊢
  subst g2
  have F : FS t ci cj cr ci1 cj1 cr := ⟨fun i hi => g4 i (by omega), g5, fun _ _ => rfl⟩
  have h' := h.fs ht F
  have hs' : SR c ci1 t v := hs.fr (fun i _ _ _ i4 _ => g4 i i4)
  rw [fX5_vows_2.eq_2, wp_jpb, e0_bays h', wp_some]
  simp only
  simp (disch := omega) only [nI_leN]
  by_cases hb : coB c ≤ b
  · have : b = coB c := by omega
    subst this
    rw [if_pos hb, wp_some]
    try dsimp only
    exact ⟨g3, g4, g5, rfl⟩
  · rw [if_neg hb, wp_jpb]
    obtain ⟨cj2, q1, q2⟩ := sp_vowsOf (m := 60) hn (by omega) hc hC h' ht hs' (show b < coB c by omega)
    show Wp (fX5_vowsOf n (fev n 60).2 t (nI b) K ci1 cj1 cr) _
    rw [q1, wp_some]
    simp only
    rw [if_pos (by rw [jok_t (by omega) (by omega)]; trivial), nI_cl (by omega), nI_add]
    refine ih (r - 1) (nI (b + 1)) _ cj2 (by omega) ⟨b + 1, by omega, rfl, fun j hj => ?_, fun i hi => ?_, g5.tr q2⟩
    · show ju ci1 (t + 7) b _ (t + 7) j = _
      by_cases hj2 : j = b
      · subst hj2; exact ju_eq _ _ _ _
      · rw [ju_ne2 _ _ hj2]; exact g3 j (by omega)
    · show ju ci1 (t + 7) b _ i = _
      rw [ju_row _ _ hi]; exact g4 i hi
theorem eJ_abs {x : Int32} : fJ12_abs n x K ci cj cr = some (iab x, ci, cj, cr) := by
  unfold fJ12_abs fJ12_abs_10 iab
  by_cases h : 0 ≤ x
  · rw [if_pos h, if_pos h]
  · rw [if_neg h, if_neg h]
theorem sp_luring {s b : Nat} (hc : CR c) (hC : jCW K cr) (h : CC n c K ci cj cr) (ht : isSt t) (hs : SR c ci t v) (h1s : s < coS c) (h1b : b < coB c) :
    ∃ cj', fX5_luring n t (nI s) (nI b) K ci cj cr = some (lur c v (ci (t + 7)) s b, ci, cj', cr) ∧ jM12 cj cj' := by
  obtain ⟨c1, c2, c3, c4, c5, c6, c7⟩ := hc
  obtain ⟨s1, s2, s3, s4⟩ := hs
  have hh := h
  obtain ⟨r0, lb, lp, ls, fb, fp, fs, h1, h2, h3, h4, h5, h6, h7, h8, h9, h10, h11, h12, h13, h14, h15, h16, h17, h18⟩ := h
  unfold fX5_luring lur
  rw [if_pos ht, h1, Option.bind_some, if_pos ⟨h2, h3⟩]
  cases ho : coL c with
  | none =>
    rw [ho] at h15
    rw [if_pos (show cr r0 5 = none from h15), if_pos (by rw [jok_t (by omega) (by omega)]; trivial), nI_cl (by omega)]
    exact ⟨cj, rfl, fun _ _ => rfl⟩
  | some e =>
    rw [ho] at h15
    have hne : ¬ cr r0 5 = none := by
      obtain ⟨r, q1, -⟩ := h15
      rw [q1]; exact fun h => by cases h
    rw [if_neg hne]
    simp (disch := omega) only [jok_t, if_true, nI_cl]
    have J1 : jM12 cj (ju (ju cj 12 0 (ci (t + 7) b).toInt64) 12 1 (ci (t + 4) b).toInt64) := (jM12.up (fun _ _ => rfl)).up
    obtain ⟨rb, p1, p2, p3, p4, p5⟩ := e0_bayOf (hh.m12 J1) h1b
    rw [p1]
    unfold jpb
    simp only [Option.bind_some]
    rw [if_pos ⟨p2, p3⟩, p5, eJ_abs]
    simp only [Option.bind_some]
    have J2 : jM12 cj (ju (ju (ju cj 12 0 (ci (t + 7) b).toInt64) 12 1 (ci (t + 4) b).toInt64) 12 2 (iab (ci (t + 1) s - coM c b)).toInt64) := J1.up
    obtain ⟨rs, p1, p2, p3, p4, p5⟩ := e0_shoalOf (hh.m12 J2) h1s
    rw [p1]
    simp only [Option.bind_some]
    rw [if_pos ⟨p2, p3⟩, p5, h1, Option.bind_some, if_pos ⟨h2, h3⟩, (s2 s h1s).1, (s3 b h1b).1, (s3 b h1b).2.2, s1]
    have J3 : jM12 cj (ju (ju (ju (ju (ju (ju cj 12 0 (ci (t + 7) b).toInt64) 12 1 (v (7 + 3 * b)).toInt64) 12 2 (iab (v (1 + 2 * s) - coM c b)).toInt64) 12 3 (coZ c s).toInt64) 12 4 (v 0).toInt64) 12 5 (v (9 + 3 * b)).toInt64) := (((((jM12.up (fun _ _ => rfl)).up).up).up).up).up
    obtain ⟨r, q1, q2⟩ := xV_at (m := 60) (cj' := ju (ju (ju (ju (ju (ju cj 12 0 (ci (t + 7) b).toInt64) 12 1 (v (7 + 3 * b)).toInt64) 12 2 (iab (v (1 + 2 * s) - coM c b)).toInt64) 12 3 (coZ c s).toInt64) 12 4 (v 0).toInt64) 12 5 (v (9 + 3 * b)).toInt64) (en := vL c v (ci (t + 7)) s b) h15 (by omega) hC J3 (fun k hk => by
      simp only [alL, decide_eq_true_eq] at hk
      have hk' : k = 0 ∨ k = 1 ∨ k = 2 ∨ k = 3 ∨ k = 4 ∨ k = 5 := by omega
      rcases hk' with z | z | z | z | z | z <;> subst z <;> refine ⟨by omega, ?_⟩ <;> simp [vL, vM, aOf, ju_ap])
    rw [q1, Option.bind_some]
    show ∃ cj', Option.bind ((fev n 60).1 r 11 K ci _ cr) _ = _ ∧ _
    rw [q2]
    exact ⟨_, rfl, J3⟩
theorem sp_choice {s : Nat} (hn : 4000 ≤ n) (hc : CR c) (hC : jCW K cr) (h : CC n c K ci cj cr) (ht : isSt t) (hs : SR c ci t v) (h1s : s < coS c) :
    ∃ cj', fX5_choice n t (nI s) K ci cj cr = some ((chs c v (ci (t + 7)) s (coB c)).1, ci, cj', cr) ∧ jM12 cj cj' := by
  have hB := hc.1
  have key : Wp (fX5_choice_7 n t n (nI s) (-1) (lN 0) (nI 0) K ci cj cr) (fun q => q.1 = (chs c v (ci (t + 7)) s (coB c)).1 ∧ q.2.1 = ci ∧ q.2.2.2 = cr ∧ jM12 cj q.2.2.1) := by
    refine Wp.loop4 (fun k (a0 : Int32) (a1 : Int64) (a2 : Int32) (a3 : jJ) => fX5_choice_7 n t k (nI s) a0 a1 a2 K ci a3 cr) (fun r x => ∃ i, i + r = coB c ∧ x.2.2.1 = nI i ∧ (x.1, x.2.1) = chs c v (ci (t + 7)) s i ∧ jM12 cj x.2.2.2) _ ?_ n (coB c) (-1) (lN 0) (nI 0) cj (by omega) ⟨0, by omega, rfl, rfl, fun _ _ => rfl⟩
    rintro k r l2 l3 l5 cj1 ⟨i, h1, h2, h3, h4⟩ ih
    simp only at h2 h3 h4 ⊢
    subst h2
    have h' := h.m12 h4
    rw [fX5_choice_7.eq_2, wp_jpb, e0_bays h', wp_some]
    simp only
    simp (disch := omega) only [nI_leN]
    by_cases hi : coB c ≤ i
    · have : i = coB c := by omega
      subst this
      rw [if_pos hi, wp_some]
      try dsimp only
      exact ⟨by rw [← h3], rfl, rfl, h4⟩
    · rw [if_neg hi, wp_jpb]
      obtain ⟨cj2, q1, q2⟩ := sp_luring hc hC h' ht hs h1s (show i < coB c by omega)
      rw [q1, wp_some]
      simp only
      unfold fX5_choice_44
      rw [nI_add]
      have h3b : l3 = (chs c v (ci (t + 7)) s i).2 := congrArg Prod.snd h3
      by_cases hl : l3 < lur c v (ci (t + 7)) s i
      · rw [if_pos hl]
        refine ih (r - 1) (nI i) _ (nI (i + 1)) _ (by omega) ⟨i + 1, by omega, rfl, ?_, h4.tr q2⟩
        show _ = if _ then _ else _
        rw [if_pos (by rw [← h3b]; exact hl)]
      · rw [if_neg hl]
        refine ih (r - 1) l2 l3 (nI (i + 1)) _ (by omega) ⟨i + 1, by omega, rfl, ?_, h4.tr q2⟩
        show _ = if _ then _ else _
        rw [if_neg (by rw [← h3b]; exact hl)]; exact h3
  obtain ⟨⟨x, ci', cj', cr'⟩, k1, k2, k3, k4, k5⟩ := key
  simp only at k2 k3 k4 k5
  subst k2 k3 k4
  exact ⟨cj', by unfold fX5_choice; rw [if_pos ht]; exact k1, k5⟩
end
