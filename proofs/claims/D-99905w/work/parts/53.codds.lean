/-! ODDS IN THE COMPONENT -/
set_option maxRecDepth 100000
theorem ns_congr {f g : Nat → Nat} : ∀ {n : Nat}, (∀ k, k < n → f k = g k) → ns f n = ns g n
  | 0, _ => rfl
  | n + 1, h => by
    show ns f n + f n = ns g n + g n
    rw [ns_congr (fun k hk => h k (by omega)), h n (by omega)]
def drv (v : jV8) (s : Nat) (x : Int32) : jV8 := upv (upv v (1 + 2 * s) x) (2 + 2 * s) (-1)
theorem drv_ne {v : jV8} {s k : Nat} {x : Int32} (h1 : k ≠ 1 + 2 * s) (h2 : k ≠ 2 + 2 * s) : drv v s x k = v k := by
  unfold drv; rw [upv_ne h2, upv_ne h1]
theorem drv_m {v : jV8} {s : Nat} {x : Int32} : drv v s x (1 + 2 * s) = x := by
  unfold drv; rw [upv_ne (by omega), upv_eq]
theorem drv_a {v : jV8} {s : Nat} {x : Int32} : drv v s x (2 + 2 * s) = -1 := upv_eq _ _ _
theorem VR_drv {c : jCo} {v : jV8} {Y s : Nat} {x : Int32} (h : VR c v Y) (hc : CR c) (hs : s < 3) (hx : rg x 99) : VR c (drv v s x) Y := by
  obtain ⟨v1, v2, v3, v4⟩ := h
  refine ⟨by rw [drv_ne (by omega) (by omega)]; exact v1, fun q hq => ⟨?_, ?_⟩, fun b hb => ?_, fun q hq => ?_⟩
  · by_cases e : q = s
    · subst e; rw [drv_m]; exact hx
    · rw [drv_ne (by omega) (by omega)]; exact (v2 q hq).1
  · by_cases e : q = s
    · subst e; rw [drv_a]; exact Or.inl rfl
    · rw [drv_ne (by omega) (by omega)]; exact (v2 q hq).2
  · rw [drv_ne (by omega) (by omega), drv_ne (by omega) (by omega), drv_ne (by omega) (by omega)]; exact v3 b hb
  · rw [drv_ne (by omega) (by omega), drv_ne (by omega) (by omega)]; exact v4 q hq
section
variable {n : Nat} {c : jCo} {K : jK} {ci ci1 ci2 : jI} {cj cj1 cj2 : jJ} {cr cr1 cr2 : jR} {v w : jV8}
theorem e0_storm (h : CC n c K ci cj cr) : ∃ r0, cr 0 0 = some r0 ∧ K.1 r0 = 1 ∧ r0 < K.2.2 ∧ ci r0 1 = nI (coW c) := by
  obtain ⟨r0, lb, lp, ls, fb, fp, fs, h1, h2, h3, h4, h5, -⟩ := h
  exact ⟨r0, h1, h2, h3, h5⟩
theorem StR.driv {t s : Nat} {x : Int32} (hc : CR c) (h : StR c K ci cr t w) (hs : s < 3) : StR c K (ju (ju ci (t + 1) s x) (t + 2) s (-1)) cr t (drv w s x) := by
  have hB := hc.1
  obtain ⟨⟨s1, s2, s3, s4⟩, f, s5, s6⟩ := h
  refine ⟨⟨?_, fun q hq => ⟨?_, ?_⟩, fun b hb => ⟨?_, ?_, ?_⟩, fun q hq => ⟨?_, ?_⟩⟩, f, s5, ?_⟩
  · rw [ju_row _ _ (by omega), ju_row _ _ (by omega), drv_ne (by omega) (by omega)]; exact s1
  · rw [ju_row _ _ (by omega)]
    by_cases e : q = s
    · subst e; rw [ju_eq, drv_m]
    · rw [ju_ne2 _ _ e, drv_ne (by omega) (by omega)]; exact (s2 q hq).1
  · by_cases e : q = s
    · subst e; rw [ju_eq, drv_a]
    · rw [ju_ne2 _ _ e, ju_row _ _ (by omega), drv_ne (by omega) (by omega)]; exact (s2 q hq).2
  · rw [ju_row _ _ (by omega), ju_row _ _ (by omega), drv_ne (by omega) (by omega)]; exact (s3 b hb).1
  · rw [ju_row _ _ (by omega), ju_row _ _ (by omega), drv_ne (by omega) (by omega)]; exact (s3 b hb).2.1
  · rw [ju_row _ _ (by omega), ju_row _ _ (by omega), drv_ne (by omega) (by omega)]; exact (s3 b hb).2.2
  · rw [ju_row _ _ (by omega), ju_row _ _ (by omega), drv_ne (by omega) (by omega)]; exact (s4 q hq).1
  · rw [ju_row _ _ (by omega), ju_row _ _ (by omega), drv_ne (by omega) (by omega)]; exact (s4 q hq).2
  · obtain ⟨m, m1, m2, m3, m4⟩ := s6
    refine ⟨m, m1, by rw [drv_ne (by omega) (by omega)]; exact m2, by rw [ju_row _ _ (by omega), ju_row _ _ (by omega)]; exact m3, fun k i hk hi => ?_⟩
    obtain ⟨-, -, -, -, r1, r2⟩ := s5.1 k (by omega)
    rw [ju_row _ _ (by omega), ju_row _ _ (by omega), drv_ne (by omega) (by omega)]; exact m4 k i hk hi
theorem e0_drives {t s : Nat} {x : Int32} (ht : isSt t) (hs : s < 3) : fX0_drives n t (nI s) x K ci cj cr = some ((), ju (ju ci (t + 1) s x) (t + 2) s (-1), cj, cr) := by
  unfold fX0_drives
  rw [if_pos ht]
  simp (disch := omega) only [jok_t, if_true, nI_cl]
/-- one year more of what is tried -/
theorem sp_goes1 (hn : 4000 ≤ n) (h : CI n c K ci cj cr v) (hQ : QK K ci cj cr ci1 cj1 cr1) (hT : StR c K ci1 cr1 68 w) (hw : VR c w 999) :
    Wp (fX5_goesBy n 68 (nI 1) K ci1 cj1 cr1) (fun q => q.1 = 68 ∧ StR c K q.2.1 q.2.2.2 68 (goF c w) ∧ QK K ci cj cr q.2.1 q.2.2.1 q.2.2.2) := by
  unfold fX5_goesBy
  rw [if_pos is68]
  obtain ⟨m, rfl⟩ : ∃ m, n = m + 2 := ⟨n - 2, by omega⟩
  rw [fX5_goesBy_2.eq_2, if_neg (nI_ge (by omega) (by omega)), wp_jpb]
  refine (sp_goesQ hn h hQ hT hw).mono ?_
  rintro ⟨x, ci2, cj2, cr2⟩ ⟨p1, p2, p3, p4⟩
  dsimp only at p1 p2 p3 p4 ⊢
  rw [nI_add, fX5_goesBy_2.eq_2, if_pos (nI_le (by omega) (by omega)), wp_some]
  exact ⟨rfl, p2, p4⟩
def odX (c : jCo) (v : jV8) (s b s' m : Nat) : Nat := if tos c (drv v s' (nI m)) s = nI b then coW c else 0
theorem odX_eq {s b s' m : Nat} (hc : CR c) (hs' : s' < 3) : odX c v s b s' m = if s' = s then odY c v s b m else (if tos c v s = nI b then coW c else 0) := by
  unfold odX odY
  by_cases e : s' = s
  · subst e
    rw [if_pos rfl, tos_dep (v := drv v s' (nI m)) (w := upv v (1 + 2 * s') (nI m)) hc (by rw [drv_ne (by omega) (by omega), upv_ne (by omega)]) (by rw [drv_m, upv_eq]) (fun k k1 k2 => by rw [drv_ne (by omega) (by omega), upv_ne (by omega)])]
  · rw [if_neg e, tos_dep (v := drv v s' (nI m)) (w := v) hc (by rw [drv_ne (by omega) (by omega)]) (by rw [drv_ne (by omega) (by omega)]) (fun k k1 k2 => by rw [drv_ne (by omega) (by omega)])]
theorem od_sum {s b : Nat} (hc : CR c) (hs : s < coS c) : (if tos c v s = nI b then (100 - coW c) * 100 * coS c else 0) + ns (fun s' => ns (odX c v s b s') 100) (coS c) = od0 c v s b + ns (odY c v s b) 100 := by
  have hS := hc.2.2.1
  have e : ns (fun s' => ns (odX c v s b s') 100) (coS c) = ns (fun s' => if s' = s then ns (odY c v s b) 100 else 100 * (if tos c v s = nI b then coW c else 0)) (coS c) := by
    refine ns_congr (fun s' hs' => ?_)
    by_cases e : s' = s
    · rw [if_pos e]
      refine ns_congr (fun m hm => ?_)
      rw [odX_eq hc (by omega), if_pos e]
    · rw [if_neg e, ← ns_const]
      refine ns_congr (fun m hm => ?_)
      rw [odX_eq hc (by omega), if_neg e]
  rw [e, ns_pick, if_pos hs]
  unfold od0
  by_cases hb : tos c v s = nI b
  · rw [if_pos hb, if_pos hb, if_pos hb, Nat.mul_comm (100 - coW c) 100, Nat.mul_comm (coS c - 1) (100 * coW c)]
    omega
  · rw [if_neg hb, if_neg hb, if_neg hb]
    omega
theorem sp0_odds (hn : 4000 ≤ n) (h : CI n c K ci cj cr v) {s b : Nat} (hs : s < coS c) (hb : b < coB c) : Wp (fX0_odds_38 n (nI s) (nI b) K ci cj cr) (fun q => q.1 = nI (od0 c v s b + ns (odY c v s b) 100) ∧ QK K ci cj cr q.2.1 q.2.2.1 q.2.2.2) := by
  have hc := h.1
  have hS := hc.2.2.1
  have hB := hc.1
  have hW := hc.2.2.2.1
  have hv := h.2.2.2.2.1
  unfold fX0_odds_38
  rw [wp_jpb, e0_isShoal h.2.2.1, wp_some]
  dsimp only
  rw [if_pos (iv_nI hs (by omega)), if_neg n10, wp_jpb, e0_isBay h.2.2.1, wp_some]
  dsimp only
  rw [if_pos (iv_nI hb (by omega)), if_neg n10, wp_jpb]
  refine (sp_triesQ hn h h.qk).mono ?_
  rintro ⟨x, ci1, cj1, cr1⟩ ⟨q1, q2, -, q3⟩
  dsimp only at q1 q2 q3 ⊢
  subst q1
  rw [if_pos is68, wp_jpb]
  refine (sp_goes1 hn h q3 q2 hv).mono ?_
  rintro ⟨x, ci2, cj2, cr2⟩ ⟨w1, w2, w3⟩
  dsimp only at w1 w2 w3 ⊢
  subst w1
  have hC2 := h.2.1.qk w3
  have CC2 := h.2.2.1.qk w3
  rw [if_pos ⟨sk0 hC2 is68, sl0 hC2 is68⟩, wp_bind, sr2 hC2 is68, wp_some, if_pos ⟨sk2 hC2 is68, sl2 hC2 is68⟩, sn2 hC2 is68, if_pos (by rw [jok_t (by omega) (by omega)]; trivial)]
  have e70 : ci2 (68 + 2) (nI s).toNatClampNeg = tos c v s := by
    rw [nI_cl (by omega)]
    refine ((w2.1.2.1 s hs).2).trans ((goF_45 c v _ (by omega)).trans ?_)
    rw [goV_a hs (by omega)]
  -- the loops
  have loop : ∀ x0, x0 = (if tos c v s = nI b then (100 - coW c) * 100 * coS c else 0) → Wp (fX0_odds_102 n (nI s) (nI b) (nI x0) K ci2 cj2 cr2) (fun q => q.1 = nI (od0 c v s b + ns (odY c v s b) 100) ∧ QK K ci cj cr q.2.1 q.2.2.1 q.2.2.2) := by
    intro x0 hx0
    unfold fX0_odds_102
    refine Wp.loop5 (fun k (a0 a1 : Int32) (a2 : jI) (a3 : jJ) (a4 : jR) => fX0_odds_106 n k (nI s) (nI b) a0 a1 K a2 a3 a4) (fun r x => ∃ s', s' + r = coS c ∧ x.2.1 = nI s' ∧ x.1 = nI (x0 + ns (fun s' => ns (odX c v s b s') 100) s') ∧ QK K ci cj cr x.2.2.1 x.2.2.2.1 x.2.2.2.2) _ ?_ n (coS c) (nI x0) (nI 0) ci2 cj2 cr2 (by omega) ⟨0, by omega, rfl, rfl, w3⟩
    rintro k r x l ci3 cj3 cr3 ⟨s', g1, g2, g3, g4⟩ ih
    dsimp only at g2 g3 g4
    subst g2
    rw [fX0_odds_106.eq_2, wp_jpb, e0_shoals (h.2.2.1.qk g4), wp_some]
    dsimp only
    by_cases hs' : coS c ≤ s'
    · have : s' = coS c := by omega
      subst this
      rw [if_pos (nI_le hs' (by omega)), wp_some]
      refine ⟨?_, g4⟩
      show x = _
      rw [g3, hx0, od_sum hc hs]
    · rw [if_neg (nI_ge (by omega) (by omega))]
      refine Wp.loop5 (fun k' (a0 a1 : Int32) (a2 : jI) (a3 : jJ) (a4 : jR) => fX0_odds_118 n (fX0_odds_106 n k) k' (nI s) (nI b) a0 (nI s') a1 K a2 a3 a4) (fun r x => ∃ m, m + r = 100 ∧ x.2.1 = nI m ∧ x.1 = nI (x0 + ns (fun s' => ns (odX c v s b s') 100) s' + ns (odX c v s b s') m) ∧ QK K ci cj cr x.2.2.1 x.2.2.2.1 x.2.2.2.2) _ ?_ n 100 x (nI 0) ci3 cj3 cr3 (by omega) ⟨0, by omega, rfl, g3, g4⟩
      rintro k' r' x l ci4 cj4 cr4 ⟨m, f1, f2, f3, f4⟩ ih2
      dsimp only at f2 f3 f4
      subst f2
      rw [fX0_odds_118.eq_2]
      by_cases hm : 100 ≤ m
      · have : m = 100 := by omega
        subst this
        rw [if_pos (nI_le hm (by omega)), nI_add]
        exact ih (r - 1) _ (nI (s' + 1)) _ _ _ (by omega) ⟨s' + 1, by omega, rfl, by show x = nI (x0 + (ns _ s' + ns (odX c v s b s') 100)); rw [f3, Nat.add_assoc], f4⟩
      · rw [if_neg (nI_ge (by omega) (by omega)), wp_jpb]
        refine (sp_triesQ hn h f4).mono ?_
        rintro ⟨z, ci5, cj5, cr5⟩ ⟨p1, p2, -, p3⟩
        dsimp only at p1 p2 p3 ⊢
        subst p1
        rw [wp_jpb, e0_drives is68 (by omega), wp_some, wp_jpb]
        dsimp only
        have S6 := p2.driv (s := s') (x := nI m) hc (by omega)
        have Q6 := (p3.up (i := 68 + 1) (k := s') (x := nI m) (by omega)).up (i := 68 + 2) (k := s') (x := -1) (by omega)
        refine (sp_goes1 hn h Q6 S6 (VR_drv hv hc (by omega) ⟨m, by omega, rfl⟩)).mono ?_
        rintro ⟨z, ci7, cj7, cr7⟩ ⟨u1, u2, u3⟩
        dsimp only at u1 u2 u3 ⊢
        subst u1
        have hC7 := h.2.1.qk u3
        rw [if_pos ⟨sk0 hC7 is68, sl0 hC7 is68⟩, wp_bind, sr2 hC7 is68, wp_some, if_pos ⟨sk2 hC7 is68, sl2 hC7 is68⟩, sn2 hC7 is68, if_pos (by rw [jok_t (by omega) (by omega)]; trivial)]
        have e71 : ci7 (68 + 2) (nI s).toNatClampNeg = tos c (drv v s' (nI m)) s := by
          rw [nI_cl (by omega)]
          refine ((u2.1.2.1 s hs).2).trans ((goF_45 c _ _ (by omega)).trans ?_)
          rw [goV_a hs (by omega)]
        obtain ⟨r0, t1, t2, t3, t4⟩ := e0_storm (h.2.2.1.qk u3)
        unfold fX0_odds_173
        by_cases e : tos c (drv v s' (nI m)) s = nI b
        · rw [if_pos (show ci7 (68 + 2) (nI s).toNatClampNeg = nI b by rw [e71]; exact e), wp_bind, t1, wp_some, if_pos ⟨t2, t3⟩, t4, f3, nI_add, nI_add]
          refine ih2 (r' - 1) _ (nI (m + 1)) _ _ _ (by omega) ⟨m + 1, by omega, rfl, ?_, u3⟩
          show nI _ = nI (_ + (ns (odX c v s b s') m + odX c v s b s' m))
          rw [show odX c v s b s' m = coW c from if_pos e]; congr 1; omega
        · rw [if_neg (show ¬ ci7 (68 + 2) (nI s).toNatClampNeg = nI b by rw [e71]; exact e), f3, nI_add, nI_add]
          refine ih2 (r' - 1) _ (nI (m + 1)) _ _ _ (by omega) ⟨m + 1, by omega, rfl, ?_, u3⟩
          show nI _ = nI (_ + (ns (odX c v s b s') m + odX c v s b s' m))
          rw [show odX c v s b s' m = 0 from if_neg e]; rfl
  by_cases e : tos c v s = nI b
  · obtain ⟨r0, t1, t2, t3, t4⟩ := e0_storm CC2
    rw [if_pos (show ci2 (68 + 2) (nI s).toNatClampNeg = nI b by rw [e70]; exact e), wp_bind, t1, wp_some, if_pos ⟨t2, t3⟩, t4, wp_jpb, e0_shoals CC2, wp_some]
    dsimp only
    rw [nI_subN (by omega), nI_mulN, nI_mulN]
    exact loop _ (by rw [if_pos e])
  · rw [if_neg (show ¬ ci2 (68 + 2) (nI s).toNatClampNeg = nI b by rw [e70]; exact e)]
    exact loop 0 (by rw [if_neg e])
theorem c_odds (hn : 4000 ≤ n) (h : CI n c K ci cj cr v) (a0 a1 : Int32) : Wp (fX0_odds n a0 a1 K ci cj cr) (fun q => q.1 = aOdds c v a0 a1 ∧ QK K ci cj cr q.2.1 q.2.2.1 q.2.2.2) := by
  have hc := h.1
  have hS := hc.2.2.1
  have hB := hc.1
  unfold fX0_odds fX0_odds_17 aOdds
  rw [wp_jpb, e0_shoals h.2.2.1, wp_some]
  dsimp only
  by_cases h0 : coS c = 0
  · rw [if_pos (show nI (coS c) = 0 by rw [h0]; rfl), wp_some, if_pos (show coS c = 0 ∨ ¬ iah (v 0) (nI 1) 1 1 from Or.inl h0)]
    exact ⟨rfl, h.qk⟩
  rw [if_neg (nI_ne0 (by omega) (by omega)), wp_jpb, e0_isAhead, wp_some, h.y0]
  dsimp only
  by_cases h1 : iah (v 0) (nI 1) 1 1
  rotate_left
  · rw [if_neg h1, if_pos z00, wp_some, if_pos (show coS c = 0 ∨ ¬ iah (v 0) (nI 1) 1 1 from Or.inr h1)]
    exact ⟨rfl, h.qk⟩
  rw [if_pos h1, if_neg n10, if_neg (show ¬ (coS c = 0 ∨ ¬ iah (v 0) (nI 1) 1 1) from fun z => z.elim h0 (fun z => z h1))]
  have rest : ¬ (a0 = -1 ∧ a1 = -1) → Wp (fX0_odds_38 n a0 a1 K ci cj cr) (fun q => q.1 = (if a0 = -1 ∧ a1 = -1 then nI 10000 * nI (coS c) else if iv a0 (coS c) ∧ iv a1 (coB c) then nI (od0 c v a0.toNatClampNeg a1.toNatClampNeg + ns (odY c v a0.toNatClampNeg a1.toNatClampNeg) 100) else -1) ∧ QK K ci cj cr q.2.1 q.2.2.1 q.2.2.2) := by
    intro hna
    rw [if_neg hna]
    by_cases h2 : iv a0 (coS c)
    rotate_left
    · unfold fX0_odds_38 fX0_odds_54
      rw [wp_jpb, e0_isShoal h.2.2.1, wp_some]
      dsimp only
      rw [if_neg h2, if_pos z00, wp_some, if_neg (show ¬ (iv a0 (coS c) ∧ iv a1 (coB c)) from fun z => h2 z.1)]
      exact ⟨rfl, h.qk⟩
    by_cases h3 : iv a1 (coB c)
    rotate_left
    · unfold fX0_odds_38 fX0_odds_54
      rw [wp_jpb, e0_isShoal h.2.2.1, wp_some]
      dsimp only
      rw [if_pos h2, if_neg n10, wp_jpb, e0_isBay h.2.2.1, wp_some]
      dsimp only
      rw [if_neg h3, if_pos z00, wp_some, if_neg (show ¬ (iv a0 (coS c) ∧ iv a1 (coB c)) from fun z => h3 z.2)]
      exact ⟨rfl, h.qk⟩
    rw [if_pos (show iv a0 (coS c) ∧ iv a1 (coB c) from ⟨h2, h3⟩)]
    obtain ⟨s, s1, s2⟩ := iv_ex h2 (by omega)
    obtain ⟨b, b1, b2⟩ := iv_ex h3 (by omega)
    subst s2 b2
    rw [nI_cl (by omega), nI_cl (by omega)]
    exact sp0_odds hn h s1 b1
  by_cases c0 : a0 = -1
  · rw [if_pos c0]
    by_cases c1 : a1 = -1
    · rw [if_pos c1, wp_jpb, e0_shoals h.2.2.1, wp_some, wp_some, if_pos (show a0 = -1 ∧ a1 = -1 from ⟨c0, c1⟩)]
      exact ⟨rfl, h.qk⟩
    · rw [if_neg c1]; exact rest (fun z => c1 z.2)
  · rw [if_neg c0]; exact rest (fun z => c0 z.1)
end
