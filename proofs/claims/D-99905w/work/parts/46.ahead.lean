/-! LATER, HUNGRY, CAUGHT -/
set_option maxRecDepth 100000
/-- what stands in the model where a call begins -/
def MI (c : jCo) (ci : jI) : Prop := CR c ∧ MC c ci ∧ VR c (ci 1585) 999 ∧ rg (ci 1585 45) 40 ∧ ci 1547 58 = 0
theorem iah_ex {y a : Int32} {lo hi Y : Nat} (hy : rg y Y) (hY : Y ≤ 2000) (hl : lo ≤ 2000) (hh : hi ≤ 2000) (h : iah y a lo hi) : ∃ k, lo ≤ k ∧ k ≤ hi ∧ a = nI k ∧ ∃ z, z + k ≤ 999 ∧ y = nI z := by
  obtain ⟨h1, h2, h3⟩ := h
  obtain ⟨z, z1, z2⟩ := hy
  have h0 : (0 : Int32) ≤ a := by
    have a1 := Int32.le_iff_toInt_le.mp h1
    rw [nI_toInt (by omega)] at a1
    refine Int32.le_iff_toInt_le.mpr ?_
    have e : (0 : Int32).toInt = 0 := by decide
    omega
  obtain ⟨k, k1, k2⟩ := nI_ex h0
  subst k2
  rw [nI_leN (by omega) k1] at h1
  rw [nI_leN k1 (by omega)] at h2
  rw [z2, nI_add, nI_leN (by omega) (by omega)] at h3
  exact ⟨k, h1, h2, rfl, z, h3, z2⟩
def aLater (c : jCo) (v : jV8) (a0 a1 : Int32) : Int32 := if iv a0 (coS c) ∧ iah (v 0) a1 0 60 then goN c v a1.toNatClampNeg (2 + 2 * a0.toNatClampNeg) else -1
def aHungry (c : jCo) (v : jV8) (a0 a1 : Int32) : Int32 := if iv a0 (coB c) ∧ iah (v 0) a1 0 60 then goN c v a1.toNatClampNeg (7 + 3 * a0.toNatClampNeg) else -1
def aCaught (c : jCo) (v : jV8) (a0 a1 : Int32) : Int32 := if iv a0 (coB c) ∧ iah (v 0) a1 0 60 then sg (fun k => goN c v (k + 1) (8 + 3 * a0.toNatClampNeg)) a1.toNatClampNeg else -1
section
variable {n : Nat} {c : jCo} {ci : jI} {cj : jJ}
theorem m_later (hn : 4000 ≤ n) (h : MI c ci) (a0 a1 : Int32) : Wp (fX6_later n a0 a1 ci cj) (fun q => q.1 = aLater c (ci 1585) a0 a1 ∧ QM ci cj q.2.1 q.2.2) := by
  obtain ⟨hc, hm, hv, hk, h58⟩ := h
  have hS := hc.2.2.1
  unfold fX6_later fX6_later_19 aLater
  rw [wp_bind, e6_isShoal hc hm, wp_some]
  dsimp only
  by_cases h1 : iv a0 (coS c)
  · rw [if_pos h1, if_neg n10, wp_bind, e6_isAhead, wp_some]
    dsimp only
    by_cases h2 : iah (ci 1585 0) a1 0 60
    · rw [if_pos h2, if_neg n10, if_pos ⟨h1, h2⟩, wp_bind]
      obtain ⟨s, s1, s2⟩ := iv_ex h1 (by omega)
      obtain ⟨k, k0, k1, k2, -⟩ := iah_ex hv.1 (by omega) (by omega) (by omega) h2
      subst s2 k2
      refine (sp_putsAside (c := c) hn).mono ?_
      rintro ⟨ci1, cj1⟩ hT
      rw [wp_bind]
      refine (sp_yearsT (Y := 999) hn (by omega) hc hm hk hT hv).mono ?_
      rintro ⟨ci2, cj2⟩ ⟨q1, q2, q3⟩
      dsimp only at q1 q2 q3 ⊢
      rw [nI_mulN, nI_add, if_pos (by rw [jok_t (by omega) (by omega)]; trivial), wp_bind]
      refine (sp_takesBack hn q1 h58).mono ?_
      rintro ⟨ci3, cj3⟩ hQ
      rw [wp_some]
      dsimp only
      rw [nI_cl (by omega), nI_cl (by omega), nI_cl (by omega)]
      exact ⟨q1.2.2.1 _ (by omega), hQ⟩
    · rw [if_neg h2, if_pos z00, wp_some, if_neg (fun z => h2 z.2)]
      exact ⟨rfl, QM.rfl'⟩
  · rw [if_neg h1, if_pos z00, wp_some, if_neg (fun z => h1 z.1)]
    exact ⟨rfl, QM.rfl'⟩
theorem m_hungry (hn : 4000 ≤ n) (h : MI c ci) (a0 a1 : Int32) : Wp (fX6_hungry n a0 a1 ci cj) (fun q => q.1 = aHungry c (ci 1585) a0 a1 ∧ QM ci cj q.2.1 q.2.2) := by
  obtain ⟨hc, hm, hv, hk, h58⟩ := h
  have hB := hc.1
  unfold fX6_hungry fX6_hungry_20 aHungry
  rw [wp_bind, e6_isBay hc hm, wp_some]
  dsimp only
  by_cases h1 : iv a0 (coB c)
  · rw [if_pos h1, if_neg n10, wp_bind, e6_isAhead, wp_some]
    dsimp only
    by_cases h2 : iah (ci 1585 0) a1 0 60
    · rw [if_pos h2, if_neg n10, if_pos ⟨h1, h2⟩, wp_bind]
      obtain ⟨s, s1, s2⟩ := iv_ex h1 (by omega)
      obtain ⟨k, k0, k1, k2, -⟩ := iah_ex hv.1 (by omega) (by omega) (by omega) h2
      subst s2 k2
      refine (sp_putsAside (c := c) hn).mono ?_
      rintro ⟨ci1, cj1⟩ hT
      rw [wp_bind]
      refine (sp_yearsT (Y := 999) hn (by omega) hc hm hk hT hv).mono ?_
      rintro ⟨ci2, cj2⟩ ⟨q1, q2, q3⟩
      dsimp only at q1 q2 q3 ⊢
      rw [wp_bind, e6_hungerOf (by omega), wp_some, wp_bind]
      dsimp only
      refine (sp_takesBack hn q1 h58).mono ?_
      rintro ⟨ci3, cj3⟩ hQ
      rw [wp_some]
      dsimp only
      rw [nI_cl (by omega), nI_cl (by omega)]
      exact ⟨q1.2.2.1 _ (by omega), hQ⟩
    · rw [if_neg h2, if_pos z00, wp_some, if_neg (fun z => h2 z.2)]
      exact ⟨rfl, QM.rfl'⟩
  · rw [if_neg h1, if_pos z00, wp_some, if_neg (fun z => h1 z.1)]
    exact ⟨rfl, QM.rfl'⟩
theorem m_caught (hn : 4000 ≤ n) (h : MI c ci) (a0 a1 : Int32) : Wp (fX6_caught n a0 a1 ci cj) (fun q => q.1 = aCaught c (ci 1585) a0 a1 ∧ QM ci cj q.2.1 q.2.2) := by
  obtain ⟨hc, hm, hv, hk, h58⟩ := h
  have hB := hc.1
  unfold fX6_caught fX6_caught_20 aCaught
  rw [wp_bind, e6_isBay hc hm, wp_some]
  dsimp only
  by_cases h1 : iv a0 (coB c)
  · rw [if_pos h1, if_neg n10, wp_bind, e6_isAhead, wp_some]
    dsimp only
    by_cases h2 : iah (ci 1585 0) a1 0 60
    · rw [if_pos h2, if_neg n10, if_pos ⟨h1, h2⟩, wp_bind]
      obtain ⟨s, s1, s2⟩ := iv_ex h1 (by omega)
      obtain ⟨m, k0, k1, k2, -⟩ := iah_ex hv.1 (by omega) (by omega) (by omega) h2
      subst s2 k2
      rw [nI_cl (by omega), nI_cl (by omega)]
      refine (sp_putsAside (c := c) hn).mono ?_
      rintro ⟨ci1, cj1⟩ hT
      refine Wp.loop4 (fun k (a0 a1 : Int32) (a2 : jI) (a3 : jJ) => fX6_caught_31 n k (nI s) (nI m) a0 a1 a2 a3) (fun r b => ∃ i, i + r = m ∧ b.2.1 = nI i ∧ b.1 = sg (fun k => goN c (ci 1585) (k + 1) (8 + 3 * s)) i ∧ TH c ci cj b.2.2.1 b.2.2.2 (goN c (ci 1585) i)) _ ?_ n m (nI 0) (nI 0) ci1 cj1 (by omega) ⟨0, by omega, rfl, rfl, hT⟩
      rintro k r x l ci2 cj2 ⟨i, g1, g2, g3, g4⟩ ih
      dsimp only at g2 g3 g4
      subst g2
      rw [fX6_caught_31.eq_2]
      by_cases hi : m ≤ i
      · have : i = m := by omega
        subst this
        rw [if_pos (nI_le hi (by omega)), wp_bind]
        refine (sp_takesBack hn g4 h58).mono ?_
        rintro ⟨ci3, cj3⟩ hQ
        rw [wp_some]
        exact ⟨g3, hQ⟩
      · rw [if_neg (nI_ge (by omega) (by omega)), wp_bind]
        refine (sp_yearT (Y := 999 + i) hn (by omega) hc hm hk g4 (VR_goN hc hv i)).mono ?_
        rintro ⟨ci3, cj3⟩ ⟨q1, q2, q3, q4, q5⟩
        dsimp only at q1 q2 q3 q4 q5 ⊢
        rw [if_pos (by rw [jok_t (by omega) (by omega)]; trivial), nI_cl (by omega), nI_add, q3 s (by omega)]
        refine ih (r - 1) _ (nI (i + 1)) _ _ (by omega) ⟨i + 1, by omega, rfl, ?_, q1⟩
        show x + _ = sg _ i + goV c (goN c (ci 1585) i) (8 + 3 * s)
        rw [g3, goV_t s1 (by omega)]
    · rw [if_neg h2, if_pos z00, wp_some, if_neg (fun z => h2 z.2)]
      exact ⟨rfl, QM.rfl'⟩
  · rw [if_neg h1, if_pos z00, wp_some, if_neg (fun z => h1 z.1)]
    exact ⟨rfl, QM.rfl'⟩
end
/-- what the component's questions may write -/
def QK (K : jK) (ci : jI) (cj : jJ) (cr : jR) (ci' : jI) (cj' : jJ) (cr' : jR) : Prop := (∀ i, i ≠ 23 → i < 68 ∨ i = 120 ∨ (181 ≤ i ∧ i < 185) ∨ 505 ≤ i → ci' i = ci i) ∧ jM12 cj cj' ∧ (∀ i, i ≠ 79 → cr' i = cr i) ∧ ∃ f, RW K cr' 68 f
section
variable {n : Nat} {c : jCo} {K : jK} {ci : jI} {cj : jJ} {cr : jR} {v : jV8}
theorem CI.qk (h : CI n c K ci cj cr v) : QK K ci cj cr ci cj cr := ⟨fun _ _ _ => rfl, fun _ _ => rfl, fun _ _ => rfl, h.2.2.2.2.2⟩
theorem TC.qk {ci0 : jI} {cj0 : jJ} {cr0 : jR} {w : jV8} (h : TC c K ci0 cj0 cr0 ci cj cr w) : QK K ci0 cj0 cr0 ci cj cr := by
  obtain ⟨⟨h1, f, h2, h3⟩, h4⟩ := h
  exact ⟨fun i _ hi => h4.1 i (by omega), h4.2.1, h4.2.2, f, h2⟩
theorem CI.tries (hn : 4000 ≤ n) (h : CI n c K ci cj cr v) : Wp (fX5_copy n 68 16 K ci cj cr) (fun q => q.1 = 68 ∧ TC c K ci cj cr q.2.1 q.2.2.1 q.2.2.2 v) := by
  obtain ⟨f, hR⟩ := h.2.2.2.2.2
  refine (sp_tries hn h FS.rfl' hR).mono ?_
  rintro q ⟨q1, q2, -⟩
  exact ⟨q1, q2⟩
theorem CI.y0 (h : CI n c K ci cj cr v) : ci 16 0 = v 0 := h.2.2.2.1.1.1
theorem c_later (hn : 4000 ≤ n) (h : CI n c K ci cj cr v) (a0 a1 : Int32) : Wp (fX0_later n a0 a1 K ci cj cr) (fun q => q.1 = aLater c v a0 a1 ∧ QK K ci cj cr q.2.1 q.2.2.1 q.2.2.2) := by
  have hS := h.1.2.2.1
  unfold fX0_later fX0_later_42 fX0_later_43 aLater
  rw [wp_jpb, e0_isShoal h.2.2.1, wp_some]
  dsimp only
  by_cases h1 : iv a0 (coS c)
  · rw [if_pos h1, if_neg n10, wp_jpb, e0_isAhead, wp_some, h.y0]
    dsimp only
    by_cases h2 : iah (v 0) a1 0 60
    · rw [if_pos h2, if_neg n10, if_pos ⟨h1, h2⟩, wp_jpb]
      obtain ⟨s, s1, s2⟩ := iv_ex h1 (by omega)
      obtain ⟨k, k0, k1, k2, -⟩ := iah_ex h.2.2.2.2.1.1 (by omega) (by omega) (by omega) h2
      subst s2 k2
      refine (h.tries hn).mono ?_
      rintro ⟨x, ci1, cj1, cr1⟩ ⟨q1, q2⟩
      dsimp only at q1 q2 ⊢
      subst q1
      rw [if_pos is68, wp_jpb]
      refine (sp_goesByT hn h q2 h.2.2.2.2.1 (by omega)).mono ?_
      rintro ⟨x, ci2, cj2, cr2⟩ ⟨w1, w2⟩
      dsimp only at w1 w2 ⊢
      subst w1
      have hC := h.2.1.fs is68 w2.2
      rw [if_pos ⟨sk0 hC is68, sl0 hC is68⟩, wp_bind, sr2 hC is68, wp_some]
      rw [if_pos ⟨sk2 hC is68, sl2 hC is68⟩, sn2 hC is68, if_pos (by rw [jok_t (by omega) (by omega)]; trivial), wp_some]
      dsimp only
      rw [nI_cl (by omega), nI_cl (by omega)]
      exact ⟨((w2.1.1.2.1 s s1).2).trans (goFN_45 h.1 v k _ (by omega)), w2.qk⟩
    · rw [if_neg h2, if_pos z00, wp_some, if_neg (fun z => h2 z.2)]
      exact ⟨rfl, h.qk⟩
  · rw [if_neg h1, if_pos z00, wp_some, if_neg (fun z => h1 z.1)]
    exact ⟨rfl, h.qk⟩
theorem c_hungry (hn : 4000 ≤ n) (h : CI n c K ci cj cr v) (a0 a1 : Int32) : Wp (fX0_hungry n a0 a1 K ci cj cr) (fun q => q.1 = aHungry c v a0 a1 ∧ QK K ci cj cr q.2.1 q.2.2.1 q.2.2.2) := by
  have hB := h.1.1
  unfold fX0_hungry fX0_hungry_42 fX0_hungry_43 aHungry
  rw [wp_jpb, e0_isBay h.2.2.1, wp_some]
  dsimp only
  by_cases h1 : iv a0 (coB c)
  · rw [if_pos h1, if_neg n10, wp_jpb, e0_isAhead, wp_some, h.y0]
    dsimp only
    by_cases h2 : iah (v 0) a1 0 60
    · rw [if_pos h2, if_neg n10, if_pos ⟨h1, h2⟩, wp_jpb]
      obtain ⟨s, s1, s2⟩ := iv_ex h1 (by omega)
      obtain ⟨k, k0, k1, k2, -⟩ := iah_ex h.2.2.2.2.1.1 (by omega) (by omega) (by omega) h2
      subst s2 k2
      refine (h.tries hn).mono ?_
      rintro ⟨x, ci1, cj1, cr1⟩ ⟨q1, q2⟩
      dsimp only at q1 q2 ⊢
      subst q1
      rw [if_pos is68, wp_jpb]
      refine (sp_goesByT hn h q2 h.2.2.2.2.1 (by omega)).mono ?_
      rintro ⟨x, ci2, cj2, cr2⟩ ⟨w1, w2⟩
      dsimp only at w1 w2 ⊢
      subst w1
      have hC := h.2.1.fs is68 w2.2
      rw [if_pos ⟨sk0 hC is68, sl0 hC is68⟩, wp_bind, sr4 hC is68, wp_some]
      rw [if_pos ⟨sk4 hC is68, sl4 hC is68⟩, sn4 hC is68, if_pos (by rw [jok_t (by omega) (by omega)]; trivial), wp_some]
      dsimp only
      rw [nI_cl (by omega), nI_cl (by omega)]
      exact ⟨((w2.1.1.2.2.1 s s1).1).trans (goFN_45 h.1 v k _ (by omega)), w2.qk⟩
    · rw [if_neg h2, if_pos z00, wp_some, if_neg (fun z => h2 z.2)]
      exact ⟨rfl, h.qk⟩
  · rw [if_neg h1, if_pos z00, wp_some, if_neg (fun z => h1 z.1)]
    exact ⟨rfl, h.qk⟩
theorem c_caught (hn : 4000 ≤ n) (h : CI n c K ci cj cr v) (a0 a1 : Int32) : Wp (fX0_caught n a0 a1 K ci cj cr) (fun q => q.1 = aCaught c v a0 a1 ∧ QK K ci cj cr q.2.1 q.2.2.1 q.2.2.2) := by
  have hB := h.1.1
  have hv := h.2.2.2.2.1
  unfold fX0_caught fX0_caught_19 aCaught
  rw [wp_jpb, e0_isBay h.2.2.1, wp_some]
  dsimp only
  by_cases h1 : iv a0 (coB c)
  · rw [if_pos h1, if_neg n10, wp_jpb, e0_isAhead, wp_some, h.y0]
    dsimp only
    by_cases h2 : iah (v 0) a1 0 60
    · rw [if_pos h2, if_neg n10, if_pos ⟨h1, h2⟩, wp_jpb]
      obtain ⟨s, s1, s2⟩ := iv_ex h1 (by omega)
      obtain ⟨m, k0, k1, k2, -⟩ := iah_ex hv.1 (by omega) (by omega) (by omega) h2
      subst s2 k2
      rw [nI_cl (by omega), nI_cl (by omega)]
      refine (h.tries hn).mono ?_
      rintro ⟨x, ci1, cj1, cr1⟩ ⟨q1, q2⟩
      dsimp only at q1 q2 ⊢
      refine Wp.loop5 (fun k (a0 a1 : Int32) (a2 : jI) (a3 : jJ) (a4 : jR) => fX0_caught_38 n k (nI s) (nI m) a0 a1 K a2 a3 a4) (fun r b => ∃ i, i + r = m ∧ b.2.1 = nI i ∧ b.1 = sg (fun k => goN c v (k + 1) (8 + 3 * s)) i ∧ TC c K ci cj cr b.2.2.1 b.2.2.2.1 b.2.2.2.2 (goFN c v i)) _ ?_ n m (nI 0) (nI 0) ci1 cj1 cr1 (by omega) ⟨0, by omega, rfl, rfl, q2⟩
      rintro k r x l ci2 cj2 cr2 ⟨i, g1, g2, g3, g4⟩ ih
      dsimp only at g2 g3 g4
      subst g2
      rw [fX0_caught_38.eq_2]
      by_cases hi : m ≤ i
      · have : i = m := by omega
        subst this
        rw [if_pos (nI_le hi (by omega)), wp_some]
        exact ⟨g3, g4.qk⟩
      · rw [if_neg (nI_ge (by omega) (by omega)), wp_jpb]
        refine (sp_goesT (Y := 999 + i) hn h g4 (VR_goFN h.1 hv i)).mono ?_
        rintro ⟨y, ci3, cj3, cr3⟩ ⟨q1, q2, q3⟩
        dsimp only at q1 q2 q3 ⊢
        have e5 : ci3 (68 + 5) s = goN c v (i + 1) (8 + 3 * s) := ((q2.1.1.2.2.1 s s1).2.1).trans (goFN_45 h.1 v (i + 1) _ (by omega))
        rw [if_pos (by rw [jok_t (by omega) (by omega)]; trivial), nI_cl (by omega), nI_add, e5]
        refine ih (r - 1) _ (nI (i + 1)) _ _ _ (by omega) ⟨i + 1, by omega, rfl, ?_, q2⟩
        show x + _ = sg _ i + goN c v (i + 1) (8 + 3 * s)
        rw [g3]
    · rw [if_neg h2, if_pos z00, wp_some, if_neg (fun z => h2 z.2)]
      exact ⟨rfl, h.qk⟩
  · rw [if_neg h1, if_pos z00, wp_some, if_neg (fun z => h1 z.1)]
    exact ⟨rfl, h.qk⟩
end
