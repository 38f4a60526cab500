/-! HAS, BAY, PAIR, SHOAL, LURE, KEPT -/
set_option maxRecDepth 100000
theorem iv_s32 {a : Int32} {m : Nat} (hm : m < 2147483648) : (nI 0 ≤ a ∧ a ≤ nI m - nI 1) ↔ iv a m := by
  refine and_congr Iff.rfl ?_
  rw [Int32.le_iff_toInt_le, Int32.lt_iff_toInt_lt, Int32.toInt_sub, nI_toInt hm, nI_toInt (by omega), Int.bmod_eq_of_le (by omega) (by omega)]
  omega
def aHas (c : jCo) (v : jV8) (x8 x9 a0 : Int32) : Int32 := if a0 = nI 0 then nI (coB c) else if a0 = nI 1 then nI (coP c) else if a0 = nI 2 then nI (coS c) else if a0 = nI 3 then v 0 else if a0 = nI 4 then sg (fun p => if cnt c v p = true then nI 1 else nI 0) (coP c)
  else if a0 = nI 5 then sg (fun s => if v (2 + 2 * s) = -1 then nI 0 else nI 1) (coS c) else if a0 = nI 6 then sg (fun b => v (8 + 3 * b)) (coB c) else if a0 = nI 7 then v 45 else if a0 = nI 8 then x8 else if a0 = nI 9 then x9 else -1
def aBay (c : jCo) (v : jV8) (a0 a1 : Int32) : Int32 := if iv a0 (coB c) then (if a1 = nI 0 then coM c a0.toNatClampNeg else if a1 = nI 1 then v (7 + 3 * a0.toNatClampNeg) else if a1 = nI 2 then vw c v a0.toNatClampNeg else if a1 = nI 3 then v (9 + 3 * a0.toNatClampNeg) else if a1 = nI 4 then v (8 + 3 * a0.toNatClampNeg) else -1) else -1
def aPair (c : jCo) (v : jV8) (a0 a1 : Int32) : Int32 := if iv a0 (coP c) then (if a1 = nI 0 then nI (coN c a0.toNatClampNeg) else if a1 = nI 1 then v (25 + 2 * a0.toNatClampNeg) else if a1 = nI 2 then v (26 + 2 * a0.toNatClampNeg) else if a1 = nI 3 then (if cnt c v a0.toNatClampNeg = true then nI 1 else nI 0) else -1) else -1
def aShoal (c : jCo) (v : jV8) (a0 a1 : Int32) : Int32 := if iv a0 (coS c) then (if a1 = nI 0 then v (1 + 2 * a0.toNatClampNeg) else if a1 = nI 1 then coZ c a0.toNatClampNeg else if a1 = nI 2 then v (2 + 2 * a0.toNatClampNeg) else -1) else -1
def aLure (c : jCo) (v : jV8) (a0 a1 : Int32) : Int64 := if iv a0 (coS c) ∧ iv a1 (coB c) then lur c v (vw c v) a0.toNatClampNeg a1.toNatClampNeg else -1000000000000000
def aKept (v : jV8) (m : Nat) (a0 a1 : Int32) : Int32 := if iv a0 m ∧ nI 0 ≤ a1 ∧ a1 ≤ nI 2 then v (46 + 3 * a0.toNatClampNeg + a1.toNatClampNeg) else -1
section
variable {n : Nat} {c : jCo} {ci : jI} {cj : jJ}
theorem QM.of {L M : List Nat} {ci' : jI} {cj' : jJ} (g : Fr L M ci ci') (gj : sJ cj cj') (h1 : 1585 ∉ L) (h2 : 58 ∉ M) (hL : ∀ i ∈ L, i ∈ [1585, 1586, 1587, 1588, 1589, 1590, 1591, 1593]) (hM : ∀ i ∈ M, i ∈ [49, 52, 53, 54, 55, 58, 59, 60, 103]) : QM ci cj ci' cj' :=
  ⟨fun k _ => congrFun (g.1 1585 (by decide) h1) k, g.2 58 h2, g.le hL hM, gj⟩
theorem m_has (hn : 4000 ≤ n) (h : MI c ci) (a0 : Int32) : Wp (fX6_has n a0 ci cj) (fun q => q.1 = aHas c (ci 1585) (ci 1547 64) (ci 1547 68) a0 ∧ QM ci cj q.2.1 q.2.2) := by
  obtain ⟨hc, hm, hv, hk, h58⟩ := h
  have hP := hc.2.1
  have hB := hc.1
  have hS := hc.2.2.1
  unfold fX6_has aHas
  by_cases c0 : a0 = nI 0
  · subst c0
    rw [if_pos rfl, if_pos rfl, nI_add, if_pos (by rw [jok_t (by omega) (by omega)]; trivial), nI_cl (by omega), wp_some]
    exact ⟨hm.1, QM.rfl'⟩
  rw [if_neg c0, if_neg c0]
  by_cases c1 : a0 = nI 1
  · subst c1
    rw [if_pos rfl, if_pos rfl, nI_add, if_pos (by rw [jok_t (by omega) (by omega)]; trivial), nI_cl (by omega), wp_some]
    exact ⟨hm.2.1, QM.rfl'⟩
  rw [if_neg c1, if_neg c1]
  by_cases c2 : a0 = nI 2
  · subst c2
    rw [if_pos rfl, if_pos rfl, nI_add, if_pos (by rw [jok_t (by omega) (by omega)]; trivial), nI_cl (by omega), wp_some]
    exact ⟨hm.2.2.1, QM.rfl'⟩
  rw [if_neg c2, if_neg c2]
  by_cases c3 : a0 = nI 3
  · rw [if_pos c3, if_pos c3, if_pos (by rw [jok_t (by omega) (by omega)]; trivial), nI_cl (by omega), wp_some]
    exact ⟨rfl, QM.rfl'⟩
  rw [if_neg c3, if_neg c3]
  by_cases c4 : a0 = nI 4
  · rw [if_pos c4, if_pos c4, wp_bind]
    unfold fX6_countMany
    refine Wp.loop4 (fun k (a0 a1 : Int32) (a2 : jI) (a3 : jJ) => fX6_countMany_4 n k a0 a1 a2 a3) (fun r x => ∃ p, p + r = coP c ∧ x.2.1 = nI p ∧ x.1 = sg (fun p => if cnt c (ci 1585) p = true then nI 1 else nI 0) p ∧ Fr [] [49, 52, 53, 103] ci x.2.2.1 ∧ sJ cj x.2.2.2) _ ?_ n (coP c) (nI 0) (nI 0) ci cj (by omega) ⟨0, by omega, rfl, rfl, Fr.rfl', sJ.rfl'⟩
    rintro k r x l ci1 cj1 ⟨p, g1, g2, g3, g4, g5⟩ ih
    dsimp only at g2 g3 g4 g5
    subst g2
    have m1 := hm.fr' g4 (by decide)
    have e85 : ci1 1585 = ci 1585 := g4.1 1585 (by decide) (by decide)
    rw [fX6_countMany_4.eq_2, wp_bind, e6_pairMany, wp_some]
    dsimp only
    rw [m1.2.1]
    by_cases hp : coP c ≤ p
    · have : p = coP c := by omega
      subst this
      rw [if_pos (nI_le hp (by omega)), wp_some, wp_some]
      exact ⟨g3, QM.of g4 g5 (by decide) (by decide) (by decide) (by decide)⟩
    · rw [if_neg (nI_ge (by omega) (by omega)), wp_bind]
      refine (sp_doesCount (Y := 999) hn (by omega) hc m1 (by rw [e85]; exact hv) (show p < coP c by omega)).mono ?_
      rintro ⟨z, ci2, cj2⟩ ⟨q1, q2, q3⟩
      dsimp only at q1 q2 q3 ⊢
      rw [e85] at q1
      subst q1
      unfold fX6_countMany_23
      by_cases hcn : cnt c (ci 1585) p = true
      · rw [if_pos hcn, if_neg n10, nI_add]
        refine ih (r - 1) _ (nI (p + 1)) _ _ (by omega) ⟨p + 1, by omega, rfl, ?_, g4.tr q2, g5.tr q3⟩
        show x + nI 1 = sg _ p + (if cnt c (ci 1585) p = true then nI 1 else nI 0)
        rw [g3, if_pos hcn]
      · rw [if_neg hcn, if_pos z00, nI_add]
        refine ih (r - 1) _ (nI (p + 1)) _ _ (by omega) ⟨p + 1, by omega, rfl, ?_, g4.tr q2, g5.tr q3⟩
        show x = sg _ p + (if cnt c (ci 1585) p = true then nI 1 else nI 0)
        rw [if_neg hcn, i32_add0]; exact g3
  rw [if_neg c4, if_neg c4]
  by_cases c5 : a0 = nI 5
  · rw [if_pos c5, if_pos c5, wp_bind]
    unfold fX6_insideMany
    refine Wp.loop2 (fun k (a0 a1 : Int32) => fX6_insideMany_4 n k a0 a1 ci cj) (fun r x => ∃ s, s + r = coS c ∧ x.2 = nI s ∧ x.1 = sg (fun s => if ci 1585 (2 + 2 * s) = -1 then nI 0 else nI 1) s) _ ?_ n (coS c) (nI 0) (nI 0) (by omega) ⟨0, by omega, rfl, rfl⟩
    rintro k r x l ⟨s, g1, g2, g3⟩ ih
    dsimp only at g2 g3
    subst g2
    rw [fX6_insideMany_4.eq_2, wp_bind, e6_shoalMany, wp_some]
    dsimp only
    rw [hm.2.2.1]
    by_cases hs : coS c ≤ s
    · have : s = coS c := by omega
      subst this
      rw [if_pos (nI_le hs (by omega)), wp_some, wp_some]
      exact ⟨g3, QM.rfl'⟩
    · rw [if_neg (nI_ge (by omega) (by omega)), nI_mulN, nI_add, if_pos (by rw [jok_t (by omega) (by omega)]; trivial)]
      have ks : (nI (2 + 2 * s)).toNatClampNeg = 2 + 2 * s := nI_cl (by omega)
      unfold fX6_insideMany_29
      by_cases e : ci 1585 (2 + 2 * s) = -1
      · rw [if_pos (show ci 1585 (nI (2 + 2 * s)).toNatClampNeg = -1 by rw [ks]; exact e), nI_add]
        refine ih (r - 1) _ (nI (s + 1)) (by omega) ⟨s + 1, by omega, rfl, ?_⟩
        show x = sg _ s + (if ci 1585 (2 + 2 * s) = -1 then nI 0 else nI 1)
        rw [if_pos e, i32_add0]; exact g3
      · rw [if_neg (show ¬ ci 1585 (nI (2 + 2 * s)).toNatClampNeg = -1 by rw [ks]; exact e), nI_add]
        refine ih (r - 1) _ (nI (s + 1)) (by omega) ⟨s + 1, by omega, rfl, ?_⟩
        show x + nI 1 = sg _ s + (if ci 1585 (2 + 2 * s) = -1 then nI 0 else nI 1)
        rw [if_neg e, g3]
  rw [if_neg c5, if_neg c5]
  by_cases c6 : a0 = nI 6
  · rw [if_pos c6, if_pos c6, wp_bind]
    unfold fX6_caughtLatest
    refine Wp.loop2 (fun k (a0 a1 : Int32) => fX6_caughtLatest_4 n k a0 a1 ci cj) (fun r x => ∃ b, b + r = coB c ∧ x.2 = nI b ∧ x.1 = sg (fun b => ci 1585 (8 + 3 * b)) b) _ ?_ n (coB c) (nI 0) (nI 0) (by omega) ⟨0, by omega, rfl, rfl⟩
    rintro k r x l ⟨b, g1, g2, g3⟩ ih
    dsimp only at g2 g3
    subst g2
    rw [fX6_caughtLatest_4.eq_2, wp_bind, e6_bayMany, wp_some]
    dsimp only
    rw [hm.1]
    by_cases hb : coB c ≤ b
    · have : b = coB c := by omega
      subst this
      rw [if_pos (nI_le hb (by omega)), wp_some, wp_some]
      exact ⟨g3, QM.rfl'⟩
    · rw [if_neg (nI_ge (by omega) (by omega)), nI_mulN, nI_add, if_pos (by rw [jok_t (by omega) (by omega)]; trivial), nI_cl (by omega), nI_add]
      exact ih (r - 1) _ (nI (b + 1)) (by omega) ⟨b + 1, by omega, rfl, by show _ = sg _ b + _; rw [g3]⟩
  rw [if_neg c6, if_neg c6]
  by_cases c7 : a0 = nI 7
  · rw [if_pos c7, if_pos c7, if_pos (by rw [jok_t (by omega) (by omega)]; trivial), nI_cl (by omega), wp_some]
    exact ⟨rfl, QM.rfl'⟩
  rw [if_neg c7, if_neg c7]
  by_cases c8 : a0 = nI 8
  · rw [if_pos c8, if_pos c8, wp_some]; exact ⟨rfl, QM.rfl'⟩
  rw [if_neg c8, if_neg c8]
  by_cases c9 : a0 = nI 9
  · rw [if_pos c9, if_pos c9, wp_some]; exact ⟨rfl, QM.rfl'⟩
  rw [if_neg c9, if_neg c9, wp_some]; exact ⟨rfl, QM.rfl'⟩
theorem m_bay (hn : 4000 ≤ n) (h : MI c ci) (a0 a1 : Int32) : Wp (fX6_bay n a0 a1 ci cj) (fun q => q.1 = aBay c (ci 1585) a0 a1 ∧ QM ci cj q.2.1 q.2.2) := by
  obtain ⟨hc, hm, hv, hk, h58⟩ := h
  have hB := hc.1
  unfold fX6_bay aBay
  rw [wp_bind, e6_isBay hc hm, wp_some]
  dsimp only
  by_cases h1 : iv a0 (coB c)
  rotate_left
  · rw [if_neg h1, if_pos z00, wp_some, if_neg h1]; exact ⟨rfl, QM.rfl'⟩
  rw [if_pos h1, if_neg n10, if_pos h1, wp_bind]
  obtain ⟨b, b1, b2⟩ := iv_ex h1 (by omega)
  subst b2
  refine (sp_laysVows (Y := 999) hn (by omega) hc hm hv).mono ?_
  rintro ⟨ci1, cj1⟩ ⟨l1, l2, l3⟩
  dsimp only at l1 l2 l3 ⊢
  have Q := QM.of l2 l3 (by decide) (by decide) (by decide) (by decide)
  have m1 := hm.fr' l2 (by decide)
  have e85 : ci1 1585 = ci 1585 := l2.1 1585 (by decide) (by decide)
  simp (disch := omega) only [jok_t, if_true, nI_cl]
  by_cases c0 : a1 = nI 0
  · rw [if_pos c0, if_pos c0]
    simp (disch := omega) only [nI_mulN, nI_add, jok_t, if_true, nI_cl]
    rw [wp_some]; exact ⟨m1.2.2.2.2.1 b b1, Q⟩
  rw [if_neg c0, if_neg c0]
  by_cases c1 : a1 = nI 1
  · rw [if_pos c1, if_pos c1, wp_bind, e6_hungerOf (by omega), wp_some, wp_some]; exact ⟨congrFun e85 _, Q⟩
  rw [if_neg c1, if_neg c1]
  by_cases c2 : a1 = nI 2
  · rw [if_pos c2, if_pos c2, wp_some]; exact ⟨l1 b (by omega), Q⟩
  rw [if_neg c2, if_neg c2]
  by_cases c3 : a1 = nI 3
  · rw [if_pos c3, if_pos c3, wp_bind, e6_lateOf (by omega), wp_some, wp_some]; exact ⟨congrFun e85 _, Q⟩
  rw [if_neg c3, if_neg c3]
  by_cases c4 : a1 = nI 4
  · rw [if_pos c4, if_pos c4, nI_mulN, nI_add, if_pos (by rw [jok_t (by omega) (by omega)]; trivial), nI_cl (by omega), wp_some]; exact ⟨congrFun e85 _, Q⟩
  rw [if_neg c4, if_neg c4, wp_some]; exact ⟨rfl, Q⟩
theorem m_pair (hn : 4000 ≤ n) (h : MI c ci) (a0 a1 : Int32) : Wp (fX6_pair n a0 a1 ci cj) (fun q => q.1 = aPair c (ci 1585) a0 a1 ∧ QM ci cj q.2.1 q.2.2) := by
  obtain ⟨hc, hm, hv, hk, h58⟩ := h
  have hP := hc.2.1
  unfold fX6_pair fX6_pair_71 aPair
  rw [wp_bind, e6_isPair hc hm, wp_some]
  dsimp only
  by_cases h1 : iv a0 (coP c)
  rotate_left
  · rw [if_neg h1, if_pos z00, wp_some, if_neg h1]; exact ⟨rfl, QM.rfl'⟩
  rw [if_pos h1, if_neg n10, if_pos h1]
  obtain ⟨p, p1, p2⟩ := iv_ex h1 (by omega)
  subst p2
  rw [nI_cl (show p < 2147483648 by omega)]
  by_cases c0 : a1 = nI 0
  · rw [if_pos c0, if_pos c0, wp_bind, e6_bayOf (by omega), wp_some, wp_some]; exact ⟨hm.2.2.2.2.2.1 p p1, QM.rfl'⟩
  rw [if_neg c0, if_neg c0]
  by_cases c1 : a1 = nI 1
  · rw [if_pos c1, if_pos c1, wp_bind, e6_trueOf (by omega), wp_some, wp_some]; exact ⟨rfl, QM.rfl'⟩
  rw [if_neg c1, if_neg c1]
  by_cases c2 : a1 = nI 2
  · rw [if_pos c2, if_pos c2, wp_bind, e6_sinceOf (by omega), wp_some, wp_some]; exact ⟨rfl, QM.rfl'⟩
  rw [if_neg c2, if_neg c2]
  by_cases c3 : a1 = nI 3
  · rw [if_pos c3, if_pos c3, wp_bind]
    refine (sp_doesCount (Y := 999) hn (by omega) hc hm hv p1).mono ?_
    rintro ⟨z, ci2, cj2⟩ ⟨q1, q2, q3⟩
    dsimp only at q1 q2 q3 ⊢
    subst q1
    have Q := QM.of q2 q3 (by decide) (by decide) (by decide) (by decide)
    by_cases hcn : cnt c (ci 1585) p = true
    · rw [if_pos hcn, if_neg n10, wp_some]; exact ⟨rfl, Q⟩
    · rw [if_neg hcn, if_pos z00, wp_some]; exact ⟨rfl, Q⟩
  rw [if_neg c3, if_neg c3, wp_some]; exact ⟨rfl, QM.rfl'⟩
theorem m_shoal (h : MI c ci) (a0 a1 : Int32) : Wp (fX6_shoal n a0 a1 ci cj) (fun q => q.1 = aShoal c (ci 1585) a0 a1 ∧ QM ci cj q.2.1 q.2.2) := by
  obtain ⟨hc, hm, hv, hk, h58⟩ := h
  have hS := hc.2.2.1
  unfold fX6_shoal fX6_shoal_59 aShoal
  rw [wp_bind, e6_isShoal hc hm, wp_some]
  dsimp only
  by_cases h1 : iv a0 (coS c)
  rotate_left
  · rw [if_neg h1, if_pos z00, wp_some, if_neg h1]; exact ⟨rfl, QM.rfl'⟩
  rw [if_pos h1, if_neg n10, if_pos h1]
  obtain ⟨s, s1, s2⟩ := iv_ex h1 (by omega)
  subst s2
  rw [nI_cl (show s < 2147483648 by omega)]
  simp only [nI_mulN, nI_add]
  by_cases c0 : a1 = nI 0
  · rw [if_pos (show a1 = 0 from c0), if_pos c0, if_pos (by rw [jok_t (by omega) (by omega)]; trivial), nI_cl (by omega), wp_some]; exact ⟨rfl, QM.rfl'⟩
  rw [if_neg (show ¬ a1 = 0 from c0), if_neg c0]
  by_cases c1 : a1 = nI 1
  · rw [if_pos c1, if_pos c1, wp_bind, e6_sizeOf (by omega), wp_some, wp_some]; exact ⟨hm.2.2.2.2.2.2.1 s s1, QM.rfl'⟩
  rw [if_neg c1, if_neg c1]
  by_cases c2 : a1 = nI 2
  · rw [if_pos c2, if_pos c2, if_pos (by rw [jok_t (by omega) (by omega)]; trivial), nI_cl (by omega), wp_some]; exact ⟨rfl, QM.rfl'⟩
  rw [if_neg c2, if_neg c2, wp_some]; exact ⟨rfl, QM.rfl'⟩
theorem m_lure (hn : 4000 ≤ n) (h : MI c ci) (a0 a1 : Int32) : Wp (fX6_lure n a0 a1 ci cj) (fun q => q.1 = aLure c (ci 1585) a0 a1 ∧ QM ci cj q.2.1 q.2.2) := by
  obtain ⟨hc, hm, hv, hk, h58⟩ := h
  have hS := hc.2.2.1
  have hB := hc.1
  unfold fX6_lure fX6_lure_17 aLure
  rw [wp_bind, e6_isShoal hc hm, wp_some]
  dsimp only
  by_cases h1 : iv a0 (coS c)
  rotate_left
  · rw [if_neg h1, if_pos z00, wp_some, if_neg (fun z => h1 z.1)]; exact ⟨rfl, QM.rfl'⟩
  rw [if_pos h1, if_neg n10, wp_bind, e6_isBay hc hm, wp_some]
  dsimp only
  by_cases h2 : iv a1 (coB c)
  rotate_left
  · rw [if_neg h2, if_pos z00, wp_some, if_neg (fun z => h2 z.2)]; exact ⟨rfl, QM.rfl'⟩
  rw [if_pos h2, if_neg n10, if_pos ⟨h1, h2⟩, wp_bind]
  obtain ⟨s, s1, s2⟩ := iv_ex h1 (by omega)
  obtain ⟨b, b1, b2⟩ := iv_ex h2 (by omega)
  subst s2 b2
  refine (sp_laysVows (Y := 999) hn (by omega) hc hm hv).mono ?_
  rintro ⟨ci1, cj1⟩ ⟨l1, l2, l3⟩
  dsimp only at l1 l2 l3 ⊢
  have m1 := hm.fr' l2 (by decide)
  have e85 : ci1 1585 = ci 1585 := l2.1 1585 (by decide) (by decide)
  rw [wp_bind]
  refine (sp_luresTo (Y := 999) hn (by omega) hc m1 (by rw [e85]; exact hv) (fun b hb => by rw [l1 b (by omega)]; exact vw_rg hc hv) s1 b1).mono ?_
  rintro ⟨z, ci2, cj2⟩ ⟨q1, q2, q3⟩
  dsimp only at q1 q2 q3 ⊢
  rw [wp_some, nI_cl (by omega), nI_cl (by omega)]
  refine ⟨?_, QM.of ((l2.le (L' := [1587]) (M' := [49, 52, 53, 54, 55, 103]) (by decide) (by decide)).tr (q2.le (by decide) (by decide))) (l3.tr q3) (by decide) (by decide) (by decide) (by decide)⟩
  show z = _
  rw [q1, e85]
  exact lur_congr rfl rfl rfl rfl (l1 b (by omega))
theorem m_kept (h : MI c ci) {m : Nat} (hm45 : ci 1585 45 = nI m) (hm40 : m ≤ 40) (a0 a1 : Int32) : Wp (fX6_kept n a0 a1 ci cj) (fun q => q.1 = aKept (ci 1585) m a0 a1 ∧ QM ci cj q.2.1 q.2.2) := by
  unfold fX6_kept fX6_kept_47 fX6_kept_48 aKept
  rw [if_pos (by rw [jok_t (by omega) (by omega)]; trivial), nI_cl (by omega), hm45, wp_bind, e6_isIn, wp_some]
  dsimp only
  have e1 := iv_sub (a := a0) (m := m) (by omega)
  by_cases h1 : iv a0 m
  rotate_left
  · rw [if_neg (fun z => h1 (e1.mp z)), if_pos z00, wp_some, if_neg (fun z => h1 z.1)]; exact ⟨rfl, QM.rfl'⟩
  rw [if_pos (e1.mpr h1), if_neg n10, wp_bind, e6_isIn, wp_some]
  dsimp only
  have e01 : (lN 0 ≤ a1.toInt64 ∧ a1.toInt64 ≤ (2 : Int64)) ↔ (nI 0 ≤ a1 ∧ a1 ≤ nI 2) := by
    rw [show lN 0 = (nI 0).toInt64 from rfl, show (2 : Int64) = (nI 2).toInt64 from rfl, Int32.toInt64_le, Int32.toInt64_le]
  by_cases h2 : nI 0 ≤ a1 ∧ a1 ≤ nI 2
  rotate_left
  · rw [if_neg (fun z => h2 (e01.mp z)), if_pos z00, wp_some, if_neg (fun z => h2 z.2)]; exact ⟨rfl, QM.rfl'⟩
  rw [if_pos (e01.mpr h2), if_neg n10, if_pos (show iv a0 m ∧ nI 0 ≤ a1 ∧ a1 ≤ nI 2 from ⟨h1, h2⟩)]
  obtain ⟨k, k1, k2⟩ := iv_ex h1 (by omega)
  obtain ⟨i, i1, i2⟩ := nI_ex (show (0 : Int32) ≤ a1 from h2.1)
  have i3 := h2.2
  rw [i2, nI_leN i1 (by omega)] at i3
  subst k2 i2
  simp (disch := omega) only [nI_mulN, nI_add, jok_t, if_true, nI_cl]
  rw [wp_some]
  exact ⟨rfl, QM.rfl'⟩
end
