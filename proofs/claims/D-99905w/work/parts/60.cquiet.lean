/-! HAS, BAY, PAIR, SHOAL, LURE, KEPT IN THE COMPONENT -/
set_option maxRecDepth 100000
section
variable {n : Nat} {c : jCo} {K : jK} {ci ci1 ci2 : jI} {cj cj1 cj2 : jJ} {cr cr1 cr2 : jR} {v w : jV8}
theorem QK.j12 (h : QK K ci cj cr ci1 cj1 cr1) (g : jM12 cj1 cj2) : QK K ci cj cr ci1 cj2 cr1 := ⟨h.1, h.2.1.tr g, h.2.2.1, h.2.2.2⟩
theorem QK.up23 {k : Nat} {x : Int32} (h : QK K ci cj cr ci1 cj1 cr1) (g : ∀ i, i ≠ 16 + 7 → ci2 i = ci1 i) : QK K ci cj cr ci2 cj1 cr1 := ⟨fun i i1 i2 => by rw [g i i1]; exact h.1 i i1 i2, h.2.1, h.2.2.1, h.2.2.2⟩
theorem sp_isCountedF {p : Nat} (hc : CR c) (hC : jCW K cr) (h : CC n c K ci cj cr) {t : Nat} (ht : isSt t) (hs : SR c ci t v) (hp : p < coP c) :
    Wp (fX5_isCounted n (fho n) t (nI p) K ci cj cr) (fun q => ∃ cj', q = (if cnt c v p = true then nI 1 else nI 0, ci, cj', cr) ∧ jM12 cj cj') := by
  obtain ⟨cj', e1, e2⟩ := sp_isCounted (m := 60) (by omega) hc hC h ht hs hp
  exact ⟨_, e1, cj', rfl, e2⟩
theorem sp_vowsOfF (hn : 4000 ≤ n) {b : Nat} (hc : CR c) (hC : jCW K cr) (h : CC n c K ci cj cr) {t : Nat} (ht : isSt t) (hs : SR c ci t v) (hb : b < coB c) :
    Wp (fX5_vowsOf n (fho n) t (nI b) K ci cj cr) (fun q => ∃ cj', q = (vw c v b, ci, cj', cr) ∧ jM12 cj cj') := by
  obtain ⟨cj', e1, e2⟩ := sp_vowsOf (m := 60) hn (by omega) hc hC h ht hs hb
  exact ⟨_, e1, cj', rfl, e2⟩
theorem CI.v45 (h : CI n c K ci cj cr v) : ci 16 1 = v 45 := by
  obtain ⟨-, -, -, ⟨-, f, -, m, -, e1, e2, -⟩, -⟩ := h
  rw [e2, e1]
theorem c_has (hn : 4000 ≤ n) (h : CI n c K ci cj cr v) (a0 : Int32) : Wp (fX0_has_2 n a0 K ci cj cr) (fun q => q.1 = aHas c v (ci 0 15) (ci 0 18) a0 ∧ QK K ci cj cr q.2.1 q.2.2.1 q.2.2.2) := by
  have hc := h.1
  have hP := hc.2.1
  have hB := hc.1
  have hS := hc.2.2.1
  have hs := h.2.2.2.1.1
  have hcc := h.2.2.1
  unfold fX0_has_2 aHas
  by_cases c0 : a0 = nI 0
  · rw [if_pos c0, if_pos c0, wp_jpb, e0_bays hcc, wp_some, wp_some]; exact ⟨rfl, h.qk⟩
  rw [if_neg c0, if_neg c0]
  by_cases c1 : a0 = nI 1
  · rw [if_pos c1, if_pos c1, wp_jpb, e0_pairs hcc, wp_some, wp_some]; exact ⟨rfl, h.qk⟩
  rw [if_neg c1, if_neg c1]
  by_cases c2 : a0 = nI 2
  · rw [if_pos c2, if_pos c2, wp_jpb, e0_shoals hcc, wp_some, wp_some]; exact ⟨rfl, h.qk⟩
  rw [if_neg c2, if_neg c2]
  by_cases c3 : a0 = nI 3
  · rw [if_pos c3, if_pos c3, wp_some]; exact ⟨h.y0, h.qk⟩
  rw [if_neg c3, if_neg c3]
  by_cases c4 : a0 = nI 4
  · rw [if_pos c4, if_pos c4]
    refine Wp.loop3 (fun k (a0 a1 : Int32) (a2 : jJ) => fX0_has_2_81 n k a0 a1 K ci a2 cr) (fun r x => ∃ p, p + r = coP c ∧ x.2.1 = nI p ∧ x.1 = sg (fun p => if cnt c v p = true then nI 1 else nI 0) p ∧ jM12 cj x.2.2) _ ?_ n (coP c) (nI 0) (nI 0) cj (by omega) ⟨0, by omega, rfl, rfl, fun _ _ => rfl⟩
    rintro k r x l cj1 ⟨p, g1, g2, g3, g4⟩ ih
    dsimp only at g2 g3 g4
    subst g2
    have hcc' := hcc.m12 g4
    rw [fX0_has_2_81.eq_2, wp_jpb, e0_pairs hcc', wp_some]
    dsimp only
    by_cases hp : coP c ≤ p
    · have : p = coP c := by omega
      subst this
      rw [if_pos (nI_le hp (by omega)), wp_some]
      exact ⟨g3, h.qk.j12 g4⟩
    · rw [if_neg (nI_ge (by omega) (by omega)), wp_jpb]
      refine (sp_isCountedF hc h.2.1 hcc' is16 hs (show p < coP c by omega)).mono ?_
      rintro q ⟨cj2, rfl, e2⟩
      dsimp only
      unfold fX0_has_2_106
      by_cases hcn : cnt c v p = true
      · rw [if_pos hcn, if_neg n10, nI_add]
        refine ih (r - 1) _ (nI (p + 1)) _ (by omega) ⟨p + 1, by omega, rfl, ?_, g4.tr e2⟩
        show x + nI 1 = sg _ p + (if cnt c v p = true then nI 1 else nI 0)
        rw [g3, if_pos hcn]
      · rw [if_neg hcn, if_pos z00, nI_add]
        refine ih (r - 1) _ (nI (p + 1)) _ (by omega) ⟨p + 1, by omega, rfl, ?_, g4.tr e2⟩
        show x + nI 0 = sg _ p + (if cnt c v p = true then nI 1 else nI 0)
        rw [if_neg hcn, g3]
  rw [if_neg c4, if_neg c4]
  by_cases c5 : a0 = nI 5
  · rw [if_pos c5, if_pos c5]
    refine Wp.loop2 (fun k (a0 a1 : Int32) => fX0_has_2_118 n k a0 a1 K ci cj cr) (fun r x => ∃ s, s + r = coS c ∧ x.2 = nI s ∧ x.1 = sg (fun s => if v (2 + 2 * s) = -1 then nI 0 else nI 1) s) _ ?_ n (coS c) (nI 0) (nI 0) (by omega) ⟨0, by omega, rfl, rfl⟩
    rintro k r x l ⟨s, g1, g2, g3⟩ ih
    dsimp only at g2 g3
    subst g2
    rw [fX0_has_2_118.eq_2, wp_jpb, e0_shoals hcc, wp_some]
    dsimp only
    by_cases hss : coS c ≤ s
    · have : s = coS c := by omega
      subst this
      rw [if_pos (nI_le hss (by omega)), wp_some]
      exact ⟨g3, h.qk⟩
    · rw [if_neg (nI_ge (by omega) (by omega)), if_pos (by rw [jok_t (by omega) (by omega)]; trivial)]
      have ks : ci (16 + 2) (nI s).toNatClampNeg = v (2 + 2 * s) := by rw [nI_cl (by omega)]; exact (hs.2.1 s (by omega)).2
      unfold fX0_has_2_145
      by_cases e : v (2 + 2 * s) = -1
      · rw [if_pos (ks.trans e), nI_add]
        refine ih (r - 1) _ (nI (s + 1)) (by omega) ⟨s + 1, by omega, rfl, ?_⟩
        show x + nI 0 = sg _ s + (if v (2 + 2 * s) = -1 then nI 0 else nI 1)
        rw [if_pos e, g3]
      · rw [if_neg (fun z => e (ks.symm.trans z)), nI_add]
        refine ih (r - 1) _ (nI (s + 1)) (by omega) ⟨s + 1, by omega, rfl, ?_⟩
        show x + nI 1 = sg _ s + (if v (2 + 2 * s) = -1 then nI 0 else nI 1)
        rw [if_neg e, g3]
  rw [if_neg c5, if_neg c5]
  by_cases c6 : a0 = nI 6
  · rw [if_pos c6, if_pos c6, wp_jpb]
    unfold fX5_tookAll
    rw [if_pos is16]
    refine Wp.loop2 (fun k (a0 a1 : Int32) => fX5_tookAll_4 n 16 k a0 a1 K ci cj cr) (fun r x => ∃ b, b + r = coB c ∧ x.2 = nI b ∧ x.1 = sg (fun b => v (8 + 3 * b)) b) _ ?_ n (coB c) (nI 0) (nI 0) (by omega) ⟨0, by omega, rfl, rfl⟩
    rintro k r x l ⟨b, g1, g2, g3⟩ ih
    dsimp only at g2 g3
    subst g2
    rw [fX5_tookAll_4.eq_2, wp_jpb, e0_bays hcc, wp_some]
    dsimp only
    by_cases hb : coB c ≤ b
    · have : b = coB c := by omega
      subst this
      rw [if_pos (nI_le hb (by omega)), wp_some, wp_some]
      exact ⟨g3, h.qk⟩
    · rw [if_neg (nI_ge (by omega) (by omega)), if_pos (by rw [jok_t (by omega) (by omega)]; trivial), nI_cl (by omega), nI_add]
      refine ih (r - 1) _ (nI (b + 1)) (by omega) ⟨b + 1, by omega, rfl, ?_⟩
      show _ = sg _ b + v (8 + 3 * b)
      rw [g3, (hs.2.2.1 b (by omega)).2.1]
  rw [if_neg c6, if_neg c6]
  by_cases c7 : a0 = nI 7
  · rw [if_pos c7, if_pos c7, wp_some]; exact ⟨h.v45, h.qk⟩
  rw [if_neg c7, if_neg c7]
  by_cases c8 : a0 = nI 8
  · rw [if_pos c8, if_pos c8, wp_some]; exact ⟨rfl, h.qk⟩
  rw [if_neg c8, if_neg c8]
  by_cases c9 : a0 = nI 9
  · rw [if_pos c9, if_pos c9, wp_some]; exact ⟨rfl, h.qk⟩
  rw [if_neg c9, if_neg c9, wp_some]; exact ⟨rfl, h.qk⟩
theorem c_bay (hn : 4000 ≤ n) (h : CI n c K ci cj cr v) (a0 a1 : Int32) : Wp (fX0_bay n a0 a1 K ci cj cr) (fun q => q.1 = aBay c v a0 a1 ∧ QK K ci cj cr q.2.1 q.2.2.1 q.2.2.2) := by
  have hc := h.1
  have hB := hc.1
  have hs := h.2.2.2.1.1
  have hcc := h.2.2.1
  unfold fX0_bay aBay
  rw [wp_jpb, e0_isBay hcc, wp_some]
  dsimp only
  by_cases h1 : iv a0 (coB c)
  rotate_left
  · rw [if_neg h1, if_pos z00, wp_some, if_neg h1]; exact ⟨rfl, h.qk⟩
  rw [if_pos h1, if_neg n10, if_pos h1]
  obtain ⟨b, b1, b2⟩ := iv_ex h1 (by omega)
  subst b2
  simp (disch := omega) only [jok_t, if_true, nI_cl]
  obtain ⟨s1, s2, s3⟩ := hs.2.2.1 b b1
  by_cases c0 : a1 = nI 0
  · obtain ⟨r, r1, r2, r3, r4, r5⟩ := e0_bayOf hcc b1
    rw [if_pos c0, if_pos c0, wp_jpb, r1, wp_some]
    dsimp only
    rw [if_pos ⟨r2, r3⟩, wp_some]; exact ⟨r5, h.qk⟩
  rw [if_neg c0, if_neg c0]
  by_cases c1 : a1 = nI 1
  · rw [if_pos c1, if_pos c1, wp_some]; exact ⟨s1, h.qk⟩
  rw [if_neg c1, if_neg c1]
  by_cases c2 : a1 = nI 2
  · rw [if_pos c2, if_pos c2, wp_jpb]
    refine (sp_vowsOfF hn hc h.2.1 hcc is16 hs b1).mono ?_
    rintro q ⟨cj2, rfl, e2⟩
    rw [wp_some]; exact ⟨rfl, h.qk.j12 e2⟩
  rw [if_neg c2, if_neg c2]
  by_cases c3 : a1 = nI 3
  · rw [if_pos c3, if_pos c3, wp_some]; exact ⟨s3, h.qk⟩
  rw [if_neg c3, if_neg c3]
  by_cases c4 : a1 = nI 4
  · rw [if_pos c4, if_pos c4, wp_some]; exact ⟨s2, h.qk⟩
  rw [if_neg c4, if_neg c4, wp_some]; exact ⟨rfl, h.qk⟩
theorem c_pair (h : CI n c K ci cj cr v) (a0 a1 : Int32) : Wp (fX0_pair n a0 a1 K ci cj cr) (fun q => q.1 = aPair c v a0 a1 ∧ QK K ci cj cr q.2.1 q.2.2.1 q.2.2.2) := by
  have hc := h.1
  have hP := hc.2.1
  have hs := h.2.2.2.1.1
  have hcc := h.2.2.1
  unfold fX0_pair fX0_pair_84 aPair
  rw [wp_jpb, e0_isPair hcc, wp_some]
  dsimp only
  by_cases h1 : iv a0 (coP c)
  rotate_left
  · rw [if_neg h1, if_pos z00, wp_some, if_neg h1]; exact ⟨rfl, h.qk⟩
  rw [if_pos h1, if_neg n10, if_pos h1]
  obtain ⟨p, p1, p2⟩ := iv_ex h1 (by omega)
  subst p2
  simp (disch := omega) only [jok_t, if_true, nI_cl]
  obtain ⟨s1, s2⟩ := hs.2.2.2 p p1
  by_cases c0 : a1 = nI 0
  · obtain ⟨r, r1, r2, r3, r4, r5⟩ := e0_pairOf hcc p1
    rw [if_pos (show a1 = 0 from c0), if_pos c0, wp_jpb, r1, wp_some]
    dsimp only
    rw [if_pos ⟨r2, r3⟩, wp_some]; exact ⟨r5, h.qk⟩
  rw [if_neg (show ¬ a1 = 0 from c0), if_neg c0]
  by_cases c1 : a1 = nI 1
  · rw [if_pos c1, if_pos c1, wp_some]; exact ⟨s1, h.qk⟩
  rw [if_neg c1, if_neg c1]
  by_cases c2 : a1 = nI 2
  · rw [if_pos c2, if_pos c2, wp_some]; exact ⟨s2, h.qk⟩
  rw [if_neg c2, if_neg c2]
  by_cases c3 : a1 = nI 3
  · rw [if_pos c3, if_pos c3, wp_jpb]
    refine (sp_isCountedF hc h.2.1 hcc is16 hs p1).mono ?_
    rintro q ⟨cj2, rfl, e2⟩
    dsimp only
    by_cases hcn : cnt c v p = true
    · rw [if_pos hcn, if_neg n10, wp_some]; exact ⟨rfl, h.qk.j12 e2⟩
    · rw [if_neg hcn, if_pos z00, wp_some]; exact ⟨rfl, h.qk.j12 e2⟩
  rw [if_neg c3, if_neg c3, wp_some]; exact ⟨rfl, h.qk⟩
theorem c_shoal (h : CI n c K ci cj cr v) (a0 a1 : Int32) : Wp (fX0_shoal n a0 a1 K ci cj cr) (fun q => q.1 = aShoal c v a0 a1 ∧ QK K ci cj cr q.2.1 q.2.2.1 q.2.2.2) := by
  have hc := h.1
  have hS := hc.2.2.1
  have hs := h.2.2.2.1.1
  have hcc := h.2.2.1
  unfold fX0_shoal fX0_shoal_62 aShoal
  rw [wp_jpb, e0_isShoal hcc, wp_some]
  dsimp only
  by_cases h1 : iv a0 (coS c)
  rotate_left
  · rw [if_neg h1, if_pos z00, wp_some, if_neg h1]; exact ⟨rfl, h.qk⟩
  rw [if_pos h1, if_neg n10, if_pos h1]
  obtain ⟨s, s1, s2⟩ := iv_ex h1 (by omega)
  subst s2
  simp (disch := omega) only [jok_t, if_true, nI_cl]
  obtain ⟨t1, t2⟩ := hs.2.1 s s1
  by_cases c0 : a1 = nI 0
  · rw [if_pos (show a1 = 0 from c0), if_pos c0, wp_some]; exact ⟨t1, h.qk⟩
  rw [if_neg (show ¬ a1 = 0 from c0), if_neg c0]
  by_cases c1 : a1 = nI 1
  · obtain ⟨r, r1, r2, r3, r4, r5⟩ := e0_shoalOf hcc s1
    rw [if_pos c1, if_pos c1, wp_jpb, r1, wp_some]
    dsimp only
    rw [if_pos ⟨r2, r3⟩, wp_some]; exact ⟨r5, h.qk⟩
  rw [if_neg c1, if_neg c1]
  by_cases c2 : a1 = nI 2
  · rw [if_pos c2, if_pos c2, wp_some]; exact ⟨t2, h.qk⟩
  rw [if_neg c2, if_neg c2, wp_some]; exact ⟨rfl, h.qk⟩
theorem c_lure (hn : 4000 ≤ n) (h : CI n c K ci cj cr v) (a0 a1 : Int32) : Wp (fX0_lure n a0 a1 K ci cj cr) (fun q => q.1 = aLure c v a0 a1 ∧ QK K ci cj cr q.2.1 q.2.2.1 q.2.2.2) := by
  have hc := h.1
  have hS := hc.2.2.1
  have hB := hc.1
  have hs := h.2.2.2.1.1
  have hcc := h.2.2.1
  unfold fX0_lure fX0_lure_28 fX0_lure_31 aLure
  rw [wp_jpb, e0_isShoal hcc, wp_some]
  dsimp only
  by_cases h1 : iv a0 (coS c)
  rotate_left
  · rw [if_neg h1, if_pos z00, wp_some, if_neg (fun z => h1 z.1)]; exact ⟨rfl, h.qk⟩
  rw [if_pos h1, if_neg n10, wp_jpb, e0_isBay hcc, wp_some]
  dsimp only
  by_cases h2 : iv a1 (coB c)
  rotate_left
  · rw [if_neg h2, if_pos z00, wp_some, if_neg (fun z => h2 z.2)]; exact ⟨rfl, h.qk⟩
  rw [if_pos h2, if_neg n10, if_pos ⟨h1, h2⟩, wp_jpb]
  obtain ⟨s, s1, s2⟩ := iv_ex h1 (by omega)
  obtain ⟨b, b1, b2⟩ := iv_ex h2 (by omega)
  subst s2 b2
  unfold fX5_lureNow
  rw [if_pos is16, wp_jpb]
  refine (sp_vows hn hc h.2.1 hcc is16 hs).mono ?_
  rintro ⟨_, ci1, cj1, cr1⟩ ⟨l1, l2, l3, l4⟩
  dsimp only at l1 l2 l3 l4 ⊢
  subst l4
  have Q : QK K ci cj cr1 ci1 cj1 cr1 := ⟨fun i i1 _ => l2 i i1, l3, fun _ _ => rfl, h.2.2.2.2.2⟩
  have h' := h.qk' Q
  obtain ⟨cj2, e1, e2⟩ := sp_luring hc h'.2.1 h'.2.2.1 is16 h'.2.2.2.1.1 s1 b1
  rw [wp_jpb, e1, wp_some, wp_some, wp_some, nI_cl (by omega), nI_cl (by omega)]
  refine ⟨?_, Q.j12 e2⟩
  exact lur_congr rfl rfl rfl rfl (l1 b b1)
theorem c_kept (h : CI n c K ci cj cr v) {m : Nat} (hm45 : v 45 = nI m) (hm40 : m ≤ 40) (a0 a1 : Int32) : Wp (fX0_kept n a0 a1 K ci cj cr) (fun q => q.1 = aKept v m a0 a1 ∧ QK K ci cj cr q.2.1 q.2.2.1 q.2.2.2) := by
  obtain ⟨f, hR, mm, hm2, e1, e2, e3⟩ := h.2.2.2.1.2
  have : mm = m := by
    rw [e1] at hm45
    exact (nI_eq (by omega) (by omega)).mp hm45
  subst this
  unfold fX0_kept fX0_kept_40 fX0_kept_41 aKept
  rw [wp_jpb, e0_is, wp_some, e2]
  dsimp only
  have g1 := iv_s32 (a := a0) (m := mm) (by omega)
  by_cases h1 : iv a0 mm
  rotate_left
  · rw [if_neg (fun z => h1 (g1.mp z)), if_pos z00, wp_some, if_neg (fun z => h1 z.1)]; exact ⟨rfl, h.qk⟩
  rw [if_pos (g1.mpr h1), if_neg n10, wp_jpb, e0_is, wp_some]
  dsimp only
  by_cases h2 : nI 0 ≤ a1 ∧ a1 ≤ nI 2
  rotate_left
  · rw [if_neg h2, if_pos z00, wp_some, if_neg (fun z => h2 z.2)]; exact ⟨rfl, h.qk⟩
  rw [if_pos h2, if_neg n10, if_pos (show iv a0 mm ∧ nI 0 ≤ a1 ∧ a1 ≤ nI 2 from ⟨h1, h2⟩)]
  obtain ⟨k, k1, k2⟩ := iv_ex h1 (by omega)
  obtain ⟨i, i1, i2⟩ := nI_ex (show (0 : Int32) ≤ a1 from h2.1)
  have i3 := h2.2
  rw [i2, nI_leN i1 (by omega)] at i3
  subst k2 i2
  obtain ⟨r1, r2, r3, r4, r5⟩ := hR.1 k (by omega)
  have e := e3 k i k1 (by omega)
  simp (disch := omega) only [jok_t, if_true, nI_cl, r1, Option.bind_some, r2, r3, r4, and_self, e]
  rw [wp_some]
  exact ⟨rfl, h.qk⟩
end
