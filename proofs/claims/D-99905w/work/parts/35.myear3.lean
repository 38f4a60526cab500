/-! THE MODEL'S YEAR: all come -/
set_option maxRecDepth 100000
theorem psh_lo {v : jV8} {y s b : Int32} {k : Nat} (h : k < 45) : psh v y s b k = v k := by
  unfold psh
  by_cases h1 : v 45 = nI 40
  · rw [if_pos h1]
    show (if k = 163 then _ else if k = 164 then _ else if k = 165 then _ else if 46 ≤ k ∧ k < 163 then _ else _) = _
    rw [if_neg (by omega), if_neg (by omega), if_neg (by omega), if_neg (by omega)]
  · rw [if_neg h1]
    show (if k = 45 then _ else if k = 46 + 3 * (v 45).toNatClampNeg then _ else if k = 47 + 3 * (v 45).toNatClampNeg then _ else if k = 48 + 3 * (v 45).toNatClampNeg then _ else _) = _
    rw [if_neg (by omega), if_neg (by omega), if_neg (by omega), if_neg (by omega)]
theorem psh_congr {v v' : jV8} {y s b : Int32} (h : ∀ k, 45 ≤ k → k < 166 → v k = v' k) : ∀ k, 45 ≤ k → k < 166 → psh v y s b k = psh v' y s b k := by
  intro k h1 h2
  unfold psh
  rw [h 45 (by omega) (by omega)]
  by_cases h3 : v' 45 = nI 40
  · rw [if_pos h3, if_pos h3]
    show (if k = 163 then _ else if k = 164 then _ else if k = 165 then _ else if 46 ≤ k ∧ k < 163 then _ else _) = (if k = 163 then _ else if k = 164 then _ else if k = 165 then _ else if 46 ≤ k ∧ k < 163 then _ else _)
    by_cases h4 : 46 ≤ k ∧ k < 163
    · rw [if_pos h4, if_pos h4, h (k + 3) (by omega) (by omega)]
    · rw [if_neg h4, if_neg h4, h k h1 h2]
  · rw [if_neg h3, if_neg h3]
    show (if k = 45 then _ else if k = 46 + 3 * (v' 45).toNatClampNeg then _ else if k = 47 + 3 * (v' 45).toNatClampNeg then _ else if k = 48 + 3 * (v' 45).toNatClampNeg then _ else _) = (if k = 45 then _ else if k = 46 + 3 * (v' 45).toNatClampNeg then _ else if k = 47 + 3 * (v' 45).toNatClampNeg then _ else if k = 48 + 3 * (v' 45).toNatClampNeg then _ else _)
    rw [h k h1 h2]
theorem psh_rg {v : jV8} {y s b : Int32} (h : rg (v 45) 40) : rg (psh v y s b 45) 40 := by
  obtain ⟨m, h1, h2⟩ := h
  rw [psh_45, h2]
  by_cases h3 : m = 40
  · subst h3; rw [if_pos rfl]; exact ⟨40, by omega, rfl⟩
  · rw [if_neg (by rw [nI_eqN (by omega) (by omega)]; exact h3), nI_add]; exact ⟨m + 1, by omega, rfl⟩
theorem kps_rg {c : jCo} {v : jV8} (h : rg (v 45) 40) : ∀ s, rg (kps c v s 45) 40
  | 0 => h
  | s + 1 => by
    show rg ((if tos c v s = -1 then _ else _ : jV8) 45) 40
    split
    · exact kps_rg h s
    · exact psh_rg (kps_rg h s)
/-- how many fish, but for those that come nowhere -/
def fsh (c : jCo) (v : jV8) : Nat → Int32 := sg (fun s => if tos c v s = -1 then nI 0 else coZ c s)
def cmn (c : jCo) (v : jV8) : Nat → Int32 := sg (fun s => if tos c v s = -1 then nI 0 else nI 1)
def tkn (c : jCo) (v : jV8) (b : Nat) : Nat → Int32 := sg (fun s => if tos c v s = nI b then coZ c s else nI 0)
theorem sp_allCome {n : Nat} (hn : 4000 ≤ n) {c : jCo} {ci : jI} {cj : jJ} {Y : Nat} (hY : Y ≤ 2000) (hc : CR c) (hm : MC c ci) (hv : VR c (ci 1585) Y) (hw : ∀ b, b < 6 → ci 1587 b = vw c (ci 1585) b) (hk0 : rg (ci 1585 45) 40) :
    Wp (fX6_allCome n ci cj) (fun q => (∀ s, s < coS c → q.1 1589 s = tos c (ci 1585) s) ∧ (∀ b, b < 6 → q.1 1588 b = tks c (ci 1585) b) ∧ (∀ k, k < 45 → q.1 1585 k = if 1 ≤ k ∧ k < 7 then goV c (ci 1585) k else ci 1585 k) ∧
      (ci 1547 58 = 0 → ∀ k, 45 ≤ k → k < 166 → q.1 1585 k = kps c (ci 1585) (coS c) k) ∧ (ci 1547 58 ≠ 0 → ∀ k, 45 ≤ k → k < 166 → q.1 1585 k = ci 1585 k) ∧ q.1 1547 59 = ci 1547 59 + cms c (ci 1585) ∧ q.1 1547 60 = ci 1547 60 + fsh c (ci 1585) (coS c) ∧
      Fr [1585, 1588, 1589] [49, 52, 54, 55, 103, 59, 60] ci q.1 ∧ sJ cj q.2) := by
  have hB := hc.1
  have hS := hc.2.2.1
  have hwr : ∀ b, b < coB c → rg (ci 1587 b) 90 := fun b hb => by rw [hw b (by omega)]; exact vw_rg hc hv
  have htos : ∀ s, (chs c (ci 1585) (ci 1587) s (coB c)).1 = tos c (ci 1585) s := fun s => by
    unfold tos
    rw [chs_congr rfl rfl (fun b hb => ⟨rfl, rfl, hw b (by omega)⟩)]
  generalize hv0 : ci 1585 = v at *
  unfold fX6_allCome
  refine Wp.loop3 (fun k (a0 : Int32) (a1 : jI) (a2 : jJ) => fX6_allCome_2 n k a0 a1 a2) (fun r b => ∃ i, i + r = 6 ∧ b.1 = nI i ∧ (∀ j, j < i → b.2.1 1588 j = nI 0) ∧ Fr [1588] [] ci b.2.1 ∧ b.2.2 = cj) _ ?_ n 6 (nI 0) ci cj (by omega) ⟨0, by omega, rfl, fun j hj => absurd hj (Nat.not_lt_zero j), Fr.rfl', rfl⟩
  rintro k r l ci1 cj1 ⟨i, h1, h2, h3, h4, h5⟩ ih
  simp only at h2 h3 h4 h5 ⊢
  subst h2 h5
  rw [fX6_allCome_2.eq_2]
  by_cases hi : 6 ≤ i
  · rw [if_pos (by rw [nI_leN (by omega) (by omega)]; exact hi)]
    clear ih
    have hi6 : i = 6 := by omega
    subst hi6
    refine Wp.loop3 (fun k (a0 : Int32) (a1 : jI) (a2 : jJ) => fX6_allCome_23 n k a0 a1 a2) (fun r b => ∃ i, i + r = coS c ∧ b.1 = nI i ∧ (∀ j, j < i → b.2.1 1589 j = tos c v j) ∧ (∀ j, j < 6 → b.2.1 1588 j = nI 0) ∧ Fr [1588, 1589] [49, 52, 54, 55, 103] ci b.2.1 ∧ sJ cj1 b.2.2) _ ?_ n (coS c) (nI 0) ci1 cj1 (by omega) ⟨0, by omega, rfl, fun j hj => absurd hj (Nat.not_lt_zero j), h3, h4.le (by decide) (by decide), sJ.rfl'⟩
    rintro k r l ci2 cj2 ⟨s, g1, g2, g3, g3', g4, g5⟩ ih
    simp only at g2 g3 g3' g4 g5 ⊢
    subst g2
    have hm2 : MC c ci2 := hm.fr' g4 (by decide)
    have e85 : ci2 1585 = v := (g4.1 1585 (by decide) (by decide)).trans hv0
    have e87 : ci2 1587 = ci 1587 := g4.1 1587 (by decide) (by decide)
    rw [fX6_allCome_23.eq_2, wp_bind, e6_shoalMany, wp_some]
    simp only
    rw [hm2.2.2.1]
    simp (disch := omega) only [nI_leN]
    by_cases hs : coS c ≤ s
    · have : s = coS c := by omega
      subst this
      rw [if_pos hs]
      clear ih
      refine Wp.loop3 (fun k (a0 : Int32) (a1 : jI) (a2 : jJ) => fX6_allCome_50 n k a0 a1 a2) (fun r b => ∃ i, i + r = coS c ∧ b.1 = nI i ∧ b.2.1 1589 = ci2 1589 ∧ (∀ j, j < 6 → b.2.1 1588 j = tkn c v j i) ∧ (∀ k, k < 45 → b.2.1 1585 k = if 1 ≤ k ∧ k < 1 + 2 * i then goV c v k else v k) ∧
        (ci 1547 58 = 0 → ∀ k, 45 ≤ k → k < 166 → b.2.1 1585 k = kps c v i k) ∧ (ci 1547 58 ≠ 0 → ∀ k, 45 ≤ k → k < 166 → b.2.1 1585 k = v k) ∧ b.2.1 1547 59 = ci 1547 59 + cmn c v i ∧ b.2.1 1547 60 = ci 1547 60 + fsh c v i ∧
        Fr [1585, 1588, 1589] [49, 52, 54, 55, 103, 59, 60] ci b.2.1 ∧ sJ cj1 b.2.2) _ ?_ n (coS c) (nI 0) ci2 cj2 (by omega) ⟨0, by omega, rfl, rfl, g3', fun k _ => by rw [if_neg (by omega)]; exact congrFun e85 k, fun _ k _ _ => congrFun e85 k, fun _ k _ _ => congrFun e85 k, (g4.2 59 (by decide)).trans (i32_add0 _).symm, (g4.2 60 (by decide)).trans (i32_add0 _).symm, g4.le (by decide) (by decide), g5⟩
      rintro k r l ci3 cj3 ⟨s, f1, f2, f3, f4, f5, f6, f7, f8, f9, f10, f11⟩ ih
      simp only at f2 f3 f4 f5 f6 f7 f8 f9 f10 f11 ⊢
      subst f2
      have hm3 : MC c ci3 := hm.fr' f10 (by decide)
      rw [fX6_allCome_50.eq_2, wp_bind, e6_shoalMany, wp_some]
      simp only
      rw [hm3.2.2.1]
      by_cases hs2 : coS c ≤ s
      · have : s = coS c := by omega
        subst this
        rw [if_pos (nI_le hs2 (by omega)), wp_some]
        try dsimp only
        refine ⟨fun s hs => by rw [f3]; exact g3 s hs, fun b hb => f4 b hb, fun k hk => ?_, f6, f7, f8, f9, f10, f11⟩
        rw [f5 k hk]
        by_cases hk1 : 1 ≤ k ∧ k < 1 + 2 * coS c
        · rw [if_pos hk1, if_pos (by omega)]
        · rw [if_neg hk1]
          by_cases hk2 : 1 ≤ k ∧ k < 7
          · rw [if_pos hk2]
            unfold goV
            rw [if_neg (by omega), if_pos (by omega), if_neg (by omega)]
          · rw [if_neg hk2]
      · have hs3 : s < coS c := by omega
        rw [if_neg (nI_ge hs3 (by omega))]
        have e89 : ci3 1589 s = tos c v s := by rw [f3]; exact g3 s hs3
        have e58 : ci3 1547 58 = ci 1547 58 := f10.2 58 (by decide)
        simp (maxSteps := 2000000) (disch := omega) only [nI_add, nI_mulN, nI_cl, jok_t, if_true, ju_row, e89]
        unfold fX6_allCome_151
        rw [nI_add]
        have F1 : Fr [1585, 1588, 1589] [49, 52, 54, 55, 103, 59, 60] ci (ju ci3 1585 (2 + 2 * s) (tos c v s)) := f10.up (by decide) (by decide)
        rcases tos_rg c v s with ht | ⟨b, hb, ht⟩
        · rw [if_pos ht]
          refine ih (r - 1) (nI (s + 1)) _ _ (by omega) ⟨s + 1, by omega, rfl, ?_, fun j hj => ?_, fun k hk => ?_, fun h58 k h1 h2 => ?_, fun h58 k h1 h2 => ?_, ?_, ?_, F1, f11⟩
          · simp (disch := omega) only [ju_row]
            exact f3
          · show _ = tkn c v j s + (if tos c v s = nI j then coZ c s else nI 0)
            simp (disch := omega) only [ju_row]
            rw [f4 j hj, if_neg (by rw [ht, m1_nI (by omega)]; exact fun h => h), i32_add0]
          · show ju ci3 1585 _ _ 1585 k = _
            by_cases hk1 : k = 2 + 2 * s
            · subst hk1
              rw [ju_eq, if_pos (by omega), goV_a hs3 (by omega)]
            · rw [ju_ne2 _ _ hk1, f5 k hk]
              by_cases hk2 : k = 1 + 2 * s
              · subst hk2
                rw [if_neg (by omega), if_pos (by omega), goV_m hs3 (by omega), if_pos ht]
              · by_cases hk3 : 1 ≤ k ∧ k < 1 + 2 * s
                · rw [if_pos hk3, if_pos (by omega)]
                · rw [if_neg hk3, if_neg (by omega)]
          · show ju ci3 1585 _ _ 1585 k = (if _ then _ else _ : jV8) k
            rw [ju_ne2 _ _ (by omega), if_pos ht]; exact f6 h58 k h1 h2
          · show ju ci3 1585 _ _ 1585 k = _
            rw [ju_ne2 _ _ (by omega)]; exact f7 h58 k h1 h2
          · show _ = ci 1547 59 + (cmn c v s + (if tos c v s = -1 then nI 0 else nI 1))
            simp (disch := omega) only [ju_row]
            rw [f8, if_pos ht, i32_add0]
          · show _ = ci 1547 60 + (fsh c v s + (if tos c v s = -1 then nI 0 else coZ c s))
            simp (disch := omega) only [ju_row]
            rw [f9, if_pos ht, i32_add0]
        · have ht1 : ¬ tos c v s = -1 := by rw [ht, nI_m1 (by omega)]; exact fun h => h
          rw [if_neg ht1]
          have hbM := hm3.2.2.2.2.1 b hb
          have hz := hm3.2.2.2.2.2.2.1 s hs3
          have g4b := f4 b (by omega)
          simp (maxSteps := 2000000) (disch := omega) only [ht, nI_add, nI_mulN, nI_cl, jok_t, if_true, ju_row, wp_bind, e6_sizeOf, wp_some, hbM, hz, g4b, ju_ne2]
          rw [← ht]
          have e85k : rg (ju (ju (ju (ju ci3 1585 (2 + 2 * s) (tos c v s)) 1585 (1 + 2 * s) (coM c b)) 1588 b (tkn c v b s + coZ c s)) 1547 60 (ci3 1547 60 + coZ c s) 1585 45) 40 := by
            rw [ju_ne _ _ (by decide), ju_ne _ _ (by decide), ju_ne2 _ _ (by omega), ju_ne2 _ _ (by omega)]
            by_cases h58 : ci 1547 58 = 0
            · rw [f6 h58 45 (by omega) (by omega)]; exact kps_rg hk0 s
            · rw [f7 h58 45 (by omega) (by omega)]; exact hk0
          refine (sp_isKept hn (by omega) e85k).mono ?_
          rintro ⟨ci4, cj4⟩ ⟨q1, q2, q3, q4, q5⟩
          simp only at q1 q2 q3 q4 q5 ⊢
          subst q5
          have F2 : Fr [1585, 1588, 1589] [49, 52, 54, 55, 103, 59, 60] ci (ju (ju (ju (ju ci3 1585 (2 + 2 * s) (tos c v s)) 1585 (1 + 2 * s) (coM c b)) 1588 b (tkn c v b s + coZ c s)) 1547 60 (ci3 1547 60 + coZ c s)) := ((F1.up (by decide) (by decide)).up (by decide) (by decide)).upf (by decide)
          have x58 : ju (ju (ju (ju ci3 1585 (2 + 2 * s) (tos c v s)) 1585 (1 + 2 * s) (coM c b)) 1588 b (tkn c v b s + coZ c s)) 1547 60 (ci3 1547 60 + coZ c s) 1547 58 = ci 1547 58 := F2.2 58 (by decide)
          have x89 : ju (ju (ju (ju ci3 1585 (2 + 2 * s) (tos c v s)) 1585 (1 + 2 * s) (coM c b)) 1588 b (tkn c v b s + coZ c s)) 1547 60 (ci3 1547 60 + coZ c s) 1589 = ci3 1589 := by
            rw [ju_row _ _ (by decide), ju_row _ _ (by decide), ju_row _ _ (by decide), ju_row _ _ (by decide)]
          have x85 : ∀ k, ju (ju (ju (ju ci3 1585 (2 + 2 * s) (tos c v s)) 1585 (1 + 2 * s) (coM c b)) 1588 b (tkn c v b s + coZ c s)) 1547 60 (ci3 1547 60 + coZ c s) 1585 k = if k = 1 + 2 * s then coM c b else if k = 2 + 2 * s then tos c v s else ci3 1585 k := by
            intro k
            rw [ju_row _ _ (by decide), ju_row _ _ (by decide), ju_ap, if_pos rfl, ju_ap, if_pos rfl]
          rw [x58, x89] at q1
          rw [x58] at q2
          rw [x85 0, if_neg (by omega), if_neg (by omega), f5 0 (by omega), if_neg (by omega), e89] at q1
          refine ih (r - 1) (nI (s + 1)) _ _ (by omega) ⟨s + 1, by omega, rfl, ?_, fun j hj => ?_, fun k hk => ?_, fun h58 k h1 h2 => ?_, fun h58 k h1 h2 => ?_, ?_, ?_, F2.tr (q4.le (by decide) (by decide)), f11⟩
          · show ci4 1589 = _
            rw [q4.1 1589 (by decide) (by decide), x89]; exact f3
          · show ci4 1588 j = tkn c v j s + (if tos c v s = nI j then coZ c s else nI 0)
            rw [q4.1 1588 (by decide) (by decide), ju_row _ _ (by decide)]
            by_cases hjb : j = b
            · subst hjb
              rw [ju_eq, if_pos ht]
            · rw [ju_ne2 _ _ hjb, ju_row _ _ (by decide), ju_row _ _ (by decide), f4 j hj, if_neg (by rw [ht, nI_eqN (by omega) (by omega)]; omega), i32_add0]
          · show ci4 1585 k = _
            have x : ci4 1585 k = if k = 1 + 2 * s then coM c b else if k = 2 + 2 * s then tos c v s else ci3 1585 k := by
              by_cases h58 : ci 1547 58 = 0
              · rw [q1 h58 k (by omega), psh_lo hk, x85]
              · rw [q2 h58, x85]
            rw [x]
            by_cases hk1 : k = 1 + 2 * s
            · subst hk1
              rw [if_pos rfl, if_pos (by omega), goV_m hs3 (by omega), if_neg ht1, ht, nI_cl (by omega)]
            · rw [if_neg hk1]
              by_cases hk2 : k = 2 + 2 * s
              · subst hk2
                rw [if_pos rfl, if_pos (by omega), goV_a hs3 (by omega)]
              · rw [if_neg hk2, f5 k hk]
                by_cases hk3 : 1 ≤ k ∧ k < 1 + 2 * s
                · rw [if_pos hk3, if_pos (by omega)]
                · rw [if_neg hk3, if_neg (by omega)]
          · show ci4 1585 k = (if _ then _ else _ : jV8) k
            rw [if_neg ht1, q1 h58 k h2]
            refine psh_congr (fun k h1 h2 => ?_) k h1 h2
            rw [x85, if_neg (by omega), if_neg (by omega)]
            exact f6 h58 k h1 h2
          · show ci4 1585 k = _
            rw [q2 h58, x85, if_neg (by omega), if_neg (by omega)]; exact f7 h58 k h1 h2
          · show ci4 1547 59 = ci 1547 59 + (cmn c v s + (if tos c v s = -1 then nI 0 else nI 1))
            rw [q3, ju_ne2 _ _ (by decide), ju_ne _ _ (by decide), ju_ne _ _ (by decide), ju_ne _ _ (by decide), f8, if_neg ht1, Int32.add_assoc]
          · show ci4 1547 60 = ci 1547 60 + (fsh c v s + (if tos c v s = -1 then nI 0 else coZ c s))
            rw [q4.2 60 (by decide), ju_eq, f9, if_neg ht1, Int32.add_assoc]
    · rw [if_neg hs, wp_bind]
      refine (sp_comesTo hn hY hc hm2 (by rw [e85]; exact hv) (by rw [e87]; exact hwr) (by omega)).mono ?_
      rintro ⟨x, ci3, cj3⟩ ⟨q1, q2, q3⟩
      simp only at q1 q2 q3 ⊢
      rw [e85, e87, htos s] at q1
      subst q1
      rw [if_pos (by rw [jok_t (by omega) (by omega)]; trivial), nI_cl (by omega), nI_add]
      refine ih (r - 1) (nI (s + 1)) _ _ (by omega) ⟨s + 1, by omega, rfl, fun j hj => ?_, fun j hj => ?_, (g4.tr (q2.le (by decide) (by decide))).up (by decide) (by decide), g5.tr q3⟩
      · show ju ci3 1589 s _ 1589 j = _
        by_cases hj2 : j = s
        · subst hj2; exact ju_eq _ _ _ _
        · rw [ju_ne2 _ _ hj2, q2.1 1589 (by decide) (by decide)]; exact g3 j (by omega)
      · simp (disch := omega) only [ju_row]
        rw [q2.1 1588 (by decide) (by decide)]; exact g3' j hj
  · rw [if_neg (by rw [nI_leN (by omega) (by omega)]; exact hi), if_pos (by rw [jok_t (by omega) (by omega)]; trivial), nI_cl (by omega), nI_add]
    refine ih (r - 1) (nI (i + 1)) _ _ (by omega) ⟨i + 1, by omega, rfl, fun j hj => ?_, h4.up (by decide) (by decide), rfl⟩
    show ju ci1 1588 _ _ 1588 j = _
    by_cases hj2 : j = i
    · subst hj2; exact ju_eq _ _ _ _
    · rw [ju_ne2 _ _ hj2]; exact h3 j (by omega)
