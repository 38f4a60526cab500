/-! THE MODEL'S YEAR: where shoals come -/
set_option maxRecDepth 100000
theorem sp_luresTo {n : Nat} (hn : 4000 ≤ n) {c : jCo} {ci : jI} {cj : jJ} {Y s b : Nat} (hY : Y ≤ 2000) (hc : CR c) (hm : MC c ci) (hv : VR c (ci 1585) Y) (hw : ∀ b, b < coB c → rg (ci 1587 b) 90) (hs : s < coS c) (hb : b < coB c) :
    Wp (fX6_luresTo n (nI s) (nI b) ci cj) (fun q => q.1 = lur c (ci 1585) (ci 1587) s b ∧ Fr [] [49, 52, 54, 55, 103] ci q.2.1 ∧ sJ cj q.2.2) := by
  obtain ⟨c1, c2, c3, c4, c5, c6, c7⟩ := hc
  obtain ⟨m1, m2, m3, m4, m5, m6, m7, m8, m9, m10, m11⟩ := hm
  obtain ⟨v1, v2, v3, v4⟩ := hv
  unfold fX6_luresTo
  rw [wp_bind, e6_isTold (by omega) m8, wp_some]
  unfold lur
  cases ht : coL c with
  | none =>
    simp only [Option.isSome_none, Bool.false_eq_true, if_false]
    rw [if_pos z00, if_pos (by rw [jok_t (by omega) (by omega)]; trivial), nI_cl (by omega), wp_some]
    exact ⟨rfl, Fr.rfl', sJ.rfl'⟩
  | some e =>
    rw [ht] at m8
    simp only [Option.isSome_some, if_true]
    rw [if_neg n10]
    simp only [nI_mulN, nI_add]
    rw [if_pos (by rw [jok_t (by omega) (by omega)]; trivial), if_pos (by rw [jok_t (by omega) (by omega)]; trivial), nI_cl (by omega), nI_cl (by omega)]
    rw [ju_ne _ _ (show (1585 : Nat) ≠ 1547 by decide), ju_ne _ _ (show (1579 : Nat) ≠ 1547 by decide), m5 b hb]
    -- both ways of the far
    have key : ∀ far, far = iab (ci 1585 (1 + 2 * s) - coM c b) → Wp (fX6_luresTo_55 n (nI s) far (ju ci 1547 52 (nI b)) cj) (fun q => q.1 = e (vL c (ci 1585) (ci 1587) s b) ∧ Fr [] [49, 52, 54, 55, 103] ci q.2.1 ∧ sJ cj q.2.2) := by
      intro far hfar
      unfold fX6_luresTo_55
      rw [wp_bind, e6_sizeOf (by omega), wp_some, wp_bind]
      simp only
      rw [ju_ne _ _ (show (1581 : Nat) ≠ 1547 by decide), ju_ne _ _ (show (1581 : Nat) ≠ 1547 by decide), m7 s hs]
      have F : Fr [] [49, 52, 54, 55, 103] ci (ju (ju (ju ci 1547 52 (nI b)) 1547 54 far) 1547 55 (coZ c s)) := ((Fr.rfl'.upf (by decide)).upf (by decide)).upf (by decide)
      have e52 : (ju (ju (ju ci 1547 52 (nI b)) 1547 54 far) 1547 55 (coZ c s)) 1547 52 = nI b := by rw [ju_ne2 _ _ (by decide), ju_ne2 _ _ (by decide)]; exact ju_eq _ _ _ _
      have e54 : (ju (ju (ju ci 1547 52 (nI b)) 1547 54 far) 1547 55 (coZ c s)) 1547 54 = far := by rw [ju_ne2 _ _ (by decide)]; exact ju_eq _ _ _ _
      have e55 : (ju (ju (ju ci 1547 52 (nI b)) 1547 54 far) 1547 55 (coZ c s)) 1547 55 = coZ c s := ju_eq _ _ _ _
      have e85 := F.1 1585 (by decide) (by decide)
      have e87 := F.1 1587 (by decide) (by decide)
      refine (sp_codesTell hn (by omega) (en := vL c (ci 1585) (ci 1587) s b) (m8.fr (F.1 1582 (by decide) (by decide)) (F.1 1583 (by decide) (by decide)) (F.1 1584 (by decide) (by decide))) ?_ ?_).mono ?_
      · intro k hk
        unfold vL
        simp only [alL, decide_eq_true_eq] at hk
        have hk' : k = 0 ∨ k = 1 ∨ k = 2 ∨ k = 3 ∨ k = 4 ∨ k = 5 := by omega
        rcases hk' with z | z | z | z | z | z <;> subst z
        · exact (v3 _ hb).1.bd (by omega)
        · exact v1.bd (by omega)
        · exact (hw b hb).bd (by omega)
        · exact (v3 _ hb).2.2.bd (by omega)
        · have h9 : rg (iab (ci 1585 (1 + 2 * s) - coM c b)) 99 := by
            obtain ⟨x, x1, x2⟩ := (v2 s hs).1
            obtain ⟨y, y1, y2⟩ := c5 b hb
            rw [x2, y2]
            unfold iab
            by_cases hxy : y ≤ x
            · rw [nI_subN hxy, if_pos (nI_pos' (by omega))]; exact ⟨_, by omega, rfl⟩
            · have hz : nI x - nI y = -(nI (y - x)) := by
                rw [← nI_subN (by omega : x ≤ y)]
                rw [Int32.neg_sub]
              rw [hz, Int32.neg_neg]
              have hneg : ¬ (0 : Int32) ≤ -(nI (y - x)) := by
                intro h
                have h1 := Int32.le_iff_toInt_le.mp h
                rw [Int32.toInt_neg, nI_toInt (by omega)] at h1
                have h2 : (-((y - x : Nat) : Int)).bmod (2 ^ 32) = -((y - x : Nat) : Int) := by
                  rw [Int.bmod_eq_of_le (by omega) (by omega)]
                rw [h2] at h1
                have h3 : (0 : Int32).toInt = 0 := by decide
                omega
              rw [if_neg hneg]; exact ⟨_, by omega, rfl⟩
          exact h9.bd (by omega)
        · exact (c7 s hs).bd (by omega)
      · intro k hk
        unfold vL mPt
        simp only [alL, decide_eq_true_eq] at hk
        have hk' : k = 0 ∨ k = 1 ∨ k = 2 ∨ k = 3 ∨ k = 4 ∨ k = 5 := by omega
        rw [e85, e87, e54, e55]
        rcases hk' with z | z | z | z | z | z <;> subst z
        · exact ⟨_, by omega, e52, rfl⟩
        · rfl
        · exact ⟨_, by omega, e52, rfl⟩
        · exact ⟨_, by omega, e52, rfl⟩
        · rw [hfar]; rfl
        · rfl
      · rintro ⟨x, ci', cj'⟩ ⟨q1, q2, q3, q4⟩
        simp only at q1 q2 q3 q4
        rw [wp_some]
        exact ⟨q1, F.tr ⟨fun i hi _ => q2 i hi, fun k hk => q3 k (by simp at hk; omega) (by simp at hk; omega)⟩, q4⟩
    by_cases h0 : 0 ≤ ci 1585 (1 + 2 * s) - coM c b
    · rw [if_pos h0]; exact key _ (by unfold iab; rw [if_pos h0])
    · rw [if_neg h0]; exact key _ (by unfold iab; rw [if_neg h0])
/-- lures by equal numbers -/
theorem lur_congr {c : jCo} {v v' w w' : jV8} {s b : Nat} (h0 : v 0 = v' 0) (h1 : v (1 + 2 * s) = v' (1 + 2 * s)) (h7 : v (7 + 3 * b) = v' (7 + 3 * b)) (h9 : v (9 + 3 * b) = v' (9 + 3 * b)) (hw : w b = w' b) : lur c v w s b = lur c v' w' s b := by
  unfold lur vL
  rw [h0, h1, h7, h9, hw]
theorem chs_congr {c : jCo} {v v' w w' : jV8} {s : Nat} (h0 : v 0 = v' 0) (h1 : v (1 + 2 * s) = v' (1 + 2 * s)) : ∀ {n : Nat}, (∀ b, b < n → v (7 + 3 * b) = v' (7 + 3 * b) ∧ v (9 + 3 * b) = v' (9 + 3 * b) ∧ w b = w' b) → chs c v w s n = chs c v' w' s n
  | 0, _ => rfl
  | n + 1, h => by
    have e1 := chs_congr (c := c) (s := s) h0 h1 (n := n) (fun b hb => h b (by omega))
    obtain ⟨h2, h3, h4⟩ := h n (by omega)
    have e2 : lur c v w s n = lur c v' w' s n := lur_congr h0 h1 h2 h3 h4
    show (if (chs c v w s n).2 < lur c v w s n then (nI n, lur c v w s n) else chs c v w s n) = _
    rw [e1, e2]; rfl
theorem chs_rg (c : jCo) (v w : jV8) (s : Nat) : ∀ n, (chs c v w s n).1 = -1 ∨ ∃ b, b < n ∧ (chs c v w s n).1 = nI b
  | 0 => Or.inl rfl
  | n + 1 => by
    rw [show chs c v w s (n + 1) = (if (chs c v w s n).2 < lur c v w s n then (nI n, lur c v w s n) else chs c v w s n) from rfl]
    split
    · exact Or.inr ⟨n, by omega, rfl⟩
    · rcases chs_rg c v w s n with h | ⟨b, h1, h2⟩
      · exact Or.inl h
      · exact Or.inr ⟨b, by omega, h2⟩
theorem tos_rg (c : jCo) (v : jV8) (s : Nat) : tos c v s = -1 ∨ ∃ b, b < coB c ∧ tos c v s = nI b := chs_rg c v _ s _
theorem sp_comesTo {n : Nat} (hn : 4000 ≤ n) {c : jCo} {ci : jI} {cj : jJ} {Y s : Nat} (hY : Y ≤ 2000) (hc : CR c) (hm : MC c ci) (hv : VR c (ci 1585) Y) (hw : ∀ b, b < coB c → rg (ci 1587 b) 90) (hs : s < coS c) :
    Wp (fX6_comesTo n (nI s) ci cj) (fun q => q.1 = (chs c (ci 1585) (ci 1587) s (coB c)).1 ∧ Fr [] [49, 52, 54, 55, 103] ci q.2.1 ∧ sJ cj q.2.2) := by
  have hB := hc.1
  unfold fX6_comesTo
  refine Wp.loop (fun k (b : Int32 × Int64 × Int32 × jI × jJ) => fX6_comesTo_7 n k (nI s) b.1 b.2.1 b.2.2.1 b.2.2.2.1 b.2.2.2.2) (fun r b => ∃ i, i + r = coB c ∧ b.2.2.1 = nI i ∧ (b.1, b.2.1) = chs c (ci 1585) (ci 1587) s i ∧ Fr [] [49, 52, 54, 55, 103] ci b.2.2.2.1 ∧ sJ cj b.2.2.2.2) _ ?_ n (coB c) (-1, lN 0, nI 0, ci, cj) (by omega) ⟨0, by omega, rfl, rfl, Fr.rfl', sJ.rfl'⟩
  rintro k r ⟨l2, l3, l5, ci1, cj1⟩ ⟨i, h1, h2, h3, h4, h5⟩ ih
  simp only at h2 h3 h4 h5 ⊢
  subst h2
  have hm1 : MC c ci1 := hm.fr' h4 (by decide)
  have e85 : ci1 1585 = ci 1585 := h4.1 1585 (by decide) (by decide)
  have e87 : ci1 1587 = ci 1587 := h4.1 1587 (by decide) (by decide)
  rw [fX6_comesTo_7.eq_2, wp_bind, e6_bayMany, wp_some]
  simp only
  rw [hm1.1]
  simp (disch := omega) only [nI_leN]
  by_cases hi : coB c ≤ i
  · have : i = coB c := by omega
    subst this
    rw [if_pos hi, wp_some]
    exact ⟨by rw [← h3], h4, h5⟩
  · rw [if_neg hi, wp_bind]
    refine (sp_luresTo hn hY hc hm1 (by rw [e85]; exact hv) (by rw [e87]; exact hw) hs (by omega)).mono ?_
    rintro ⟨x, ci2, cj2⟩ ⟨q1, q2, q3⟩
    simp only at q1 q2 q3 ⊢
    rw [e85, e87] at q1
    subst q1
    unfold fX6_comesTo_41
    rw [nI_add]
    have h3a : l2 = (chs c (ci 1585) (ci 1587) s i).1 := congrArg Prod.fst h3
    have h3b : l3 = (chs c (ci 1585) (ci 1587) s i).2 := congrArg Prod.snd h3
    by_cases hl : l3 < lur c (ci 1585) (ci 1587) s i
    · rw [if_pos hl]
      refine ih (r - 1) (nI i, _, nI (i + 1), _, _) (by omega) ⟨i + 1, by omega, rfl, ?_, h4.tr q2, h5.tr q3⟩
      show _ = if _ then _ else _
      rw [if_pos (by rw [← h3b]; exact hl)]
      rfl
    · rw [if_neg hl]
      refine ih (r - 1) (l2, l3, nI (i + 1), _, _) (by omega) ⟨i + 1, by omega, rfl, ?_, h4.tr q2, h5.tr q3⟩
      show _ = if _ then _ else _
      rw [if_neg (by rw [← h3b]; exact hl)]; exact h3
/-! what is kept -/
theorem psh_45 (v : jV8) (y s b : Int32) : psh v y s b 45 = if v 45 = nI 40 then v 45 else v 45 + nI 1 := by
  unfold psh
  by_cases h : v 45 = nI 40
  · rw [if_pos h, if_pos h]; rfl
  · rw [if_neg h, if_neg h]; rfl
theorem sp_isKept {n : Nat} (hn : 4000 ≤ n) {ci : jI} {cj : jJ} {s : Nat} (hs : s < 3) (hk0 : rg (ci 1585 45) 40) :
    Wp (fX6_isKept n (nI s) ci cj) (fun q => (ci 1547 58 = 0 → ∀ k, k < 166 → q.1 1585 k = psh (ci 1585) (ci 1585 0) (nI s) (ci 1589 s) k) ∧ (ci 1547 58 ≠ 0 → q.1 1585 = ci 1585) ∧ q.1 1547 59 = ci 1547 59 + nI 1 ∧ Fr [1585] [59] ci q.1 ∧ q.2 = cj) := by
  obtain ⟨m, hm, hk0⟩ := hk0
  have F0 : Fr [1585] [59] ci (ju ci 1547 59 (ci 1547 59 + nI 1)) := Fr.rfl'.upf (by decide)
  have e85 : (ju ci 1547 59 (ci 1547 59 + nI 1)) 1585 = ci 1585 := funext (fun j => ju_ne _ _ (by decide))
  have e89 : (ju ci 1547 59 (ci 1547 59 + nI 1)) 1589 = ci 1589 := funext (fun j => ju_ne _ _ (by decide))
  have e58 : (ju ci 1547 59 (ci 1547 59 + nI 1)) 1547 58 = ci 1547 58 := ju_ne2 _ _ (by decide)
  have e59 : (ju ci 1547 59 (ci 1547 59 + nI 1)) 1547 59 = ci 1547 59 + nI 1 := ju_eq _ _ _ _
  unfold fX6_isKept
  rw [e58]
  by_cases h58 : ci 1547 58 = 0
  · rw [if_pos h58]
    simp (disch := omega) only [jok_t, if_true, nI_cl, e85, hk0]
    -- the writing of the row
    have wr : ∀ (ci1 : jI) (m1 : Nat), ci1 1585 45 = nI (m1 + 1) → m1 < 40 → ci1 1547 59 = ci 1547 59 + nI 1 → Fr [1585] [59] ci ci1 → ci1 1585 0 = ci 1585 0 → (∀ k, k < 166 → k ≠ 46 + 3 * m1 → k ≠ 47 + 3 * m1 → k ≠ 48 + 3 * m1 → ci1 1585 k = psh (ci 1585) (ci 1585 0) (nI s) (ci 1589 s) k) →
        psh (ci 1585) (ci 1585 0) (nI s) (ci 1589 s) (46 + 3 * m1) = ci 1585 0 → psh (ci 1585) (ci 1585 0) (nI s) (ci 1589 s) (47 + 3 * m1) = nI s → psh (ci 1585) (ci 1585 0) (nI s) (ci 1589 s) (48 + 3 * m1) = ci 1589 s →
        Wp (fX6_isKept_74 n (nI s) ci1 cj) (fun q => (ci 1547 58 = 0 → ∀ k, k < 166 → q.1 1585 k = psh (ci 1585) (ci 1585 0) (nI s) (ci 1589 s) k) ∧ (ci 1547 58 ≠ 0 → q.1 1585 = ci 1585) ∧ q.1 1547 59 = ci 1547 59 + nI 1 ∧ Fr [1585] [59] ci q.1 ∧ q.2 = cj) := by
      intro ci1 m1 a1 a2 a3 a4 a5 a6 a7 a8 a9
      unfold fX6_isKept_74
      have x1 : nI 46 + nI 3 * nI (m1 + 1) - nI 3 = nI (46 + 3 * m1) := by rw [nI_mulN, nI_add, nI_subN (by omega)]; congr 1
      simp (disch := omega) only [nI_cl, a1, x1, nI_add, jok_t, if_true]
      rw [wp_some]
      have e89' : ci1 1589 s = ci 1589 s := by rw [a4.1 1589 (by decide) (by decide)]
      refine ⟨fun _ k hk => ?_, fun h => absurd h58 h, ?_, ((a4.up (by decide) (by decide)).up (by decide) (by decide)).up (by decide) (by decide), rfl⟩
      · show ju (ju (ju ci1 1585 (46 + 3 * m1) (ci1 1585 0)) 1585 (46 + 3 * m1 + 1) (nI s)) 1585 (46 + 3 * m1 + 2) _ 1585 k = _
        by_cases k3 : k = 48 + 3 * m1
        · subst k3
          rw [show 48 + 3 * m1 = 46 + 3 * m1 + 2 by omega, ju_eq, show 46 + 3 * m1 + 2 = 48 + 3 * m1 by omega, a9, ju_ne _ _ (by decide), ju_ne _ _ (by decide), e89']
        · rw [ju_ne2 _ _ (by omega)]
          by_cases k2 : k = 47 + 3 * m1
          · subst k2
            rw [show 47 + 3 * m1 = 46 + 3 * m1 + 1 by omega, ju_eq, show 46 + 3 * m1 + 1 = 47 + 3 * m1 by omega, a8]
          · rw [ju_ne2 _ _ (by omega)]
            by_cases k1 : k = 46 + 3 * m1
            · subst k1
              rw [ju_eq, a7, a5]
            · rw [ju_ne2 _ _ (by omega)]
              exact a6 k hk k1 k2 k3
      · simp (disch := omega) only [ju_row]
        exact a3
    by_cases h40 : m = 40
    · subst h40
      rw [if_pos rfl]
      refine Wp.loop (fun k (b : Int32 × jI) => fX6_isKept_33 n k (nI s) b.1 b.2 cj) (fun r b => ∃ i, i + r = 163 ∧ 46 ≤ i ∧ b.1 = nI i ∧ (∀ k, b.2 1585 k = if 46 ≤ k ∧ k < i then ci 1585 (k + 3) else ci 1585 k) ∧ b.2 1547 59 = ci 1547 59 + nI 1 ∧ Fr [1585] [59] ci b.2) _ ?_ n 117 (nI 46, ju ci 1547 59 (ci 1547 59 + nI 1)) (by omega) ⟨46, by omega, by omega, rfl, fun k => by rw [if_neg (by omega)]; exact congrFun e85 k, e59, F0⟩
      rintro k r ⟨l, ci1⟩ ⟨i, g1, g2, g3, g4, g5, g6⟩ ih
      simp only at g3 g4 g5 g6 ⊢
      subst g3
      rw [fX6_isKept_33.eq_2]
      by_cases hi : 163 ≤ i
      · have : i = 163 := by omega
        subst this
        rw [if_pos (by rw [nI_leN (by omega) (by omega)]; exact hi)]
        refine wr ci1 39 (by rw [g4, if_neg (by omega), hk0]) (by omega) g5 g6 (by rw [g4, if_neg (by omega)]) (fun k hk h1 h2 h3 => ?_) ?_ ?_ ?_
        · rw [g4]
          unfold psh
          rw [if_pos hk0]
          show _ = if k = 163 then _ else if k = 164 then _ else if k = 165 then _ else _
          rw [if_neg (show ¬ k = 163 by omega), if_neg (show ¬ k = 164 by omega), if_neg (show ¬ k = 165 by omega)]
        all_goals (unfold psh; rw [if_pos hk0]; rfl)
      · rw [if_neg (by rw [nI_leN (by omega) (by omega)]; exact hi), nI_add, if_pos (by rw [jok_t (by omega) (by omega)]; trivial), if_pos (by rw [jok_t (by omega) (by omega)]; trivial), nI_cl (by omega), nI_cl (by omega), nI_add]
        refine ih (r - 1) (nI (i + 1), _) (by omega) ⟨i + 1, by omega, by omega, rfl, fun k => ?_, ?_, g6.up (by decide) (by decide)⟩
        · show ju ci1 1585 i _ 1585 k = _
          by_cases hk2 : k = i
          · subst hk2
            rw [ju_eq, g4, if_neg (by omega), if_pos (by omega)]
          · rw [ju_ne2 _ _ hk2, g4]
            by_cases h3 : 46 ≤ k ∧ k < i
            · rw [if_pos h3, if_pos (by omega)]
            · rw [if_neg h3, if_neg (by omega)]
        · simp (disch := omega) only [ju_row]
          exact g5
    · rw [if_neg (show ¬ nI m = nI 40 by rw [nI_eqN (by omega) (by omega)]; exact h40), nI_add]
      refine wr _ m (ju_eq _ _ _ _) (by omega) ?_ (F0.up (by decide) (by decide)) ?_ (fun k hk' h1 h2 h3 => ?_) ?_ ?_ ?_
      · rw [ju_ne _ _ (by decide)]; exact e59
      · rw [ju_ne2 _ _ (by decide), e85]
      · unfold psh
        rw [hk0, if_neg (by rw [nI_eqN (by omega) (by omega)]; exact h40), nI_cl (by omega)]
        by_cases h4 : k = 45
        · subst h4; rw [ju_eq, if_pos rfl, nI_add]
        · rw [ju_ne2 _ _ h4, if_neg h4, if_neg h1, if_neg h2, if_neg h3, e85]
      all_goals (unfold psh; rw [hk0, if_neg (by rw [nI_eqN (by omega) (by omega)]; exact h40), nI_cl (by omega)])
      · rw [if_neg (by omega), if_pos rfl]
      · rw [if_neg (by omega), if_neg (by omega), if_pos rfl]
      · rw [if_neg (by omega), if_neg (by omega), if_neg (by omega), if_pos rfl]
  · rw [if_neg h58, wp_some]
    exact ⟨fun h => absurd h h58, fun _ => e85, e59, F0, rfl⟩
