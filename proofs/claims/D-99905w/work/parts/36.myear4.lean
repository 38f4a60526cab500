/-! THE MODEL'S YEAR: the whole -/
set_option maxRecDepth 100000
theorem tks_rg {c : jCo} {v : jV8} {b : Nat} (hc : CR c) : rg (tks c v b) 297 := by
  have h1 : rg (tks c v b) (coS c * 99) := by
    refine sg_bd (by have := hc.2.2.1; omega) (fun s hs => ?_)
    by_cases h : tos c v s = nI b
    · simp only [if_pos h]; exact hc.2.2.2.2.2.2 s hs
    · simp only [if_neg h]; exact ⟨0, by omega, rfl⟩
  exact h1.le (by have := hc.2.2.1; omega)
theorem i64_ht {h t : Nat} (hh : h ≤ 1000) (ht : t ≤ 1000) : (nI h).toInt64 + (9 : Int64) - (nI t).toInt64 = (nI h + nI 9 - nI t).toInt64 := by
  apply Int64.toInt_inj.mp
  rw [Int64.toInt_sub, Int64.toInt_add, Int32.toInt_toInt64, Int32.toInt_toInt64, Int32.toInt_toInt64, Int32.toInt_sub, Int32.toInt_add, nI_toInt (by omega), nI_toInt (by omega), nI_toInt (by omega), show (9 : Int64).toInt = 9 by decide]
  rw [Int.bmod_eq_of_le (n := (h : Int) + 9) (by omega) (by omega), Int.bmod_eq_of_le (by omega) (by omega), Int.bmod_eq_of_le (n := (h : Int) + ((9 : Nat) : Int)) (by omega) (by omega), Int.bmod_eq_of_le (by omega) (by omega)]
  rfl
theorem sp_mended {n : Nat} (hn : 4000 ≤ n) {c : jCo} {v : jV8} {ci : jI} {cj : jJ} {Y p : Nat} (hY : Y ≤ 2000) (hc : CR c) (hm : MC c ci) (hv : VR c v Y) (hu : ∀ k, k = 0 ∨ 7 ≤ k → k < 45 → ci 1585 k = v k) (hw : ∀ b, b < 6 → ci 1587 b = vw c v b) (ht : ∀ b, b < 6 → ci 1588 b = tks c v b) (hp : p < coP c) :
    Wp (fX6_mended n (nI p) ci cj) (fun q => q.1 = mnd c v p ∧ Fr [] [49, 52, 53, 103] ci q.2.1 ∧ sJ cj q.2.2) := by
  have hcr := hc
  obtain ⟨c1, c2, c3, c4, c5, c6, c7⟩ := hc
  obtain ⟨m1, m2, m3, m4, m5, m6, m7, m8, m9, m10, m11⟩ := hm
  have hvr := hv
  obtain ⟨v1, v2, v3, v4⟩ := hv
  have hb := c6 p hp
  unfold fX6_mended
  rw [wp_bind, e6_isTold (by omega) m9, wp_some]
  try dsimp only
  unfold mnd
  cases he : coE c with
  | none =>
    simp only [Option.isSome_none, Bool.false_eq_true, if_false]
    rw [if_pos z00, wp_bind, e6_trueOf (by omega), wp_some, wp_some]
    try dsimp only
    exact ⟨hu _ (by omega) (by omega), Fr.rfl', sJ.rfl'⟩
  | some e =>
    rw [he] at m9
    simp only [Option.isSome_some, if_true]
    rw [if_neg n10, wp_bind, e6_bayOf (by omega), wp_some, wp_bind]
    have hbv : ju ci 1547 53 (nI p) 1580 (20 + 2 * p) = nI (coN c p) := by rw [ju_ne _ _ (by decide)]; exact m6 p hp
    rw [hbv]
    have F : Fr [] [49, 52, 53, 103] ci (ju (ju ci 1547 53 (nI p)) 1547 52 (nI (coN c p))) := (Fr.rfl'.upf (by decide)).upf (by decide)
    have e52 : (ju (ju ci 1547 53 (nI p)) 1547 52 (nI (coN c p))) 1547 52 = nI (coN c p) := ju_eq _ _ _ _
    have e53 : (ju (ju ci 1547 53 (nI p)) 1547 52 (nI (coN c p))) 1547 53 = nI p := by rw [ju_ne2 _ _ (by decide)]; exact ju_eq _ _ _ _
    have e85 := F.1 1585 (by decide) (by decide)
    have e87 := F.1 1587 (by decide) (by decide)
    have e88 := F.1 1588 (by decide) (by decide)
    refine (sp_codesTell hn (by omega) (en := vM c v p) (m9.fr (F.1 1582 (by decide) (by decide)) (F.1 1583 (by decide) (by decide)) (F.1 1584 (by decide) (by decide))) ?_ ?_).mono ?_
    · intro k hk
      unfold vM
      simp only [alE, decide_eq_true_eq] at hk
      have hk' : k = 0 ∨ k = 1 ∨ k = 2 ∨ k = 6 ∨ k = 7 ∨ k = 8 := by omega
      rcases hk' with z | z | z | z | z | z <;> subst z
      · exact (v3 _ hb).1.bd (by omega)
      · exact v1.bd (by omega)
      · exact (vw_rg hcr hvr).bd (by omega)
      · exact (tks_rg hcr).bd (by omega)
      · exact (v4 _ hp).1.bd (by omega)
      · exact (v4 _ hp).2.bd (by omega)
    · intro k hk
      unfold vM mPt
      simp only [alE, decide_eq_true_eq] at hk
      have hk' : k = 0 ∨ k = 1 ∨ k = 2 ∨ k = 6 ∨ k = 7 ∨ k = 8 := by omega
      rw [e85, e87, e88]
      rcases hk' with z | z | z | z | z | z <;> subst z
      · exact ⟨_, by omega, e52, by rw [hu _ (by omega) (by omega)]; rfl⟩
      · show _ = _; rw [hu 0 (by omega) (by omega)]; rfl
      · exact ⟨_, by omega, e52, by rw [hw _ (by omega)]; rfl⟩
      · exact ⟨_, by omega, e52, by rw [ht _ (by omega)]; rfl⟩
      · exact ⟨_, by omega, e53, by rw [hu _ (by omega) (by omega)]; rfl⟩
      · exact ⟨_, by omega, e53, by rw [hu _ (by omega) (by omega)]; rfl⟩
    · rintro ⟨x, ci', cj'⟩ ⟨q1, q2, q3, q4⟩
      simp only at q1 q2 q3 q4
      rw [wp_bind, e6_cut _ _ _ (by omega), wp_some, wp_some]
      try dsimp only
      exact ⟨by rw [q1], F.tr ⟨fun i hi _ => q2 i hi, fun k hk => q3 k (by simp at hk; omega) (by simp at hk; omega)⟩, q4⟩
theorem sp_starved {n : Nat} (hn : 4000 ≤ n) {c : jCo} {v : jV8} {ci : jI} {cj : jJ} {Y b : Nat} (hY : Y ≤ 2000) (hc : CR c) (hm : MC c ci) (hv : VR c v Y) (hu : ∀ k, k = 0 ∨ 7 ≤ k → k < 45 → ci 1585 k = v k) (hw : ∀ b, b < 6 → ci 1587 b = vw c v b) (ht : ∀ b, b < 6 → ci 1588 b = tks c v b) (hb : b < coB c) :
    Wp (fX6_starved n (nI b) ci cj) (fun q => q.1 = stv c v b ∧ Fr [] [49, 52, 53, 103] ci q.2.1 ∧ sJ cj q.2.2) := by
  have hcr := hc
  obtain ⟨c1, c2, c3, c4, c5, c6, c7⟩ := hc
  have F : Fr [] [49, 52, 53, 103] ci (ju ci 1547 52 (nI b)) := Fr.rfl'.upf (by decide)
  have hm2 := hm.fr' F (by decide)
  obtain ⟨m1, m2, m3, m4, m5, m6, m7, m8, m9, m10, m11⟩ := hm2
  have hvr := hv
  obtain ⟨v1, v2, v3, v4⟩ := hv
  have e52 : (ju ci 1547 52 (nI b)) 1547 52 = nI b := ju_eq _ _ _ _
  have e85 := F.1 1585 (by decide) (by decide)
  have e87 := F.1 1587 (by decide) (by decide)
  have e88 := F.1 1588 (by decide) (by decide)
  unfold fX6_starved fX6_starved_39
  rw [wp_bind, e6_isTold (by omega) m10, wp_some]
  try dsimp only
  unfold stv
  cases he : coT c with
  | none =>
    simp only [Option.isSome_none, Bool.false_eq_true, if_false]
    rw [if_pos z00, wp_bind, e6_hungerOf (by omega), wp_some]
    simp only
    rw [if_pos (by rw [jok_t (by omega) (by omega)]; trivial), nI_cl (by omega), wp_bind, e6_cut _ _ _ (by omega), wp_some, wp_some, e85, e88, hu _ (by omega) (by omega), ht b (by omega)]
    obtain ⟨h, h1, h2⟩ := (v3 b hb).1
    obtain ⟨t, t1, t2⟩ := tks_rg (c := c) (v := v) (b := b) hcr
    refine ⟨?_, F, sJ.rfl'⟩
    rw [h2, t2, i64_ht (by omega) (by omega)]
  | some e =>
    rw [he] at m10
    simp only [Option.isSome_some, if_true]
    rw [if_neg n10, wp_bind]
    refine (sp_codesTell hn (by omega) (en := vS c v b) m10 ?_ ?_).mono ?_
    · intro k hk
      unfold vS
      simp only [alT, decide_eq_true_eq] at hk
      have hk' : k = 0 ∨ k = 1 ∨ k = 2 ∨ k = 6 := by omega
      rcases hk' with z | z | z | z <;> subst z
      · exact (v3 _ hb).1.bd (by omega)
      · exact v1.bd (by omega)
      · exact (vw_rg hcr hvr).bd (by omega)
      · exact (tks_rg hcr).bd (by omega)
    · intro k hk
      unfold vS mPt
      simp only [alT, decide_eq_true_eq] at hk
      have hk' : k = 0 ∨ k = 1 ∨ k = 2 ∨ k = 6 := by omega
      rw [e85, e87, e88]
      rcases hk' with z | z | z | z <;> subst z
      · exact ⟨_, by omega, e52, by rw [hu _ (by omega) (by omega)]; rfl⟩
      · show _ = _; rw [hu 0 (by omega) (by omega)]; rfl
      · exact ⟨_, by omega, e52, by rw [hw _ (by omega)]; rfl⟩
      · exact ⟨_, by omega, e52, by rw [ht _ (by omega)]; rfl⟩
    · rintro ⟨x, ci', cj'⟩ ⟨q1, q2, q3, q4⟩
      simp only at q1 q2 q3 q4
      rw [wp_bind, e6_cut _ _ _ (by omega), wp_some, wp_some]
      try dsimp only
      exact ⟨by rw [q1], F.tr ⟨fun i hi _ => q2 i hi, fun k hk => q3 k (by simp at hk; omega) (by simp at hk; omega)⟩, q4⟩
/-- what a year leaves in the model -/
def Yr (c : jCo) (ci ci' : jI) : Prop := (∀ k, k < 45 → ci' 1585 k = goV c (ci 1585) k) ∧ (ci 1547 58 = 0 → ∀ k, 45 ≤ k → k < 166 → ci' 1585 k = kps c (ci 1585) (coS c) k) ∧ (ci 1547 58 ≠ 0 → ∀ k, 45 ≤ k → k < 166 → ci' 1585 k = ci 1585 k) ∧
  (∀ s, s < coS c → ci' 1589 s = tos c (ci 1585) s) ∧ (∀ b, b < 6 → ci' 1588 b = tks c (ci 1585) b) ∧ ci' 1547 59 = ci 1547 59 + cms c (ci 1585) ∧ ci' 1547 60 = ci 1547 60 + fsh c (ci 1585) (coS c) ∧
  Fr [1585, 1587, 1588, 1589, 1590] [49, 52, 53, 54, 55, 103, 59, 60] ci ci'
theorem sp_yearGoes {n : Nat} (hn : 4000 ≤ n) {c : jCo} {ci : jI} {cj : jJ} {Y : Nat} (hY : Y ≤ 2000) (hc : CR c) (hm : MC c ci) (hv : VR c (ci 1585) Y) (hk0 : rg (ci 1585 45) 40) :
    Wp (fX6_yearGoes n ci cj) (fun q => Yr c ci q.1 ∧ sJ cj q.2) := by
  have hB := hc.1
  have hP := hc.2.1
  have hS := hc.2.2.1
  unfold fX6_yearGoes
  rw [wp_bind]
  refine (sp_laysVows hn hY hc hm hv).mono ?_
  rintro ⟨ci1, cj1⟩ ⟨a1, a2, a3⟩
  simp only at a1 a2 a3 ⊢
  rw [wp_bind]
  have hm1 : MC c ci1 := hm.fr' a2 (by decide)
  have e85 : ci1 1585 = ci 1585 := a2.1 1585 (by decide) (by decide)
  refine (sp_allCome hn hY hc hm1 (by rw [e85]; exact hv) (by rw [e85]; exact a1) (by rw [e85]; exact hk0)).mono ?_
  rintro ⟨ci2, cj2⟩ ⟨b1, b2, b3, b4, b5, b6, b7, b8, b9⟩
  simp only at b1 b2 b3 b4 b5 b6 b7 b8 b9 ⊢
  rw [e85] at b1 b2 b3 b4 b5 b6 b7
  rw [a2.2 58 (by decide)] at b4 b5
  rw [a2.2 59 (by decide)] at b6
  rw [a2.2 60 (by decide)] at b7
  generalize hv0 : ci 1585 = v at *
  have F2 : Fr [1585, 1587, 1588, 1589, 1590] [49, 52, 53, 54, 55, 103, 59, 60] ci ci2 := (a2.le (by decide) (by decide)).tr (b8.le (by decide) (by decide))
  have w2 : ∀ b, b < 6 → ci2 1587 b = vw c v b := fun b hb => by rw [b8.1 1587 (by decide) (by decide)]; exact a1 b hb
  -- pairs are mended
  refine Wp.loop3 (fun k (a0 : Int32) (a1 : jI) (a2 : jJ) => fX6_yearGoes_10 n k a0 a1 a2) (fun r b => ∃ i, i + r = coP c ∧ b.1 = nI i ∧ (∀ j, j < i → b.2.1 1590 j = mnd c v j) ∧ Fr [1590] [49, 52, 53, 103] ci2 b.2.1 ∧ sJ cj b.2.2) _ ?_ n (coP c) (nI 0) ci2 cj2 (by omega) ⟨0, by omega, rfl, fun j hj => absurd hj (Nat.not_lt_zero j), Fr.rfl', a3.tr b9⟩
  rintro k r l ci3 cj3 ⟨p, h1, h2, h3, h4, h5⟩ ih
  simp only at h2 h3 h4 h5 ⊢
  subst h2
  have hm3 : MC c ci3 := (hm.fr' F2 (by decide)).fr' h4 (by decide)
  have u3 : ∀ k, k = 0 ∨ 7 ≤ k → k < 45 → ci3 1585 k = v k := fun k hk hk2 => by rw [h4.1 1585 (by decide) (by decide), b3 k hk2, if_neg (by omega)]
  have w3 : ∀ b, b < 6 → ci3 1587 b = vw c v b := fun b hb => by rw [h4.1 1587 (by decide) (by decide)]; exact w2 b hb
  have t3 : ∀ b, b < 6 → ci3 1588 b = tks c v b := fun b hb => by rw [h4.1 1588 (by decide) (by decide)]; exact b2 b hb
  rw [fX6_yearGoes_10.eq_2, wp_bind, e6_pairMany, wp_some]
  simp only
  rw [hm3.2.1]
  simp (disch := omega) only [nI_leN]
  by_cases hp : coP c ≤ p
  · have hpe : p = coP c := by omega
    rw [if_pos hp]
    clear ih
    -- bays starve
    refine Wp.loop3 (fun k (a0 : Int32) (a1 : jI) (a2 : jJ) => fX6_yearGoes_37 n k a0 a1 a2) (fun r b => ∃ i, i + r = coB c ∧ b.1 = nI i ∧ (∀ j, j < coP c → b.2.1 1590 j = mnd c v j) ∧ (∀ j, j < i → b.2.1 1590 (10 + j) = stv c v j) ∧ Fr [1590] [49, 52, 53, 103] ci2 b.2.1 ∧ sJ cj b.2.2) _ ?_ n (coB c) (nI 0) ci3 cj3 (by omega) ⟨0, by omega, rfl, fun j hj => h3 j (by omega), fun j hj => absurd hj (Nat.not_lt_zero j), h4, h5⟩
    clear h3 h4 h5 hm3 u3 w3 t3
    rintro k r l ci3 cj3 ⟨i, h1, h2, h3, h3', h4, h5⟩ ih
    simp only at h2 h3 h3' h4 h5 ⊢
    subst h2
    have hm3 : MC c ci3 := (hm.fr' F2 (by decide)).fr' h4 (by decide)
    have u3 : ∀ k, k = 0 ∨ 7 ≤ k → k < 45 → ci3 1585 k = v k := fun k hk hk2 => by rw [h4.1 1585 (by decide) (by decide), b3 k hk2, if_neg (by omega)]
    have w3 : ∀ b, b < 6 → ci3 1587 b = vw c v b := fun b hb => by rw [h4.1 1587 (by decide) (by decide)]; exact w2 b hb
    have t3 : ∀ b, b < 6 → ci3 1588 b = tks c v b := fun b hb => by rw [h4.1 1588 (by decide) (by decide)]; exact b2 b hb
    rw [fX6_yearGoes_37.eq_2, wp_bind, e6_bayMany, wp_some]
    simp only
    rw [hm3.1]
    simp (disch := omega) only [nI_leN]
    by_cases hi : coB c ≤ i
    · have hie : i = coB c := by omega
      rw [if_pos hi]
      clear ih
      have F3 : Fr [1585, 1587, 1588, 1589, 1590] [49, 52, 53, 54, 55, 103, 59, 60] ci ci3 := F2.tr (h4.le (by decide) (by decide))
      -- pairs are written
      refine Wp.loop3 (fun k (a0 : Int32) (a1 : jI) (a2 : jJ) => fX6_yearGoes_67 n k a0 a1 a2) (fun r b => ∃ i, i + r = coP c ∧ b.1 = nI i ∧ (∀ k, b.2.1 1585 k = if 25 ≤ k ∧ k < 25 + 2 * i then goV c v k else ci2 1585 k) ∧ Fr [1585] [] ci3 b.2.1 ∧ b.2.2 = cj3) _ ?_ n (coP c) (nI 0) ci3 cj3 (by omega) ⟨0, by omega, rfl, fun k => by rw [if_neg (by omega)]; exact congrFun (h4.1 1585 (by decide) (by decide)) k, Fr.rfl', rfl⟩
      rintro k r l ci4 cj4 ⟨p, g1, g2, g3, g4, g5⟩ ih
      simp only at g2 g3 g4 g5 ⊢
      subst g2 g5
      have hm4 : MC c ci4 := hm3.fr' g4 (by decide)
      rw [fX6_yearGoes_67.eq_2, wp_bind, e6_pairMany, wp_some]
      simp only
      rw [hm4.2.1]
      simp (disch := omega) only [nI_leN]
      by_cases hp2 : coP c ≤ p
      · have hpe2 : p = coP c := by omega
        rw [if_pos hp2]
        clear ih
        -- bays are written
        refine Wp.loop3 (fun k (a0 : Int32) (a1 : jI) (a2 : jJ) => fX6_yearGoes_125 n k a0 a1 a2) (fun r b => ∃ i, i + r = coB c ∧ b.1 = nI i ∧ (∀ k, b.2.1 1585 k = if (25 ≤ k ∧ k < 45) ∨ (7 ≤ k ∧ k < 7 + 3 * i) then goV c v k else ci2 1585 k) ∧ Fr [1585] [] ci3 b.2.1 ∧ b.2.2 = cj4) _ ?_ n (coB c) (nI 0) ci4 cj4 (by omega) ⟨0, by omega, rfl, fun k => ?_, g4, rfl⟩
        rotate_left
        · show ci4 1585 k = _
          rw [g3 k]
          by_cases k1 : 25 ≤ k ∧ k < 25 + 2 * p
          · rw [if_pos k1, if_pos (by omega)]
          · rw [if_neg k1]
            by_cases k2 : 25 ≤ k ∧ k < 45
            · rw [if_pos (Or.inl k2), b3 k (by omega), if_neg (by omega)]
              unfold goV
              rw [if_neg (by omega), if_neg (by omega), if_neg (by omega), if_pos (by omega), if_neg (by omega)]
            · rw [if_neg (by omega)]
        clear g3 g4 hm4
        rintro k r l ci4 cj4 ⟨i, g1, g2, g3, g4, g5⟩ ih
        simp only at g2 g3 g4 g5 ⊢
        subst g2 g5
        have hm4 : MC c ci4 := hm3.fr' g4 (by decide)
        rw [fX6_yearGoes_125.eq_2, wp_bind, e6_bayMany, wp_some]
        simp only
        rw [hm4.1]
        simp (disch := omega) only [nI_leN]
        by_cases hi2 : coB c ≤ i
        · have hie2 : i = coB c := by omega
          rw [if_pos hi2, if_pos (by rw [jok_t (by omega) (by omega)]; trivial), if_pos (by rw [jok_t (by omega) (by omega)]; trivial), nI_cl (by omega), wp_some]
          try dsimp only
          have F5 : Fr [1585, 1587, 1588, 1589, 1590] [49, 52, 53, 54, 55, 103, 59, 60] ci (ju ci4 1585 0 (ci4 1585 0 + nI 1)) := (F3.tr (g4.le (by decide) (by decide))).up (by decide) (by decide)
          have r5 : ∀ k, k ≠ 0 → ju ci4 1585 0 (ci4 1585 0 + nI 1) 1585 k = ci4 1585 k := fun k hk => ju_ne2 _ _ hk
          refine ⟨⟨fun k hk => ?_, fun h58 k k1 k2 => ?_, fun h58 k k1 k2 => ?_, fun s hs => ?_, fun b hb => ?_, ?_, ?_, F5⟩, h5⟩
          · show ju ci4 1585 0 _ 1585 k = _
            rw [hv0]
            by_cases k0 : k = 0
            · subst k0
              rw [ju_eq, g3 0, if_neg (by omega), b3 0 (by omega), if_neg (by omega), goV_0]
            · rw [r5 k k0, g3 k]
              by_cases k1 : (25 ≤ k ∧ k < 45) ∨ (7 ≤ k ∧ k < 7 + 3 * i)
              · rw [if_pos k1]
              · rw [if_neg k1, b3 k hk]
                by_cases k2 : 1 ≤ k ∧ k < 7
                · rw [if_pos k2]
                · rw [if_neg k2]
                  unfold goV
                  rw [if_neg k0, if_neg (by omega), if_pos (by omega), if_neg (by omega)]
          · show ju ci4 1585 0 _ 1585 k = _
            rw [r5 k (by omega), g3 k, if_neg (by omega), hv0]; exact b4 h58 k k1 k2
          · show ju ci4 1585 0 _ 1585 k = _
            rw [r5 k (by omega), g3 k, if_neg (by omega), hv0]; exact b5 h58 k k1 k2
          · simp (disch := omega) only [ju_row]
            rw [g4.1 1589 (by decide) (by decide), h4.1 1589 (by decide) (by decide), hv0]; exact b1 s hs
          · simp (disch := omega) only [ju_row]
            rw [g4.1 1588 (by decide) (by decide), h4.1 1588 (by decide) (by decide), hv0]; exact b2 b hb
          · simp (disch := omega) only [ju_row]
            rw [g4.2 59 (by decide), h4.2 59 (by decide), hv0]; exact b6
          · simp (disch := omega) only [ju_row]
            rw [g4.2 60 (by decide), h4.2 60 (by decide), hv0]; exact b7
        · rw [if_neg hi2]
          have e90 : ci4 1590 (10 + i) = stv c v i := by rw [g4.1 1590 (by decide) (by decide)]; exact h3' i (by omega)
          have e88 : ci4 1588 i = tks c v i := by rw [g4.1 1588 (by decide) (by decide)]; exact t3 i (by omega)
          have e87 : ci4 1587 i = vw c v i := by rw [g4.1 1587 (by decide) (by decide)]; exact w3 i (by omega)
          simp (disch := omega) only [nI_add, nI_mulN, nI_cl, jok_t, if_true, ju_row, e90, e88, e87]
          refine ih (r - 1) (nI (i + 1)) _ _ (by omega) ⟨i + 1, by omega, rfl, fun k => ?_, ((g4.up (by decide) (by decide)).up (by decide) (by decide)).up (by decide) (by decide), rfl⟩
          show ju (ju (ju ci4 1585 (7 + 3 * i) _) 1585 (8 + 3 * i) _) 1585 (9 + 3 * i) _ 1585 k = _
          rw [ju_ap, if_pos rfl, ju_ap, if_pos rfl, ju_ap, if_pos rfl]
          by_cases k3 : k = 9 + 3 * i
          · subst k3; rw [if_pos rfl, if_pos (by omega), goV_l (by omega) (by omega)]
          · rw [if_neg k3]
            by_cases k2 : k = 8 + 3 * i
            · subst k2; rw [if_pos rfl, if_pos (by omega), goV_t (by omega) (by omega)]
            · rw [if_neg k2]
              by_cases k1 : k = 7 + 3 * i
              · subst k1; rw [if_pos rfl, if_pos (by omega), goV_h (by omega) (by omega)]
              · rw [if_neg k1, g3 k]
                by_cases k4 : (25 ≤ k ∧ k < 45) ∨ (7 ≤ k ∧ k < 7 + 3 * i)
                · rw [if_pos k4, if_pos (by omega)]
                · rw [if_neg k4, if_neg (by omega)]
      · rw [if_neg hp2]
        have e90 : ci4 1590 p = mnd c v p := by rw [g4.1 1590 (by decide) (by decide)]; exact h3 p (by omega)
        have e26 : ci4 1585 (26 + 2 * p) = v (26 + 2 * p) := by rw [g3, if_neg (by omega), b3 _ (by omega), if_neg (by omega)]
        simp (disch := omega) only [nI_add, nI_mulN, nI_cl, jok_t, if_true, ju_row, e90, wp_bind, e6_sinceOf, wp_some, ju_ne2, e26]
        unfold fX6_yearGoes_117
        rw [nI_add]
        by_cases h99 : nI 99 ≤ v (26 + 2 * p)
        · rw [if_pos h99]
          refine ih (r - 1) (nI (p + 1)) _ _ (by omega) ⟨p + 1, by omega, rfl, fun k => ?_, g4.up (by decide) (by decide), rfl⟩
          show ju ci4 1585 (25 + 2 * p) _ 1585 k = _
          by_cases k1 : k = 25 + 2 * p
          · subst k1; rw [ju_eq, if_pos (by omega), goV_b (by omega) (by omega)]
          · rw [ju_ne2 _ _ k1, g3 k]
            by_cases k2 : k = 26 + 2 * p
            · subst k2
              rw [if_neg (by omega), if_pos (by omega), goV_s (by omega) (by omega), b3 _ (by omega), if_neg (by omega)]
              unfold snc; rw [if_pos h99]
            · by_cases k3 : 25 ≤ k ∧ k < 25 + 2 * p
              · rw [if_pos k3, if_pos (by omega)]
              · rw [if_neg k3, if_neg (by omega)]
        · rw [if_neg h99]
          refine ih (r - 1) (nI (p + 1)) _ _ (by omega) ⟨p + 1, by omega, rfl, fun k => ?_, (g4.up (by decide) (by decide)).up (by decide) (by decide), rfl⟩
          show ju (ju ci4 1585 (25 + 2 * p) _) 1585 (26 + 2 * p) _ 1585 k = _
          by_cases k2 : k = 26 + 2 * p
          · subst k2
            rw [ju_eq, if_pos (by omega), goV_s (by omega) (by omega)]
            unfold snc; rw [if_neg h99]
          · rw [ju_ne2 _ _ k2]
            by_cases k1 : k = 25 + 2 * p
            · subst k1; rw [ju_eq, if_pos (by omega), goV_b (by omega) (by omega)]
            · rw [ju_ne2 _ _ k1, g3 k]
              by_cases k3 : 25 ≤ k ∧ k < 25 + 2 * p
              · rw [if_pos k3, if_pos (by omega)]
              · rw [if_neg k3, if_neg (by omega)]
    · rw [if_neg hi, wp_bind]
      refine (sp_starved hn hY hc hm3 hv u3 w3 t3 (by omega)).mono ?_
      rintro ⟨x, ci4, cj4⟩ ⟨q1, q2, q3⟩
      simp only at q1 q2 q3 ⊢
      subst q1
      rw [nI_add, if_pos (by rw [jok_t (by omega) (by omega)]; trivial), nI_cl (by omega), nI_add]
      refine ih (r - 1) (nI (i + 1)) _ _ (by omega) ⟨i + 1, by omega, rfl, fun j hj => ?_, fun j hj => ?_, (h4.tr (q2.le (by decide) (by decide))).up (by decide) (by decide), h5.tr q3⟩
      · show ju ci4 1590 (10 + i) _ 1590 j = _
        rw [ju_ne2 _ _ (by omega), q2.1 1590 (by decide) (by decide)]; exact h3 j hj
      · show ju ci4 1590 (10 + i) _ 1590 (10 + j) = _
        by_cases hj2 : j = i
        · subst hj2; exact ju_eq _ _ _ _
        · rw [ju_ne2 _ _ (by omega), q2.1 1590 (by decide) (by decide)]; exact h3' j (by omega)
  · rw [if_neg hp, wp_bind]
    refine (sp_mended hn hY hc hm3 hv u3 w3 t3 (by omega)).mono ?_
    rintro ⟨x, ci4, cj4⟩ ⟨q1, q2, q3⟩
    simp only at q1 q2 q3 ⊢
    subst q1
    rw [if_pos (by rw [jok_t (by omega) (by omega)]; trivial), nI_cl (by omega), nI_add]
    refine ih (r - 1) (nI (p + 1)) _ _ (by omega) ⟨p + 1, by omega, rfl, fun j hj => ?_, (h4.tr (q2.le (by decide) (by decide))).up (by decide) (by decide), h5.tr q3⟩
    show ju ci4 1590 p _ 1590 j = _
    by_cases hj2 : j = p
    · subst hj2; exact ju_eq _ _ _ _
    · rw [ju_ne2 _ _ hj2, q2.1 1590 (by decide) (by decide)]; exact h3 j (by omega)
