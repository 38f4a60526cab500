/-! THE COMPONENT'S STATES: copies -/
set_option maxRecDepth 100000
theorem st_dj {t a : Nat} (ht : isSt t) (ha : isSt a) (h : t ≠ a) : t + 52 ≤ a ∨ a + 52 ≤ t := by
  rcases ht with h1 | h1 | ⟨h1, h2, h3⟩ <;> rcases ha with g1 | g1 | ⟨g1, g2, g3⟩ <;> omega
section
variable {n : Nat} {c : jCo} {K : jK} {ci : jI} {cj : jJ} {cr : jR} {t Y : Nat} {v : jV8}
theorem sp_copy (hn : 4000 ≤ n) {a : Nat} {f fa : Nat → Nat} (hc : CR c) (ht : isSt t) (ha : isSt a) (hta : t ≠ a) (hR : RW K cr t f) (hRa : RW K cr a fa) (hk : KR ci a fa v) (hs : SR c ci a v) :
    Wp (fX5_copy n t a K ci cj cr) (fun q => q.1 = t ∧ SR c q.2.1 t v ∧ KR q.2.1 t f v ∧ FS t ci cj cr q.2.1 q.2.2.1 q.2.2.2 ∧ q.2.2.1 = cj ∧ q.2.2.2 = cr) := by
  have dj := st_dj ht ha hta
  have hB := hc.1
  have hP := hc.2.1
  have hS := hc.2.2.1
  obtain ⟨m, m1, m2, m3, m4⟩ := hk
  unfold fX5_copy
  rw [if_pos ht, if_pos ha, ju_row _ _ (by omega), m3, hs.1]
  refine Wp.loop2 (fun k (a0 : Int32) (a1 : jI) => fX5_copy_18 n t a k a0 K a1 cj cr) (fun r x => ∃ j, j + r = 3 ∧ x.1 = nI j ∧ x.2 t 0 = v 0 ∧ x.2 t 1 = nI m ∧ (∀ i, i < j → x.2 (t + 1) i = ci (a + 1) i ∧ x.2 (t + 2) i = ci (a + 2) i) ∧ (∀ i, i < t ∨ t + 52 ≤ i → x.2 i = ci i)) _ ?_ n 3 (nI 0) (ju (ju ci t 0 (v 0)) t 1 (nI m)) (by omega) ⟨0, by omega, rfl, by show ju _ _ _ _ t 0 = _; rw [ju_ne2 _ _ (by decide), ju_eq], ju_eq _ _ _ _, fun i hi => absurd hi (Nat.not_lt_zero i), fun i hi => by show ju _ _ _ _ i = _; rw [ju_row _ _ (by omega), ju_row _ _ (by omega)]⟩
  rintro k r l ci1 ⟨j, g1, g2, g3, g4, g5, g6⟩ ih
  simp only at g2 g3 g4 g5 g6 ⊢
  subst g2
  rw [fX5_copy_18.eq_2]
  by_cases hj : 3 ≤ j
  · rw [if_pos (by rw [nI_leN (by omega) (by omega)]; exact hj)]
    clear ih
    refine Wp.loop2 (fun k (a0 : Int32) (a1 : jI) => fX5_copy_55 n t a k a0 K a1 cj cr) (fun r x => ∃ j, j + r = 6 ∧ x.1 = nI j ∧ (∀ i, i ≤ t + 3 → x.2 i = ci1 i) ∧ (∀ i, i < j → x.2 (t + 4) i = ci (a + 4) i ∧ x.2 (t + 5) i = ci (a + 5) i ∧ x.2 (t + 6) i = ci (a + 6) i) ∧ (∀ i, i < t ∨ t + 52 ≤ i → x.2 i = ci i)) _ ?_ n 6 (nI 0) ci1 (by omega) ⟨0, by omega, rfl, fun _ _ => rfl, fun i hi => absurd hi (Nat.not_lt_zero i), g6⟩
    rintro k r l ci2 ⟨j, b1, b2, b3, b4, b5⟩ ih
    simp only at b2 b3 b4 b5 ⊢
    subst b2
    rw [fX5_copy_55.eq_2]
    by_cases hj : 6 ≤ j
    · rw [if_pos (by rw [nI_leN (by omega) (by omega)]; exact hj)]
      clear ih
      refine Wp.loop2 (fun k (a0 : Int32) (a1 : jI) => fX5_copy_105 n t a k a0 K a1 cj cr) (fun r x => ∃ j, j + r = 10 ∧ x.1 = nI j ∧ (∀ i, i ≤ t + 7 → x.2 i = ci2 i) ∧ (∀ i, i < j → x.2 (t + 8) i = ci (a + 8) i ∧ x.2 (t + 10) i = ci (a + 10) i) ∧ (∀ i, i < t ∨ t + 52 ≤ i → x.2 i = ci i)) _ ?_ n 10 (nI 0) ci2 (by omega) ⟨0, by omega, rfl, fun _ _ => rfl, fun i hi => absurd hi (Nat.not_lt_zero i), b5⟩
      rintro k r l ci3 ⟨j, d1, d2, d3, d4, d5⟩ ih
      simp only at d2 d3 d4 d5 ⊢
      subst d2
      rw [fX5_copy_105.eq_2]
      by_cases hj : 10 ≤ j
      · rw [if_pos (by rw [nI_leN (by omega) (by omega)]; exact hj)]
        clear ih
        refine Wp.loop2 (fun k (a0 : Int32) (a1 : jI) => fX5_copy_143 n t a k a0 K a1 cj cr) (fun r x => ∃ j, j + r = m ∧ x.1 = nI j ∧ (∀ i, i < t + 12 → x.2 i = ci3 i) ∧ (∀ k i, k < j → i < 3 → x.2 (f k) i = v (46 + 3 * k + i)) ∧ (∀ i, i < t ∨ t + 52 ≤ i → x.2 i = ci i)) _ ?_ n m (nI 0) ci3 (by omega) ⟨0, by omega, rfl, fun _ _ => rfl, fun k i hk _ => absurd hk (Nat.not_lt_zero k), d5⟩
        rintro k r l ci4 ⟨j, e1, e2, e3, e4, e5⟩ ih
        simp only at e2 e3 e4 e5 ⊢
        subst e2
        have et1 : ci4 t 1 = nI m := by rw [e3 t (by omega), d3 t (by omega), b3 t (by omega)]; exact g4
        rw [fX5_copy_143.eq_2, et1]
        simp (disch := omega) only [nI_leN]
        by_cases hj : m ≤ j
        · rw [if_pos hj, wp_some]
          try dsimp only
          refine ⟨rfl, ⟨?_, fun s hs1 => ⟨?_, ?_⟩, fun b hb => ⟨?_, ?_, ?_⟩, fun p hp => ⟨?_, ?_⟩⟩, ⟨m, m1, m2, et1, fun k i hk hi => e4 k i (by omega) hi⟩, ⟨e5, fun _ _ => rfl, fun _ _ => rfl⟩, rfl, rfl⟩
          · show ci4 t 0 = _
            rw [e3 t (by omega), d3 t (by omega), b3 t (by omega)]; exact g3
          · show ci4 (t + 1) s = _
            rw [e3 _ (by omega), d3 _ (by omega), b3 _ (by omega), (g5 s (by omega)).1]; exact (hs.2.1 s hs1).1
          · show ci4 (t + 2) s = _
            rw [e3 _ (by omega), d3 _ (by omega), b3 _ (by omega), (g5 s (by omega)).2]; exact (hs.2.1 s hs1).2
          · show ci4 (t + 4) b = _
            rw [e3 _ (by omega), d3 _ (by omega), (b4 b (by omega)).1]; exact (hs.2.2.1 b hb).1
          · show ci4 (t + 5) b = _
            rw [e3 _ (by omega), d3 _ (by omega), (b4 b (by omega)).2.1]; exact (hs.2.2.1 b hb).2.1
          · show ci4 (t + 6) b = _
            rw [e3 _ (by omega), d3 _ (by omega), (b4 b (by omega)).2.2]; exact (hs.2.2.1 b hb).2.2
          · show ci4 (t + 8) p = _
            rw [e3 _ (by omega), (d4 p (by omega)).1]; exact (hs.2.2.2 p hp).1
          · show ci4 (t + 10) p = _
            rw [e3 _ (by omega), (d4 p (by omega)).2]; exact (hs.2.2.2 p hp).2
        · rw [if_neg hj]
          obtain ⟨r1, r2, r3, r4, r5, r6⟩ := hR.1 j (by omega)
          obtain ⟨s1, s2, s3, s4, s5, s6⟩ := hRa.1 j (by omega)
          refine Wp.loop2 (fun k' (a0 : Int32) (a1 : jI) => fX5_copy_153 n t a (fX5_copy_143 n t a k) k' (nI j) a0 K a1 cj cr) (fun r x => ∃ i, i + r = 3 ∧ x.1 = nI i ∧ (∀ q, q < i → x.2 (f j) q = v (46 + 3 * j + q)) ∧ (∀ q, q ≠ f j → x.2 q = ci4 q)) _ ?_ n 3 (nI 0) ci4 (by omega) ⟨0, by omega, rfl, fun q hq => absurd hq (Nat.not_lt_zero q), fun _ _ => rfl⟩
          rintro k' r' l ci5 ⟨i, w1, w2, w3, w4⟩ ih2
          simp only at w2 w3 w4 ⊢
          subst w2
          rw [fX5_copy_153.eq_2]
          by_cases hi : 3 ≤ i
          · rw [if_pos (by rw [nI_leN (by omega) (by omega)]; exact hi), nI_add]
            refine ih (r - 1) (nI (j + 1)) ci5 (by omega) ⟨j + 1, by omega, rfl, fun q hq => ?_, fun k q hk hq => ?_, fun q hq => ?_⟩
            · show ci5 q = _
              rw [w4 q (by omega)]; exact e3 q hq
            · show ci5 (f k) q = _
              by_cases k1 : k = j
              · subst k1; exact w3 q (by omega)
              · rw [w4 _ (fun e => k1 (hR.2 _ _ (by omega) (by omega) e))]; exact e4 k q (by omega) hq
            · show ci5 q = _
              rw [w4 q (by omega)]; exact e5 q hq
          · rw [if_neg (by rw [nI_leN (by omega) (by omega)]; exact hi)]
            have ex : ci5 (fa j) i = v (46 + 3 * j + i) := by
              rw [w4 _ (by omega), e5 _ (by omega)]; exact m4 j i (by omega) (by omega)
            simp (disch := omega) only [jok_t, if_true, nI_cl, r1, s1, Option.bind_some, r2, r3, r4, s2, s3, s4, and_self, nI_add, ex]
            refine ih2 (r' - 1) (nI (i + 1)) _ (by omega) ⟨i + 1, by omega, rfl, fun q hq => ?_, fun q hq => ?_⟩
            · show ju ci5 (f j) i _ (f j) q = _
              by_cases q1 : q = i
              · subst q1; exact ju_eq _ _ _ _
              · rw [ju_ne2 _ _ q1]; exact w3 q (by omega)
            · show ju ci5 (f j) i _ q = _
              rw [ju_row _ _ hq]; exact w4 q hq
      · rw [if_neg (by rw [nI_leN (by omega) (by omega)]; exact hj)]
        have x1 : ci3 (a + 8) = ci (a + 8) := d5 _ (by omega)
        have x2 : ci3 (a + 10) = ci (a + 10) := d5 _ (by omega)
        simp (disch := omega) only [jok_t, if_true, nI_cl, nI_add, ju_row, x1, x2]
        refine ih (r - 1) (nI (j + 1)) _ (by omega) ⟨j + 1, by omega, rfl, fun i hi => ?_, fun i hi => ⟨?_, ?_⟩, fun i hi => ?_⟩
        · show ju (ju ci3 (t + 8) j _) (t + 10) j _ i = _
          rw [ju_row _ _ (by omega), ju_row _ _ (by omega)]; exact d3 i hi
        · show ju (ju ci3 (t + 8) j _) (t + 10) j _ (t + 8) i = _
          rw [ju_row _ _ (by omega)]
          by_cases i1 : i = j
          · subst i1; exact ju_eq _ _ _ _
          · rw [ju_ne2 _ _ i1]; exact (d4 i (by omega)).1
        · show ju (ju ci3 (t + 8) j _) (t + 10) j _ (t + 10) i = _
          by_cases i1 : i = j
          · subst i1; exact ju_eq _ _ _ _
          · rw [ju_ne2 _ _ i1, ju_row _ _ (by omega)]; exact (d4 i (by omega)).2
        · show ju (ju ci3 (t + 8) j _) (t + 10) j _ i = _
          rw [ju_row _ _ (by omega), ju_row _ _ (by omega)]; exact d5 i hi
    · rw [if_neg (by rw [nI_leN (by omega) (by omega)]; exact hj)]
      have x1 : ci2 (a + 4) = ci (a + 4) := b5 _ (by omega)
      have x2 : ci2 (a + 5) = ci (a + 5) := b5 _ (by omega)
      have x3 : ci2 (a + 6) = ci (a + 6) := b5 _ (by omega)
      simp (disch := omega) only [jok_t, if_true, nI_cl, nI_add, ju_row, x1, x2, x3]
      refine ih (r - 1) (nI (j + 1)) _ (by omega) ⟨j + 1, by omega, rfl, fun i hi => ?_, fun i hi => ⟨?_, ?_, ?_⟩, fun i hi => ?_⟩
      · show ju (ju (ju ci2 (t + 4) j _) (t + 5) j _) (t + 6) j _ i = _
        rw [ju_row _ _ (by omega), ju_row _ _ (by omega), ju_row _ _ (by omega)]; exact b3 i hi
      · show ju (ju (ju ci2 (t + 4) j _) (t + 5) j _) (t + 6) j _ (t + 4) i = _
        rw [ju_row _ _ (by omega), ju_row _ _ (by omega)]
        by_cases i1 : i = j
        · subst i1; exact ju_eq _ _ _ _
        · rw [ju_ne2 _ _ i1]; exact (b4 i (by omega)).1
      · show ju (ju (ju ci2 (t + 4) j _) (t + 5) j _) (t + 6) j _ (t + 5) i = _
        rw [ju_row _ _ (by omega)]
        by_cases i1 : i = j
        · subst i1; exact ju_eq _ _ _ _
        · rw [ju_ne2 _ _ i1, ju_row _ _ (by omega)]; exact (b4 i (by omega)).2.1
      · show ju (ju (ju ci2 (t + 4) j _) (t + 5) j _) (t + 6) j _ (t + 6) i = _
        by_cases i1 : i = j
        · subst i1; exact ju_eq _ _ _ _
        · rw [ju_ne2 _ _ i1, ju_row _ _ (by omega), ju_row _ _ (by omega)]; exact (b4 i (by omega)).2.2
      · show ju (ju (ju ci2 (t + 4) j _) (t + 5) j _) (t + 6) j _ i = _
        rw [ju_row _ _ (by omega), ju_row _ _ (by omega), ju_row _ _ (by omega)]; exact b5 i hi
  · rw [if_neg (by rw [nI_leN (by omega) (by omega)]; exact hj)]
    have x1 : ci1 (a + 1) = ci (a + 1) := g6 _ (by omega)
    have x2 : ci1 (a + 2) = ci (a + 2) := g6 _ (by omega)
    simp (disch := omega) only [jok_t, if_true, nI_cl, nI_add, ju_row, x1, x2]
    refine ih (r - 1) (nI (j + 1)) _ (by omega) ⟨j + 1, by omega, rfl, ?_, ?_, fun i hi => ⟨?_, ?_⟩, fun i hi => ?_⟩
    · show ju (ju ci1 (t + 1) j _) (t + 2) j _ t 0 = _
      rw [ju_row _ _ (by omega), ju_row _ _ (by omega)]; exact g3
    · show ju (ju ci1 (t + 1) j _) (t + 2) j _ t 1 = _
      rw [ju_row _ _ (by omega), ju_row _ _ (by omega)]; exact g4
    · show ju (ju ci1 (t + 1) j _) (t + 2) j _ (t + 1) i = _
      rw [ju_row _ _ (by omega)]
      by_cases i1 : i = j
      · subst i1; exact ju_eq _ _ _ _
      · rw [ju_ne2 _ _ i1]; exact (g5 i (by omega)).1
    · show ju (ju ci1 (t + 1) j _) (t + 2) j _ (t + 2) i = _
      by_cases i1 : i = j
      · subst i1; exact ju_eq _ _ _ _
      · rw [ju_ne2 _ _ i1, ju_row _ _ (by omega)]; exact (g5 i (by omega)).2
    · show ju (ju ci1 (t + 1) j _) (t + 2) j _ i = _
      rw [ju_row _ _ (by omega), ju_row _ _ (by omega)]; exact g6 i hi
end
