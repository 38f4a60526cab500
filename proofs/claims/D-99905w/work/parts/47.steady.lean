/-! STEADY -/
set_option maxRecDepth 100000
/-- the rows of came and of bayBy -/
def CBK (K : jK) (cr : jR) : Prop := (∀ j, j < 60 → cr 120 j = some (121 + j) ∧ K.1 (121 + j) = 100 ∧ K.2.1 (121 + j) = 3 ∧ 121 + j < K.2.2) ∧
  ∀ i, i < 10 → cr 184 i = some (185 + i * 32) ∧ K.1 (185 + i * 32) = 106 ∧ K.2.1 (185 + i * 32) = 31 ∧ 185 + i * 32 < K.2.2 ∧ ∀ j, j < 31 → cr (185 + i * 32) j = some (186 + i * 32 + j) ∧ K.1 (186 + i * 32 + j) = 100 ∧ K.2.1 (186 + i * 32 + j) = 3 ∧ 186 + i * 32 + j < K.2.2
/-- the same bay in five years -/
def stP (A : Nat → Nat → Int32) (S m : Nat) : Prop := ∀ j s, 1 ≤ j → j < 5 → s < S → A (m + j) s = A m s
/-- the first steady year of H -/
def isSy (A : Nat → Nat → Int32) (S H : Nat) (r : Int32) : Prop := (∃ m, r = nI m ∧ m + 5 ≤ H ∧ stP A S m ∧ ∀ m', m' < m → ¬ stP A S m') ∨ (r = -1 ∧ ∀ m, m + 5 ≤ H → ¬ stP A S m)
theorem isSy.uniq {A : Nat → Nat → Int32} {S H : Nat} {r r' : Int32} (h : isSy A S H r) (h' : isSy A S H r') : r = r' := by
  rcases h with ⟨m, a1, a2, a3, a4⟩ | ⟨a1, a2⟩ <;> rcases h' with ⟨m', b1, b2, b3, b4⟩ | ⟨b1, b2⟩
  · have : m = m' := by
      rcases Nat.lt_trichotomy m m' with z | z | z
      · exact absurd a3 (b4 m z)
      · exact z
      · exact absurd b3 (a4 m' z)
    rw [a1, b1, this]
  · exact absurd a3 (b2 m a2)
  · exact absurd b3 (a2 m' b2)
  · rw [a1, b1]
/-- where shoals come in the years ahead -/
def atY (c : jCo) (v : jV8) (k s : Nat) : Int32 := goN c v (k + 1) (2 + 2 * s)
section
variable {n : Nat} {c : jCo} {ci : jI} {cj : jJ}
theorem sp6_isSteadyFrom (hn : 4000 ≤ n) (hc : CR c) (hm : MC c ci) {A : Nat → Nat → Int32} {m H : Nat} (hH : H ≤ 60) (hA : ∀ k s, k < H → s < coS c → ci 1591 (3 * k + s) = A k s) (hmH : m + 5 ≤ H) :
    Wp (fX6_isSteadyFrom n (nI m) ci cj) (fun q => ((q.1 = nI 1 ∧ stP A (coS c) m) ∨ (q.1 = nI 0 ∧ ¬ stP A (coS c) m)) ∧ q.2.1 = ci ∧ q.2.2 = cj) := by
  have hS := hc.2.2.1
  unfold fX6_isSteadyFrom
  refine Wp.loop2 (fun k (a0 : Int32) (_ : Unit) => fX6_isSteadyFrom_2 n k (nI m) a0 ci cj) (fun r b => ∃ s, s + r = coS c ∧ b.1 = nI s ∧ ∀ j s', 1 ≤ j → j < 5 → s' < s → A (m + j) s' = A m s') _ ?_ n (coS c) (nI 0) () (by omega) ⟨0, by omega, rfl, fun j s' _ _ h => absurd h (Nat.not_lt_zero _)⟩
  rintro k r l ⟨⟩ ⟨s, g1, g2, g3⟩ ih
  dsimp only at g2 g3
  subst g2
  rw [fX6_isSteadyFrom_2.eq_2, wp_bind, e6_shoalMany, wp_some]
  dsimp only
  rw [hm.2.2.1]
  by_cases hs : coS c ≤ s
  · rw [if_pos (nI_le hs (by omega)), wp_some]
    exact ⟨Or.inl ⟨rfl, fun j s' j1 j2 j3 => g3 j s' j1 j2 (by omega)⟩, rfl, rfl⟩
  · rw [if_neg (nI_ge (by omega) (by omega))]
    refine Wp.loop2 (fun k' (a0 : Int32) (_ : Unit) => fX6_isSteadyFrom_12 n (fX6_isSteadyFrom_2 n k) k' (nI m) (nI s) a0 ci cj) (fun r b => ∃ j, j + r = 5 ∧ 1 ≤ j ∧ b.1 = nI j ∧ ∀ j', 1 ≤ j' → j' < j → A (m + j') s = A m s) _ ?_ n 4 (nI 1) () (by omega) ⟨1, by omega, by omega, rfl, fun j' _ _ => by omega⟩
    rintro k' r' l ⟨⟩ ⟨j, w1, w2, w3, w4⟩ ih2
    dsimp only at w3 w4
    subst w3
    rw [fX6_isSteadyFrom_12.eq_2]
    by_cases hj : 5 ≤ j
    · rw [if_pos (nI_le hj (by omega)), nI_add]
      refine ih (r - 1) (nI (s + 1)) () (by omega) ⟨s + 1, by omega, rfl, fun j' s' j1 j2 j3 => ?_⟩
      by_cases e : s' = s
      · subst e; exact w4 j' j1 (by omega)
      · exact g3 j' s' j1 j2 (by omega)
    · rw [if_neg (nI_ge (by omega) (by omega))]
      simp (disch := omega) only [nI_add, nI_mulN, nI_cl, jok_t, if_true]
      rw [hA (m + j) s (by omega) (by omega), hA m s (by omega) (by omega)]
      by_cases e : A (m + j) s = A m s
      · rw [if_pos e]
        refine ih2 (r' - 1) (nI (j + 1)) () (by omega) ⟨j + 1, by omega, by omega, rfl, fun j' j1 j2 => ?_⟩
        by_cases e2 : j' = j
        · subst e2; exact e
        · exact w4 j' j1 (by omega)
      · rw [if_neg e, wp_some]
        exact ⟨Or.inr ⟨rfl, fun z => e (z j s (by omega) (by omega) (by omega))⟩, rfl, rfl⟩
theorem m_steady (hn : 4000 ≤ n) (h : MI c ci) {y : Nat} (hy : ci 1585 0 = nI y) (hy9 : y ≤ 999) : Wp (fX6_steady n ci cj) (fun q => isSy (atY c (ci 1585)) (coS c) (min 60 (999 - y)) q.1 ∧ QM ci cj q.2.1 q.2.2) := by
  obtain ⟨hc, hm, hv, hk, h58⟩ := h
  have hS := hc.2.2.1
  unfold fX6_steady
  rw [wp_bind]
  refine (sp_putsAside (c := c) hn).mono ?_
  rintro ⟨ci1, cj1⟩ hT
  dsimp only
  generalize hH : min 60 (999 - y) = H
  have hy0 : ∀ k, goN c (ci 1585) k 0 = nI (y + k) := by
    intro k
    induction k with
    | zero => exact hy
    | succ k ih => show goV c (goN c (ci 1585) k) 0 = _; rw [goV_0, ih, nI_add]; rfl
  -- the search
  have search : ∀ (ci2 : jI) (cj2 : jJ), QM ci cj ci2 cj2 → (∀ k s, k < H → s < coS c → ci2 1591 (3 * k + s) = atY c (ci 1585) k s) → Wp (fX6_steady_72 n n (nI H) (nI 0) ci2 cj2) (fun q => isSy (atY c (ci 1585)) (coS c) H q.1 ∧ QM ci cj q.2.1 q.2.2) := by
    intro ci2 cj2 hQ hA
    have hm2 : MC c ci2 := hm.fr' hQ.2.2.1 (by decide)
    refine Wp.loop2 (fun k (a0 : Int32) (_ : Unit) => fX6_steady_72 n k (nI H) a0 ci2 cj2) (fun r b => ∃ m, m + r = H + 1 ∧ b.1 = nI m ∧ ∀ m', m' < m → ¬ stP (atY c (ci 1585)) (coS c) m') _ ?_ n (H + 1) (nI 0) () (by omega) ⟨0, by omega, rfl, fun m' h => absurd h (Nat.not_lt_zero _)⟩
    rintro k r l ⟨⟩ ⟨m, g1, g2, g3⟩ ih
    dsimp only at g2 g3
    subst g2
    rw [fX6_steady_72.eq_2, nI_add]
    by_cases h5 : H < m + 5
    · rw [if_pos (nI_lt h5 (by omega)), wp_some]
      exact ⟨Or.inr ⟨rfl, fun m' hm' => g3 m' (by omega)⟩, hQ⟩
    · rw [if_neg (nI_nlt (by omega) (by omega)), wp_bind]
      refine (sp6_isSteadyFrom hn hc hm2 (by omega) hA (by omega)).mono ?_
      rintro ⟨x, ci3, cj3⟩ ⟨q1, q2, q3⟩
      dsimp only at q1 q2 q3 ⊢
      subst q2 q3
      rcases q1 with ⟨e, p⟩ | ⟨e, p⟩
      · rw [e, if_neg n10, wp_some]
        exact ⟨Or.inl ⟨m, rfl, by omega, p, g3⟩, hQ⟩
      · rw [e, if_pos z00, nI_add]
        refine ih (r - 1) (nI (m + 1)) () (by omega) ⟨m + 1, by omega, rfl, fun m' hm' => ?_⟩
        by_cases e2 : m' = m
        · subst e2; exact p
        · exact g3 m' (by omega)
  have endS : ∀ (ci2 : jI) (cj2 : jJ), TH c ci cj ci2 cj2 (goN c (ci 1585) H) → (∀ k s, k < H → s < coS c → ci2 1591 (3 * k + s) = atY c (ci 1585) k s) → Wp (fX6_steady_66 n (nI H) ci2 cj2) (fun q => isSy (atY c (ci 1585)) (coS c) H q.1 ∧ QM ci cj q.2.1 q.2.2) := by
    intro ci2 cj2 hT2 hA
    unfold fX6_steady_66 fX6_takesBack
    rw [wp_bind, wp_bind]
    refine (sp_triesAnew hn hT2).mono ?_
    rintro ⟨ci3, cj3⟩ ⟨⟨t1, t2, t3, t4, t5, t6⟩, q2, q3⟩
    dsimp only at t1 t2 t3 t4 t5 t6 q2 q3 ⊢
    rw [wp_some]
    refine search _ _ ⟨fun k hk => ?_, ?_, Fr.upf t5 (by decide), t6⟩ (fun k s hk hs => ?_)
    · show ju ci3 1547 58 (nI 0) 1585 k = _
      rw [ju_row _ _ (by decide)]
      by_cases k1 : k < 45
      · exact t3 k k1
      · exact t4 k (by omega) hk
    · show ju ci3 1547 58 (nI 0) 1547 58 = _
      rw [ju_eq, h58]; rfl
    · show ju ci3 1547 58 (nI 0) 1591 _ = _
      rw [ju_row _ _ (by decide), q2.1 1591 (by decide) (by decide)]
      exact hA k s hk hs
  refine Wp.loop3 (fun k (a0 : Int32) (a1 : jI) (a2 : jJ) => fX6_steady_6 n k a0 a1 a2) (fun r b => ∃ i, i + r = H ∧ b.1 = nI i ∧ TH c ci cj b.2.1 b.2.2 (goN c (ci 1585) i) ∧ ∀ k s, k < i → s < coS c → b.2.1 1591 (3 * k + s) = atY c (ci 1585) k s) _ ?_ n H (nI 0) ci1 cj1 (by omega) ⟨0, by omega, rfl, hT, fun k s h => absurd h (Nat.not_lt_zero _)⟩
  rintro k r l ci2 cj2 ⟨i, g1, g2, g3, g4⟩ ih
  dsimp only at g2 g3 g4
  subst g2
  have e0 : ci2 1585 0 = nI (y + i) := (g3.2.2.1 0 (by omega)).trans (hy0 i)
  rw [fX6_steady_6.eq_2]
  by_cases h60 : 60 ≤ i
  · have : i = H := by omega
    subst this
    rw [if_pos (nI_le h60 (by omega))]
    exact endS ci2 cj2 g3 g4
  · rw [if_neg (nI_ge (by omega) (by omega)), if_pos (by rw [jok_t (by omega) (by omega)]; trivial), nI_cl (by omega), e0]
    by_cases h9 : 999 ≤ y + i
    · have : i = H := by omega
      subst this
      rw [if_pos (nI_le h9 (by omega))]
      exact endS ci2 cj2 g3 g4
    · rw [if_neg (nI_ge (by omega) (by omega)), wp_bind]
      refine (sp_yearT (Y := 999 + i) hn (by omega) hc hm hk g3 (VR_goN hc hv i)).mono ?_
      rintro ⟨ci3, cj3⟩ ⟨q1, q2, q3, q4, q5⟩
      dsimp only at q1 q2 q3 q4 q5 ⊢
      refine Wp.loop2 (fun k' (a0 : Int32) (a1 : jI) => fX6_steady_30 n (fX6_steady_6 n k) k' (nI i) a0 a1 cj3) (fun r b => ∃ s, s + r = coS c ∧ b.1 = nI s ∧ (∀ s', s' < s → b.2 1591 (3 * i + s') = atY c (ci 1585) i s') ∧ (∀ k s, k < i → s < coS c → b.2 1591 (3 * k + s) = atY c (ci 1585) k s) ∧ Fr [1591] [] ci3 b.2) _ ?_ n (coS c) (nI 0) ci3 (by omega) ⟨0, by omega, rfl, fun s' h => absurd h (Nat.not_lt_zero _), fun k s hk hs => by show ci3 1591 _ = _; rw [q5 1591 (Or.inl rfl)]; exact g4 k s hk hs, Fr.rfl'⟩
      rintro k' r' l ci4 ⟨s, w1, w2, w3, w4, w5⟩ ih2
      dsimp only at w2 w3 w4 w5
      subst w2
      have hm4 : MC c ci4 := (q1.mc hm).fr' w5 (by decide)
      rw [fX6_steady_30.eq_2, wp_bind, e6_shoalMany, wp_some]
      dsimp only
      rw [hm4.2.2.1]
      by_cases hs : coS c ≤ s
      · rw [if_pos (nI_le hs (by omega)), nI_add]
        obtain ⟨t1, t2, t3, t4, t5, t6⟩ := q1
        refine ih (r - 1) (nI (i + 1)) _ _ (by omega) ⟨i + 1, by omega, rfl, ⟨?_, fun k hk => ?_, fun k hk => ?_, fun k k1 k2 => ?_, Fr.tr t5 (w5.le (by decide) (by decide)), t6⟩, fun k s' hk hs' => ?_⟩
        · exact (w5.2 58 (by decide)).trans t1
        · exact (congrFun (w5.1 1586 (by decide) (by decide)) k).trans (t2 k hk)
        · exact (congrFun (w5.1 1585 (by decide) (by decide)) k).trans (t3 k hk)
        · exact (congrFun (w5.1 1585 (by decide) (by decide)) k).trans (t4 k k1 k2)
        · by_cases e : k = i
          · subst e; exact w3 s' (by omega)
          · exact w4 k s' (by omega) hs'
      · rw [if_neg (nI_ge (by omega) (by omega))]
        have e89 : ci4 1589 s = atY c (ci 1585) i s := by
          rw [w5.1 1589 (by decide) (by decide), q2 s (by omega)]
          show _ = goV c (goN c (ci 1585) i) (2 + 2 * s)
          rw [goV_a (by omega) (by omega)]
        simp (disch := omega) only [nI_add, nI_mulN, nI_cl, jok_t, if_true, e89]
        refine ih2 (r' - 1) (nI (s + 1)) _ (by omega) ⟨s + 1, by omega, rfl, fun s' hs' => ?_, fun k s' hk hs' => ?_, w5.up (by decide) (by decide)⟩
        · show ju ci4 1591 (3 * i + s) _ 1591 _ = _
          by_cases e : s' = s
          · subst e; exact ju_eq _ _ _ _
          · rw [ju_ne2 _ _ (by omega)]; exact w3 s' (by omega)
        · show ju ci4 1591 (3 * i + s) _ 1591 _ = _
          rw [ju_ne2 _ _ (by omega)]; exact w4 k s' hk hs'
end
