/-! WHAT CAN BE UNDONE -/
set_option maxRecDepth 100000
def pU (u : Nat) : Nat := if u = 20 then 20 else u + 1
def pV (u : Nat) (U : Nat → jV8) (v : jV8) : Nat → jV8 := if u = 20 then (fun k => if k = 19 then v else U (k + 1)) else (fun k => if k = u then v else U k)
theorem nI_modE {a b : Nat} (ha : a < 2147483648) (hb : b < 2147483648) : nI a - nI a / nI b * nI b = nI (a % b) := by
  rw [nI_div ha hb, nI_mulN, nI_subN (Nat.div_mul_le_self a b)]
  congr 1
  have := Nat.div_add_mod a b
  rw [Nat.mul_comm] at this
  omega
/-- in the model: a ring of rows -/
def MK (ci : jI) (u : Nat) (U : Nat → jV8) : Prop := u ≤ 20 ∧ ci 1547 68 = nI u ∧ ∃ w, w < 20 ∧ ci 1547 69 = nI w ∧ ∀ k, k < u → ∀ i, i < 166 → ci 1594 (166 * ((w + 21 + k - u) % 20) + i) = U k i
/-- in the component: an array of States -/
def CK (c : jCo) (K : jK) (ci : jI) (cr : jR) (u : Nat) (U : Nat → jV8) : Prop := u ≤ 20 ∧ ci 0 18 = nI u ∧ ∃ g : Nat → Nat, (∀ k, k < 20 → cr 505 k = some (g k) ∧ isSt (g k) ∧ 506 ≤ g k ∧ ∃ f, RW K cr (g k) f) ∧ (∀ j k, j < 20 → k < 20 → g j = g k → j = k) ∧ ∀ k, k < u → StR c K ci cr (g k) (U k)
section
variable {n : Nat} {c : jCo} {ci : jI} {cj : jJ} {u : Nat} {U : Nat → jV8}
theorem sp6_keeps (hn : 4000 ≤ n) (h : MK ci u U) : Wp (fX6_keeps n ci cj) (fun q => MK q.1 (pU u) (pV u U (ci 1585)) ∧ Fr [1594] [68, 69] ci q.1 ∧ q.2 = cj) := by
  obtain ⟨u20, h1, w, w1, w2, w3⟩ := h
  unfold fX6_keeps
  rw [w2, nI_add, nI_modE (by omega) (by omega)]
  obtain ⟨w', hw'⟩ : ∃ w', w' = (w + 1) % 20 := ⟨_, rfl⟩
  rw [← hw']
  have hw20 : w' < 20 := by omega
  refine Wp.loop2 (fun k (a0 : Int32) (a1 : jI) => fX6_keeps_15 n k a0 a1 cj) (fun r x => ∃ j, j + r = 166 ∧ x.1 = nI j ∧ x.2 1547 69 = nI w' ∧ Fr [1594] [68, 69] ci x.2 ∧ x.2 1547 68 = nI u ∧ (∀ i, i < j → x.2 1594 (166 * w' + i) = ci 1585 i) ∧ ∀ p, p < 166 * w' ∨ 166 * w' + 166 ≤ p → x.2 1594 p = ci 1594 p) _ ?_ n 166 (nI 0) _ (by omega) ⟨0, by omega, rfl, by dsimp only; rw [ju_eq], Fr.rfl'.upf (by decide), by dsimp only; rw [ju_ne2 _ _ (by decide)]; exact h1, fun i hi => absurd hi (Nat.not_lt_zero i), fun p _ => by dsimp only; rw [ju_row _ _ (by decide)]⟩
  rintro k r l ci1 ⟨j, g1, g2, g3, g4, g5, g6, g7⟩ ih
  dsimp only at g2 g3 g4 g5 g6 g7
  subst g2
  rw [fX6_keeps_15.eq_2]
  by_cases hj : 166 ≤ j
  · have : j = 166 := by omega
    subst this
    rw [if_pos (nI_le hj (by omega))]
    unfold fX6_keeps_68 pU pV
    by_cases h20 : u = 20
    · rw [if_pos (show nI 20 ≤ ci1 1547 68 by rw [g5, h20]; exact nI_le (by omega) (by omega)), wp_some, if_pos h20, if_pos h20]
      refine ⟨⟨by omega, by dsimp only; rw [g5, h20], w', hw20, g3, fun k hk i hi => ?_⟩, g4, rfl⟩
      dsimp only
      by_cases hk19 : k = 19
      · rw [if_pos hk19, show (w' + 21 + k - 20) % 20 = w' by omega]
        exact g6 i hi
      · rw [if_neg hk19, g7 _ (by omega), ← w3 (k + 1) (by omega) i hi]
        congr 2
        omega
    · rw [if_neg (show ¬ nI 20 ≤ ci1 1547 68 by rw [g5]; exact nI_ge (by omega) (by omega)), wp_some, if_neg h20, if_neg h20]
      refine ⟨⟨by omega, by dsimp only; rw [ju_eq, g5, nI_add], w', hw20, by dsimp only; rw [ju_ne2 _ _ (by decide)]; exact g3, fun k hk i hi => ?_⟩, g4.upf (by decide), rfl⟩
      dsimp only
      rw [ju_row _ _ (by decide)]
      by_cases hku : k = u
      · rw [if_pos hku, show (w' + 21 + k - (u + 1)) % 20 = w' by omega]
        exact g6 i hi
      · rw [if_neg hku, g7 _ (by omega), ← w3 k (by omega) i hi]
        congr 2
        omega
  · rw [if_neg (nI_ge (by omega) (by omega)), g3, nI_mulN, nI_add, if_pos (by rw [jok_t (by omega) (by omega)]; trivial), if_pos (by rw [jok_t (by omega) (by omega)]; trivial), nI_cl (k := j) (by omega), nI_cl (k := 166 * w' + j) (by omega), nI_add]
    refine ih (r - 1) (nI (j + 1)) _ (by omega) ⟨j + 1, by omega, rfl, by dsimp only; rw [ju_row _ _ (by decide)]; exact g3, g4.up (by decide) (by decide), by dsimp only; rw [ju_row _ _ (by decide)]; exact g5, fun i hi => ?_, fun p hp => ?_⟩
    · dsimp only
      by_cases e : i = j
      · rw [e, ju_eq]; exact congrFun (g4.1 1585 (by decide) (by decide)) j
      · rw [ju_ne2 _ _ (by omega)]; exact g6 i (by omega)
    · dsimp only
      rw [ju_ne2 _ _ (by omega)]; exact g7 p hp
def aUndo (u : Nat) : Int32 := if u = 0 then nI 0 else nI 1
theorem m_undo (hn : 4000 ≤ n) (h : MK ci u U) : Wp (fX6_undo n ci cj) (fun q => q.1 = aUndo u ∧ q.2.2 = cj ∧ (u = 0 → q.2.1 = ju ci 1549 4 (ci 1549 4 + nI 1)) ∧ (u ≠ 0 → MK q.2.1 (u - 1) U ∧ Fr [1585] [68, 69] ci q.2.1 ∧ ∀ i, i < 166 → q.2.1 1585 i = U (u - 1) i)) := by
  obtain ⟨u20, h1, w, w1, w2, w3⟩ := h
  unfold fX6_undo aUndo
  rw [h1]
  by_cases h0 : u = 0
  · rw [if_pos (show nI u = 0 by rw [h0]; rfl), if_pos h0, if_pos (by rw [jok_t (by omega) (by omega)]; trivial), if_pos (by rw [jok_t (by omega) (by omega)]; trivial), nI_cl (by omega), wp_some]
    exact ⟨rfl, rfl, fun _ => rfl, fun z => absurd h0 z⟩
  rw [if_neg (show ¬ nI u = 0 by rw [nI_eq0 (by omega)]; exact h0), if_neg h0]
  refine Wp.loop2 (fun k (a0 : Int32) (a1 : jI) => fX6_undo_21 n k a0 a1 cj) (fun r x => ∃ j, j + r = 166 ∧ x.1 = nI j ∧ Fr [1585] [] ci x.2 ∧ ∀ i, i < j → x.2 1585 i = U (u - 1) i) _ ?_ n 166 (nI 0) _ (by omega) ⟨0, by omega, rfl, Fr.rfl', fun i hi => absurd hi (Nat.not_lt_zero i)⟩
  rintro k r l ci1 ⟨j, g1, g2, g3, g4⟩ ih
  dsimp only at g2 g3 g4
  subst g2
  have e69 : ci1 1547 69 = nI w := (g3.2 69 (by decide)).trans w2
  have e68 : ci1 1547 68 = nI u := (g3.2 68 (by decide)).trans h1
  rw [fX6_undo_21.eq_2]
  by_cases hj : 166 ≤ j
  · have : j = 166 := by omega
    subst this
    rw [if_pos (nI_le hj (by omega)), e69, nI_add, nI_subN (by omega), nI_modE (by omega) (by omega), ju_ne2 _ _ (by decide), e68, nI_subN (by omega), wp_some]
    refine ⟨rfl, rfl, fun z => absurd z h0, fun _ => ⟨⟨by omega, by dsimp only; rw [ju_eq], (w + 20 - 1) % 20, by omega, ?_, fun k hk i hi => ?_⟩, ((g3.le (L' := [1585]) (M' := [68, 69]) (by decide) (by decide)).upf (by decide)).upf (by decide), fun i hi => ?_⟩⟩
    · dsimp only
      rw [ju_ne2 _ _ (by decide), ju_eq]
    · dsimp only
      rw [ju_row _ _ (by decide), ju_row _ _ (by decide), ← w3 k (by omega) i hi, g3.1 1594 (by decide) (by decide)]
      congr 2
      omega
    · dsimp only
      rw [ju_row _ _ (by decide), ju_row _ _ (by decide)]
      exact g4 i hi
  · rw [if_neg (nI_ge (by omega) (by omega)), e69, nI_mulN, nI_add, if_pos (by rw [jok_t (by omega) (by omega)]; trivial), if_pos (by rw [jok_t (by omega) (by omega)]; trivial), nI_cl (k := j) (by omega), nI_cl (k := 166 * w + j) (by omega), nI_add]
    refine ih (r - 1) (nI (j + 1)) _ (by omega) ⟨j + 1, by omega, rfl, g3.up (by decide) (by decide), fun i hi => ?_⟩
    dsimp only
    by_cases e : i = j
    · rw [e, ju_eq, g3.1 1594 (by decide) (by decide), ← w3 (u - 1) (by omega) j (by omega)]
      congr 2
      omega
    · rw [ju_ne2 _ _ (by omega)]; exact g4 i (by omega)
end
section
variable {n : Nat} {c : jCo} {K : jK} {ci ci1 ci2 : jI} {cj cj1 cj2 : jJ} {cr cr1 cr2 : jR} {v w : jV8} {u : Nat} {U : Nat → jV8}
theorem CI.fr (h : CI n c K ci cj cr v) (hi : ∀ i, jRg i ∨ (16 ≤ i ∧ i < 68) → ci1 i = ci i) (hj : ∀ i, jRg i → cj1 i = cj i) (hr : ∀ i, i ≠ 505 → cr1 i = cr i) : CI n c K ci1 cj1 cr1 v := by
  obtain ⟨h1, h2, h3, ⟨s1, f, s2, s3⟩, h5, f6, h6⟩ := h
  refine ⟨h1, h2.cr' (fun a ha k => ?_), h3.fr (by rw [hr 0 (by decide)]) (Nat.le_refl _) (fun i i1 _ => ⟨rfl, rfl, hi i (Or.inl i1), hj i i1, hr i (by unfold jRg at i1; omega)⟩), ⟨s1.fr (fun i i1 i2 _ _ _ => hi i (Or.inr ⟨by omega, by omega⟩)), f, s2.fs (hr _ (by decide)), s3.fr s2 (by rw [hi 16 (Or.inr (by omega))]) (fun i i1 i2 => hi i (Or.inr ⟨by omega, by omega⟩))⟩, h5, f6, h6.fs (hr _ (by decide))⟩
  rw [hr a (fun e => ?_)]
  have hk : K.1 505 = 108 := (h2.1 (505, 108, 20) (by decide)).1
  rw [e, hk] at ha
  omega
/-- what an act of the component may write -/
def FA (ci : jI) (cj : jJ) (cr : jR) (ci' : jI) (cj' : jJ) (cr' : jR) : Prop := (∀ i, i ≠ 0 → i < 506 ∨ 1546 ≤ i → ci' i = ci i) ∧ (∀ k, k ≠ 18 → ci' 0 k = ci 0 k) ∧ cj' = cj ∧ ∀ i, i ≠ 505 → cr' i = cr i
theorem st_nm {t a : Nat} (ht : isSt t) : t + 11 ≠ 505 := by
  rcases ht with h1 | h1 | ⟨h1, h2, h3⟩ <;> omega
theorem sp0_remembers_62 (hn : 4000 ≤ n) (h : CI n c K ci cj cr v) (hk : CK c K ci cr u U) (hu : u < 20) : Wp (fX0_remembers_62 n K ci cj cr) (fun q => CK c K q.2.1 q.2.2.2 (u + 1) (fun k => if k = u then v else U k) ∧ FA ci cj cr q.2.1 q.2.2.1 q.2.2.2) := by
  obtain ⟨u20, h1, g, k1, k2, k3⟩ := hk
  obtain ⟨c1, c2, c3, ⟨s1, f, s2, s3⟩, -⟩ := h
  obtain ⟨e1, e2, e3, ff, e4⟩ := k1 u (by omega)
  unfold fX0_remembers_62
  rw [h1, if_pos (by rw [jok_t (by omega) (by omega)]; trivial), nI_cl (by omega), e1, Option.bind_some, if_pos e2, wp_jpb]
  refine (sp_copy hn c1 e2 is16 (by omega) e4 s2 s3 s1).mono ?_
  rintro ⟨x, ci1, cj1, cr1⟩ ⟨q1, q2, q3, q4, q5, q6⟩
  dsimp only at q1 q2 q3 q4 q5 q6 ⊢
  subst q5 q6
  have r0 := st_rg e2
  have e0 : ci1 0 = ci 0 := q4.1 0 (by omega)
  rw [wp_some, e0, h1, nI_add]
  refine ⟨⟨by omega, by dsimp only; rw [ju_eq], g, k1, k2, fun k hku => ?_⟩, ⟨fun i i1 i2 => ?_, fun k hk => ?_, rfl, fun _ _ => rfl⟩⟩
  · have key : StR c K ci1 cr1 (g k) (if k = u then v else U k) := by
      by_cases e : k = u
      · subst e
        rw [if_pos rfl]
        exact ⟨q2, ff, e4, q3⟩
      · rw [if_neg e]
        exact (k3 k (by omega)).fs e2 (k1 k (by omega)).2.1 (fun z => e ((k2 u k (by omega) (by omega) z).symm)) q4
    obtain ⟨z1, f', z2, z3⟩ := key
    have hg := (k1 k (by omega)).2.2.1
    exact ⟨z1.fr (fun i i1 i2 _ _ _ => ju_row _ _ (by omega)), f', z2, z3.fr z2 (by dsimp only; rw [ju_row _ _ (by omega)]) (fun i i1 i2 => ju_row _ _ (by omega))⟩
  · dsimp only
    rw [ju_row _ _ i1]; exact q4.1 i (by omega)
  · dsimp only
    rw [ju_ne2 _ _ hk, e0]
theorem sp0_remembers (hn : 4000 ≤ n) (h : CI n c K ci cj cr v) (hk : CK c K ci cr u U) : Wp (fX0_remembers n K ci cj cr) (fun q => CK c K q.2.1 q.2.2.2 (pU u) (pV u U v) ∧ FA ci cj cr q.2.1 q.2.2.1 q.2.2.2) := by
  have hk' := hk
  obtain ⟨u20, h1, g, k1, k2, k3⟩ := hk'
  unfold fX0_remembers pU pV
  by_cases hu : u = 20
  rotate_left
  · rw [if_neg (show ¬ ci 0 18 = nI 20 by rw [h1, nI_eqN (by omega) (by omega)]; exact hu), if_neg hu, if_neg hu]
    exact sp0_remembers_62 hn h hk (by omega)
  rw [if_pos (show ci 0 18 = nI 20 by rw [h1, hu]), if_pos hu, if_pos hu, if_pos (by rw [jok_t (by omega) (by omega)]; trivial), nI_cl (by omega), (k1 0 (by omega)).1, Option.bind_some]
  refine Wp.loop2 (fun k (a0 : Int32) (a1 : jR) => fX0_remembers_18 n k (g 0) a0 K ci cj a1) (fun r x => ∃ j, 1 ≤ j ∧ j + r = 20 ∧ x.1 = nI j ∧ (∀ i, i ≠ 505 → x.2 i = cr i) ∧ ∀ k, k < 20 → x.2 505 k = if k + 1 < j then some (g (k + 1)) else some (g k)) _ ?_ n 19 (nI 1) cr (by omega) ⟨1, by omega, by omega, rfl, fun _ _ => rfl, fun k hk => by rw [if_neg (by omega)]; exact (k1 k hk).1⟩
  rintro k r l cr1 ⟨j, g0, g1, g2, g3, g4⟩ ih
  dsimp only at g2 g3 g4
  subst g2
  rw [fX0_remembers_18.eq_2]
  have hC := h.2.1
  by_cases hj : 20 ≤ j
  · have : j = 20 := by omega
    subst this
    rw [if_pos (nI_le hj (by omega)), if_pos (by rw [jok_t (by omega) (by omega)]; trivial), if_pos ⟨sk0 hC (k1 0 (by omega)).2.1, sl0 hC (k1 0 (by omega)).2.1⟩, h1, hu, nI_subN (by omega), nI_cl (by omega)]
    have er : ∀ i, i ≠ 505 → ju cr1 505 19 (some (g 0)) i = cr i := fun i hi => by rw [ju_row _ _ hi]; exact g3 i hi
    have h' : CI n c K (ju ci 0 18 (nI (20 - 1))) cj (ju cr1 505 19 (some (g 0))) v := h.fr (fun i hi => ju_row _ _ (by unfold jRg at hi; omega)) (fun _ _ => rfl) er
    have hk2 : CK c K (ju ci 0 18 (nI (20 - 1))) (ju cr1 505 19 (some (g 0))) 19 (fun k => U (k + 1)) := by
      refine ⟨by omega, ju_eq _ _ _ _, fun k => if k = 19 then g 0 else g (k + 1), fun k hk => ?_, fun a b ha hb hab => ?_, fun k hk => ?_⟩
      · dsimp only
        by_cases e : k = 19
        · rw [if_pos e, e, ju_eq]
          obtain ⟨-, x2, x3, f, x4⟩ := k1 0 (by omega)
          exact ⟨rfl, x2, x3, f, x4.fs (er _ (st_nm (a := 0) x2))⟩
        · rw [if_neg e, ju_ne2 _ _ e, g4 k hk, if_pos (by omega)]
          obtain ⟨-, x2, x3, f, x4⟩ := k1 (k + 1) (by omega)
          exact ⟨rfl, x2, x3, f, x4.fs (er _ (st_nm (a := 0) x2))⟩
      · dsimp only at hab
        by_cases ea : a = 19
        · by_cases eb : b = 19
          · omega
          · rw [if_pos ea, if_neg eb] at hab
            have := k2 0 (b + 1) (by omega) (by omega) hab
            omega
        · by_cases eb : b = 19
          · rw [if_neg ea, if_pos eb] at hab
            have := k2 (a + 1) 0 (by omega) (by omega) hab
            omega
          · rw [if_neg ea, if_neg eb] at hab
            have := k2 (a + 1) (b + 1) (by omega) (by omega) hab
            omega
      · dsimp only
        rw [if_neg (by omega)]
        obtain ⟨-, x2, x3, -⟩ := k1 (k + 1) (by omega)
        obtain ⟨z1, f', z2, z3⟩ := k3 (k + 1) (by omega)
        exact ⟨z1.fr (fun i i1 i2 _ _ _ => ju_row _ _ (by omega)), f', z2.fs (er _ (st_nm (a := 0) x2)), z3.fr z2 (by rw [ju_row _ _ (by omega)]) (fun i i1 i2 => ju_row _ _ (by omega))⟩
    refine (sp0_remembers_62 hn h' hk2 (by omega)).mono ?_
    rintro ⟨x, ci1, cj1, cr2⟩ ⟨q1, q2, q3, q4, q5⟩
    dsimp only at q1 q2 q3 q4 q5 ⊢
    exact ⟨q1, fun i i1 i2 => by rw [q2 i i1 i2, ju_row _ _ i1], fun k hk => by rw [q3 k hk, ju_ne2 _ _ hk], q4, fun i hi => (q5 i hi).trans (er i hi)⟩
  · have ej : cr1 505 j = some (g j) := by rw [g4 j (by omega), if_neg (by omega)]
    rw [if_neg (nI_ge (by omega) (by omega)), if_pos (by rw [jok_t (by omega) (by omega)]; trivial), nI_cl (by omega), ej, Option.bind_some, nI_subN g0, if_pos (by rw [jok_t (by omega) (by omega)]; trivial), if_pos ⟨sk0 hC (k1 j (by omega)).2.1, sl0 hC (k1 j (by omega)).2.1⟩, nI_add, nI_cl (by omega)]
    refine ih (r - 1) (nI (j + 1)) _ (by omega) ⟨j + 1, by omega, by omega, rfl, fun i hi => by dsimp only; rw [ju_row _ _ hi]; exact g3 i hi, fun k hk => ?_⟩
    dsimp only
    by_cases e : k = j - 1
    · rw [e, ju_eq, if_pos (by omega), show j - 1 + 1 = j by omega]
    · rw [ju_ne2 _ _ e, g4 k hk]
      by_cases e2 : k + 1 < j
      · rw [if_pos e2, if_pos (by omega)]
      · rw [if_neg e2, if_neg (by omega)]
theorem c_undo (hn : 4000 ≤ n) (h : CI n c K ci cj cr v) (hk : CK c K ci cr u U) (hv : ∀ k, k < u → VR c (U k) 999) : Wp (fX0_undo n K ci cj cr) (fun q => q.1 = aUndo u ∧ q.2.2.1 = cj ∧ q.2.2.2 = cr ∧ (u = 0 → q.2.1 = ju ci 15 4 (ci 15 4 + nI 1)) ∧
    (u ≠ 0 → CI n c K q.2.1 cj cr (U (u - 1)) ∧ CK c K q.2.1 cr (u - 1) U ∧ (∀ i, i ≠ 0 → i < 16 ∨ 68 ≤ i → q.2.1 i = ci i) ∧ ∀ k, k ≠ 18 → q.2.1 0 k = ci 0 k)) := by
  obtain ⟨u20, h1, g, k1, k2, k3⟩ := hk
  unfold fX0_undo aUndo
  rw [h1]
  by_cases h0 : u = 0
  · rw [if_pos (show nI u = 0 by rw [h0]; rfl), if_pos h0, wp_jpb]
    unfold fX0_refuses fX0_undo_20
    rw [if_pos (by rw [jok_t (by omega) (by omega)]; trivial), if_pos (by rw [jok_t (by omega) (by omega)]; trivial), nI_cl (by omega), wp_some]
    dsimp only
    rw [if_pos (by decide), if_pos bt0, wp_some]
    exact ⟨rfl, rfl, rfl, fun _ => rfl, fun z => absurd h0 z⟩
  obtain ⟨e1, e2, e3, ff, e4⟩ := k1 (u - 1) (by omega)
  rw [if_neg (show ¬ nI u = 0 by rw [nI_eq0 (by omega)]; exact h0), if_neg h0, nI_subN (by omega), ju_eq, if_pos (by rw [jok_t (by omega) (by omega)]; trivial), nI_cl (by omega), e1, Option.bind_some, wp_jpb]
  obtain ⟨c1, c2, c3, c4, c5, c6⟩ := h
  obtain ⟨s1, f, s2, s3⟩ := k3 (u - 1) (by omega)
  obtain ⟨t1, f1, t2, t3⟩ := c4
  have r0 := st_rg e2
  refine (sp_copy hn c1 is16 e2 (by omega) t2 s2 (s3.fr s2 (by rw [ju_row _ _ (by omega)]) (fun i i1 i2 => ju_row _ _ (by omega))) (s1.fr (fun i i1 i2 _ _ _ => ju_row _ _ (by omega)))).mono ?_
  rintro ⟨x, ci1, cj1, cr1⟩ ⟨q1, q2, q3, q4, q5, q6⟩
  dsimp only at q1 q2 q3 q4 q5 q6 ⊢
  subst q5 q6
  have q0 : ∀ i, i ≠ 0 → i < 16 ∨ 68 ≤ i → ci1 i = ci i := fun i i1 i2 => by rw [q4.1 i (by omega)]; dsimp only; rw [ju_row _ _ i1]
  have q00 : ci1 0 = ju ci 0 18 (nI (u - 1)) 0 := q4.1 0 (by omega)
  rw [wp_some]
  refine ⟨rfl, rfl, rfl, fun z => absurd z h0, fun _ => ⟨⟨c1, c2, c3.fr rfl (Nat.le_refl _) (fun i i1 _ => ⟨rfl, rfl, q0 i (by unfold jRg at i1; omega) (by unfold jRg at i1; omega), rfl, rfl⟩), ⟨q2, f1, t2, q3⟩, hv _ (by omega), c6⟩, ⟨by omega, by dsimp only; rw [q00, ju_eq], g, k1, k2, fun k hku => ?_⟩, q0, fun k hk => by dsimp only; rw [q00, ju_ne2 _ _ hk]⟩⟩
  obtain ⟨z1, f', z2, z3⟩ := k3 k (by omega)
  have hg := (k1 k (by omega)).2.2.1
  exact ⟨z1.fr (fun i i1 i2 _ _ _ => q0 i (by omega) (by omega)), f', z2, z3.fr z2 (by dsimp only; rw [q0 _ (by omega) (by omega)]) (fun i i1 i2 => q0 i (by omega) (by omega))⟩
end
