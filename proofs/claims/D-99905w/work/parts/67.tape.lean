/-! FEED, END, SEE -/
set_option maxRecDepth 100000
def CT (ci : jI) (T : Nat) (b : Nat → Int32) : Prop := ci 0 2 = nI T ∧ ∀ k, k < T → ci 8 k &&& nI 255 = b k
def MT (ci : jI) (T : Nat) (b : Nat → Int32) : Prop := ci 1547 1 = nI T ∧ ∀ k, k < T → ci 1548 k = b k
def BT (T : Nat) (b : Nat → Int32) : Prop := T ≤ 1600 ∧ ∀ k, k < T → ∃ x, x < 256 ∧ b k = nI x
def apB (T : Nat) (b : Nat → Int32) (x : Int32) : Nat → Int32 := fun k => if k < T then b k else byt x (k - T)
def apF (T : Nat) (b : Nat → Int32) (a0 a1 a2 a3 a4 : Int32) : Nat → Int32 := apB (T + 16) (apB (T + 12) (apB (T + 8) (apB (T + 4) (apB T b a0) a1) a2) a3) a4
theorem byt_rg (x : Int32) (j : Nat) : ∃ z, z < 256 ∧ byt x j = nI z := and255 _
theorem BT.ap {T : Nat} {b : Nat → Int32} {x : Int32} (h : BT T b) (hT : T + 4 ≤ 1600) : BT (T + 4) (apB T b x) := by
  refine ⟨hT, fun k hk => ?_⟩
  unfold apB
  by_cases e : k < T
  · rw [if_pos e]; exact h.2 k e
  · rw [if_neg e]; exact byt_rg _ _
theorem BT.apF {T : Nat} {b : Nat → Int32} {a0 a1 a2 a3 a4 : Int32} (h : BT T b) (hT : T + 20 ≤ 1600) : BT (T + 20) (apF T b a0 a1 a2 a3 a4) :=
  ((((h.ap (x := a0) (by omega)).ap (x := a1) (by omega)).ap (x := a2) (by omega)).ap (x := a3) (by omega)).ap (x := a4) (by omega)
section
variable {n : Nat} {K : jK} {ci ci1 : jI} {cj : jJ} {cr : jR} {T : Nat} {b : Nat → Int32}
theorem sp0_lays (hn : 4000 ≤ n) (h : CT ci T b) (hT : T + 4 ≤ 1600) (x : Int32) : Wp (fX0_lays n x K ci cj cr) (fun q => CT q.2.1 (T + 4) (apB T b x) ∧ (∀ i, i ≠ 0 → i ≠ 8 → q.2.1 i = ci i) ∧ (∀ k, k ≠ 2 → q.2.1 0 k = ci 0 k) ∧ q.2.2.1 = cj ∧ q.2.2.2 = cr) := by
  unfold fX0_lays
  refine Wp.loop2 (fun k (a0 : Int32) (a1 : jI) => fX0_lays_3 n k x a0 K a1 cj cr) (fun r y => ∃ j, j + r = 4 ∧ (j < 4 → y.1 = nI (24 - 8 * j)) ∧ (j = 4 → y.1 = -8) ∧ CT y.2 (T + j) (apB T b x) ∧ (∀ i, i ≠ 0 → i ≠ 8 → y.2 i = ci i) ∧ (∀ k, k ≠ 2 → y.2 0 k = ci 0 k)) _ ?_ n 4 (nI 24) ci (by omega) ⟨0, by omega, fun _ => rfl, fun z => absurd z (by omega), ⟨h.1, fun k hk => by unfold apB; rw [if_pos (by omega)]; exact h.2 k (by omega)⟩, fun _ _ _ => rfl, fun _ _ => rfl⟩
  rintro k r l ci1 ⟨j, g1, g2, g3, ⟨g4, g5⟩, g6, g7⟩ ih
  dsimp only at g2 g3 g4 g5 g6 g7
  rw [fX0_lays_3.eq_2]
  by_cases hj : j = 4
  · rw [if_pos (show l < 0 by rw [g3 hj]; decide), wp_some]
    subst hj
    exact ⟨⟨g4, g5⟩, g6, g7, rfl, rfl⟩
  · have hl := g2 (by omega)
    subst hl
    rw [if_neg (nI_pos (by omega)), g4, if_pos (by rw [jok_t (by omega) (by omega)]; trivial), nI_cl (by omega), nI_add]
    refine ih (r - 1) _ _ (by omega) ⟨j + 1, by omega, fun hj' => ?_, fun hj' => ?_, ⟨?_, fun k hk => ?_⟩, fun i i1 i2 => ?_, fun k hk => ?_⟩
    · dsimp only
      have : j = 0 ∨ j = 1 ∨ j = 2 := by omega
      rcases this with e | e | e <;> subst e <;> decide
    · have : j = 3 := by omega
      subst this; dsimp only; decide
    · dsimp only
      rw [ju_row _ _ (by decide), ju_eq]; congr 1
    · dsimp only
      by_cases e : k = T + j
      · rw [e, ju_eq, i8_and]
        unfold apB byt
        rw [if_neg (by omega), show T + j - T = j by omega]
      · rw [ju_ne2 _ _ e, ju_row _ _ (by decide)]; exact g5 k (by omega)
    · dsimp only
      rw [ju_row _ _ i2, ju_row _ _ i1]; exact g6 i i1 i2
    · dsimp only
      rw [ju_row _ _ (by decide), ju_ne2 _ _ hk]; exact g7 k hk
def okFeed (T : Nat) : Prop := T + 20 ≤ 1600
theorem c_feed (hn : 4000 ≤ n) (h : CT ci T b) (hT : T ≤ 1600) (a0 a1 a2 a3 a4 : Int32) : Wp (fX0_feed n a0 a1 a2 a3 a4 K ci cj cr) (fun q => q.2.2.1 = cj ∧ q.2.2.2 = cr ∧ (¬ okFeed T → q.1 = -1 ∧ q.2.1 = ju ci 15 0 (ci 15 0 + nI 1)) ∧ (okFeed T → q.1 = nI (T + 20) ∧ CT q.2.1 (T + 20) (apF T b a0 a1 a2 a3 a4) ∧ (∀ i, i ≠ 0 → i ≠ 8 → q.2.1 i = ci i) ∧ (∀ k, k ≠ 2 → q.2.1 0 k = ci 0 k))) := by
  unfold fX0_feed okFeed
  rw [h.1, nI_add]
  by_cases h1 : T + 20 ≤ 1600
  rotate_left
  · rw [if_neg (nI_ge (by omega) (by omega)), wp_jpb, e0_refuses (by omega), wp_some, wp_some]
    exact ⟨rfl, rfl, fun _ => ⟨rfl, rfl⟩, fun z => absurd z h1⟩
  rw [if_pos (nI_le h1 (by omega)), wp_jpb]
  refine (sp0_lays hn h (by omega) a0).mono ?_
  rintro ⟨_, c1, j1, r1⟩ ⟨x1, x2, x3, x4, x5⟩
  dsimp only at x1 x2 x3 x4 x5 ⊢
  subst x4 x5
  rw [wp_jpb]
  refine (sp0_lays hn x1 (by omega) a1).mono ?_
  rintro ⟨_, c2, j2, r2⟩ ⟨y1, y2, y3, y4, y5⟩
  dsimp only at y1 y2 y3 y4 y5 ⊢
  subst y4 y5
  rw [wp_jpb]
  refine (sp0_lays hn y1 (by omega) a2).mono ?_
  rintro ⟨_, c3, j3, r3⟩ ⟨u1, u2, u3, u4, u5⟩
  dsimp only at u1 u2 u3 u4 u5 ⊢
  subst u4 u5
  rw [wp_jpb]
  refine (sp0_lays hn u1 (by omega) a3).mono ?_
  rintro ⟨_, c4, j4, r4⟩ ⟨v1, v2, v3, v4, v5⟩
  dsimp only at v1 v2 v3 v4 v5 ⊢
  subst v4 v5
  rw [wp_jpb]
  refine (sp0_lays hn v1 (by omega) a4).mono ?_
  rintro ⟨_, c5, j5, r5⟩ ⟨w1, w2, w3, w4, w5⟩
  dsimp only at w1 w2 w3 w4 w5 ⊢
  subst w4 w5
  rw [wp_some]
  exact ⟨rfl, rfl, fun z => absurd h1 z, fun _ => ⟨w1.1, w1, fun i i1 i2 => by dsimp only; rw [w2 i i1 i2, v2 i i1 i2, u2 i i1 i2, y2 i i1 i2, x2 i i1 i2], fun k hk => by dsimp only; rw [w3 k hk, v3 k hk, u3 k hk, y3 k hk, x3 k hk]⟩⟩
theorem apF_lo {a0 a1 a2 a3 a4 : Int32} {k : Nat} (hk : k < T) : apF T b a0 a1 a2 a3 a4 k = b k := by
  unfold apF apB
  rw [if_pos (by omega), if_pos (by omega), if_pos (by omega), if_pos (by omega), if_pos (by omega)]
theorem apF_w {a0 a1 a2 a3 a4 : Int32} {j i : Nat} (hi : i < 4) : (apF T b a0 a1 a2 a3 a4 (T + i) = byt a0 i) ∧ (apF T b a0 a1 a2 a3 a4 (T + (4 + i)) = byt a1 i) ∧ (apF T b a0 a1 a2 a3 a4 (T + (8 + i)) = byt a2 i) ∧ (apF T b a0 a1 a2 a3 a4 (T + (12 + i)) = byt a3 i) ∧ (apF T b a0 a1 a2 a3 a4 (T + (16 + i)) = byt a4 i) := by
  unfold apF apB
  refine ⟨?_, ?_, ?_, ?_, ?_⟩
  · rw [if_pos (by omega), if_pos (by omega), if_pos (by omega), if_pos (by omega), if_neg (by omega)]; congr 1; omega
  · rw [if_pos (by omega), if_pos (by omega), if_pos (by omega), if_neg (by omega)]; congr 1; omega
  · rw [if_pos (by omega), if_pos (by omega), if_neg (by omega)]; congr 1; omega
  · rw [if_pos (by omega), if_neg (by omega)]; congr 1; omega
  · rw [if_neg (by omega)]; congr 1; omega
theorem m_feed (hn : 4000 ≤ n) (h : MT ci T b) (hT : T ≤ 1600) (a0 a1 a2 a3 a4 : Int32) : Wp (fX6_feed n a0 a1 a2 a3 a4 ci cj) (fun q => q.2.2 = cj ∧ (¬ okFeed T → q.1 = -1 ∧ q.2.1 = ju ci 1549 0 (ci 1549 0 + nI 1)) ∧ (okFeed T → q.1 = nI (T + 20) ∧ MT q.2.1 (T + 20) (apF T b a0 a1 a2 a3 a4) ∧ Fr [1548] [1] ci q.2.1)) := by
  unfold fX6_feed okFeed
  rw [h.1, nI_add]
  by_cases h1 : T + 20 ≤ 1600
  rotate_left
  · rw [if_neg (nI_ge (by omega) (by omega)), if_pos (by rw [jok_t (by omega) (by omega)]; trivial), if_pos (by rw [jok_t (by omega) (by omega)]; trivial), nI_cl (by omega), wp_some]
    exact ⟨rfl, fun _ => ⟨rfl, rfl⟩, fun z => absurd z h1⟩
  rw [if_pos (nI_le h1 (by omega))]
  refine Wp.loop2 (fun k (x : Int32) (y : jI) => fX6_feed_28 n k a0 a1 a2 a3 a4 x y cj) (fun r x => ∃ j, j + r = 20 ∧ x.1 = nI j ∧ MT x.2 (T + j) (apF T b a0 a1 a2 a3 a4) ∧ Fr [1548] [1] ci x.2) _ ?_ n 20 (nI 0) ci (by omega) ⟨0, by omega, rfl, ⟨h.1, fun k hk => by rw [apF_lo (by omega)]; exact h.2 k (by omega)⟩, Fr.rfl'⟩
  rintro k r l ci1 ⟨j, g1, g2, ⟨g3, g4⟩, g5⟩ ih
  dsimp only at g2 g3 g4 g5
  subst g2
  rw [fX6_feed_28.eq_2]
  by_cases hj : 20 ≤ j
  · have : j = 20 := by omega
    subst this
    rw [if_pos (nI_le hj (by omega)), wp_some]
    exact ⟨rfl, fun z => absurd h1 z, fun _ => ⟨g3, ⟨g3, g4⟩, g5⟩⟩
  rw [if_neg (nI_ge (by omega) (by omega))]
  have go : ∀ x, apF T b a0 a1 a2 a3 a4 (T + j) = byt x (j % 4) → Wp (fX6_feed_81 n (fX6_feed_28 n k) a0 a1 a2 a3 a4 (nI j) x ci1 cj) (fun q => q.2.2 = cj ∧ (¬ T + 20 ≤ 1600 → q.1 = -1 ∧ q.2.1 = ju ci 1549 0 (ci 1549 0 + nI 1)) ∧ (T + 20 ≤ 1600 → q.1 = nI (T + 20) ∧ MT q.2.1 (T + 20) (apF T b a0 a1 a2 a3 a4) ∧ Fr [1548] [1] ci q.2.1)) := by
    intro x hx
    unfold fX6_feed_81
    rw [g3, if_pos (by rw [jok_t (by omega) (by omega)]; trivial), nI_cl (by omega), nI_modE (by omega) (by omega), nI_subN (by omega), nI_mulN, ju_row _ _ (by decide), g3, nI_add, nI_add]
    refine ih (r - 1) _ _ (by omega) ⟨j + 1, by omega, rfl, ⟨?_, fun k hk => ?_⟩, (g5.up (by decide) (by decide)).upf (by decide)⟩
    · dsimp only; rw [ju_eq]; congr 1
    · dsimp only
      rw [ju_row _ _ (by decide)]
      by_cases e : k = T + j
      · rw [e, ju_eq, hx]
        unfold byt
        rw [show 8 * (3 - j % 4) = 24 - 8 * (j % 4) by omega]
      · rw [ju_ne2 _ _ e]; exact g4 k (by omega)
  have hw := apF_w (T := T) (b := b) (a0 := a0) (a1 := a1) (a2 := a2) (a3 := a3) (a4 := a4) (j := 0) (i := j % 4) (Nat.mod_lt _ (by omega))
  by_cases j4 : 4 ≤ j
  rotate_left
  · rw [if_neg (nI_ge (by omega) (by omega))]; exact go _ (by rw [← hw.1]; congr 1; omega)
  rw [if_pos (nI_le j4 (by omega))]
  by_cases j8 : 8 ≤ j
  rotate_left
  · rw [if_neg (nI_ge (by omega) (by omega))]; exact go _ (by rw [← hw.2.1]; congr 1; omega)
  rw [if_pos (nI_le j8 (by omega))]
  by_cases j12 : 12 ≤ j
  rotate_left
  · rw [if_neg (nI_ge (by omega) (by omega))]; exact go _ (by rw [← hw.2.2.1]; congr 1; omega)
  rw [if_pos (nI_le j12 (by omega))]
  by_cases j16 : 16 ≤ j
  rotate_left
  · rw [if_neg (nI_ge (by omega) (by omega))]; exact go _ (by rw [← hw.2.2.2.1]; congr 1; omega)
  rw [if_pos (nI_le j16 (by omega))]; exact go _ (by rw [← hw.2.2.2.2]; congr 1; omega)
/-! end -/
theorem c_end (h : CT ci T b) (hT : T ≤ 1600) (a0 : Int32) : Wp (fX0_end n a0 K ci cj cr) (fun q => (¬ iv a0 (T + 1) → q = (nI 0, ju ci 15 0 (ci 15 0 + nI 1), cj, cr)) ∧ (iv a0 (T + 1) → q = (nI 1, ju ci 0 2 a0, cj, cr))) := by
  have no : ∀ hh : ¬ iv a0 (T + 1), Wp (fX0_end_12 n K ci cj cr) (fun q => (¬ iv a0 (T + 1) → q = (nI 0, ju ci 15 0 (ci 15 0 + nI 1), cj, cr)) ∧ (iv a0 (T + 1) → q = (nI 1, ju ci 0 2 a0, cj, cr))) := by
    intro hh
    unfold fX0_end_12 fX0_end_25
    rw [wp_jpb, e0_refuses (by omega), wp_some]
    dsimp only
    rw [if_pos m1_neg, if_pos bt0, wp_some]
    exact ⟨fun _ => rfl, fun z => absurd z hh⟩
  unfold fX0_end
  by_cases h0 : a0 < 0
  · rw [if_pos h0]; exact no (fun z => i32_nle.mpr h0 z.1)
  rw [if_neg h0, h.1]
  obtain ⟨k, k1, k2⟩ := nI_ex (i32_nlt.mp h0)
  subst k2
  by_cases hk : k ≤ T
  · rw [if_pos (nI_le hk (by omega)), wp_some]
    exact ⟨fun z => absurd (iv_nI (show k < T + 1 by omega) (by omega)) z, fun _ => rfl⟩
  · rw [if_neg (show ¬ nI k ≤ nI T by rw [nI_leN k1 (by omega)]; exact hk)]
    refine no (fun z => ?_)
    have := z.2
    rw [nI_ltN k1 (by omega)] at this
    omega
theorem m_end (h : MT ci T b) (hT : T ≤ 1600) (a0 : Int32) : Wp (fX6_end n a0 ci cj) (fun q => (¬ iv a0 (T + 1) → q = (nI 0, ju ci 1549 0 (ci 1549 0 + nI 1), cj)) ∧ (iv a0 (T + 1) → q = (nI 1, ju ci 1547 1 a0, cj))) := by
  have no : ∀ hh : ¬ iv a0 (T + 1), Wp (fX6_end_12 n ci cj) (fun q => (¬ iv a0 (T + 1) → q = (nI 0, ju ci 1549 0 (ci 1549 0 + nI 1), cj)) ∧ (iv a0 (T + 1) → q = (nI 1, ju ci 1547 1 a0, cj))) := by
    intro hh
    unfold fX6_end_12
    rw [if_pos (by rw [jok_t (by omega) (by omega)]; trivial), if_pos (by rw [jok_t (by omega) (by omega)]; trivial), nI_cl (by omega), wp_some]
    exact ⟨fun _ => rfl, fun z => absurd z hh⟩
  unfold fX6_end
  by_cases h0 : a0 < 0
  · rw [if_pos h0]; exact no (fun z => i32_nle.mpr h0 z.1)
  rw [if_neg h0, h.1]
  obtain ⟨k, k1, k2⟩ := nI_ex (i32_nlt.mp h0)
  subst k2
  by_cases hk : k ≤ T
  · rw [if_pos (nI_le hk (by omega)), wp_some]
    exact ⟨fun z => absurd (iv_nI (show k < T + 1 by omega) (by omega)) z, fun _ => rfl⟩
  · rw [if_neg (show ¬ nI k ≤ nI T by rw [nI_leN k1 (by omega)]; exact hk)]
    refine no (fun z => ?_)
    have := z.2
    rw [nI_ltN k1 (by omega)] at this
    omega
end
