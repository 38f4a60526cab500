/-! SEE -/
set_option maxRecDepth 100000
def okRow (c : jCo) (b : Nat → Int32) (k : Nat) : Prop := ¬ nI 30 < b (3 * k) ∧ iv (b (3 * k + 1)) (coS c) ∧ (iv (b (3 * k + 2)) (coB c) ∨ b (3 * k + 2) = nI 255)
def okSee (c : jCo) (T : Nat) (b : Nat → Int32) : Prop := 0 < T ∧ T % 3 = 0 ∧ T ≤ 48 ∧ ∀ k, k < T / 3 → okRow c b k
def seeD (T : Nat) (b : Nat → Int32) : jRD := (T / 3, fun i => (b (3 * i)).toNatClampNeg, fun i => (b (3 * i + 1)).toNatClampNeg, fun i => if b (3 * i + 2) = nI 255 then -1 else b (3 * i + 2))
theorem see_ok {c : jCo} {T : Nat} {b : Nat → Int32} (hc : CR c) (hb : BT T b) (h : okSee c T b) : RDok c (seeD T b) := by
  obtain ⟨h0, h1, h2, h3⟩ := h
  have hS := hc.2.2.1
  refine ⟨by show T / 3 ≤ 16; omega, fun i (hi : i < T / 3) => ?_⟩
  obtain ⟨r1, r2, r3⟩ := h3 i hi
  obtain ⟨x, x1, x2⟩ := hb.2 (3 * i) (by omega)
  obtain ⟨s, s1, s2⟩ := iv_ex r2 (by omega)
  refine ⟨?_, ?_⟩
  · show (b (3 * i)).toNatClampNeg ≤ 30
    rw [x2, nI_ltN (by omega) (by omega)] at r1
    rw [x2, nI_cl (by omega)]; omega
  · show (b (3 * i + 1)).toNatClampNeg < coS c
    rw [s2, nI_cl (by omega)]; exact s1
section
variable {n : Nat} {c : jCo} {K : jK} {ci ci1 : jI} {cj : jJ} {cr : jR} {T : Nat} {b : Nat → Int32}
theorem m_see (hn : 4000 ≤ n) (hc : CR c) (hm : MC c ci) (h : MT ci T b) (hb : BT T b) : Wp (fX6_see n ci cj) (fun q => q.2.2 = cj ∧ q.2.1 1547 1 = nI 0 ∧ (¬ okSee c T b → q.1 = -1 ∧ q.2.1 = ju (ju ci 1547 1 (nI 0)) 1549 1 (ci 1549 1 + nI 1)) ∧ (okSee c T b → q.1 = nI (T / 3) ∧ MR (seeD T b) q.2.1 ∧ Fr [1592] [1, 64] ci q.2.1)) := by
  have hT := hb.1
  have hS := hc.2.2.1
  have hB := hc.1
  have hm' : MC c (ju ci 1547 1 (nI 0)) := hm.fr' (L := []) (M := [1]) (Fr.rfl'.upf (by decide)) (by decide)
  have ht : ∀ k, k < T → (ju ci 1547 1 (nI 0)) 1548 k = b k := fun k hk => by rw [ju_row _ _ (by decide)]; exact h.2 k hk
  have h1 := h.1
  /- it is refused -/
  have no : ∀ hh : ¬ okSee c T b, Wp (fX6_see_113 n (nI T) (nI 0) (ju ci 1547 1 (nI 0)) cj) (fun q => q.2.2 = cj ∧ q.2.1 1547 1 = nI 0 ∧ (¬ okSee c T b → q.1 = -1 ∧ q.2.1 = ju (ju ci 1547 1 (nI 0)) 1549 1 (ci 1549 1 + nI 1)) ∧ (okSee c T b → q.1 = nI (T / 3) ∧ MR (seeD T b) q.2.1 ∧ Fr [1592] [1, 64] ci q.2.1)) := by
    intro hh
    unfold fX6_see_113
    rw [if_pos z00, wp_bind, e6_refuses (by omega), wp_some, wp_some]
    refine ⟨rfl, by dsimp only; rw [ju_row _ _ (by decide), ju_eq], fun _ => ⟨rfl, by dsimp only; rw [ju_row (x := 1549) _ _ (by decide)]⟩, fun z => absurd z hh⟩
  have l0 : ∀ hh : ¬ okSee c T b, Wp (fX6_see_36 n n (nI T) (nI 0) (nI 0) (ju ci 1547 1 (nI 0)) cj) (fun q => q.2.2 = cj ∧ q.2.1 1547 1 = nI 0 ∧ (¬ okSee c T b → q.1 = -1 ∧ q.2.1 = ju (ju ci 1547 1 (nI 0)) 1549 1 (ci 1549 1 + nI 1)) ∧ (okSee c T b → q.1 = nI (T / 3) ∧ MR (seeD T b) q.2.1 ∧ Fr [1592] [1, 64] ci q.2.1)) := by
    intro hh
    obtain ⟨n', rfl⟩ : ∃ n', n = n' + 1 := ⟨n - 1, by omega⟩
    rw [fX6_see_36.eq_2]
    by_cases e : nI T ≤ nI 0
    · rw [if_pos e]; exact no hh
    · rw [if_neg e, if_pos z00]; exact no hh
  unfold fX6_see fX6_see_32 fX6_see_33
  rw [h1]
  by_cases t0 : T = 0
  · rw [if_pos (show nI T ≤ 0 by rw [t0]; decide)]; exact l0 (fun z => by have := z.1; omega)
  rw [if_neg (nI_nle (by omega) (by omega)), nI_modE (by omega) (by omega), nI_div (by omega) (by omega)]
  by_cases t1 : T % 3 = 0
  rotate_left
  · rw [if_neg (show ¬ nI (T % 3) = 0 by rw [nI_eq0 (by omega)]; exact t1)]; exact l0 (fun z => t1 z.2.1)
  rw [if_pos (show nI (T % 3) = 0 by rw [t1]; rfl)]
  by_cases t2 : T ≤ 48
  rotate_left
  · rw [if_pos (nI_lt (by omega) (by omega))]; exact l0 (fun z => t2 z.2.2.1)
  rw [if_neg (nI_nlt (by omega) (by omega))]
  refine Wp.loop2 (fun k (x y : Int32) => fX6_see_36 n k (nI T) x y (ju ci 1547 1 (nI 0)) cj) (fun r x => ∃ j, j + r = T / 3 ∧ x.2 = nI (3 * j) ∧ ((x.1 = nI 1 ∧ ∀ k, k < j → okRow c b k) ∨ (x.1 = nI 0 ∧ ¬ okSee c T b))) _ ?_ n (T / 3) (nI 1) (nI 0) (by omega) ⟨0, by omega, rfl, Or.inl ⟨rfl, fun k hk => absurd hk (Nat.not_lt_zero k)⟩⟩
  rintro k r x l ⟨j, g1, g2, g3⟩ ih
  dsimp only at g2 g3
  subst g2
  rw [fX6_see_36.eq_2]
  by_cases hj : T / 3 ≤ j
  · rw [if_pos (show nI T ≤ nI (3 * j) from nI_le (by omega) (by omega))]
    rcases g3 with ⟨g3, g4⟩ | ⟨g3, g4⟩
    rotate_left
    · subst g3; exact no g4
    subst g3
    have hok : okSee c T b := ⟨by omega, t1, t2, fun k hk => g4 k (by omega)⟩
    unfold fX6_see_113
    rw [if_neg n10]
    clear ih
    refine Wp.loop2 (fun k (x : Int32) (y : jI) => fX6_see_125 n k (nI T) x y cj) (fun r x => ∃ j, j + r = T ∧ x.1 = nI j ∧ Fr [1592] [1, 64] ci x.2 ∧ x.2 1547 1 = nI 0 ∧ ∀ k, k < j → x.2 1592 k = b k) _ ?_ n T (nI 0) _ (by omega) ⟨0, by omega, rfl, Fr.rfl'.upf (by decide), by dsimp only; rw [ju_eq], fun k hk => absurd hk (Nat.not_lt_zero k)⟩
    rintro k r l ci1 ⟨j, w1, w2, w3, w4, w5⟩ ih
    dsimp only at w2 w3 w4 w5
    subst w2
    rw [fX6_see_125.eq_2]
    by_cases hj : T ≤ j
    · have : j = T := by omega
      subst this
      rw [if_pos (nI_le hj (by omega)), wp_some, ju_eq, nI_div (by omega) (by omega)]
      refine ⟨rfl, by dsimp only; rw [ju_ne2 _ _ (by decide)]; exact w4, fun z => absurd hok z, fun _ => ⟨rfl, ⟨by dsimp only; rw [ju_eq]; rfl, fun i (hi : i < j / 3) => ?_⟩, w3.upf (by decide)⟩⟩
      obtain ⟨r1, r2, r3⟩ := hok.2.2.2 i hi
      obtain ⟨x, x1, x2⟩ := hb.2 (3 * i) (by omega)
      obtain ⟨y, y1, y2⟩ := hb.2 (3 * i + 1) (by omega)
      obtain ⟨z, z1, z2⟩ := hb.2 (3 * i + 2) (by omega)
      dsimp only
      rw [ju_row _ _ (by decide), w5 _ (by omega), w5 _ (by omega), w5 _ (by omega)]
      refine ⟨?_, ?_, z, by omega, z2, ?_⟩
      · show b (3 * i) = nI (b (3 * i)).toNatClampNeg
        rw [x2, nI_cl (by omega)]
      · show b (3 * i + 1) = nI (b (3 * i + 1)).toNatClampNeg
        rw [y2, nI_cl (by omega)]
      · show (if b (3 * i + 2) = nI 255 then -1 else b (3 * i + 2)) = _
        rw [z2]
        by_cases e : z = 255
        · rw [if_pos e, if_pos (by rw [e])]
        · rw [if_neg e, if_neg (by rw [nI_eqN (by omega) (by omega)]; exact e)]
    · rw [if_neg (nI_ge (by omega) (by omega)), if_pos (by rw [jok_t (by omega) (by omega)]; trivial), if_pos (by rw [jok_t (by omega) (by omega)]; trivial), nI_cl (by omega), nI_add]
      refine ih (r - 1) _ _ (by omega) ⟨j + 1, by omega, rfl, w3.up (by decide) (by decide), by dsimp only; rw [ju_row _ _ (by decide)]; exact w4, fun k hk => ?_⟩
      dsimp only
      by_cases e : k = j
      · rw [e, ju_eq, w3.1 1548 (by decide) (by decide)]; exact h.2 j (by omega)
      · rw [ju_ne2 _ _ e]; exact w5 k (by omega)
  · rw [if_neg (nI_ge (by omega) (by omega))]
    rcases g3 with ⟨g3, g4⟩ | ⟨g3, g4⟩
    rotate_left
    · subst g3; rw [if_pos z00]; exact no g4
    subst g3
    rw [if_neg n10]
    have bad : ∀ hh : ¬ okRow c b j, Wp (fX6_see_105 n (fX6_see_36 n k) (nI T) (nI (3 * j)) (ju ci 1547 1 (nI 0)) cj) (fun q => q.2.2 = cj ∧ q.2.1 1547 1 = nI 0 ∧ (¬ okSee c T b → q.1 = -1 ∧ q.2.1 = ju (ju ci 1547 1 (nI 0)) 1549 1 (ci 1549 1 + nI 1)) ∧ (okSee c T b → q.1 = nI (T / 3) ∧ MR (seeD T b) q.2.1 ∧ Fr [1592] [1, 64] ci q.2.1)) := by
      intro hh
      unfold fX6_see_105 fX6_see_106
      rw [nI_add]
      exact ih (r - 1) _ _ (by omega) ⟨j + 1, by omega, by dsimp only; congr 1, Or.inr ⟨rfl, fun z => hh (z.2.2.2 j (by omega))⟩⟩
    have good : ∀ hh : okRow c b j, Wp (fX6_see_101 n (fX6_see_36 n k) (nI T) (nI (3 * j)) (ju ci 1547 1 (nI 0)) cj) (fun q => q.2.2 = cj ∧ q.2.1 1547 1 = nI 0 ∧ (¬ okSee c T b → q.1 = -1 ∧ q.2.1 = ju (ju ci 1547 1 (nI 0)) 1549 1 (ci 1549 1 + nI 1)) ∧ (okSee c T b → q.1 = nI (T / 3) ∧ MR (seeD T b) q.2.1 ∧ Fr [1592] [1, 64] ci q.2.1)) := by
      intro hh
      unfold fX6_see_101 fX6_see_106
      rw [nI_add]
      refine ih (r - 1) _ _ (by omega) ⟨j + 1, by omega, by dsimp only; congr 1, Or.inl ⟨rfl, fun k hk => ?_⟩⟩
      by_cases e : k = j
      · rw [e]; exact hh
      · exact g4 k (by omega)
    have b0 := ht (3 * j) (by omega)
    have b1 := ht (3 * j + 1) (by omega)
    have b2 := ht (3 * j + 2) (by omega)
    rw [if_pos (by rw [jok_t (by omega) (by omega)]; trivial)]
    simp (disch := omega) only [nI_add, nI_cl, jok_t, if_true, b0, b1, b2]
    by_cases r0 : nI 30 < b (3 * j)
    · rw [if_pos r0]; exact bad (fun z => z.1 r0)
    rw [if_neg r0, wp_bind, e6_isShoal hc hm', wp_some]
    dsimp only
    by_cases r1 : iv (b (3 * j + 1)) (coS c)
    rotate_left
    · rw [if_neg r1, if_pos z00]; exact bad (fun z => r1 z.2.1)
    rw [if_pos r1, if_neg n10, b2, wp_bind, e6_isBay hc hm', wp_some]
    dsimp only
    by_cases r2 : iv (b (3 * j + 2)) (coB c)
    · rw [if_pos r2, if_neg n10]; exact good ⟨r0, r1, Or.inl r2⟩
    rw [if_neg r2, if_pos z00]
    by_cases r3 : b (3 * j + 2) = nI 255
    · rw [if_pos (b2.trans r3)]; exact good ⟨r0, r1, Or.inr r3⟩
    · rw [if_neg (fun z => r3 (b2.symm.trans z))]; exact bad (fun z => z.2.2.elim r2 r3)
end
