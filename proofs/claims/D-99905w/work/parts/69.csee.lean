/-! SEE IN THE COMPONENT -/
set_option maxRecDepth 100000
section
variable {n : Nat} {c : jCo} {K : jK} {ci ci1 : jI} {cj : jJ} {cr : jR} {T : Nat} {b : Nat → Int32} {v : jV8}
theorem e0_byteAt {k : Nat} {x : Int32} (hk : k < 1600) (h : ci 8 k &&& nI 255 = x) : fX0_byteAt n (nI k) K ci cj cr = some (x, ci, cj, cr) := by
  unfold fX0_byteAt
  rw [if_pos (by rw [jok_t (by omega) (by omega)]; trivial), nI_cl (by omega), h]
theorem c_see (hn : 4000 ≤ n) (h : CI n c K ci cj cr v) (ht0 : CT ci T b) (hb : BT T b) : Wp (fX0_see n K ci cj cr) (fun q => q.2.2.1 = cj ∧ q.2.2.2 = cr ∧ q.2.1 0 2 = nI 0 ∧ (¬ okSee c T b → q.1 = -1 ∧ q.2.1 = ju (ju ci 0 2 (nI 0)) 15 1 (ci 15 1 + nI 1)) ∧ (okSee c T b → q.1 = nI (T / 3) ∧ KD (seeD T b) q.2.1 ∧ (∀ i, i ≠ 0 → i ≠ 181 → i ≠ 182 → i ≠ 183 → q.2.1 i = ci i) ∧ (∀ k, k ≠ 2 → k ≠ 15 → q.2.1 0 k = ci 0 k))) := by
  have hT := hb.1
  have hc := h.1
  have hS := hc.2.2.1
  have hB := hc.1
  have hcc : CC n c K (ju ci 0 2 (nI 0)) cj cr := h.2.2.1.fr rfl (Nat.le_refl _) (fun i i1 _ => ⟨rfl, rfl, ju_row _ _ (by unfold jRg at i1; omega), rfl, rfl⟩)
  have ht : ∀ k, k < T → (ju ci 0 2 (nI 0)) 8 k &&& nI 255 = b k := fun k hk => by rw [ju_row _ _ (by decide)]; exact ht0.2 k hk
  have no : ∀ hh : ¬ okSee c T b, Wp (fX0_see_101 n (nI T) (nI 0) K (ju ci 0 2 (nI 0)) cj cr) (fun q => q.2.2.1 = cj ∧ q.2.2.2 = cr ∧ q.2.1 0 2 = nI 0 ∧ (¬ okSee c T b → q.1 = -1 ∧ q.2.1 = ju (ju ci 0 2 (nI 0)) 15 1 (ci 15 1 + nI 1)) ∧ (okSee c T b → q.1 = nI (T / 3) ∧ KD (seeD T b) q.2.1 ∧ (∀ i, i ≠ 0 → i ≠ 181 → i ≠ 182 → i ≠ 183 → q.2.1 i = ci i) ∧ (∀ k, k ≠ 2 → k ≠ 15 → q.2.1 0 k = ci 0 k))) := by
    intro hh
    unfold fX0_see_101
    rw [if_pos z00, wp_jpb, e0_refuses (by omega), wp_some, wp_some]
    refine ⟨rfl, rfl, by dsimp only; rw [ju_row _ _ (by decide), ju_eq], fun _ => ⟨rfl, by dsimp only; rw [ju_row (x := 15) _ _ (by decide)]⟩, fun z => absurd z hh⟩
  have l0 : ∀ hh : ¬ okSee c T b, Wp (fX0_see_29 n n (nI T) (nI 0) (nI 0) K (ju ci 0 2 (nI 0)) cj cr) (fun q => q.2.2.1 = cj ∧ q.2.2.2 = cr ∧ q.2.1 0 2 = nI 0 ∧ (¬ okSee c T b → q.1 = -1 ∧ q.2.1 = ju (ju ci 0 2 (nI 0)) 15 1 (ci 15 1 + nI 1)) ∧ (okSee c T b → q.1 = nI (T / 3) ∧ KD (seeD T b) q.2.1 ∧ (∀ i, i ≠ 0 → i ≠ 181 → i ≠ 182 → i ≠ 183 → q.2.1 i = ci i) ∧ (∀ k, k ≠ 2 → k ≠ 15 → q.2.1 0 k = ci 0 k))) := by
    intro hh
    obtain ⟨n', e'⟩ : ∃ n', n = n' + 1 := ⟨n - 1, by omega⟩
    rw [show fX0_see_29 n n = fX0_see_29 n (n' + 1) by rw [← e'], fX0_see_29.eq_2]
    by_cases e : nI T ≤ nI 0
    · rw [if_pos e]; exact no hh
    · rw [if_neg e, if_pos z00]; exact no hh
  unfold fX0_see fX0_tapeTaken fX0_see_25 fX0_see_26
  rw [wp_jpb, wp_some, ht0.1]
  dsimp only
  by_cases t0 : T = 0
  · rw [if_pos (show nI T ≤ 0 by rw [t0]; decide)]; exact l0 (fun z => by have := z.1; omega)
  rw [if_neg (nI_nle (by omega) (by omega)), nI_modE (by omega) (by omega)]
  by_cases t1 : T % 3 = 0
  rotate_left
  · rw [if_neg (show ¬ nI (T % 3) = 0 by rw [nI_eq0 (by omega)]; exact t1)]; exact l0 (fun z => t1 z.2.1)
  rw [if_pos (show nI (T % 3) = 0 by rw [t1]; rfl)]
  by_cases t2 : T ≤ 48
  rotate_left
  · rw [if_pos (nI_lt (by omega) (by omega))]; exact l0 (fun z => t2 z.2.2.1)
  rw [if_neg (nI_nlt (by omega) (by omega))]
  refine Wp.loop2 (fun k (x y : Int32) => fX0_see_29 n k (nI T) x y K (ju ci 0 2 (nI 0)) cj cr) (fun r x => ∃ j, j + r = T / 3 ∧ x.2 = nI (3 * j) ∧ ((x.1 = nI 1 ∧ ∀ k, k < j → okRow c b k) ∨ (x.1 = nI 0 ∧ ¬ okSee c T b))) _ ?_ n (T / 3) (nI 1) (nI 0) (by omega) ⟨0, by omega, rfl, Or.inl ⟨rfl, fun k hk => absurd hk (Nat.not_lt_zero k)⟩⟩
  rintro k r x l ⟨j, g1, g2, g3⟩ ih
  dsimp only at g2 g3
  subst g2
  rw [fX0_see_29.eq_2]
  by_cases hj : T / 3 ≤ j
  · rw [if_pos (show nI T ≤ nI (3 * j) from nI_le (by omega) (by omega))]
    rcases g3 with ⟨g3, g4⟩ | ⟨g3, g4⟩
    rotate_left
    · subst g3; exact no g4
    subst g3
    have hok : okSee c T b := ⟨by omega, t1, t2, fun k hk => g4 k (by omega)⟩
    unfold fX0_see_101
    rw [if_neg n10, nI_div (by omega) (by omega)]
    clear ih
    refine Wp.loop2 (fun k (x : Int32) (y : jI) => fX0_see_120 n k x K y cj cr) (fun r x => ∃ j, j + r = T / 3 ∧ x.1 = nI j ∧ x.2 0 2 = nI 0 ∧ x.2 0 15 = nI (T / 3) ∧ (∀ i, i ≠ 0 → i ≠ 181 → i ≠ 182 → i ≠ 183 → x.2 i = ci i) ∧ (∀ k, k ≠ 2 → k ≠ 15 → x.2 0 k = ci 0 k) ∧ ∀ k, k < j → x.2 181 k = b (3 * k) ∧ x.2 182 k = b (3 * k + 1) ∧ x.2 183 k = if b (3 * k + 2) = nI 255 then -1 else b (3 * k + 2)) _ ?_ n (T / 3) (nI 0) _ (by omega) ⟨0, by omega, rfl, by dsimp only; rw [ju_ne2 _ _ (by decide), ju_eq], by dsimp only; rw [ju_eq], fun i i1 _ _ _ => by dsimp only; rw [ju_row _ _ i1, ju_row _ _ i1], fun k k1 k2 => by dsimp only; rw [ju_ne2 _ _ k2, ju_ne2 _ _ k1], fun k hk => absurd hk (Nat.not_lt_zero k)⟩
    rintro k r l ci1 ⟨j, w1, w2, w3, w4, w5, w6, w7⟩ ih
    dsimp only at w2 w3 w4 w5 w6 w7
    subst w2
    rw [fX0_see_120.eq_2, w4]
    by_cases hj : T / 3 ≤ j
    · have : j = T / 3 := by omega
      subst this
      rw [if_pos (nI_le hj (by omega)), wp_some]
      refine ⟨rfl, rfl, w3, fun z => absurd hok z, fun _ => ⟨rfl, ⟨w4, fun i (hi : i < T / 3) => ?_⟩, w5, w6⟩⟩
      obtain ⟨x, x1, x2⟩ := hb.2 (3 * i) (by omega)
      obtain ⟨y, y1, y2⟩ := hb.2 (3 * i + 1) (by omega)
      obtain ⟨e1, e2, e3⟩ := w7 i hi
      refine ⟨?_, ?_, e3⟩
      · show ci1 181 i = nI (b (3 * i)).toNatClampNeg
        rw [e1, x2, nI_cl (by omega)]
      · show ci1 182 i = nI (b (3 * i + 1)).toNatClampNeg
        rw [e2, y2, nI_cl (by omega)]
    · have e8 : ci1 8 = ci 8 := w5 8 (by decide) (by decide) (by decide) (by decide)
      have b0 : ci1 8 (3 * j) &&& nI 255 = b (3 * j) := by rw [e8]; exact ht0.2 _ (by omega)
      have b1 : ci1 8 (3 * j + 1) &&& nI 255 = b (3 * j + 1) := by rw [e8]; exact ht0.2 _ (by omega)
      have b2 : ci1 8 (3 * j + 2) &&& nI 255 = b (3 * j + 2) := by rw [e8]; exact ht0.2 _ (by omega)
      rw [if_neg (nI_ge (by omega) (by omega)), nI_mulN, wp_jpb, e0_byteAt (by omega) b0, wp_some]
      dsimp only
      simp (disch := omega) only [jok_t, if_true, nI_add, nI_cl]
      rw [wp_jpb, e0_byteAt (x := b (3 * j + 1)) (by omega) (by rw [ju_row _ _ (by decide)]; exact b1), wp_some]
      dsimp only
      rw [wp_jpb, e0_byteAt (x := b (3 * j + 2)) (by omega) (by rw [ju_row _ _ (by decide), ju_row _ _ (by decide)]; exact b2), wp_some]
      dsimp only
      have go : ∀ x, (x = if b (3 * j + 2) = nI 255 then -1 else b (3 * j + 2)) → Wp (fX0_see_189 n (fX0_see_120 n k) (nI j) x (nI j) K (ju (ju ci1 181 j (b (3 * j))) 182 j (b (3 * j + 1))) cj cr) (fun q => q.2.2.1 = cj ∧ q.2.2.2 = cr ∧ q.2.1 0 2 = nI 0 ∧ (¬ okSee c T b → q.1 = -1 ∧ q.2.1 = ju (ju ci 0 2 (nI 0)) 15 1 (ci 15 1 + nI 1)) ∧ (okSee c T b → q.1 = nI (T / 3) ∧ KD (seeD T b) q.2.1 ∧ (∀ i, i ≠ 0 → i ≠ 181 → i ≠ 182 → i ≠ 183 → q.2.1 i = ci i) ∧ (∀ k, k ≠ 2 → k ≠ 15 → q.2.1 0 k = ci 0 k))) := by
        intro x hx
        unfold fX0_see_189
        rw [if_pos (by rw [jok_t (by omega) (by omega)]; trivial), nI_add, nI_cl (by omega)]
        refine ih (r - 1) _ _ (by omega) ⟨j + 1, by omega, rfl, ?_, ?_, fun i i1 i2 i3 i4 => ?_, fun k k1 k2 => ?_, fun k hk => ?_⟩
        · dsimp only; rw [ju_row _ _ (by decide), ju_row _ _ (by decide), ju_row _ _ (by decide)]; exact w3
        · dsimp only; rw [ju_row _ _ (by decide), ju_row _ _ (by decide), ju_row _ _ (by decide)]; exact w4
        · dsimp only; rw [ju_row _ _ i4, ju_row _ _ i3, ju_row _ _ i2]; exact w5 i i1 i2 i3 i4
        · dsimp only; rw [ju_row _ _ (by decide), ju_row _ _ (by decide), ju_row _ _ (by decide)]; exact w6 k k1 k2
        · dsimp only
          rw [ju_row (x := 181) _ _ (by decide), ju_row (x := 181) _ _ (by decide), ju_row (x := 182) _ _ (by decide)]
          by_cases e : k = j
          · rw [e, ju_eq, ju_eq, ju_eq]; exact ⟨rfl, rfl, hx⟩
          · repeat rw [ju_ne2 _ _ e]
            exact w7 k (by omega)
      by_cases e : b (3 * j + 2) = nI 255
      · rw [if_pos e]; exact go _ (by rw [if_pos e])
      · rw [if_neg e, wp_jpb, e0_byteAt (x := b (3 * j + 2)) (by omega) (by rw [ju_row _ _ (by decide), ju_row _ _ (by decide)]; exact b2), wp_some]
        exact go _ (by rw [if_neg e])
  · rw [if_neg (nI_ge (by omega) (by omega))]
    rcases g3 with ⟨g3, g4⟩ | ⟨g3, g4⟩
    rotate_left
    · subst g3; rw [if_pos z00]; exact no g4
    subst g3
    rw [if_neg n10]
    have bad : ∀ hh : ¬ okRow c b j, Wp (fX0_see_93 n (fX0_see_29 n k) (nI T) (nI (3 * j)) K (ju ci 0 2 (nI 0)) cj cr) (fun q => q.2.2.1 = cj ∧ q.2.2.2 = cr ∧ q.2.1 0 2 = nI 0 ∧ (¬ okSee c T b → q.1 = -1 ∧ q.2.1 = ju (ju ci 0 2 (nI 0)) 15 1 (ci 15 1 + nI 1)) ∧ (okSee c T b → q.1 = nI (T / 3) ∧ KD (seeD T b) q.2.1 ∧ (∀ i, i ≠ 0 → i ≠ 181 → i ≠ 182 → i ≠ 183 → q.2.1 i = ci i) ∧ (∀ k, k ≠ 2 → k ≠ 15 → q.2.1 0 k = ci 0 k))) := by
      intro hh
      unfold fX0_see_93 fX0_see_94
      rw [nI_add]
      exact ih (r - 1) _ _ (by omega) ⟨j + 1, by omega, by dsimp only; congr 1, Or.inr ⟨rfl, fun z => hh (z.2.2.2 j (by omega))⟩⟩
    have good : ∀ hh : okRow c b j, Wp (fX0_see_89 n (fX0_see_29 n k) (nI T) (nI (3 * j)) K (ju ci 0 2 (nI 0)) cj cr) (fun q => q.2.2.1 = cj ∧ q.2.2.2 = cr ∧ q.2.1 0 2 = nI 0 ∧ (¬ okSee c T b → q.1 = -1 ∧ q.2.1 = ju (ju ci 0 2 (nI 0)) 15 1 (ci 15 1 + nI 1)) ∧ (okSee c T b → q.1 = nI (T / 3) ∧ KD (seeD T b) q.2.1 ∧ (∀ i, i ≠ 0 → i ≠ 181 → i ≠ 182 → i ≠ 183 → q.2.1 i = ci i) ∧ (∀ k, k ≠ 2 → k ≠ 15 → q.2.1 0 k = ci 0 k))) := by
      intro hh
      unfold fX0_see_89 fX0_see_94
      rw [nI_add]
      refine ih (r - 1) _ _ (by omega) ⟨j + 1, by omega, by dsimp only; congr 1, Or.inl ⟨rfl, fun k hk => ?_⟩⟩
      by_cases e : k = j
      · rw [e]; exact hh
      · exact g4 k (by omega)
    have b0 := ht (3 * j) (by omega)
    have b1 := ht (3 * j + 1) (by omega)
    have b2 := ht (3 * j + 2) (by omega)
    rw [wp_jpb, e0_byteAt (by omega) b0, wp_some]
    dsimp only
    by_cases r0 : nI 30 < b (3 * j)
    · rw [if_pos r0]; exact bad (fun z => z.1 r0)
    rw [if_neg r0, nI_add, wp_jpb, e0_byteAt (by omega) b1, wp_some]
    dsimp only
    rw [wp_jpb, e0_isShoal hcc, wp_some]
    dsimp only
    by_cases r1 : iv (b (3 * j + 1)) (coS c)
    rotate_left
    · rw [if_neg r1, if_pos z00]; exact bad (fun z => r1 z.2.1)
    rw [if_pos r1, if_neg n10, nI_add, wp_jpb, e0_byteAt (by omega) b2, wp_some]
    dsimp only
    rw [wp_jpb, e0_isBay hcc, wp_some]
    dsimp only
    by_cases r2 : iv (b (3 * j + 2)) (coB c)
    · rw [if_pos r2, if_neg n10]; exact good ⟨r0, r1, Or.inl r2⟩
    rw [if_neg r2, if_pos z00, wp_jpb, e0_byteAt (by omega) b2, wp_some]
    dsimp only
    by_cases r3 : b (3 * j + 2) = nI 255
    · rw [if_pos r3]; exact good ⟨r0, r1, Or.inr r3⟩
    · rw [if_neg r3]; exact bad (fun z => z.2.2.elim r2 r3)
end
