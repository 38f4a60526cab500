/-! ON -/
set_option maxRecDepth 100000
def onSh (c : jCo) (b : Nat → Int32) (s : Nat) : Prop := ¬ nI 99 < b (2 + 2 * s) ∧ (iv (b (3 + 2 * s)) (coB c) ∨ b (3 + 2 * s) = nI 255)
def onBa (b : Nat → Int32) (o i : Nat) : Prop := ¬ nI 99 < b (o + 4 * i) ∧ ¬ nI 297 < nI 256 * b (o + 4 * i + 1) + b (o + 4 * i + 2) ∧ ¬ nI 99 < b (o + 4 * i + 3)
def onPa (b : Nat → Int32) (o p : Nat) : Prop := ¬ nI 9 < b (o + 2 * p) ∧ ¬ nI 99 < b (o + 2 * p + 1)
def okOn (c : jCo) (T : Nat) (b : Nat → Int32) : Prop := T = imM c + 1 ∧ b (imM c) = chk b (imM c) ∧ nI 256 * b 0 + b 1 ≤ nI 999 ∧ (∀ s, s < coS c → onSh c b s) ∧ (∀ i, i < coB c → onBa b (2 + 2 * coS c) i) ∧ ∀ p, p < coP c → onPa b (2 + 2 * coS c + 4 * coB c) p
def onV (c : jCo) (v : jV8) (b : Nat → Int32) : jV8 := fun k => if k = 0 then nI 256 * b 0 + b 1 else if k < 1 + 2 * coS c then (if k % 2 = 1 then b (1 + k) else if b (1 + k) = nI 255 then -1 else b (1 + k))
  else if 7 ≤ k ∧ k < 7 + 3 * coB c then (if k % 3 = 1 then b (2 + 2 * coS c + 4 * ((k - 7) / 3)) else if k % 3 = 2 then nI 256 * b (2 + 2 * coS c + 4 * ((k - 7) / 3) + 1) + b (2 + 2 * coS c + 4 * ((k - 7) / 3) + 2) else b (2 + 2 * coS c + 4 * ((k - 7) / 3) + 3))
  else if 25 ≤ k ∧ k < 25 + 2 * coP c then b (2 + 2 * coS c + 4 * coB c + (k - 25)) else if k = 45 then nI 0 else v k
theorem on_0 (c : jCo) (v : jV8) (b : Nat → Int32) : onV c v b 0 = nI 256 * b 0 + b 1 := rfl
theorem on_m {c : jCo} {v : jV8} {b : Nat → Int32} {s : Nat} (h : s < coS c) : onV c v b (1 + 2 * s) = b (2 + 2 * s) := by
  unfold onV
  rw [if_neg (by omega), if_pos (by omega), if_pos (by omega)]; congr 1; omega
theorem on_a {c : jCo} {v : jV8} {b : Nat → Int32} {s : Nat} (h : s < coS c) : onV c v b (2 + 2 * s) = if b (3 + 2 * s) = nI 255 then -1 else b (3 + 2 * s) := by
  unfold onV
  rw [if_neg (by omega), if_pos (by omega), if_neg (by omega), show 1 + (2 + 2 * s) = 3 + 2 * s by omega]
theorem on_h {c : jCo} {v : jV8} {b : Nat → Int32} {i : Nat} (hc : CR c) (h : i < coB c) : onV c v b (7 + 3 * i) = b (2 + 2 * coS c + 4 * i) := by
  have := hc.2.2.1
  unfold onV
  rw [if_neg (by omega), if_neg (by omega), if_pos (by omega), if_pos (by omega)]; congr 1; omega
theorem on_t {c : jCo} {v : jV8} {b : Nat → Int32} {i : Nat} (hc : CR c) (h : i < coB c) : onV c v b (8 + 3 * i) = nI 256 * b (2 + 2 * coS c + 4 * i + 1) + b (2 + 2 * coS c + 4 * i + 2) := by
  have := hc.2.2.1
  unfold onV
  rw [if_neg (by omega), if_neg (by omega), if_pos (by omega), if_neg (by omega), if_pos (by omega), show (8 + 3 * i - 7) / 3 = i by omega]
theorem on_l {c : jCo} {v : jV8} {b : Nat → Int32} {i : Nat} (hc : CR c) (h : i < coB c) : onV c v b (9 + 3 * i) = b (2 + 2 * coS c + 4 * i + 3) := by
  have := hc.2.2.1
  unfold onV
  rw [if_neg (by omega), if_neg (by omega), if_pos (by omega), if_neg (by omega), if_neg (by omega), show (9 + 3 * i - 7) / 3 = i by omega]
theorem on_p {c : jCo} {v : jV8} {b : Nat → Int32} {l : Nat} (hc : CR c) (h : l < 2 * coP c) : onV c v b (25 + l) = b (2 + 2 * coS c + 4 * coB c + l) := by
  have := hc.2.2.1
  have := hc.1
  unfold onV
  rw [if_neg (by omega), if_neg (by omega), if_neg (by omega), if_pos (by omega)]; congr 1; omega
theorem on_45 {c : jCo} {v : jV8} {b : Nat → Int32} (hc : CR c) : onV c v b 45 = nI 0 := by
  obtain ⟨h1, h2, h3, -⟩ := hc
  unfold onV
  rw [if_neg (by omega), if_neg (by omega), if_neg (by omega), if_neg (by omega), if_pos rfl]
theorem nlt_rg {x : Int32} {z m : Nat} (h : ¬ nI m < x) (hx : x = nI z) (hz : z < 2147483648) (hm : m < 2147483648) : rg x m := by
  rw [hx, nI_ltN hm hz] at h
  exact ⟨z, by omega, hx⟩
theorem VR_on {c : jCo} {T : Nat} {v : jV8} {b : Nat → Int32} (hc : CR c) (hb : BT T b) (h : okOn c T b) : VR c (onV c v b) 999 := by
  obtain ⟨h1, h2, h3, h4, h5, h6⟩ := h
  have hc' := hc
  obtain ⟨c1, c2, c3, -⟩ := hc
  unfold imM at h1
  refine ⟨?_, fun s hs => ?_, fun i hi => ?_, fun p hp => ?_⟩
  · obtain ⟨x, x1, x2⟩ := hb.2 0 (by omega)
    obtain ⟨y, y1, y2⟩ := hb.2 1 (by omega)
    rw [on_0]
    rw [x2, y2, nI_mulN, nI_add, nI_leN (by omega) (by omega)] at h3
    rw [x2, y2, nI_mulN, nI_add]
    exact ⟨_, h3, rfl⟩
  · obtain ⟨x, x1, x2⟩ := hb.2 (2 + 2 * s) (by omega)
    obtain ⟨o1, o2⟩ := h4 s hs
    rw [on_m hs, on_a hs]
    refine ⟨nlt_rg o1 x2 (by omega) (by omega), ?_⟩
    by_cases e : b (3 + 2 * s) = nI 255
    · rw [if_pos e]; exact Or.inl rfl
    · rw [if_neg e]
      rcases o2 with o2 | o2
      · obtain ⟨k, k1, k2⟩ := iv_ex o2 (by omega)
        exact Or.inr ⟨k, k1, k2⟩
      · exact absurd o2 e
  · obtain ⟨o1, o2, o3⟩ := h5 i hi
    obtain ⟨x, x1, x2⟩ := hb.2 (2 + 2 * coS c + 4 * i) (by omega)
    obtain ⟨y, y1, y2⟩ := hb.2 (2 + 2 * coS c + 4 * i + 1) (by omega)
    obtain ⟨z, z1, z2⟩ := hb.2 (2 + 2 * coS c + 4 * i + 2) (by omega)
    obtain ⟨w, w1, w2⟩ := hb.2 (2 + 2 * coS c + 4 * i + 3) (by omega)
    rw [on_h hc' hi, on_t hc' hi, on_l hc' hi]
    refine ⟨nlt_rg o1 x2 (by omega) (by omega), nlt_rg (z := 256 * y + z) o2 (by rw [y2, z2, nI_mulN, nI_add]) (by omega) (by omega), nlt_rg o3 w2 (by omega) (by omega)⟩
  · obtain ⟨o1, o2⟩ := h6 p hp
    obtain ⟨x, x1, x2⟩ := hb.2 (2 + 2 * coS c + 4 * coB c + 2 * p) (by omega)
    obtain ⟨y, y1, y2⟩ := hb.2 (2 + 2 * coS c + 4 * coB c + 2 * p + 1) (by omega)
    rw [on_p hc' (by omega), show 26 + 2 * p = 25 + (2 * p + 1) by omega, on_p hc' (by omega)]
    exact ⟨nlt_rg o1 x2 (by omega) (by omega), nlt_rg o2 y2 (by omega) (by omega)⟩
section
variable {n : Nat} {c : jCo} {ci ci1 : jI} {cj : jJ} {T : Nat} {b : Nat → Int32}
theorem sp6_isImage (hn : 4000 ≤ n) (hc : CR c) (hm : MC c ci) (ht : ∀ k, k < T → ci 1548 k = b k) (hT : T ≤ 1600) : Wp (fX6_isImage n (nI T) ci cj) (fun q => (okOn c T b → q = (nI 1, ci, cj)) ∧ (¬ okOn c T b → q = (nI 0, ci, cj))) := by
  have hB := hc.1
  have hP := hc.2.1
  have hS := hc.2.2.1
  have i52 := im_le c hc
  have hM : imM c = 2 + 2 * coS c + 4 * coB c + 2 * coP c := rfl
  have no : ∀ hh : ¬ okOn c T b, Wp (some (nI 0, ci, cj)) (fun q => (okOn c T b → q = (nI 1, ci, cj)) ∧ (¬ okOn c T b → q = (nI 0, ci, cj))) := fun hh => wp_some.mpr ⟨fun z => absurd z hh, fun _ => rfl⟩
  unfold fX6_isImage fX6_isImage_76
  rw [wp_bind, e6_shoalMany, wp_some]
  dsimp only
  rw [wp_bind, e6_bayMany, wp_some]
  dsimp only
  rw [wp_bind, e6_pairMany, wp_some]
  dsimp only
  have m1 := hm.1
  have m2 := hm.2.1
  have m3 := hm.2.2.1
  simp only [m1, m2, m3, nI_mulN, nI_add]
  rw [← hM]
  by_cases h1 : T = imM c + 1
  rotate_left
  · rw [if_neg (show ¬ nI T = nI (imM c + 1) by rw [nI_eqN (by omega) (by omega)]; exact h1)]; exact no (fun z => h1 z.1)
  subst h1
  rw [if_pos rfl, nI_subN (by omega), Nat.add_sub_cancel, if_pos (by rw [jok_t (by omega) (by omega)]; trivial), wp_bind, sp6_checked (B := b) hn (by omega) (by decide) (by show _ ≤ 1600; omega) (fun k hk => ht k (by omega)), wp_some]
  dsimp only
  have tM := ht (imM c) (by omega)
  have t0 := ht 0 (by omega)
  have t1 := ht 1 (by omega)
  simp (disch := omega) only [nI_cl, jok_t, if_true, tM, t0, t1]
  by_cases h2 : b (imM c) = chk b (imM c)
  rotate_left
  · rw [if_neg h2]; exact no (fun z => h2 z.2.1)
  rw [if_pos h2]
  by_cases h3 : nI 256 * b 0 + b 1 ≤ nI 999
  rotate_left
  · rw [if_neg h3]; exact no (fun z => h3 z.2.2.1)
  rw [if_pos h3]
  /- the shoals -/
  refine Wp.loop (fun k (x : Int32) => fX6_isImage_81 n k (nI (imM c + 1)) (nI (2 + 2 * coS c)) (nI (2 + 2 * coS c + 4 * coB c)) x ci cj) (fun r x => ∃ s, s + r = coS c ∧ x = nI (2 + 2 * s) ∧ ∀ j, j < s → onSh c b j) _ ?_ n (coS c) (nI 2) (by omega) ⟨0, by omega, rfl, fun j hj => absurd hj (Nat.not_lt_zero j)⟩
  rintro k r x ⟨s, g1, rfl, g3⟩ ih
  rw [fX6_isImage_81.eq_2]
  by_cases hs : coS c ≤ s
  rotate_left
  · rw [if_neg (nI_ge (by omega) (by omega))]
    unfold fX6_isImage_131 fX6_isImage_133
    have u0 := ht (2 + 2 * s) (by omega)
    have u1 := ht (2 + 2 * s + 1) (by omega)
    simp (disch := omega) only [nI_add, nI_cl, jok_t, if_true, u0, u1]
    have e3 : b (2 + 2 * s + 1) = b (3 + 2 * s) := by congr 1; omega
    rw [e3] at u1
    by_cases q0 : nI 99 < b (2 + 2 * s)
    · rw [if_pos q0]; exact no (fun z => (z.2.2.2.1 s (by omega)).1 q0)
    rw [if_neg q0, e3, wp_bind, e6_isBay hc hm, wp_some]
    dsimp only
    have good : ∀ hh : onSh c b s, Wp (fX6_isImage_81 n k (nI (imM c + 1)) (nI (2 + 2 * coS c)) (nI (2 + 2 * coS c + 4 * coB c)) (nI (2 + 2 * s + 2)) ci cj) (fun q => (okOn c (imM c + 1) b → q = (nI 1, ci, cj)) ∧ (¬ okOn c (imM c + 1) b → q = (nI 0, ci, cj))) := by
      intro hh
      refine ih (r - 1) _ (by omega) ⟨s + 1, by omega, rfl, fun j hj => ?_⟩
      by_cases e : j = s
      · rw [e]; exact hh
      · exact g3 j (by omega)
    by_cases q1 : iv (b (3 + 2 * s)) (coB c)
    · rw [if_pos q1, if_neg n10]; exact good ⟨q0, Or.inl q1⟩
    rw [if_neg q1, if_pos z00]
    by_cases q2 : b (3 + 2 * s) = nI 255
    · rw [if_pos (u1.trans q2)]; exact good ⟨q0, Or.inr q2⟩
    · rw [if_neg (fun z => q2 (u1.symm.trans z))]; exact no (fun z => (z.2.2.2.1 s (by omega)).2.elim q1 q2)
  rw [if_pos (nI_le (by omega) (by omega))]
  have h4 : ∀ j, j < coS c → onSh c b j := fun j hj => g3 j (by omega)
  clear ih g3 g1 hs
  /- the bays -/
  refine Wp.loop (fun k (x : Int32) => fX6_isImage_142 n k (nI (imM c + 1)) (nI (2 + 2 * coS c + 4 * coB c)) x ci cj) (fun r x => ∃ s, s + r = coB c ∧ x = nI (2 + 2 * coS c + 4 * s) ∧ ∀ j, j < s → onBa b (2 + 2 * coS c) j) _ ?_ n (coB c) _ (by omega) ⟨0, by omega, rfl, fun j hj => absurd hj (Nat.not_lt_zero j)⟩
  rintro k r x ⟨s, g1, rfl, g3⟩ ih
  rw [fX6_isImage_142.eq_2]
  by_cases hs : coB c ≤ s
  rotate_left
  · rw [if_neg (nI_ge (by omega) (by omega))]
    unfold fX6_isImage_203
    have u0 := ht (2 + 2 * coS c + 4 * s) (by omega)
    have u1 := ht (2 + 2 * coS c + 4 * s + 1) (by omega)
    have u2 := ht (2 + 2 * coS c + 4 * s + 2) (by omega)
    have u3 := ht (2 + 2 * coS c + 4 * s + 3) (by omega)
    simp (disch := omega) only [nI_add, nI_cl, jok_t, if_true, u0, u1, u2, u3]
    by_cases q0 : nI 99 < b (2 + 2 * coS c + 4 * s)
    · rw [if_pos q0]; exact no (fun z => (z.2.2.2.2.1 s (by omega)).1 q0)
    rw [if_neg q0]
    by_cases q1 : nI 297 < nI 256 * b (2 + 2 * coS c + 4 * s + 1) + b (2 + 2 * coS c + 4 * s + 2)
    · rw [if_pos q1]; exact no (fun z => (z.2.2.2.2.1 s (by omega)).2.1 q1)
    rw [if_neg q1]
    by_cases q2 : b (2 + 2 * coS c + 4 * s + 3) ≤ nI 99
    rotate_left
    · rw [if_neg q2]; exact no (fun z => (z.2.2.2.2.1 s (by omega)).2.2 (i32_nle.mp q2))
    rw [if_pos q2]
    refine ih (r - 1) _ (by omega) ⟨s + 1, by omega, rfl, fun j hj => ?_⟩
    by_cases e : j = s
    · rw [e]; exact ⟨q0, q1, i32_nlt.mpr q2⟩
    · exact g3 j (by omega)
  rw [if_pos (nI_le (by omega) (by omega))]
  have h5 : ∀ j, j < coB c → onBa b (2 + 2 * coS c) j := fun j hj => g3 j (by omega)
  clear ih g3 g1 hs
  /- the pairs -/
  refine Wp.loop (fun k (x : Int32) => fX6_isImage_214 n k (nI (imM c + 1)) x ci cj) (fun r x => ∃ s, s + r = coP c ∧ x = nI (2 + 2 * coS c + 4 * coB c + 2 * s) ∧ ∀ j, j < s → onPa b (2 + 2 * coS c + 4 * coB c) j) _ ?_ n (coP c) _ (by omega) ⟨0, by omega, rfl, fun j hj => absurd hj (Nat.not_lt_zero j)⟩
  rintro k r x ⟨s, g1, rfl, g3⟩ ih
  rw [fX6_isImage_214.eq_2, nI_subN (by omega), Nat.add_sub_cancel]
  by_cases hs : coP c ≤ s
  rotate_left
  · rw [if_neg (nI_ge (by omega) (by omega))]
    unfold fX6_isImage_248
    have u0 := ht (2 + 2 * coS c + 4 * coB c + 2 * s) (by omega)
    have u1 := ht (2 + 2 * coS c + 4 * coB c + 2 * s + 1) (by omega)
    simp (disch := omega) only [nI_add, nI_cl, jok_t, if_true, u0, u1]
    by_cases q0 : nI 9 < b (2 + 2 * coS c + 4 * coB c + 2 * s)
    · rw [if_pos q0]; exact no (fun z => (z.2.2.2.2.2 s (by omega)).1 q0)
    rw [if_neg q0]
    by_cases q2 : b (2 + 2 * coS c + 4 * coB c + 2 * s + 1) ≤ nI 99
    rotate_left
    · rw [if_neg q2]; exact no (fun z => (z.2.2.2.2.2 s (by omega)).2 (i32_nle.mp q2))
    rw [if_pos q2]
    refine ih (r - 1) _ (by omega) ⟨s + 1, by omega, rfl, fun j hj => ?_⟩
    by_cases e : j = s
    · rw [e]; exact ⟨q0, i32_nlt.mpr q2⟩
    · exact g3 j (by omega)
  rw [if_pos (nI_le (by omega) (by omega)), wp_some]
  exact ⟨fun _ => rfl, fun z => absurd ⟨rfl, h2, h3, h4, h5, fun j hj => g3 j (by omega)⟩ z⟩
theorem m_on (hn : 4000 ≤ n) (hc : CR c) (hm : MC c ci) (h : MT ci T b) (hb : BT T b) : Wp (fX6_on n ci cj) (fun q => q.2.2 = cj ∧ (¬ okOn c T b → q.1 = nI 0 ∧ q.2.1 = ju (ju ci 1547 1 (nI 0)) 1549 5 (ci 1549 5 + nI 1)) ∧ (okOn c T b → q.1 = nI 1 ∧ e166 (q.2.1 1585) (onV c (ci 1585) b) ∧ q.2.1 1547 1 = nI 0 ∧ q.2.1 1547 68 = nI 0 ∧ Fr [1585] [1, 68] ci q.2.1)) := by
  have hB := hc.1
  have hP := hc.2.1
  have hS := hc.2.2.1
  have i52 := im_le c hc
  have hM : imM c = 2 + 2 * coS c + 4 * coB c + 2 * coP c := rfl
  have hT := hb.1
  unfold fX6_on
  rw [h.1, wp_bind]
  refine (sp6_isImage (b := b) hn hc (hm.fr' (L := []) (M := [1]) (Fr.rfl'.upf (by decide)) (by decide)) (fun k hk => by rw [ju_row _ _ (by decide)]; exact h.2 k hk) hT).mono ?_
  rintro ⟨z, d0, j0⟩ ⟨q1, q2⟩
  by_cases ok : okOn c T b
  rotate_left
  · obtain ⟨rfl, rfl, rfl⟩ := q2 ok
    dsimp only
    rw [if_pos z00, if_pos (by rw [jok_t (by omega) (by omega)]; trivial), if_pos (by rw [jok_t (by omega) (by omega)]; trivial), nI_cl (by omega), wp_some, ju_row (x := 1549) (a := 1547) _ _ (by decide)]
    exact ⟨rfl, fun _ => ⟨rfl, rfl⟩, fun z => absurd z ok⟩
  obtain ⟨rfl, rfl, rfl⟩ := q1 ok
  clear q1 q2
  have hTM := ok.1
  have tp : ∀ {d : jI} {k : Nat}, Fr [1585] [1, 68] ci d → k < T → d 1548 k = b k := fun hd hk => by rw [hd.1 1548 (by decide) (by decide)]; exact h.2 _ hk
  have f0 : Fr [1585] [1, 68] ci (ju ci 1547 1 (nI 0)) := Fr.rfl'.upf (by decide)
  dsimp only
  rw [if_neg n10]
  simp (disch := omega) only [jok_t, if_true, nI_cl, tp f0 (show 0 < T by omega), tp f0 (show 1 < T by omega)]
  /- the shoals -/
  refine Wp.loop2 (fun k (x : Int32) (d : jI) => fX6_on_55 n k x d cj) (fun r x => ∃ l, l + r = 2 * coS c ∧ x.1 = nI l ∧ Fr [1585] [1, 68] ci x.2 ∧ x.2 1547 1 = nI 0 ∧ (∀ k, k < 1 + l → x.2 1585 k = onV c (ci 1585) b k) ∧ ∀ k, 1 + l ≤ k → x.2 1585 k = ci 1585 k) _ ?_ n (2 * coS c) (nI 0) _ (by omega) ⟨0, by omega, rfl, f0.up (by decide) (by decide), by dsimp only; rw [ju_row _ _ (by decide), ju_eq], fun k hk => by dsimp only; rw [show k = 0 by omega, ju_eq]; rfl, fun k hk => by dsimp only; rw [ju_ne2 _ _ (by omega), ju_row _ _ (by decide)]⟩
  rintro k r x d ⟨l, g1, g2, g3, g4, g5, g6⟩ ih
  dsimp only at g2 g3 g4 g5 g6
  subst g2
  rw [fX6_on_55.eq_2, wp_bind, e6_shoalMany, wp_some]
  dsimp only
  have m3 : d 1577 6 = nI (coS c) := (hm.fr' g3 (by decide)).2.2.1
  rw [m3, nI_mulN]
  by_cases hl : 2 * coS c ≤ l
  rotate_left
  · have t2 := tp g3 (show 2 + l < T by omega)
    rw [if_neg (nI_ge (by omega) (by omega)), nI_modE (by omega) (by omega)]
    unfold fX6_on_97 fX6_on_105
    simp (disch := omega) only [nI_add, nI_cl, jok_t, if_true, t2]
    have go : ∀ y, y = onV c (ci 1585) b (1 + l) → Wp (fX6_on_55 n k (nI (l + 1)) (ju d 1585 (1 + l) y) cj) (fun q => q.2.2 = cj ∧ (¬ okOn c T b → q.1 = nI 0 ∧ q.2.1 = ju (ju ci 1547 1 (nI 0)) 1549 5 (ci 1549 5 + nI 1)) ∧ (okOn c T b → q.1 = nI 1 ∧ e166 (q.2.1 1585) (onV c (ci 1585) b) ∧ q.2.1 1547 1 = nI 0 ∧ q.2.1 1547 68 = nI 0 ∧ Fr [1585] [1, 68] ci q.2.1)) := by
      intro y hy
      refine ih (r - 1) _ _ (by omega) ⟨l + 1, by omega, rfl, g3.up (by decide) (by decide), by dsimp only; rw [ju_row _ _ (by decide)]; exact g4, fun k hk => ?_, fun k hk => ?_⟩
      · dsimp only
        by_cases e : k = 1 + l
        · rw [e, ju_eq, hy]
        · rw [ju_ne2 _ _ e]; exact g5 k (by omega)
      · dsimp only
        rw [ju_ne2 _ _ (by omega)]; exact g6 k (by omega)
    by_cases e1 : l % 2 = 1
    · rw [if_pos (show nI (l % 2) = nI 1 by rw [e1])]
      have ea : onV c (ci 1585) b (1 + l) = if b (2 + l) = nI 255 then -1 else b (2 + l) := by
        rw [show 1 + l = 2 + 2 * (l / 2) by omega, on_a (by omega), show 3 + 2 * (l / 2) = 2 + l by omega]
      by_cases e2 : b (2 + l) = nI 255
      · rw [if_pos e2]; exact go _ (by rw [ea, if_pos e2])
      · rw [if_neg e2]; exact go _ (by rw [ea, if_neg e2])
    · rw [if_neg (show ¬ nI (l % 2) = nI 1 by rw [nI_eqN (by omega) (by omega)]; exact e1)]
      exact go _ (by rw [show 1 + l = 1 + 2 * (l / 2) by omega, on_m (by omega)]; congr 1; omega)
  have hl' : l = 2 * coS c := by omega
  subst hl'
  rw [if_pos (nI_le hl (by omega)), wp_bind, e6_shoalMany, wp_some]
  dsimp only
  rw [m3, nI_mulN, nI_add]
  clear ih
  /- the bays -/
  refine Wp.loop3 (fun k (y x : Int32) (d : jI) => fX6_on_123 n k y x d cj) (fun r x => ∃ l, l + r = coB c ∧ x.1 = nI (2 + 2 * coS c + 4 * l) ∧ x.2.1 = nI l ∧ Fr [1585] [1, 68] ci x.2.2 ∧ x.2.2 1547 1 = nI 0 ∧ (∀ k, k < 7 + 3 * l → x.2.2 1585 k = onV c (ci 1585) b k) ∧ ∀ k, 7 + 3 * l ≤ k → x.2.2 1585 k = ci 1585 k) _ ?_ n (coB c) _ (nI 0) d (by omega) ⟨0, by omega, rfl, rfl, g3, g4, fun k hk => ?_, fun k hk => g6 k (by omega)⟩
  rotate_left
  · dsimp only
    by_cases e : k < 1 + 2 * coS c
    · exact g5 k e
    · rw [g6 k (by omega)]
      unfold onV
      rw [if_neg (by omega), if_neg e, if_neg (by omega), if_neg (by omega), if_neg (by omega)]
  clear g1 g3 g4 g5 g6
  rintro k r y x d ⟨l, g1, g2, g2', g3, g4, g5, g6⟩ ih
  dsimp only at g2 g2' g3 g4 g5 g6
  subst g2 g2'
  rw [fX6_on_123.eq_2, wp_bind, e6_bayMany, wp_some]
  dsimp only
  rw [(hm.fr' g3 (by decide)).1]
  by_cases hb' : coB c ≤ l
  rotate_left
  · have t0 := tp g3 (show 2 + 2 * coS c + 4 * l < T by omega)
    have t1 := tp g3 (show 2 + 2 * coS c + 4 * l + 1 < T by omega)
    have t2 := tp g3 (show 2 + 2 * coS c + 4 * l + 2 < T by omega)
    have t3 := tp g3 (show 2 + 2 * coS c + 4 * l + 3 < T by omega)
    have q1 : (1548 : Nat) ≠ 1585 := by decide
    rw [if_neg (nI_ge (by omega) (by omega))]
    simp (disch := omega) only [nI_mulN (3 : Nat), nI_add, nI_cl, jok_t, if_true, ju_row (x := 1548) (a := 1585) _ _ q1, t0, t1, t2, t3]
    refine ih (r - 1) _ _ _ (by omega) ⟨l + 1, by omega, rfl, rfl, ((g3.up (by decide) (by decide)).up (by decide) (by decide)).up (by decide) (by decide), by dsimp only; rw [ju_row _ _ (by decide), ju_row _ _ (by decide), ju_row _ _ (by decide)]; exact g4, fun k hk => ?_, fun k hk => ?_⟩
    · dsimp only
      by_cases e9 : k = 9 + 3 * l
      · rw [e9, ju_eq, on_l hc (by omega)]
      rw [ju_ne2 _ _ e9]
      by_cases e8 : k = 8 + 3 * l
      · rw [e8, ju_eq, on_t hc (by omega)]
      rw [ju_ne2 _ _ e8]
      by_cases e7 : k = 7 + 3 * l
      · rw [e7, ju_eq, on_h hc (by omega)]
      rw [ju_ne2 _ _ e7]
      exact g5 k (by omega)
    · dsimp only
      rw [ju_ne2 _ _ (by omega), ju_ne2 _ _ (by omega), ju_ne2 _ _ (by omega)]; exact g6 k (by omega)
  have hl' : l = coB c := by omega
  subst hl'
  rw [if_pos (nI_le hb' (by omega))]
  clear ih
  /- the pairs -/
  refine Wp.loop2 (fun k (x : Int32) (d : jI) => fX6_on_210 n k (nI (2 + 2 * coS c + 4 * coB c)) x d cj) (fun r x => ∃ l, l + r = 2 * coP c ∧ x.1 = nI l ∧ Fr [1585] [1, 68] ci x.2 ∧ x.2 1547 1 = nI 0 ∧ (∀ k, k < 25 + l → x.2 1585 k = onV c (ci 1585) b k) ∧ ∀ k, 25 + l ≤ k → x.2 1585 k = ci 1585 k) _ ?_ n (2 * coP c) (nI 0) d (by omega) ⟨0, by omega, rfl, g3, g4, fun k hk => ?_, fun k hk => g6 k (by omega)⟩
  rotate_left
  · dsimp only
    by_cases e : k < 7 + 3 * coB c
    · exact g5 k e
    · rw [g6 k (by omega)]
      unfold onV
      rw [if_neg (by omega), if_neg (by omega), if_neg (by omega), if_neg (by omega), if_neg (by omega)]
  clear g1 g3 g4 g5 g6
  rintro k r x d ⟨l, g1, g2, g3, g4, g5, g6⟩ ih
  dsimp only at g2 g3 g4 g5 g6
  subst g2
  rw [fX6_on_210.eq_2, wp_bind, e6_pairMany, wp_some]
  dsimp only
  rw [(hm.fr' g3 (by decide)).2.1, nI_mulN]
  by_cases hl : 2 * coP c ≤ l
  rotate_left
  · have t0 := tp g3 (show 2 + 2 * coS c + 4 * coB c + l < T by omega)
    rw [if_neg (nI_ge (by omega) (by omega))]
    simp (disch := omega) only [nI_add, nI_cl, jok_t, if_true, t0]
    refine ih (r - 1) _ _ (by omega) ⟨l + 1, by omega, rfl, g3.up (by decide) (by decide), by dsimp only; rw [ju_row _ _ (by decide)]; exact g4, fun k hk => ?_, fun k hk => ?_⟩
    · dsimp only
      by_cases e : k = 25 + l
      · rw [e, ju_eq, on_p hc (by omega)]
      · rw [ju_ne2 _ _ e]; exact g5 k (by omega)
    · dsimp only
      rw [ju_ne2 _ _ (by omega)]; exact g6 k (by omega)
  have hl' : l = 2 * coP c := by omega
  subst hl'
  rw [if_pos (nI_le hl (by omega)), if_pos (by rw [jok_t (by omega) (by omega)]; trivial), nI_cl (by omega), wp_some]
  refine ⟨rfl, fun z => absurd ok z, fun _ => ⟨rfl, fun k hk => ?_, ?_, by dsimp only; rw [ju_eq], (g3.up (by decide) (by decide)).upf (by decide)⟩⟩
  · dsimp only
    rw [ju_row _ _ (by decide)]
    by_cases e : k = 45
    · rw [e, ju_eq, on_45 hc]
    · rw [ju_ne2 _ _ e]
      by_cases e2 : k < 25 + 2 * coP c
      · exact g5 k e2
      · rw [g6 k (by omega)]
        unfold onV
        rw [if_neg (by omega), if_neg (by omega), if_neg (by omega), if_neg (by omega), if_neg e]
  · dsimp only
    rw [ju_ne2 _ _ (by decide), ju_row _ _ (by decide)]; exact g4
end
