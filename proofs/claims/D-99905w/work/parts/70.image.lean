/-! IMAGE -/
set_option maxRecDepth 100000
def hiB (x : Int32) : Int32 := x / nI 256
def loB (x : Int32) : Int32 := x - x / nI 256 * nI 256
def w8 (x : Int32) : Int32 := if x = -1 then nI 255 else x
def imB (c : jCo) (v : jV8) (k : Nat) : Int32 := if k = 0 then hiB (v 0) else if k = 1 then loB (v 0) else if k < 2 + 2 * coS c then w8 (v (1 + (k - 2)))
  else if k < 2 + 2 * coS c + 4 * coB c then (if (k - (2 + 2 * coS c)) % 4 = 0 then v (7 + 3 * ((k - (2 + 2 * coS c)) / 4)) else if (k - (2 + 2 * coS c)) % 4 = 1 then hiB (v (8 + 3 * ((k - (2 + 2 * coS c)) / 4))) else if (k - (2 + 2 * coS c)) % 4 = 2 then loB (v (8 + 3 * ((k - (2 + 2 * coS c)) / 4))) else v (9 + 3 * ((k - (2 + 2 * coS c)) / 4)))
  else v (25 + (k - (2 + 2 * coS c + 4 * coB c)))
def imM (c : jCo) : Nat := 2 + 2 * coS c + 4 * coB c + 2 * coP c
def chk (B : Nat → Int32) : Nat → Int32
  | 0 => nI 233
  | k + 1 => (nI 3 * chk B k + B k) - (nI 3 * chk B k + B k) / nI 251 * nI 251
def imF (c : jCo) (v : jV8) (k : Nat) : Int32 := if k = imM c then chk (imB c v) (imM c) else imB c v k
theorem chk_congr {A B : Nat → Int32} : ∀ {m : Nat}, (∀ k, k < m → A k = B k) → chk A m = chk B m
  | 0, _ => rfl
  | m + 1, h => by
    unfold chk
    rw [chk_congr (fun k hk => h k (by omega)), h m (by omega)]
theorem chk_rg {B : Nat → Int32} : ∀ {m : Nat}, (∀ k, k < m → ∃ x, x < 256 ∧ B k = nI x) → ∃ x, x < 256 ∧ chk B m = nI x
  | 0, _ => ⟨233, by omega, rfl⟩
  | m + 1, h => by
    obtain ⟨x, x1, x2⟩ := chk_rg (B := B) (m := m) (fun k hk => h k (by omega))
    obtain ⟨y, y1, y2⟩ := h m (by omega)
    unfold chk
    rw [x2, y2, nI_mulN, nI_add, nI_modE (by omega) (by omega)]
    exact ⟨_, by omega, rfl⟩
theorem im_y0 (c : jCo) (v : jV8) : imB c v 0 = hiB (v 0) := rfl
theorem im_y1 (c : jCo) (v : jV8) : imB c v 1 = loB (v 0) := rfl
theorem im_s {c : jCo} {v : jV8} {l : Nat} (h : l < 2 * coS c) : imB c v (2 + l) = w8 (v (1 + l)) := by
  unfold imB
  rw [if_neg (by omega), if_neg (by omega), if_pos (by omega)]
  congr 2; omega
theorem im_b {c : jCo} {v : jV8} {b : Nat} (h : b < coB c) : imB c v (2 + 2 * coS c + 4 * b) = v (7 + 3 * b) ∧ imB c v (2 + 2 * coS c + 4 * b + 1) = hiB (v (8 + 3 * b)) ∧ imB c v (2 + 2 * coS c + 4 * b + 2) = loB (v (8 + 3 * b)) ∧ imB c v (2 + 2 * coS c + 4 * b + 3) = v (9 + 3 * b) := by
  unfold imB
  refine ⟨?_, ?_, ?_, ?_⟩
  · rw [if_neg (by omega), if_neg (by omega), if_neg (by omega), if_pos (by omega), if_pos (by omega)]; congr 1; omega
  · rw [if_neg (by omega), if_neg (by omega), if_neg (by omega), if_pos (by omega), if_neg (by omega), if_pos (by omega)]; congr 2; omega
  · rw [if_neg (by omega), if_neg (by omega), if_neg (by omega), if_pos (by omega), if_neg (by omega), if_neg (by omega), if_pos (by omega)]; congr 2; omega
  · rw [if_neg (by omega), if_neg (by omega), if_neg (by omega), if_pos (by omega), if_neg (by omega), if_neg (by omega), if_neg (by omega)]; congr 1; omega
theorem im_p {c : jCo} {v : jV8} (l : Nat) : imB c v (2 + 2 * coS c + 4 * coB c + l) = v (25 + l) := by
  unfold imB
  rw [if_neg (by omega), if_neg (by omega), if_neg (by omega), if_neg (by omega)]
  congr 1; omega
theorem hiB_N {k : Nat} (h : k < 2147483648) : hiB (nI k) = nI (k / 256) := nI_div h (by omega)
theorem loB_N {k : Nat} (h : k < 2147483648) : loB (nI k) = nI (k % 256) := nI_modE h (by omega)
/-- every byte of an image is one -/
theorem im_rg {c : jCo} {v : jV8} (hc : CR c) (hv : VR c v 999) {k : Nat} (hk : k < imM c) : ∃ x, x < 256 ∧ imB c v k = nI x := by
  obtain ⟨⟨y, y1, y2⟩, h2, h3, h4⟩ := hv
  have hB := hc.1
  by_cases k0 : k = 0
  · rw [k0, im_y0, y2, hiB_N (by omega)]; exact ⟨_, by omega, rfl⟩
  by_cases k1 : k = 1
  · rw [k1, im_y1, y2, loB_N (by omega)]; exact ⟨_, by omega, rfl⟩
  by_cases k2 : k < 2 + 2 * coS c
  · obtain ⟨l, rfl⟩ : ∃ l, k = 2 + l := ⟨k - 2, by omega⟩
    rw [im_s (by omega)]
    obtain ⟨⟨x, x1, x2⟩, z⟩ := h2 (l / 2) (by omega)
    by_cases e : l % 2 = 0
    · rw [show 1 + l = 1 + 2 * (l / 2) by omega, x2]
      unfold w8
      rw [if_neg (nI_nm1 (by omega))]
      exact ⟨x, by omega, rfl⟩
    · rw [show 1 + l = 2 + 2 * (l / 2) by omega]
      unfold w8
      rcases z with z | ⟨b, b1, b2⟩
      · rw [z, if_pos rfl]; exact ⟨255, by omega, rfl⟩
      · rw [b2, if_neg (nI_nm1 (by omega))]; exact ⟨b, by omega, rfl⟩
  by_cases k3 : k < 2 + 2 * coS c + 4 * coB c
  · obtain ⟨b, j, hj, hb, rfl⟩ : ∃ b j, j < 4 ∧ b < coB c ∧ k = 2 + 2 * coS c + 4 * b + j := ⟨(k - (2 + 2 * coS c)) / 4, (k - (2 + 2 * coS c)) % 4, by omega, by omega, by omega⟩
    obtain ⟨i1, i2, i3, i4⟩ := im_b (v := v) hb
    obtain ⟨⟨p, p1, p2⟩, ⟨q, q1, q2⟩, ⟨r, r1, r2⟩⟩ := h3 b hb
    have : j = 0 ∨ j = 1 ∨ j = 2 ∨ j = 3 := by omega
    rcases this with e | e | e | e <;> subst e
    · rw [Nat.add_zero, i1, p2]; exact ⟨p, by omega, rfl⟩
    · rw [i2, q2, hiB_N (by omega)]; exact ⟨_, by omega, rfl⟩
    · rw [i3, q2, loB_N (by omega)]; exact ⟨_, by omega, rfl⟩
    · rw [i4, r2]; exact ⟨r, by omega, rfl⟩
  · unfold imM at hk
    obtain ⟨l, rfl⟩ : ∃ l, k = 2 + 2 * coS c + 4 * coB c + l := ⟨k - (2 + 2 * coS c + 4 * coB c), by omega⟩
    rw [im_p]
    obtain ⟨⟨x, x1, x2⟩, ⟨z, z1, z2⟩⟩ := h4 (l / 2) (by omega)
    by_cases e : l % 2 = 0
    · rw [show 25 + l = 25 + 2 * (l / 2) by omega, x2]; exact ⟨x, by omega, rfl⟩
    · rw [show 25 + l = 26 + 2 * (l / 2) by omega, z2]; exact ⟨z, by omega, rfl⟩
theorem im_le (c : jCo) (hc : CR c) : imM c ≤ 52 := by
  have h1 := hc.1
  have h2 := hc.2.1
  have h3 := hc.2.2.1
  unfold imM; omega
def OM (ci : jI) (o : Nat) (B : Nat → Int32) : Prop := ci 1547 107 = nI o ∧ ∀ k, k < o → ci 1623 k = B k
section
variable {n : Nat} {c : jCo} {ci ci1 : jI} {cj : jJ} {B : Nat → Int32}
theorem sp6_writes {o : Nat} {x : Int32} (ho : o < 53) (h : OM ci1 o B) (hx : w8 x = B o) (hF : Fr [1623] [107] ci ci1) : Wp (fX6_writes n x ci1 cj) (fun q => OM q.1 (o + 1) B ∧ Fr [1623] [107] ci q.1 ∧ q.2 = cj) := by
  have key : ∀ y, y = B o → Wp (fX6_writes_20 n y (nI o) ci1 cj) (fun q => OM q.1 (o + 1) B ∧ Fr [1623] [107] ci q.1 ∧ q.2 = cj) := by
    intro y hy
    unfold fX6_writes_20
    rw [if_pos (by rw [jok_t (by omega) (by omega)]; trivial), nI_cl (by omega), ju_row (x := 1547) _ _ (by decide), h.1, nI_add, wp_some]
    refine ⟨⟨by dsimp only; rw [ju_eq], fun k hk => ?_⟩, (hF.up (by decide) (by decide)).upf (by decide), rfl⟩
    dsimp only
    rw [ju_row _ _ (by decide)]
    by_cases e : k = o
    · rw [e, ju_eq, hy]
    · rw [ju_ne2 _ _ e]; exact h.2 k (by omega)
  unfold fX6_writes
  rw [h.1]
  unfold w8 at hx
  by_cases e : x = -1
  · rw [if_pos e] at hx ⊢; exact key _ hx
  · rw [if_neg e] at hx ⊢; exact key _ hx
theorem sp6_checked {a m : Nat} (hn : 4000 ≤ n) (hm : m ≤ 1600) (hk : mkd a = 100) (hl : m ≤ mln a) (hB : ∀ k, k < m → ci a k = B k) : fX6_checked n a (nI m) ci cj = some (chk B m, ci, cj) := by
  have key : Wp (fX6_checked n a (nI m) ci cj) (fun q => q = (chk B m, ci, cj)) := by
    unfold fX6_checked
    rw [if_pos hk]
    refine Wp.loop2 (fun k (x y : Int32) => fX6_checked_6 n k a (nI m) x y ci cj) (fun r x => ∃ j, j + r = m ∧ x.2 = nI j ∧ x.1 = chk B j) _ ?_ n m (nI 233) (nI 0) (by omega) ⟨0, by omega, rfl, rfl⟩
    rintro k r x l ⟨j, g1, g2, g3⟩ ih
    dsimp only at g2 g3
    subst g2
    rw [fX6_checked_6.eq_2, if_pos hk]
    by_cases hj : m ≤ j
    · have : j = m := by omega
      subst this
      rw [if_pos (nI_le hj (by omega)), wp_some, g3]
    · rw [if_neg (nI_ge (by omega) (by omega)), if_pos (by rw [jok_t (by omega) (by omega)]; trivial), nI_cl (by omega), hB j (by omega), nI_add]
      exact ih (r - 1) _ _ (by omega) ⟨j + 1, by omega, rfl, by dsimp only; rw [g3]; rfl⟩
  obtain ⟨q, e1, e2⟩ := key
  rw [e1, e2]
theorem w8_N {k : Nat} (h : k < 2147483648) : w8 (nI k) = nI k := by unfold w8; rw [if_neg (nI_nm1 h)]
theorem w8_rg {x : Int32} {m : Nat} (h : rg x m) (hm : m < 2147483648) : w8 x = x := by
  obtain ⟨k, k1, k2⟩ := h
  rw [k2]; exact w8_N (by omega)
theorem m_image (hn : 4000 ≤ n) (h : MI c ci) : Wp (fX6_image n ci cj) (fun q => q.1 = nI (imM c + 1) ∧ OM q.2.1 (imM c + 1) (imF c (ci 1585)) ∧ Fr [1623] [107] ci q.2.1 ∧ q.2.2 = cj) := by
  obtain ⟨hc, hm, hv, hk4, h58⟩ := h
  have hB := hc.1
  have hP := hc.2.1
  have hS := hc.2.2.1
  have hM : imM c = 2 + 2 * coS c + 4 * coB c + 2 * coP c := rfl
  have i52 := im_le c hc
  obtain ⟨y, y1, y2⟩ := hv.1
  have e85 : ∀ {d : jI}, Fr [1623] [107] ci d → d 1585 = ci 1585 := fun hd => hd.1 1585 (by decide) (by decide)
  have mF : ∀ {d : jI}, Fr [1623] [107] ci d → MC c d := fun hd => hm.fr' hd (by decide)
  have ib : ∀ k, k < imM c → imF c (ci 1585) k = imB c (ci 1585) k := fun k hk => by unfold imF; rw [if_neg (by omega)]
  unfold fX6_image
  simp (disch := omega) only [jok_t, if_true, nI_cl (k := 0)]
  rw [ju_row (x := 1585) _ _ (by decide), wp_bind]
  refine (sp6_writes (B := imF c (ci 1585)) (o := 0) (by omega) ⟨by rw [ju_eq], fun k hk => absurd hk (Nat.not_lt_zero k)⟩ ?_ (Fr.rfl'.upf (by decide))).mono ?_
  · rw [ib 0 (by omega), im_y0, y2]; unfold hiB; rw [nI_div (by omega) (by omega), w8_N (by omega)]
  rintro ⟨d1, j1⟩ ⟨o1, f1, q1⟩
  dsimp only at o1 f1 q1 ⊢
  subst q1
  rw [e85 f1, wp_bind]
  refine (sp6_writes (B := imF c (ci 1585)) (o := 1) (by omega) o1 ?_ f1).mono ?_
  · rw [ib 1 (by omega), im_y1, y2]; unfold loB; rw [nI_modE (by omega) (by omega), w8_N (by omega)]
  rintro ⟨d2, j2⟩ ⟨o2, f2, q2⟩
  dsimp only at o2 f2 q2 ⊢
  subst q2
  clear f1 o1
  /- the shoals -/
  refine Wp.loop2 (fun k (x : Int32) (d : jI) => fX6_image_35 n k x d j2) (fun r x => ∃ l, l + r = 2 * coS c ∧ x.1 = nI l ∧ OM x.2 (2 + l) (imF c (ci 1585)) ∧ Fr [1623] [107] ci x.2) _ ?_ n (2 * coS c) (nI 0) d2 (by omega) ⟨0, by omega, rfl, o2, f2⟩
  rintro k r x d3 ⟨l, g1, g2, g3, g4⟩ ih
  dsimp only at g2 g3 g4
  subst g2
  rw [fX6_image_35.eq_2, wp_bind, e6_shoalMany, wp_some]
  dsimp only
  rw [(mF g4).2.2.1, nI_mulN]
  by_cases hl : 2 * coS c ≤ l
  rotate_left
  · rw [if_neg (nI_ge (by omega) (by omega)), nI_add, if_pos (by rw [jok_t (by omega) (by omega)]; trivial), nI_cl (by omega), e85 g4, wp_bind]
    refine (sp6_writes (B := imF c (ci 1585)) (o := 2 + l) (by omega) g3 ?_ g4).mono ?_
    · rw [ib _ (by omega), im_s (by omega)]
    rintro ⟨d4, j4⟩ ⟨o4, f4, q4⟩
    dsimp only at o4 f4 q4 ⊢
    subst q4
    rw [nI_add]
    exact ih (r - 1) _ _ (by omega) ⟨l + 1, by omega, rfl, o4, f4⟩
  have hl' : l = 2 * coS c := by omega
  subst hl'
  rw [if_pos (nI_le hl (by omega))]
  clear ih o2 f2
  /- the bays -/
  refine Wp.loop2 (fun k (x : Int32) (d : jI) => fX6_image_65 n k x d j2) (fun r x => ∃ b, b + r = coB c ∧ x.1 = nI b ∧ OM x.2 (2 + 2 * coS c + 4 * b) (imF c (ci 1585)) ∧ Fr [1623] [107] ci x.2) _ ?_ n (coB c) (nI 0) d3 (by omega) ⟨0, by omega, rfl, g3, g4⟩
  rintro k r x d4 ⟨b, g1, g2, g5, g6⟩ ih
  dsimp only at g2 g5 g6
  subst g2
  rw [fX6_image_65.eq_2, wp_bind, e6_bayMany, wp_some]
  dsimp only
  rw [(mF g6).1]
  by_cases hb : coB c ≤ b
  rotate_left
  · obtain ⟨i1, i2, i3, i4⟩ := im_b (v := ci 1585) (show b < coB c by omega)
    obtain ⟨p0, ⟨t, t1, t2⟩, r0⟩ := hv.2.2.1 b (by omega)
    rw [if_neg (nI_ge (by omega) (by omega)), wp_bind, e6_hungerOf (by omega), wp_some]
    dsimp only
    rw [e85 g6, wp_bind]
    refine (sp6_writes (B := imF c (ci 1585)) (by omega) g5 ?_ g6).mono ?_
    · rw [ib _ (by omega), i1, w8_rg p0 (by omega)]
    rintro ⟨d5, j5⟩ ⟨o5, f5, q5⟩
    dsimp only at o5 f5 q5 ⊢
    subst q5
    simp (disch := omega) only [nI_mulN, nI_add (8 : Nat), jok_t, if_true, nI_cl]
    rw [e85 f5, wp_bind]
    refine (sp6_writes (B := imF c (ci 1585)) (by omega) o5 ?_ f5).mono ?_
    · rw [ib _ (by omega), i2, t2]; unfold hiB; rw [nI_div (by omega) (by omega), w8_N (by omega)]
    rintro ⟨d6, j6⟩ ⟨o6, f6, q6⟩
    dsimp only at o6 f6 q6 ⊢
    subst q6
    rw [e85 f6, wp_bind]
    refine (sp6_writes (B := imF c (ci 1585)) (by omega) o6 ?_ f6).mono ?_
    · rw [ib _ (by omega), i3, t2]; unfold loB; rw [nI_modE (by omega) (by omega), w8_N (by omega)]
    rintro ⟨d7, j7⟩ ⟨o7, f7, q7⟩
    dsimp only at o7 f7 q7 ⊢
    subst q7
    rw [wp_bind, e6_lateOf (by omega), wp_some]
    dsimp only
    rw [e85 f7, wp_bind]
    refine (sp6_writes (B := imF c (ci 1585)) (by omega) o7 ?_ f7).mono ?_
    · rw [ib _ (by omega), i4, w8_rg r0 (by omega)]
    rintro ⟨d8, j8⟩ ⟨o8, f8, q8⟩
    dsimp only at o8 f8 q8 ⊢
    subst q8
    rw [nI_add]
    exact ih (r - 1) _ _ (by omega) ⟨b + 1, by omega, rfl, by dsimp only; rw [show 2 + 2 * coS c + 4 * (b + 1) = 2 + 2 * coS c + 4 * b + 1 + 1 + 1 + 1 by omega]; exact o8, f8⟩
  have hb' : b = coB c := by omega
  subst hb'
  rw [if_pos (nI_le hb (by omega))]
  clear ih g3 g4
  /- the pairs -/
  refine Wp.loop2 (fun k (x : Int32) (d : jI) => fX6_image_137 n k x d j2) (fun r x => ∃ l, l + r = 2 * coP c ∧ x.1 = nI l ∧ OM x.2 (2 + 2 * coS c + 4 * coB c + l) (imF c (ci 1585)) ∧ Fr [1623] [107] ci x.2) _ ?_ n (2 * coP c) (nI 0) d4 (by omega) ⟨0, by omega, rfl, g5, g6⟩
  rintro k r x d5 ⟨l, g1, g2, g3, g4⟩ ih
  dsimp only at g2 g3 g4
  subst g2
  rw [fX6_image_137.eq_2, wp_bind, e6_pairMany, wp_some]
  dsimp only
  rw [(mF g4).2.1, nI_mulN]
  by_cases hl : 2 * coP c ≤ l
  rotate_left
  · obtain ⟨x0, z0⟩ := hv.2.2.2 (l / 2) (by omega)
    rw [if_neg (nI_ge (by omega) (by omega)), nI_add, if_pos (by rw [jok_t (by omega) (by omega)]; trivial), nI_cl (by omega), e85 g4, wp_bind]
    refine (sp6_writes (B := imF c (ci 1585)) (by omega) g3 ?_ g4).mono ?_
    · rw [ib _ (by omega), im_p]
      by_cases e : l % 2 = 0
      · rw [show 25 + l = 25 + 2 * (l / 2) by omega]; exact w8_rg x0 (by omega)
      · rw [show 25 + l = 26 + 2 * (l / 2) by omega]; exact w8_rg z0 (by omega)
    rintro ⟨d4, j4⟩ ⟨o4, f4, q4⟩
    dsimp only at o4 f4 q4 ⊢
    subst q4
    rw [nI_add]
    exact ih (r - 1) _ _ (by omega) ⟨l + 1, by omega, rfl, o4, f4⟩
  have hl' : l = 2 * coP c := by omega
  subst hl'
  rw [if_pos (nI_le hl (by omega)), g3.1, ← hM, wp_bind, sp6_checked (B := imB c (ci 1585)) hn (by omega) (by decide) (by show _ ≤ 53; omega) (fun k hk => by rw [g3.2 k (by omega), ib k hk]), wp_some]
  dsimp only
  obtain ⟨x, x1, x2⟩ := chk_rg (fun k hk => im_rg hc hv hk)
  rw [wp_bind]
  refine (sp6_writes (B := imF c (ci 1585)) (by omega) g3 ?_ g4).mono ?_
  · rw [← hM]; unfold imF; rw [if_pos rfl, x2, w8_N (by omega)]
  rintro ⟨d6, j6⟩ ⟨o6, f6, q6⟩
  dsimp only at o6 f6 q6 ⊢
  rw [wp_some]
  exact ⟨o6.1, o6, f6, q6⟩
end
