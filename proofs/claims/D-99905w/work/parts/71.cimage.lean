/-! IMAGE IN THE COMPONENT -/
set_option maxRecDepth 100000
def OC (ci : jI) (o : Nat) (B : Nat → Int32) : Prop := ci 0 21 = nI o ∧ ∀ k, k < o → ci 1546 k &&& nI 255 = B k
section
variable {n : Nat} {c : jCo} {K : jK} {ci ci1 : jI} {cj : jJ} {cr : jR} {B : Nat → Int32} {v : jV8}
/-- what is written of an image -/
def FO (ci ci' : jI) : Prop := (∀ i, i ≠ 0 → i ≠ 1546 → ci' i = ci i) ∧ ∀ k, k ≠ 21 → ci' 0 k = ci 0 k
theorem sp0_writes {o : Nat} {x : Int32} (ho : o < 53) (h : OC ci1 o B) (hx : x &&& nI 255 = B o) (hF : FO ci ci1) : Wp (fX0_writes n x K ci1 cj cr) (fun q => OC q.2.1 (o + 1) B ∧ FO ci q.2.1 ∧ q.2.2.1 = cj ∧ q.2.2.2 = cr) := by
  unfold fX0_writes
  rw [h.1, if_pos (by rw [jok_t (by omega) (by omega)]; trivial), nI_cl (by omega), nI_add, wp_some]
  refine ⟨⟨by dsimp only; rw [ju_row _ _ (by decide), ju_eq], fun k hk => ?_⟩, ⟨fun i i1 i2 => by dsimp only; rw [ju_row _ _ i2, ju_row _ _ i1]; exact hF.1 i i1 i2, fun k hk => by dsimp only; rw [ju_row _ _ (by decide), ju_ne2 _ _ hk]; exact hF.2 k hk⟩, rfl, rfl⟩
  dsimp only
  by_cases e : k = o
  · rw [e, ju_eq, i8_and, hx]
  · rw [ju_ne2 _ _ e, ju_row _ _ (by decide)]; exact h.2 k (by omega)
theorem sp0_check {a m : Nat} (hn : 4000 ≤ n) (hm : m ≤ 1600) (hk : K.1 a = 101) (hk2 : a < K.2.2) (hl : m ≤ K.2.1 a) (hB : ∀ k, k < m → ci a k &&& nI 255 = B k) : fX0_check n a (nI m) K ci cj cr = some (chk B m, ci, cj, cr) := by
  have key : Wp (fX0_check n a (nI m) K ci cj cr) (fun q => q = (chk B m, ci, cj, cr)) := by
    unfold fX0_check
    refine Wp.loop2 (fun k (x y : Int32) => fX0_check_6 n k a (nI m) x y K ci cj cr) (fun r x => ∃ j, j + r = m ∧ x.2 = nI j ∧ x.1 = chk B j) _ ?_ n m (nI 233) (nI 0) (by omega) ⟨0, by omega, rfl, rfl⟩
    rintro k r x l ⟨j, g1, g2, g3⟩ ih
    dsimp only at g2 g3
    subst g2
    rw [fX0_check_6.eq_2]
    by_cases hj : m ≤ j
    · have : j = m := by omega
      subst this
      rw [if_pos (nI_le hj (by omega)), wp_some, g3]
    · rw [if_neg (nI_ge (by omega) (by omega)), if_pos ⟨hk, Or.inl hk2⟩, if_pos (by rw [jok_t (by omega) (by omega)]; trivial), nI_cl (by omega), hB j (by omega), nI_add]
      exact ih (r - 1) _ _ (by omega) ⟨j + 1, by omega, rfl, by dsimp only; rw [g3]; rfl⟩
  obtain ⟨q, e1, e2⟩ := key
  rw [e1, e2]
theorem a8_N {k : Nat} (h : k < 256) : nI k &&& nI 255 = nI k := by rw [nI_and255 (by omega)]; congr 1; omega
theorem a8_rg {x : Int32} {m : Nat} (h : rg x m) (hm : m < 256) : x &&& nI 255 = x := by
  obtain ⟨k, k1, k2⟩ := h
  rw [k2]; exact a8_N (by omega)
theorem a8_hi {k : Nat} (h : k ≤ 999) : (nI k >>> (nI 8 &&& 31)) &&& nI 255 = hiB (nI k) := by rw [nI_shr8 h, hiB_N (by omega), a8_N (by omega)]
theorem a8_lo {k : Nat} (h : k ≤ 999) : nI k &&& nI 255 = loB (nI k) := by rw [loB_N (by omega), nI_and255 (by omega)]
theorem c_image (hn : 4000 ≤ n) (h : CI n c K ci cj cr v) : Wp (fX0_image n K ci cj cr) (fun q => q.1 = nI (imM c + 1) ∧ OC q.2.1 (imM c + 1) (imF c v) ∧ FO ci q.2.1 ∧ q.2.2.1 = cj ∧ q.2.2.2 = cr) := by
  have hc := h.1
  have hv := h.2.2.2.2.1
  have hB := hc.1
  have hP := hc.2.1
  have hS := hc.2.2.1
  have hs := h.2.2.2.1.1
  have hM : imM c = 2 + 2 * coS c + 4 * coB c + 2 * coP c := rfl
  have i52 := im_le c hc
  obtain ⟨y, y1, y2⟩ := hv.1
  have eR : ∀ {d : jI} (i : Nat), FO ci d → i ≠ 0 → i ≠ 1546 → d i = ci i := fun i hd i1 i2 => hd.1 i i1 i2
  have mF : ∀ {d : jI}, FO ci d → CC n c K d cj cr := fun hd => h.2.2.1.fr rfl (Nat.le_refl _) (fun i i1 _ => ⟨rfl, rfl, hd.1 i (by unfold jRg at i1; omega) (by unfold jRg at i1; omega), rfl, rfl⟩)
  have ib : ∀ k, k < imM c → imF c v k = imB c v k := fun k hk => by unfold imF; rw [if_neg (by omega)]
  unfold fX0_image
  rw [ju_row (x := 16) _ _ (by decide), hs.1, wp_jpb]
  refine (sp0_writes (B := imF c v) (o := 0) (ci := ci) (by omega) ⟨by rw [ju_eq], fun k hk => absurd hk (Nat.not_lt_zero k)⟩ ?_ ⟨fun i i1 _ => ju_row _ _ i1, fun k hk => ju_ne2 _ _ hk⟩).mono ?_
  · rw [ib 0 (by omega), im_y0, y2, a8_hi y1]
  rintro ⟨_, d1, j1, r1⟩ ⟨o1, f1, q1, q1'⟩
  dsimp only at o1 f1 q1 q1' ⊢
  subst q1 q1'
  rw [eR 16 f1 (by decide) (by decide), hs.1, wp_jpb]
  refine (sp0_writes (B := imF c v) (o := 1) (by omega) o1 ?_ f1).mono ?_
  · rw [ib 1 (by omega), im_y1, y2, a8_lo y1]
  rintro ⟨_, d2, j2, r2⟩ ⟨o2, f2, q2, q2'⟩
  dsimp only at o2 f2 q2 q2' ⊢
  subst q2 q2'
  clear f1 o1
  /- the shoals -/
  refine Wp.loop2 (fun k (x : Int32) (d : jI) => fX0_image_32 n k x K d j2 r2) (fun r x => ∃ l, l + r = coS c ∧ x.1 = nI l ∧ OC x.2 (2 + 2 * l) (imF c v) ∧ FO ci x.2) _ ?_ n (coS c) (nI 0) d2 (by omega) ⟨0, by omega, rfl, o2, f2⟩
  rintro k r x d3 ⟨l, g1, g2, g3, g4⟩ ih
  dsimp only at g2 g3 g4
  subst g2
  rw [fX0_image_32.eq_2, wp_jpb, e0_shoals (mF g4), wp_some]
  dsimp only
  by_cases hl : coS c ≤ l
  rotate_left
  · obtain ⟨s1, s2⟩ := hs.2.1 l (by omega)
    obtain ⟨x0, z0⟩ := hv.2.1 l (by omega)
    rw [if_neg (nI_ge (by omega) (by omega))]
    simp (disch := omega) only [jok_t, if_true, nI_cl]
    rw [eR (16 + 1) g4 (by decide) (by decide), s1, wp_jpb]
    refine (sp0_writes (B := imF c v) (by omega) g3 ?_ g4).mono ?_
    · rw [ib _ (by omega), im_s (by omega), a8_rg x0 (by omega), w8_rg x0 (by omega)]
    rintro ⟨_, d4, j4, r4⟩ ⟨o4, f4, q4, q4'⟩
    dsimp only at o4 f4 q4 q4' ⊢
    subst q4 q4'
    rw [eR (16 + 2) f4 (by decide) (by decide), s2, wp_jpb]
    refine (sp0_writes (B := imF c v) (by omega) o4 ?_ f4).mono ?_
    · rw [ib _ (by omega), show 2 + 2 * l + 1 = 2 + (1 + 2 * l) by omega, im_s (by omega), show 1 + (1 + 2 * l) = 2 + 2 * l by omega]
      unfold w8
      rcases z0 with z | ⟨b, b1, b2⟩
      · rw [z, if_pos rfl]; exact m1_and255
      · rw [b2, if_neg (nI_nm1 (by omega))]; exact a8_N (by omega)
    rintro ⟨_, d5, j5, r5⟩ ⟨o5, f5, q5, q5'⟩
    dsimp only at o5 f5 q5 q5' ⊢
    subst q5 q5'
    rw [nI_add]
    exact ih (r - 1) _ _ (by omega) ⟨l + 1, by omega, rfl, o5, f5⟩
  have hl' : l = coS c := by omega
  subst hl'
  rw [if_pos (nI_le hl (by omega))]
  clear ih o2 f2
  /- the bays -/
  refine Wp.loop2 (fun k (x : Int32) (d : jI) => fX0_image_74 n k x K d j2 r2) (fun r x => ∃ b, b + r = coB c ∧ x.1 = nI b ∧ OC x.2 (2 + 2 * coS c + 4 * b) (imF c v) ∧ FO ci x.2) _ ?_ n (coB c) (nI 0) d3 (by omega) ⟨0, by omega, rfl, g3, g4⟩
  rintro k r x d4 ⟨b, g1, g2, g5, g6⟩ ih
  dsimp only at g2 g5 g6
  subst g2
  rw [fX0_image_74.eq_2, wp_jpb, e0_bays (mF g6), wp_some]
  dsimp only
  by_cases hb : coB c ≤ b
  rotate_left
  · obtain ⟨i1, i2, i3, i4⟩ := im_b (v := v) (show b < coB c by omega)
    obtain ⟨p0, ⟨t, t1, t2⟩, r0⟩ := hv.2.2.1 b (by omega)
    obtain ⟨s1, s2, s3⟩ := hs.2.2.1 b (by omega)
    rw [if_neg (nI_ge (by omega) (by omega))]
    simp (disch := omega) only [jok_t, if_true, nI_cl]
    rw [eR (16 + 4) g6 (by decide) (by decide), s1, wp_jpb]
    refine (sp0_writes (B := imF c v) (by omega) g5 ?_ g6).mono ?_
    · rw [ib _ (by omega), i1, a8_rg p0 (by omega)]
    rintro ⟨_, d5, j5, r5⟩ ⟨o5, f5, q5, q5'⟩
    dsimp only at o5 f5 q5 q5' ⊢
    subst q5 q5'
    rw [eR (16 + 5) f5 (by decide) (by decide), s2, wp_jpb]
    refine (sp0_writes (B := imF c v) (by omega) o5 ?_ f5).mono ?_
    · rw [ib _ (by omega), i2, t2, a8_hi (by omega)]
    rintro ⟨_, d6, j6, r6⟩ ⟨o6, f6, q6, q6'⟩
    dsimp only at o6 f6 q6 q6' ⊢
    subst q6 q6'
    rw [eR (16 + 5) f6 (by decide) (by decide), s2, wp_jpb]
    refine (sp0_writes (B := imF c v) (by omega) o6 ?_ f6).mono ?_
    · rw [ib _ (by omega), i3, t2, a8_lo (by omega)]
    rintro ⟨_, d7, j7, r7⟩ ⟨o7, f7, q7, q7'⟩
    dsimp only at o7 f7 q7 q7' ⊢
    subst q7 q7'
    rw [eR (16 + 6) f7 (by decide) (by decide), s3, wp_jpb]
    refine (sp0_writes (B := imF c v) (by omega) o7 ?_ f7).mono ?_
    · rw [ib _ (by omega), i4, a8_rg r0 (by omega)]
    rintro ⟨_, d8, j8, r8⟩ ⟨o8, f8, q8, q8'⟩
    dsimp only at o8 f8 q8 q8' ⊢
    subst q8 q8'
    rw [nI_add]
    exact ih (r - 1) _ _ (by omega) ⟨b + 1, by omega, rfl, by dsimp only; rw [show 2 + 2 * coS c + 4 * (b + 1) = 2 + 2 * coS c + 4 * b + 1 + 1 + 1 + 1 by omega]; exact o8, f8⟩
  have hb' : b = coB c := by omega
  subst hb'
  rw [if_pos (nI_le hb (by omega))]
  clear ih g3 g4
  /- the pairs -/
  refine Wp.loop2 (fun k (x : Int32) (d : jI) => fX0_image_145 n k x K d j2 r2) (fun r x => ∃ l, l + r = coP c ∧ x.1 = nI l ∧ OC x.2 (2 + 2 * coS c + 4 * coB c + 2 * l) (imF c v) ∧ FO ci x.2) _ ?_ n (coP c) (nI 0) d4 (by omega) ⟨0, by omega, rfl, g5, g6⟩
  rintro k r x d5 ⟨l, g1, g2, g3, g4⟩ ih
  dsimp only at g2 g3 g4
  subst g2
  rw [fX0_image_145.eq_2, wp_jpb, e0_pairs (mF g4), wp_some]
  dsimp only
  by_cases hl : coP c ≤ l
  rotate_left
  · obtain ⟨x0, z0⟩ := hv.2.2.2 l (by omega)
    obtain ⟨s1, s2⟩ := hs.2.2.2 l (by omega)
    rw [if_neg (nI_ge (by omega) (by omega))]
    simp (disch := omega) only [jok_t, if_true, nI_cl]
    rw [eR (16 + 8) g4 (by decide) (by decide), s1, wp_jpb]
    refine (sp0_writes (B := imF c v) (by omega) g3 ?_ g4).mono ?_
    · rw [ib _ (by omega), im_p]; exact a8_rg x0 (by omega)
    rintro ⟨_, d4, j4, r4⟩ ⟨o4, f4, q4, q4'⟩
    dsimp only at o4 f4 q4 q4' ⊢
    subst q4 q4'
    rw [eR (16 + 10) f4 (by decide) (by decide), s2, wp_jpb]
    refine (sp0_writes (B := imF c v) (by omega) o4 ?_ f4).mono ?_
    · rw [ib _ (by omega), show 2 + 2 * coS c + 4 * coB c + 2 * l + 1 = 2 + 2 * coS c + 4 * coB c + (1 + 2 * l) by omega, im_p, show 25 + (1 + 2 * l) = 26 + 2 * l by omega]; exact a8_rg z0 (by omega)
    rintro ⟨_, d6, j6, r6⟩ ⟨o6, f6, q6, q6'⟩
    dsimp only at o6 f6 q6 q6' ⊢
    subst q6 q6'
    rw [nI_add]
    exact ih (r - 1) _ _ (by omega) ⟨l + 1, by omega, rfl, o6, f6⟩
  have hl' : l = coP c := by omega
  subst hl'
  have hC := h.2.1
  have hk := hC.1 (1546, 101, 53) (by decide)
  rw [if_pos (nI_le hl (by omega)), g3.1, ← hM, wp_jpb, sp0_check (B := imB c v) hn (by omega) hk.1 hk.2.2 (by rw [hk.2.1]; show _ ≤ 53; omega) (fun k hk => by rw [g3.2 k (by omega), ib k hk]), wp_some]
  dsimp only
  obtain ⟨x, x1, x2⟩ := chk_rg (fun k hk => im_rg hc hv hk)
  rw [wp_jpb]
  refine (sp0_writes (B := imF c v) (by omega) g3 ?_ g4).mono ?_
  · rw [← hM]; unfold imF; rw [if_pos rfl, x2, a8_N (by omega)]
  rintro ⟨_, d6, j6, r6⟩ ⟨o6, f6, q6, q6'⟩
  dsimp only at o6 f6 q6 q6' ⊢
  rw [wp_some]
  exact ⟨o6.1, o6, f6, q6, q6'⟩
end
