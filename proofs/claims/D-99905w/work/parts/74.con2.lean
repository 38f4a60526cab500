/-! ON IN THE COMPONENT, WHOLE -/
set_option maxRecDepth 100000
section
variable {n : Nat} {c : jCo} {K : jK} {ci d : jI} {cj : jJ} {cr : jR} {T : Nat} {b : Nat → Int32} {v : jV8}
def fA (P : Nat → Prop) [DecidablePred P] : Nat → Bool
  | 0 => true
  | k + 1 => fA P k && decide (P k)
theorem fB_or {x : Int32} {P : Prop} (h : x = fB true ∧ P ∨ x = fB false ∧ ¬ P) (f : Bool) : ∃ g, f = true ∧ P ∧ g = true ∧ fB f &&& x = fB g ∨ ¬ (f = true ∧ P) ∧ g = false ∧ fB f &&& x = fB g := by
  rcases h with ⟨h1, h2⟩ | ⟨h1, h2⟩
  · cases f
    · exact ⟨false, Or.inr ⟨fun z => Bool.noConfusion z.1, rfl, by rw [h1, fB_and]; rfl⟩⟩
    · exact ⟨true, Or.inl ⟨rfl, h2, rfl, by rw [h1, fB_and]; rfl⟩⟩
  · exact ⟨false, Or.inr ⟨fun z => h2 z.2, rfl, by rw [h1, fB_and, Bool.and_false]⟩⟩
theorem sp0_comesOn (hn : 4000 ≤ n) (h : CI n c K ci cj cr v) (ht : ∀ k, k < T → ci 8 k &&& nI 255 = b k) (hb : BT T b) : Wp (fX0_comesOn n (nI T) K ci cj cr) (fun q => q.2.2.1 = cj ∧ q.2.2.2 = cr ∧ (∀ i, i < 68 ∨ 120 ≤ i → q.2.1 i = ci i) ∧ (okOn c T b → q.1 = nI 1 ∧ StR c K q.2.1 cr 68 (onV c v b)) ∧ (¬ okOn c T b → q.1 = nI 0)) := by
  have hc := h.1
  have hB := hc.1
  have hP := hc.2.1
  have hS := hc.2.2.1
  have hcc := h.2.2.1
  have i52 := im_le c hc
  have hT := hb.1
  have hM : imM c = 2 + 2 * coS c + 4 * coB c + 2 * coP c := rfl
  unfold fX0_comesOn fX0_comesOn_76
  rw [wp_jpb, e0_shoals hcc, wp_some]
  dsimp only
  rw [wp_jpb, e0_bays hcc, wp_some]
  dsimp only
  rw [wp_jpb, e0_byteAt (by omega) rfl, wp_some]
  dsimp only
  rw [wp_jpb, e0_byteAt (by omega) rfl, wp_some]
  dsimp only
  rw [wp_jpb, e0_pairs hcc, wp_some]
  dsimp only
  simp only [nI_mulN, nI_add]
  rw [← hM]
  by_cases h1 : T = imM c + 1
  rotate_left
  · rw [if_neg (show ¬ nI T = nI (imM c + 1) by rw [nI_eqN (by omega) (by omega)]; exact h1), wp_some]
    exact ⟨rfl, rfl, fun _ _ => rfl, fun z => absurd z.1 h1, fun _ => rfl⟩
  subst h1
  have hC := h.2.1
  have hk := hC.1 (8, 101, 1600) (by decide)
  rw [if_pos rfl, nI_subN (by omega), Nat.add_sub_cancel, wp_jpb, e0_byteAt (by omega) (ht _ (by omega)), wp_some]
  dsimp only
  rw [wp_jpb, sp0_check (B := b) hn (by omega) hk.1 hk.2.2 (by rw [hk.2.1]; show _ ≤ 1600; omega) (fun k hk => ht k (by omega)), wp_some, ht 0 (by omega), ht 1 (by omega)]
  dsimp only
  by_cases h2 : b (imM c) = chk b (imM c)
  rotate_left
  · rw [if_neg h2, wp_some]; exact ⟨rfl, rfl, fun _ _ => rfl, fun z => absurd z.2.1 h2, fun _ => rfl⟩
  obtain ⟨x, x1, x2⟩ := hb.2 0 (by omega)
  obtain ⟨y, y1, y2⟩ := hb.2 1 (by omega)
  have ey : (b 0 <<< (nI 8 &&& 31)) ||| b 1 = nI 256 * b 0 + b 1 := by rw [x2, y2, nI_or8 x1 y1, nI_mulN, nI_add]
  rw [if_pos h2, ey]
  by_cases h3 : nI 256 * b 0 + b 1 ≤ nI 999
  rotate_left
  · rw [if_neg h3, wp_some]; exact ⟨rfl, rfl, fun _ _ => rfl, fun z => absurd z.2.2.1 h3, fun _ => rfl⟩
  obtain ⟨-, -, -, ⟨s1, fa, s2, s3⟩, -, f, hR⟩ := h
  rw [if_pos h3, wp_jpb]
  refine (sp_copy hn hc is68 is16 (by decide) hR s2 s3 s1).mono ?_
  rintro ⟨t, d0, j0, r0⟩ ⟨q1, q2, q3, q4, q5, q6⟩
  dsimp only at q1 q2 q3 q4 q5 q6 ⊢
  subst q1 q5 q6
  rw [if_pos ⟨ck68 hC, cl68 hC⟩]
  have hcd : ∀ {d' : jI}, (∀ i, i < 68 ∨ 120 ≤ i → d' i = ci i) → CC n c K d' j0 r0 := fun hd => hcc.fr rfl (Nat.le_refl _) (fun i i1 _ => ⟨rfl, rfl, hd i (by unfold jRg at i1; omega), rfl, rfl⟩)
  have hbt : ∀ {d' : jI}, (∀ i, i < 68 ∨ 120 ≤ i → d' i = ci i) → ∀ k, k < 53 → k < imM c + 1 → d' 8 k &&& nI 255 = b k := fun hd k _ hk => by rw [hd 8 (by omega)]; exact ht k hk
  /- beyond the image any byte will do -/
  obtain ⟨b', hb', hbt', hb2⟩ : ∃ b' : Nat → Int32, (∀ k, k < imM c + 1 → b' k = b k) ∧ (∀ k, k < 53 → ci 8 k &&& nI 255 = b' k) ∧ ∀ k, k < 53 → ∃ x, x < 256 ∧ b' k = nI x := by
    refine ⟨fun k => ci 8 k &&& nI 255, fun k hk => ht k hk, fun _ _ => rfl, fun k _ => and255 _⟩
  have d0f : ∀ i, i < 68 ∨ 120 ≤ i → ju (ju d0 68 0 (nI 256 * b 0 + b 1)) 68 1 (nI 0) i = ci i := fun i hi => by rw [ju_row _ _ (by omega), ju_row _ _ (by omega)]; exact q4.1 i (by omega)
  obtain ⟨d1, hd1⟩ : ∃ d1, d1 = ju (ju d0 68 0 (nI 256 * b 0 + b 1)) 68 1 (nI 0) := ⟨_, rfl⟩
  rw [← hd1] at d0f ⊢
  have y0 : d1 68 0 = nI 256 * b 0 + b 1 := by rw [hd1, ju_ne2 _ _ (by decide), ju_eq]
  have y1' : d1 68 1 = nI 0 := by rw [hd1, ju_eq]
  clear hd1
  /- the shoals -/
  refine Wp.loop3 (fun k (a x : Int32) (e : jI) => fX0_comesOn_108 n k (nI (2 + 2 * coS c)) (nI (2 + 2 * coS c + 4 * coB c)) a x K e j0 r0) (fun r x => ∃ s, ∃ fl, s + r = coS c ∧ x.1 = fB fl ∧ x.2.1 = nI s ∧ (fl = true ↔ ∀ j, j < s → onSh c b j) ∧ (∀ i, i ≠ 69 → i ≠ 70 → x.2.2 i = d1 i) ∧ ∀ j, j < s → x.2.2 69 j = b (2 + 2 * j) ∧ x.2.2 70 j = if b (3 + 2 * j) = nI 255 then -1 else b (3 + 2 * j)) _ ?_ n (coS c) (nI 1) (nI 0) d1 (by omega) ⟨0, true, by omega, rfl, rfl, ⟨fun _ j hj => absurd hj (Nat.not_lt_zero j), fun _ => rfl⟩, fun _ _ _ => rfl, fun j hj => absurd hj (Nat.not_lt_zero j)⟩
  rintro k r a x e ⟨s, fl, g1, g2, g3, g4, g5, g6⟩ ih
  dsimp only at g2 g3 g4 g5 g6
  subst g2 g3
  have ef : ∀ i, i < 68 ∨ 120 ≤ i → e i = ci i := fun i hi => by rw [g5 i (by omega) (by omega)]; exact d0f i hi
  rw [fX0_comesOn_108.eq_2, wp_jpb, e0_shoals (hcd ef), wp_some]
  dsimp only
  by_cases hs : coS c ≤ s
  rotate_left
  · rw [if_neg (nI_ge (by omega) (by omega)), nI_mulN, nI_add, wp_jpb]
    have b0 : b' (2 + 2 * s) = b (2 + 2 * s) := hb' _ (by omega)
    have b1 : b' (3 + 2 * s) = b (3 + 2 * s) := hb' _ (by omega)
    refine (sp0_shoalOn (b := b') (fun hd => hcd (fun i hi => by rw [hd i hi]; exact ef i hi)) hS (fun k hk => by rw [ef 8 (by omega)]; exact hbt' k hk) (show s < coS c by omega)).mono ?_
    rintro ⟨z, e2, j2, r2⟩ ⟨w1, w2, w3, w4⟩
    dsimp only at w1 w2 w3 w4 ⊢
    subst w2 w3 w4
    have w1' : z = fB true ∧ onSh c b s ∨ z = fB false ∧ ¬ onSh c b s := by
      have : onSh c b' s ↔ onSh c b s := by unfold onSh; rw [b0, b1]
      rw [this] at w1; exact w1
    obtain ⟨g, hg⟩ := fB_or w1' fl
    have eg : fB fl &&& z = fB g := by rcases hg with h | h; exact h.2.2.2; exact h.2.2
    have ig : g = true ↔ (fl = true ∧ onSh c b s) := by
      rcases hg with h | h
      · exact ⟨fun _ => ⟨h.1, h.2.1⟩, fun _ => h.2.2.1⟩
      · exact ⟨fun z => by rw [h.2.1] at z; exact Bool.noConfusion z, fun z => absurd z h.1⟩
    rw [eg, nI_add, b0, b1]
    refine ih (r - 1) _ _ _ (by omega) ⟨s + 1, g, by omega, rfl, rfl, ?_, fun i i1 i2 => by dsimp only; rw [ju_row _ _ i2, ju_row _ _ i1]; exact g5 i i1 i2, fun j hj => ?_⟩
    · rw [ig, g4]
      exact ⟨fun z j hj => by
        by_cases e : j = s
        · rw [e]; exact z.2
        · exact z.1 j (by omega), fun z => ⟨fun j hj => z j (by omega), z s (by omega)⟩⟩
    · dsimp only
      rw [ju_row (x := 69) (a := 70) _ _ (by decide)]
      by_cases e : j = s
      · rw [e, ju_eq, ju_eq]; exact ⟨rfl, rfl⟩
      · repeat rw [ju_ne2 _ _ e]
        exact g6 j (by omega)
  have hs' : s = coS c := by omega
  subst hs'
  rw [if_pos (nI_le hs (by omega))]
  clear ih
  obtain ⟨P, hP'⟩ : ∃ P : Prop, P = ∀ j, j < coS c → onSh c b j := ⟨_, rfl⟩
  rw [← hP'] at g4
  /- the bays -/
  refine Wp.loop3 (fun k (a x : Int32) (e : jI) => fX0_comesOn_143 n k (nI (2 + 2 * coS c)) (nI (2 + 2 * coS c + 4 * coB c)) a x K e j0 r0) (fun r x => ∃ s, ∃ fl, s + r = coB c ∧ x.1 = fB fl ∧ x.2.1 = nI s ∧ (fl = true ↔ (P ∧ ∀ j, j < s → onBa b (2 + 2 * coS c) j)) ∧ (∀ i, i ≠ 72 → i ≠ 73 → i ≠ 74 → x.2.2 i = e i) ∧ ∀ j, j < s → x.2.2 72 j = b (2 + 2 * coS c + 4 * j) ∧ x.2.2 73 j = nI 256 * b (2 + 2 * coS c + 4 * j + 1) + b (2 + 2 * coS c + 4 * j + 2) ∧ x.2.2 74 j = b (2 + 2 * coS c + 4 * j + 3)) _ ?_ n (coB c) (fB fl) (nI 0) e (by omega) ⟨0, fl, by omega, rfl, rfl, ⟨fun z => ⟨g4.mp z, fun j hj => absurd hj (Nat.not_lt_zero j)⟩, fun z => g4.mpr z.1⟩, fun _ _ _ _ => rfl, fun j hj => absurd hj (Nat.not_lt_zero j)⟩
  rintro k r a x e2 ⟨s, fl2, u1, u2, u3, u4, u5, u6⟩ ih
  dsimp only at u2 u3 u4 u5 u6
  subst u2 u3
  have ef2 : ∀ i, i < 68 ∨ 120 ≤ i → e2 i = ci i := fun i hi => by rw [u5 i (by omega) (by omega) (by omega)]; exact ef i hi
  rw [fX0_comesOn_143.eq_2, wp_jpb, e0_bays (hcd ef2), wp_some]
  dsimp only
  by_cases hs2 : coB c ≤ s
  rotate_left
  · rw [if_neg (nI_ge (by omega) (by omega)), nI_mulN, nI_add, wp_jpb]
    have b0 : b' (2 + 2 * coS c + 4 * s) = b (2 + 2 * coS c + 4 * s) := hb' _ (by omega)
    have b1 : b' (2 + 2 * coS c + 4 * s + 1) = b (2 + 2 * coS c + 4 * s + 1) := hb' _ (by omega)
    have b2 : b' (2 + 2 * coS c + 4 * s + 2) = b (2 + 2 * coS c + 4 * s + 2) := hb' _ (by omega)
    have b3 : b' (2 + 2 * coS c + 4 * s + 3) = b (2 + 2 * coS c + 4 * s + 3) := hb' _ (by omega)
    refine (sp0_bayOn (b := b') hb2 (fun k hk => by rw [ef2 8 (by omega)]; exact hbt' k hk) (show s < 6 by omega) (by omega)).mono ?_
    rintro ⟨z, e3, j2, r2⟩ ⟨w1, w2, w3, w4⟩
    dsimp only at w1 w2 w3 w4 ⊢
    subst w2 w3 w4
    have w1' : z = fB true ∧ onBa b (2 + 2 * coS c) s ∨ z = fB false ∧ ¬ onBa b (2 + 2 * coS c) s := by
      have : onBa b' (2 + 2 * coS c) s ↔ onBa b (2 + 2 * coS c) s := by unfold onBa; rw [b0, b1, b2, b3]
      rw [this] at w1; exact w1
    obtain ⟨g, hg⟩ := fB_or w1' fl2
    have eg : fB fl2 &&& z = fB g := by rcases hg with h | h; exact h.2.2.2; exact h.2.2
    have ig : g = true ↔ (fl2 = true ∧ onBa b (2 + 2 * coS c) s) := by
      rcases hg with h | h
      · exact ⟨fun _ => ⟨h.1, h.2.1⟩, fun _ => h.2.2.1⟩
      · exact ⟨fun z => by rw [h.2.1] at z; exact Bool.noConfusion z, fun z => absurd z h.1⟩
    rw [eg, nI_add, b0, b1, b2, b3]
    refine ih (r - 1) _ _ _ (by omega) ⟨s + 1, g, by omega, rfl, rfl, ?_, fun i i1 i2 i3 => by dsimp only; rw [ju_row _ _ i3, ju_row _ _ i2, ju_row _ _ i1]; exact u5 i i1 i2 i3, fun j hj => ?_⟩
    · rw [ig, u4]
      exact ⟨fun z => ⟨z.1.1, fun j hj => by
        by_cases e : j = s
        · rw [e]; exact z.2
        · exact z.1.2 j (by omega)⟩, fun z => ⟨⟨z.1, fun j hj => z.2 j (by omega)⟩, z.2 s (by omega)⟩⟩
    · dsimp only
      rw [ju_row (x := 72) (a := 74) _ _ (by decide), ju_row (x := 72) (a := 73) _ _ (by decide), ju_row (x := 73) (a := 74) _ _ (by decide)]
      by_cases e : j = s
      · rw [e, ju_eq, ju_eq, ju_eq]; exact ⟨rfl, rfl, rfl⟩
      · repeat rw [ju_ne2 _ _ e]
        exact u6 j (by omega)
  have hs2' : s = coB c := by omega
  subst hs2'
  rw [if_pos (nI_le hs2 (by omega))]
  clear ih
  obtain ⟨P2, hP2⟩ : ∃ P2 : Prop, P2 = (P ∧ ∀ j, j < coB c → onBa b (2 + 2 * coS c) j) := ⟨_, rfl⟩
  rw [← hP2] at u4
  /- the pairs -/
  refine Wp.loop3 (fun k (a x : Int32) (e : jI) => fX0_comesOn_178 n k (nI (2 + 2 * coS c + 4 * coB c)) a x K e j0 r0) (fun r x => ∃ s, ∃ fl, s + r = coP c ∧ x.1 = fB fl ∧ x.2.1 = nI s ∧ (fl = true ↔ (P2 ∧ ∀ j, j < s → onPa b (2 + 2 * coS c + 4 * coB c) j)) ∧ (∀ i, i ≠ 76 → i ≠ 78 → x.2.2 i = e2 i) ∧ ∀ j, j < s → x.2.2 76 j = b (2 + 2 * coS c + 4 * coB c + 2 * j) ∧ x.2.2 78 j = b (2 + 2 * coS c + 4 * coB c + 2 * j + 1)) _ ?_ n (coP c) (fB fl2) (nI 0) e2 (by omega) ⟨0, fl2, by omega, rfl, rfl, ⟨fun z => ⟨u4.mp z, fun j hj => absurd hj (Nat.not_lt_zero j)⟩, fun z => u4.mpr z.1⟩, fun _ _ _ => rfl, fun j hj => absurd hj (Nat.not_lt_zero j)⟩
  rintro k r a x e3 ⟨s, fl3, v1, v2, v3, v4, v5, v6⟩ ih
  dsimp only at v2 v3 v4 v5 v6
  subst v2 v3
  have ef3 : ∀ i, i < 68 ∨ 120 ≤ i → e3 i = ci i := fun i hi => by rw [v5 i (by omega) (by omega)]; exact ef2 i hi
  rw [fX0_comesOn_178.eq_2, wp_jpb, e0_pairs (hcd ef3), wp_some]
  dsimp only
  by_cases hs3 : coP c ≤ s
  rotate_left
  · rw [if_neg (nI_ge (by omega) (by omega)), nI_mulN, nI_add, wp_jpb]
    have b0 : b' (2 + 2 * coS c + 4 * coB c + 2 * s) = b (2 + 2 * coS c + 4 * coB c + 2 * s) := hb' _ (by omega)
    have b1 : b' (2 + 2 * coS c + 4 * coB c + 2 * s + 1) = b (2 + 2 * coS c + 4 * coB c + 2 * s + 1) := hb' _ (by omega)
    refine (sp0_pairOn (b := b') (fun k hk => by rw [ef3 8 (by omega)]; exact hbt' k hk) (show s < 10 by omega) (by omega)).mono ?_
    rintro ⟨z, e4, j2, r2⟩ ⟨w1, w2, w3, w4⟩
    dsimp only at w1 w2 w3 w4 ⊢
    subst w2 w3 w4
    have w1' : z = fB true ∧ onPa b (2 + 2 * coS c + 4 * coB c) s ∨ z = fB false ∧ ¬ onPa b (2 + 2 * coS c + 4 * coB c) s := by
      have : onPa b' (2 + 2 * coS c + 4 * coB c) s ↔ onPa b (2 + 2 * coS c + 4 * coB c) s := by unfold onPa; rw [b0, b1]
      rw [this] at w1; exact w1
    obtain ⟨g, hg⟩ := fB_or w1' fl3
    have eg : fB fl3 &&& z = fB g := by rcases hg with h | h; exact h.2.2.2; exact h.2.2
    have ig : g = true ↔ (fl3 = true ∧ onPa b (2 + 2 * coS c + 4 * coB c) s) := by
      rcases hg with h | h
      · exact ⟨fun _ => ⟨h.1, h.2.1⟩, fun _ => h.2.2.1⟩
      · exact ⟨fun z => by rw [h.2.1] at z; exact Bool.noConfusion z, fun z => absurd z h.1⟩
    rw [eg, nI_add, b0, b1]
    refine ih (r - 1) _ _ _ (by omega) ⟨s + 1, g, by omega, rfl, rfl, ?_, fun i i1 i2 => by dsimp only; rw [ju_row _ _ i2, ju_row _ _ i1]; exact v5 i i1 i2, fun j hj => ?_⟩
    · rw [ig, v4]
      exact ⟨fun z => ⟨z.1.1, fun j hj => by
        by_cases e : j = s
        · rw [e]; exact z.2
        · exact z.1.2 j (by omega)⟩, fun z => ⟨⟨z.1, fun j hj => z.2 j (by omega)⟩, z.2 s (by omega)⟩⟩
    · dsimp only
      rw [ju_row (x := 76) (a := 78) _ _ (by decide)]
      by_cases e : j = s
      · rw [e, ju_eq, ju_eq]; exact ⟨rfl, rfl⟩
      · repeat rw [ju_ne2 _ _ e]
        exact v6 j (by omega)
  have hs3' : s = coP c := by omega
  subst hs3'
  rw [if_pos (nI_le hs3 (by omega)), if_pos (fB_bt fl3), wp_some]
  have iok : okOn c (imM c + 1) b ↔ fl3 = true := by
    rw [v4, hP2, hP']
    exact ⟨fun z => ⟨⟨z.2.2.2.1, z.2.2.2.2.1⟩, z.2.2.2.2.2⟩, fun z => ⟨rfl, h2, h3, z.1.1, z.1.2, z.2⟩⟩
  refine ⟨rfl, rfl, ef3, fun z => ⟨by dsimp only; rw [iok.mp z]; rfl, ?_⟩, fun z => ?_⟩
  rotate_left
  · dsimp only
    cases fl3
    · rfl
    · exact absurd (iok.mpr rfl) z
  have er : ∀ i, i ≠ 69 → i ≠ 70 → i ≠ 72 → i ≠ 73 → i ≠ 74 → i ≠ 76 → i ≠ 78 → e3 i = d1 i := fun i i1 i2 i3 i4 i5 i6 i7 => by rw [v5 i i6 i7, u5 i i3 i4 i5, g5 i i1 i2]
  refine ⟨⟨?_, fun j hj => ?_, fun j hj => ?_, fun j hj => ?_⟩, f, hR, 0, by omega, on_45 hc, ?_, fun k i hk => absurd hk (Nat.not_lt_zero k)⟩
  · dsimp only
    rw [er 68 (by decide) (by decide) (by decide) (by decide) (by decide) (by decide) (by decide), y0]; rfl
  · dsimp only
    rw [v5 _ (by decide) (by decide), u5 _ (by decide) (by decide) (by decide), v5 _ (by decide) (by decide), u5 _ (by decide) (by decide) (by decide), on_m hj, on_a hj]
    exact g6 j hj
  · dsimp only
    rw [v5 _ (by decide) (by decide), v5 _ (by decide) (by decide), v5 _ (by decide) (by decide), on_h hc hj, on_t hc hj, on_l hc hj]
    exact u6 j hj
  · dsimp only
    rw [on_p hc (by omega), show 26 + 2 * j = 25 + (2 * j + 1) by omega, on_p hc (by omega)]
    exact v6 j hj
  · dsimp only
    rw [er 68 (by decide) (by decide) (by decide) (by decide) (by decide) (by decide) (by decide), y1']
theorem c_on (hn : 4000 ≤ n) (h : CI n c K ci cj cr v) (h0 : CT ci T b) (hb : BT T b) : Wp (fX0_on n K ci cj cr) (fun q => q.2.2.1 = cj ∧ q.2.2.2 = cr ∧ q.2.1 0 2 = nI 0 ∧
    (¬ okOn c T b → q.1 = nI 0 ∧ (∀ i, i ≠ 0 → i ≠ 15 → i < 68 ∨ 120 ≤ i → q.2.1 i = ci i) ∧ (∀ k, k ≠ 2 → q.2.1 0 k = ci 0 k) ∧ (∀ k, k ≠ 5 → q.2.1 15 k = ci 15 k) ∧ q.2.1 15 5 = ci 15 5 + nI 1) ∧
    (okOn c T b → q.1 = nI 1 ∧ CI n c K q.2.1 cj cr (onV c v b) ∧ (∀ i, i ≠ 0 → i < 16 ∨ 120 ≤ i → q.2.1 i = ci i) ∧ (∀ k, k ≠ 2 → k ≠ 18 → q.2.1 0 k = ci 0 k) ∧ q.2.1 0 18 = nI 0)) := by
  have hc := h.1
  unfold fX0_on fX0_tapeTaken
  rw [wp_jpb, wp_some, h0.1]
  dsimp only
  have h' : CI n c K (ju ci 0 2 (nI 0)) cj cr v := h.fr (fun i hi => ju_row _ _ (by unfold jRg at hi; omega)) (fun _ _ => rfl) (fun _ _ => rfl)
  rw [wp_jpb]
  refine (sp0_comesOn hn h' (fun k hk => by rw [ju_row _ _ (by decide)]; exact h0.2 k hk) hb).mono ?_
  rintro ⟨z, d1, j1, r1⟩ ⟨q1, q2, q3, q4, q5⟩
  dsimp only at q1 q2 q3 q4 q5 ⊢
  subst q1 q2
  by_cases ok : okOn c T b
  rotate_left
  · rw [if_pos (show z = 0 from q5 ok), wp_jpb, e0_refuses (by omega), wp_some]
    unfold fX0_on_24
    dsimp only
    rw [if_pos m1_neg, if_pos bt0, wp_some]
    refine ⟨rfl, rfl, ?_, fun _ => ⟨rfl, fun i i1 i2 i3 => ?_, fun k hk => ?_, fun k hk => ?_, ?_⟩, fun z => absurd z ok⟩
    · dsimp only; rw [ju_row _ _ (by decide), q3 0 (by omega), ju_eq]
    · dsimp only; rw [ju_row _ _ i2, q3 i i3, ju_row _ _ i1]
    · dsimp only; rw [ju_row _ _ (by decide), q3 0 (by omega), ju_ne2 _ _ hk]
    · dsimp only; rw [ju_ne2 _ _ hk, q3 15 (by omega), ju_row _ _ (by decide)]
    · dsimp only; rw [ju_eq, q3 15 (by omega), ju_row _ _ (by decide)]
  obtain ⟨w1, s1, f68, s2, s3⟩ := q4 ok
  rw [if_neg (show ¬ z = 0 by rw [w1]; exact n10), wp_jpb]
  obtain ⟨-, c2, c3, ⟨t1, f, t2, t3⟩, -, c6⟩ := h'
  refine (sp_copy hn hc is16 is68 (by decide) t2 s2 s3 s1).mono ?_
  rintro ⟨t, d2, j2, r2⟩ ⟨p1, p2, p3, p4, p5, p6⟩
  dsimp only at p1 p2 p3 p4 p5 p6 ⊢
  subst p5 p6
  rw [wp_some]
  have e0 : d2 0 = ju ci 0 2 (nI 0) 0 := by rw [p4.1 0 (by omega), q3 0 (by omega)]
  have er : ∀ i, i ≠ 0 → i < 16 ∨ 120 ≤ i → ju d2 0 18 (nI 0) i = ci i := fun i i1 i2 => by rw [ju_row _ _ i1, p4.1 i (by omega), q3 i (by omega), ju_row _ _ i1]
  refine ⟨rfl, rfl, ?_, fun z => absurd ok z, fun _ => ⟨rfl, ⟨hc, c2, ?_, ⟨p2.fr (fun i i1 i2 _ _ _ => ju_row _ _ (by omega)), f, t2, p3.fr t2 (by dsimp only; rw [ju_row _ _ (by decide)]) (fun i i1 i2 => ju_row _ _ (by omega))⟩, VR_on hc hb ok, c6⟩, er, fun k k1 k2 => ?_, ?_⟩⟩
  · dsimp only; rw [ju_ne2 _ _ (by decide), e0, ju_eq]
  · exact h.2.2.1.fr rfl (Nat.le_refl _) (fun i i1 _ => ⟨rfl, rfl, er i (by unfold jRg at i1; omega) (by unfold jRg at i1; omega), rfl, rfl⟩)
  · dsimp only; rw [ju_ne2 _ _ k2, e0, ju_ne2 _ _ k1]
  · dsimp only; rw [ju_eq]
end
