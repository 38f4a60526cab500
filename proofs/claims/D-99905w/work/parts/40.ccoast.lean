/-! THE COMPONENT'S COAST: lists, and trees that tell sums and tests -/
set_option maxRecDepth 100000
abbrev jRg (i : Nat) : Prop := (1 ≤ i ∧ i < 8) ∨ 1624 ≤ i
/-- a list of m things lies at l -/
def jLs (K : jK) (ci : jI) (cr : jR) (l m : Nat) (f : Nat → Nat) : Prop := K.1 l = 20 ∧ l < K.2.2 ∧ jRg l ∧ ci l 2 = nI m ∧ m < 65536 ∧ ∃ a, cr l 1 = some a ∧ K.1 a = 104 ∧ a < K.2.2 ∧ jRg a ∧ m ≤ K.2.1 a ∧ ∀ j, j < m → cr a j = some (f j)
theorem eJ_size {n l m : Nat} {K : jK} {ci : jI} {cj : jJ} {cr : jR} {f : Nat → Nat} (h : jLs K ci cr l m f) : fJ2_size n l K ci cj cr = some (nI m, ci, cj, cr) := by
  unfold fJ2_size
  rw [if_pos ⟨h.1, h.2.1⟩, h.2.2.2.1]
theorem eJ_get {n l m j : Nat} {K : jK} {ci : jI} {cj : jJ} {cr : jR} {f : Nat → Nat} (h : jLs K ci cr l m f) (hj : j < m) : fJ2_get n l (nI j) K ci cj cr = some (f j, ci, cj, cr) := by
  obtain ⟨h1, h2, h3, h4, h5, a, h6, h7, h8, h9, h10, h11⟩ := h
  unfold fJ2_get fJ11_checkIndex fJ8_checkIndex fJ2_elementData
  rw [if_pos ⟨h1, h2⟩, h4, if_neg (nI_pos (by omega)), if_pos (nI_lt hj (by omega))]
  simp only [jpb, Option.bind_some]
  rw [if_pos ⟨h1, h2⟩, h6, Option.bind_some, if_pos ⟨h7, Or.inl h8⟩, if_pos (by rw [jok_t (by omega) (by omega)]; trivial), nI_cl (by omega), h11 j hj]
  rfl
/-- the same from lo to hi -/
def Ag (lo hi : Nat) (K : jK) (ci : jI) (cj : jJ) (cr : jR) (K' : jK) (ci' : jI) (cj' : jJ) (cr' : jR) : Prop := hi ≤ K'.2.2 ∧ ∀ i, lo ≤ i → i < hi → K'.1 i = K.1 i ∧ K'.2.1 i = K.2.1 i ∧ ci' i = ci i ∧ cj' i = cj i ∧ cr' i = cr i
theorem Ag.tr {lo hi lo' hi' : Nat} {K K1 K2 : jK} {ci ci1 ci2 : jI} {cj cj1 cj2 : jJ} {cr cr1 cr2 : jR} (h : Ag lo hi K ci cj cr K1 ci1 cj1 cr1) (h' : Ag lo' hi' K1 ci1 cj1 cr1 K2 ci2 cj2 cr2) (hl : lo' ≤ lo) (hh : hi ≤ hi') : Ag lo hi K ci cj cr K2 ci2 cj2 cr2 := by
  refine ⟨Nat.le_trans hh h'.1, fun i h1 h2 => ?_⟩
  obtain ⟨a1, a2, a3, a4, a5⟩ := h.2 i h1 h2
  obtain ⟨b1, b2, b3, b4, b5⟩ := h'.2 i (by omega) (by omega)
  exact ⟨b1.trans a1, b2.trans a2, b3.trans a3, b4.trans a4, b5.trans a5⟩
theorem Ag.sub {lo hi lo' hi' : Nat} {K K1 : jK} {ci ci1 : jI} {cj cj1 : jJ} {cr cr1 : jR} (h : Ag lo hi K ci cj cr K1 ci1 cj1 cr1) (hl : lo ≤ lo') (hh : hi' ≤ hi) : Ag lo' hi' K ci cj cr K1 ci1 cj1 cr1 :=
  ⟨Nat.le_trans hh h.1, fun i h1 h2 => h.2 i (by omega) (by omega)⟩
/-- where the moment has the part number k -/
def aOf (k : Nat) : Nat := if k = 0 then 1 else if k = 1 then 4 else if k = 2 then 0 else if k = 3 then 5 else if k = 4 then 2 else if k = 5 then 3 else if k = 6 then 7 else if k = 7 then 6 else k
/-- what a moment (a: that of questions) tells -/
def enM (n : Nat) (a : Bool) (en : jEn) (K : jK) (ci : jI) (cj : jJ) (cr : jR) : Prop := (∀ k, k < 11 → en k 0 = cj (if a = true then 14 else 12) (aOf k)) ∧
  (a = true → ∀ (w : Nat) (x : Int64) (cj1 : jJ) (m : Nat), w < 2 → 30 ≤ m → (∀ i, i ≠ 12 → cj1 i = cj i) → ∃ cj2, fX0_looked n (fev n m).2 (nI w) x K ci cj1 cr = some (en (11 + w) x, ci, cj2, cr) ∧ ∀ i, i ≠ 12 → cj2 i = cj i)
/-- the tree at r tells e -/
def dV (n d : Nat) (a : Bool) (lo hi : Nat) (K : jK) (ci : jI) (cj : jJ) (cr : jR) (r : Nat) (e : jEE) : Prop := 1624 ≤ lo ∧ lo ≤ r ∧ r < hi ∧ (K.1 r = 10 ∨ K.1 r = 11 ∨ K.1 r = 12 ∨ K.1 r = 13 ∨ K.1 r = 14) ∧ ∀ m, d ≤ m → ∀ (K' : jK) (ci' : jI) (cj' : jJ) (cr' : jR) (en : jEn), Ag lo hi K ci cj cr K' ci' cj' cr' → jCW K' cr' → enM n a en K' ci' cj' cr' →
  ∃ cj2, (fev n m).1 r (if a = true then 13 else 11) K' ci' cj' cr' = some (e en, ci', cj2, cr') ∧ (∀ i, i ≠ 12 → cj2 i = cj' i) ∧ (a = false → cj2 = cj')
/-- the tree at r tells the test t -/
def dT (n d : Nat) (a : Bool) (lo hi : Nat) (K : jK) (ci : jI) (cj : jJ) (cr : jR) (r : Nat) (t : jTT) : Prop := 1624 ≤ lo ∧ lo ≤ r ∧ r < hi ∧ (K.1 r = 15 ∨ K.1 r = 16 ∨ K.1 r = 17 ∨ K.1 r = 18) ∧ ∀ m, d ≤ m → ∀ (K' : jK) (ci' : jI) (cj' : jJ) (cr' : jR) (en : jEn), Ag lo hi K ci cj cr K' ci' cj' cr' → jCW K' cr' → enM n a en K' ci' cj' cr' →
  ∃ cj2, (fev n m).2 r (if a = true then 13 else 11) K' ci' cj' cr' = some (if t en = true then nI 1 else nI 0, ci', cj2, cr') ∧ (∀ i, i ≠ 12 → cj2 i = cj' i) ∧ (a = false → cj2 = cj')
theorem dV.ag {n d : Nat} {a : Bool} {lo hi lo' hi' : Nat} {K K1 : jK} {ci ci1 : jI} {cj cj1 : jJ} {cr cr1 : jR} {r : Nat} {e : jEE} (h : dV n d a lo hi K ci cj cr r e) (g : Ag lo hi K ci cj cr K1 ci1 cj1 cr1) (h1 : 1624 ≤ lo') (hl : lo' ≤ lo) (hh : hi ≤ hi') : dV n d a lo' hi' K1 ci1 cj1 cr1 r e := by
  obtain ⟨a1, a2, a3, a4, a5⟩ := h
  refine ⟨h1, by omega, by omega, by rw [(g.2 r a2 a3).1]; exact a4, fun m hm K' ci' cj' cr' en hA => ?_⟩
  exact a5 m hm K' ci' cj' cr' en (g.tr hA hl hh)
theorem dT.ag {n d : Nat} {a : Bool} {lo hi lo' hi' : Nat} {K K1 : jK} {ci ci1 : jI} {cj cj1 : jJ} {cr cr1 : jR} {r : Nat} {e : jTT} (h : dT n d a lo hi K ci cj cr r e) (g : Ag lo hi K ci cj cr K1 ci1 cj1 cr1) (h1 : 1624 ≤ lo') (hl : lo' ≤ lo) (hh : hi ≤ hi') : dT n d a lo' hi' K1 ci1 cj1 cr1 r e := by
  obtain ⟨a1, a2, a3, a4, a5⟩ := h
  refine ⟨h1, by omega, by omega, by rw [(g.2 r a2 a3).1]; exact a4, fun m hm K' ci' cj' cr' en hA => ?_⟩
  exact a5 m hm K' ci' cj' cr' en (g.tr hA hl hh)
/-- e asks for no other parts -/
def dep (al : Nat → Bool) (e : jEE) : Prop := ∀ en en' : jEn, (∀ k, al k = true → en k 0 = en' k 0) → e en = e en'
def depT (al : Nat → Bool) (e : jTT) : Prop := ∀ en en' : jEn, (∀ k, al k = true → en k 0 = en' k 0) → e en = e en'
def xV (n : Nat) (K : jK) (ci : jI) (cj : jJ) (cr : jR) (r0 k : Nat) (al : Nat → Bool) (o : Option jEE) : Prop := match o with
  | none => cr r0 k = none
  | some e => ∃ r, cr r0 k = some r ∧ dV n 30 false 1624 K.2.2 K ci cj cr r e ∧ dep al e
def xT (n : Nat) (K : jK) (ci : jI) (cj : jJ) (cr : jR) (r0 k : Nat) (al : Nat → Bool) (o : Option jTT) : Prop := match o with
  | none => cr r0 k = none
  | some e => ∃ r, cr r0 k = some r ∧ dT n 30 false 1624 K.2.2 K ci cj cr r e ∧ depT al e
/-- the coast that stands in the component: at r0, its lists, its things -/
def CC (n : Nat) (c : jCo) (K : jK) (ci : jI) (cj : jJ) (cr : jR) : Prop := ∃ (r0 lb lp ls : Nat) (fb fp fs : Nat → Nat), cr 0 0 = some r0 ∧ K.1 r0 = 1 ∧ r0 < K.2.2 ∧ jRg r0 ∧ ci r0 1 = nI (coW c) ∧
  cr r0 2 = some lb ∧ jLs K ci cr lb (coB c) fb ∧ cr r0 3 = some lp ∧ jLs K ci cr lp (coP c) fp ∧ cr r0 4 = some ls ∧ jLs K ci cr ls (coS c) fs ∧
  (∀ b, b < coB c → K.1 (fb b) = 7 ∧ fb b < K.2.2 ∧ jRg (fb b) ∧ ci (fb b) 1 = coM c b) ∧ (∀ p, p < coP c → K.1 (fp p) = 8 ∧ fp p < K.2.2 ∧ jRg (fp p) ∧ ci (fp p) 1 = nI (coN c p)) ∧ (∀ s, s < coS c → K.1 (fs s) = 9 ∧ fs s < K.2.2 ∧ jRg (fs s) ∧ ci (fs s) 2 = coZ c s) ∧
  xV n K ci cj cr r0 5 alL (coL c) ∧ xV n K ci cj cr r0 6 alE (coE c) ∧ xV n K ci cj cr r0 7 alT (coT c) ∧ xT n K ci cj cr r0 8 alC (coC c)
/-- what is written leaves the coast alone -/
theorem CC.fr {n : Nat} {c : jCo} {K K' : jK} {ci ci' : jI} {cj cj' : jJ} {cr cr' : jR} (h : CC n c K ci cj cr) (h0 : cr' 0 0 = cr 0 0) (hK : K.2.2 ≤ K'.2.2) (g : ∀ i, jRg i → i < K.2.2 → K'.1 i = K.1 i ∧ K'.2.1 i = K.2.1 i ∧ ci' i = ci i ∧ cj' i = cj i ∧ cr' i = cr i) : CC n c K' ci' cj' cr' := by
  obtain ⟨r0, lb, lp, ls, fb, fp, fs, h1, h2, h3, h4, h5, h6, h7, h8, h9, h10, h11, h12, h13, h14, h15, h16, h17, h18⟩ := h
  have hL : ∀ {l m : Nat} {f : Nat → Nat}, jLs K ci cr l m f → jLs K' ci' cr' l m f := by
    intro l m f ⟨a1, a2, a3, a4, a5, a, a6, a7, a8, a9, a10, a11⟩
    obtain ⟨b1, b2, b3, b4, b5⟩ := g l a3 a2
    obtain ⟨d1, d2, d3, d4, d5⟩ := g a a9 a8
    exact ⟨b1.trans a1, by omega, a3, by rw [b3]; exact a4, a5, a, by rw [b5]; exact a6, d1.trans a7, by omega, a9, by rw [d2]; exact a10, fun j hj => by rw [d5]; exact a11 j hj⟩
  have hA : Ag 1624 K.2.2 K ci cj cr K' ci' cj' cr' := ⟨hK, fun i i1 i2 => g i (Or.inr i1) i2⟩
  obtain ⟨b1, b2, b3, b4, b5⟩ := g r0 h4 h3
  have hV : ∀ {k : Nat} {al : Nat → Bool} {o : Option jEE}, xV n K ci cj cr r0 k al o → xV n K' ci' cj' cr' r0 k al o := by
    intro k al o h
    unfold xV at h ⊢
    rw [b5]
    cases o with
    | none => exact h
    | some e =>
      obtain ⟨r, i1, i2, i3⟩ := h
      exact ⟨r, i1, i2.ag hA (Nat.le_refl _) (Nat.le_refl _) hK, i3⟩
  have hT : ∀ {k : Nat} {al : Nat → Bool} {o : Option jTT}, xT n K ci cj cr r0 k al o → xT n K' ci' cj' cr' r0 k al o := by
    intro k al o h
    unfold xT at h ⊢
    rw [b5]
    cases o with
    | none => exact h
    | some e =>
      obtain ⟨r, i1, i2, i3⟩ := h
      exact ⟨r, i1, i2.ag hA (Nat.le_refl _) (Nat.le_refl _) hK, i3⟩
  refine ⟨r0, lb, lp, ls, fb, fp, fs, h0.trans h1, b1.trans h2, by omega, h4, by rw [b3]; exact h5, by rw [b5]; exact h6, hL h7, by rw [b5]; exact h8, hL h9, by rw [b5]; exact h10, hL h11, fun b hb => ?_, fun p hp => ?_, fun s hs => ?_, hV h15, hV h16, hV h17, hT h18⟩
  · obtain ⟨i1, i2, i3, i4⟩ := h12 b hb
    obtain ⟨j1, j2, j3, j4, j5⟩ := g _ i3 i2
    exact ⟨j1.trans i1, by omega, i3, by rw [j3]; exact i4⟩
  · obtain ⟨i1, i2, i3, i4⟩ := h13 p hp
    obtain ⟨j1, j2, j3, j4, j5⟩ := g _ i3 i2
    exact ⟨j1.trans i1, by omega, i3, by rw [j3]; exact i4⟩
  · obtain ⟨i1, i2, i3, i4⟩ := h14 s hs
    obtain ⟨j1, j2, j3, j4, j5⟩ := g _ i3 i2
    exact ⟨j1.trans i1, by omega, i3, by rw [j3]; exact i4⟩
section
variable {n : Nat} {c : jCo} {K : jK} {ci : jI} {cj : jJ} {cr : jR}
theorem e0_bays (h : CC n c K ci cj cr) : fX0_bays n K ci cj cr = some (nI (coB c), ci, cj, cr) := by
  obtain ⟨r0, lb, lp, ls, fb, fp, fs, h1, h2, h3, h4, h5, h6, h7, h8, h9, h10, h11, h12, h13, h14, h15, h16, h17, h18⟩ := h
  unfold fX0_bays
  rw [h1, Option.bind_some, if_pos ⟨h2, h3⟩, h6, Option.bind_some, if_pos ⟨h7.1, h7.2.1⟩, eJ_size h7]
  rfl
theorem e0_pairs (h : CC n c K ci cj cr) : fX0_pairs n K ci cj cr = some (nI (coP c), ci, cj, cr) := by
  obtain ⟨r0, lb, lp, ls, fb, fp, fs, h1, h2, h3, h4, h5, h6, h7, h8, h9, h10, h11, h12, h13, h14, h15, h16, h17, h18⟩ := h
  unfold fX0_pairs
  rw [h1, Option.bind_some, if_pos ⟨h2, h3⟩, h8, Option.bind_some, if_pos ⟨h9.1, h9.2.1⟩, eJ_size h9]
  rfl
theorem e0_shoals (h : CC n c K ci cj cr) : fX0_shoals n K ci cj cr = some (nI (coS c), ci, cj, cr) := by
  obtain ⟨r0, lb, lp, ls, fb, fp, fs, h1, h2, h3, h4, h5, h6, h7, h8, h9, h10, h11, h12, h13, h14, h15, h16, h17, h18⟩ := h
  unfold fX0_shoals
  rw [h1, Option.bind_some, if_pos ⟨h2, h3⟩, h10, Option.bind_some, if_pos ⟨h11.1, h11.2.1⟩, eJ_size h11]
  rfl
theorem e0_bayOf (h : CC n c K ci cj cr) {b : Nat} (hb : b < coB c) : ∃ r, fX0_bayOf n (nI b) K ci cj cr = some (r, ci, cj, cr) ∧ K.1 r = 7 ∧ r < K.2.2 ∧ jRg r ∧ ci r 1 = coM c b := by
  obtain ⟨r0, lb, lp, ls, fb, fp, fs, h1, h2, h3, h4, h5, h6, h7, h8, h9, h10, h11, h12, h13, h14, h15, h16, h17, h18⟩ := h
  obtain ⟨i1, i2, i3, i4⟩ := h12 b hb
  refine ⟨fb b, ?_, i1, i2, i3, i4⟩
  unfold fX0_bayOf
  rw [h1, Option.bind_some, if_pos ⟨h2, h3⟩, h6, Option.bind_some, if_pos ⟨h7.1, h7.2.1⟩, eJ_get h7 hb]
  show (if _ then _ else _) = _
  rw [if_pos ⟨i1, i2⟩]
theorem e0_pairOf (h : CC n c K ci cj cr) {b : Nat} (hb : b < coP c) : ∃ r, fX0_pairOf n (nI b) K ci cj cr = some (r, ci, cj, cr) ∧ K.1 r = 8 ∧ r < K.2.2 ∧ jRg r ∧ ci r 1 = nI (coN c b) := by
  obtain ⟨r0, lb, lp, ls, fb, fp, fs, h1, h2, h3, h4, h5, h6, h7, h8, h9, h10, h11, h12, h13, h14, h15, h16, h17, h18⟩ := h
  obtain ⟨i1, i2, i3, i4⟩ := h13 b hb
  refine ⟨fp b, ?_, i1, i2, i3, i4⟩
  unfold fX0_pairOf
  rw [h1, Option.bind_some, if_pos ⟨h2, h3⟩, h8, Option.bind_some, if_pos ⟨h9.1, h9.2.1⟩, eJ_get h9 hb]
  show (if _ then _ else _) = _
  rw [if_pos ⟨i1, i2⟩]
theorem e0_shoalOf (h : CC n c K ci cj cr) {b : Nat} (hb : b < coS c) : ∃ r, fX0_shoalOf n (nI b) K ci cj cr = some (r, ci, cj, cr) ∧ K.1 r = 9 ∧ r < K.2.2 ∧ jRg r ∧ ci r 2 = coZ c b := by
  obtain ⟨r0, lb, lp, ls, fb, fp, fs, h1, h2, h3, h4, h5, h6, h7, h8, h9, h10, h11, h12, h13, h14, h15, h16, h17, h18⟩ := h
  obtain ⟨i1, i2, i3, i4⟩ := h14 b hb
  refine ⟨fs b, ?_, i1, i2, i3, i4⟩
  unfold fX0_shoalOf
  rw [h1, Option.bind_some, if_pos ⟨h2, h3⟩, h10, Option.bind_some, if_pos ⟨h11.1, h11.2.1⟩, eJ_get h11 hb]
  show (if _ then _ else _) = _
  rw [if_pos ⟨i1, i2⟩]
end
theorem e0_within {n : Nat} {x : Int64} {m : Nat} {K : jK} {ci : jI} {cj : jJ} {cr : jR} (hm : m < 100) : fX0_within n x (nI m) K ci cj cr = some (cut x m, ci, cj, cr) := by
  unfold fX0_within fJ12_min_2 fJ12_max_2 fJ12_min_2_11 fJ12_max_2_11 jpb cut
  rw [nI_L (by omega)]
  by_cases h1 : x < lN m
  · rw [if_pos h1]
    simp only [Option.bind_some]
    by_cases h2 : lN 0 < x
    · rw [if_pos h2]
      simp only [Option.bind_some]
      rw [if_neg (show ¬ x < 0 from fun h => by
        have a := Int64.lt_iff_toInt_lt.mp h
        have b := Int64.lt_iff_toInt_lt.mp h2
        have e : (lN 0).toInt = (0 : Int64).toInt := rfl
        omega), if_neg (fun h => by
        have a := Int64.lt_iff_toInt_lt.mp h
        have b := Int64.lt_iff_toInt_lt.mp h1
        omega)]
    · rw [if_neg h2]
      simp only [Option.bind_some]
      by_cases h3 : x < 0
      · rw [if_pos h3]; rfl
      · have e : x = 0 := Int64.toInt_inj.mp (by
          have a : ¬ (lN 0).toInt < x.toInt := fun z => h2 (Int64.lt_iff_toInt_lt.mpr z)
          have b : ¬ x.toInt < (0 : Int64).toInt := fun z => h3 (Int64.lt_iff_toInt_lt.mpr z)
          have e : (lN 0).toInt = (0 : Int64).toInt := rfl
          omega)
        rw [if_neg h3, if_neg (fun h => by
          have a := Int64.lt_iff_toInt_lt.mp h
          have b := Int64.lt_iff_toInt_lt.mp h1
          omega), e]; rfl
  · rw [if_neg h1]
    simp only [Option.bind_some]
    have hx : ¬ x < 0 := fun h => by
      have a := Int64.lt_iff_toInt_lt.mp h
      have b : ¬ x.toInt < (lN m).toInt := fun z => h1 (Int64.lt_iff_toInt_lt.mpr z)
      rw [lN_toInt (by omega)] at b
      have e : (0 : Int64).toInt = 0 := by decide
      omega
    rw [if_neg hx]
    have em : (lN m).toInt32 = nI m := lN_i m
    have h9 : (if lN 0 < lN m then (some (lN m, ci, cj, cr) : Option (jTp Int64)) else some (lN 0, ci, cj, cr)) = some (lN m, ci, cj, cr) := by
      by_cases h3 : lN 0 < lN m
      · rw [if_pos h3]
      · rw [if_neg h3]
        have : m = 0 := by rw [lN_ltN (by omega) (by omega)] at h3; omega
        subst this; rfl
    rw [h9]
    simp only [Option.bind_some]
    rw [em]
    by_cases h2 : lN m < x
    · rw [if_pos h2]
    · rw [if_neg h2]
      have e : x = lN m := Int64.toInt_inj.mp (by
        have a : ¬ x.toInt < (lN m).toInt := fun z => h1 (Int64.lt_iff_toInt_lt.mpr z)
        have b : ¬ (lN m).toInt < x.toInt := fun z => h2 (Int64.lt_iff_toInt_lt.mpr z)
        omega)
      rw [e, em]
