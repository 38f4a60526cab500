/-! THE COMPONENT THINKS AHEAD -/
set_option maxRecDepth 100000
section
variable {n : Nat} {c : jCo} {K : jK} {ci : jI} {cj : jJ} {cr : jR} {t Y : Nat} {v : jV8}
theorem e0_is (a b d : Int32) : fX0_is n a b d K ci cj cr = some (if b ≤ a ∧ a ≤ d then nI 1 else nI 0, ci, cj, cr) := by
  unfold fX0_is fX0_is_14 fX0_is_15
  by_cases h1 : a < b
  · rw [if_pos h1, if_pos bt0, if_neg (fun h => i32_nle.mpr h1 h.1)]
  · rw [if_neg h1]
    by_cases h2 : d < a
    · rw [if_pos h2, if_pos bt0, if_neg (fun h => i32_nle.mpr h2 h.2)]
    · rw [if_neg h2, if_pos bt1, if_pos ⟨i32_nlt.mp h1, i32_nlt.mp h2⟩]
theorem e0_isShoal (h : CC n c K ci cj cr) (a : Int32) : fX0_isShoal n a K ci cj cr = some (if iv a (coS c) then nI 1 else nI 0, ci, cj, cr) := by
  unfold fX0_isShoal fX0_isShoal_16 fX0_isShoal_17
  rw [e0_shoals h]
  by_cases h1 : a < 0
  · rw [if_pos h1, if_pos bt0, if_neg (fun h => i32_nle.mpr h1 h.1)]
  · rw [if_neg h1]
    show (if _ then _ else _) = _
    by_cases h2 : nI (coS c) ≤ a
    · rw [if_pos h2, if_pos bt0, if_neg (fun h => i32_nlt.mpr h2 h.2)]
    · rw [if_neg h2, if_pos bt1, if_pos ⟨i32_nlt.mp h1, i32_nle.mp h2⟩]
theorem e0_isPair (h : CC n c K ci cj cr) (a : Int32) : fX0_isPair n a K ci cj cr = some (if iv a (coP c) then nI 1 else nI 0, ci, cj, cr) := by
  unfold fX0_isPair fX0_isPair_16 fX0_isPair_17
  rw [e0_pairs h]
  by_cases h1 : a < 0
  · rw [if_pos h1, if_pos bt0, if_neg (fun h => i32_nle.mpr h1 h.1)]
  · rw [if_neg h1]
    show (if _ then _ else _) = _
    by_cases h2 : nI (coP c) ≤ a
    · rw [if_pos h2, if_pos bt0, if_neg (fun h => i32_nlt.mpr h2 h.2)]
    · rw [if_neg h2, if_pos bt1, if_pos ⟨i32_nlt.mp h1, i32_nle.mp h2⟩]
theorem e0_isBay (h : CC n c K ci cj cr) (a : Int32) : fX0_isBay n a K ci cj cr = some (if iv a (coB c) then nI 1 else nI 0, ci, cj, cr) := by
  unfold fX0_isBay fX0_isBay_16 fX0_isBay_17
  rw [e0_bays h]
  by_cases h1 : a < 0
  · rw [if_pos h1, if_pos bt0, if_neg (fun h => i32_nle.mpr h1 h.1)]
  · rw [if_neg h1]
    show (if _ then _ else _) = _
    by_cases h2 : nI (coB c) ≤ a
    · rw [if_pos h2, if_pos bt0, if_neg (fun h => i32_nlt.mpr h2 h.2)]
    · rw [if_neg h2, if_pos bt1, if_pos ⟨i32_nlt.mp h1, i32_nle.mp h2⟩]
theorem e0_isAhead (a : Int32) (lo hi : Nat) : fX0_isAhead n a (nI lo) (nI hi) K ci cj cr = some (if iah (ci 16 0) a lo hi then nI 1 else nI 0, ci, cj, cr) := by
  unfold fX0_isAhead fX0_isAhead_28 fX0_isAhead_29
  rw [e0_is]
  show (if _ then _ else if _ then _ else _) = _
  by_cases h1 : nI lo ≤ a ∧ a ≤ nI hi
  · rw [if_pos h1, if_neg n10]
    by_cases h2 : nI 999 < ci 16 0 + a
    · rw [if_pos h2, if_pos bt0, if_neg (fun h => i32_nle.mpr h2 h.2.2)]
    · rw [if_neg h2, if_pos bt1, if_pos ⟨h1.1, h1.2, i32_nlt.mp h2⟩]
  · rw [if_neg h1, if_pos z00, if_pos bt0, if_neg (fun h => h1 ⟨h.1, h.2.1⟩)]
/-- the component thinks: v is what is tried; ci0, cj0, cr0 stood before -/
def TC (c : jCo) (K : jK) (ci0 : jI) (cj0 : jJ) (cr0 : jR) (ci : jI) (cj : jJ) (cr : jR) (v : jV8) : Prop := StR c K ci cr 68 v ∧ FS 68 ci0 cj0 cr0 ci cj cr
/-- what stands where a call begins -/
def CI (n : Nat) (c : jCo) (K : jK) (ci : jI) (cj : jJ) (cr : jR) (v : jV8) : Prop := CR c ∧ jCW K cr ∧ CC n c K ci cj cr ∧ StR c K ci cr 16 v ∧ VR c v 999 ∧ ∃ f, RW K cr 68 f
theorem StR.fs {a : Nat} {ci' : jI} {cj' : jJ} {cr' : jR} (h : StR c K ci cr a v) (ht : isSt t) (ha : isSt a) (hta : t ≠ a) (g : FS t ci cj cr ci' cj' cr') : StR c K ci' cr' a v := by
  have dj := st_dj ht ha hta
  obtain ⟨h1, f, h2, h3⟩ := h
  have hr : cr' (a + 11) = cr (a + 11) := g.2.2 _ (by omega)
  refine ⟨h1.fr (fun i i1 i2 _ _ _ => g.1 i (by omega)), f, ⟨fun k hk => by rw [hr]; exact h2.1 k hk, h2.2⟩, h3.fr h2 (by rw [g.1 a (by omega)]) (fun i i1 i2 => g.1 i (by omega))⟩
theorem RW.fs {a : Nat} {f : Nat → Nat} {cr' : jR} (h : RW K cr a f) (g : cr' (a + 11) = cr (a + 11)) : RW K cr' a f := ⟨fun k hk => by rw [g]; exact h.1 k hk, h.2⟩
theorem sp_tries (hn : 4000 ≤ n) {ci0 : jI} {cj0 : jJ} {cr0 : jR} {f : Nat → Nat} (h : CI n c K ci0 cj0 cr0 v) (hF : FS 68 ci0 cj0 cr0 ci cj cr) (hR : RW K cr 68 f) :
    Wp (fX5_copy n 68 16 K ci cj cr) (fun q => q.1 = 68 ∧ TC c K ci0 cj0 cr0 q.2.1 q.2.2.1 q.2.2.2 v ∧ FS 68 ci cj cr q.2.1 q.2.2.1 q.2.2.2) := by
  obtain ⟨hc, hC, h1, h2, h3, -⟩ := h
  obtain ⟨s1, fa, s2, s3⟩ := h2.fs is68 is16 (by decide) hF
  refine (sp_copy hn hc is68 is16 (by decide) hR s2 s3 s1).mono ?_
  rintro ⟨x, ci1, cj1, cr1⟩ ⟨q1, q2, q3, q4, q5, q6⟩
  simp only at q1 q2 q3 q4 q5 q6 ⊢
  subst q6
  exact ⟨q1, ⟨⟨q2, f, hR, q3⟩, hF.tr q4⟩, q4⟩
theorem sp_goesT (hn : 4000 ≤ n) {ci0 : jI} {cj0 : jJ} {cr0 : jR} {w : jV8} (h : CI n c K ci0 cj0 cr0 v) (hT : TC c K ci0 cj0 cr0 ci cj cr w) (hw : VR c w Y) :
    Wp (fX5_goes n 68 K ci cj cr) (fun q => q.1 = cms c w ∧ TC c K ci0 cj0 cr0 q.2.1 q.2.2.1 q.2.2.2 (goF c w) ∧ FS 68 ci cj cr q.2.1 q.2.2.1 q.2.2.2) := by
  obtain ⟨hc, hC, h1, h2, h3, -⟩ := h
  refine (sp_goes hn hc (hC.fs is68 hT.2) (h1.fs is68 hT.2) is68 hT.1 hw).mono ?_
  rintro ⟨x, ci1, cj1, cr1⟩ ⟨q1, q2, q3⟩
  exact ⟨q1, ⟨q2, hT.2.tr q3⟩, q3⟩
theorem sp_goesByT {m : Nat} (hn : 4000 ≤ n) {ci0 : jI} {cj0 : jJ} {cr0 : jR} {w : jV8} (h : CI n c K ci0 cj0 cr0 v) (hT : TC c K ci0 cj0 cr0 ci cj cr w) (hw : VR c w Y) (hm : m ≤ 1000) :
    Wp (fX5_goesBy n 68 (nI m) K ci cj cr) (fun q => q.1 = 68 ∧ TC c K ci0 cj0 cr0 q.2.1 q.2.2.1 q.2.2.2 (goFN c w m)) := by
  unfold fX5_goesBy
  rw [if_pos is68]
  refine Wp.loop4 (fun k (a0 : Int32) (a1 : jI) (a2 : jJ) (a3 : jR) => fX5_goesBy_2 n 68 k (nI m) a0 K a1 a2 a3) (fun r x => ∃ i, i + r = m ∧ x.1 = nI i ∧ TC c K ci0 cj0 cr0 x.2.1 x.2.2.1 x.2.2.2 (goFN c w i)) _ ?_ n m (nI 0) ci cj cr (by omega) ⟨0, by omega, rfl, hT⟩
  rintro k r l ci1 cj1 cr1 ⟨i, g1, g2, g3⟩ ih
  simp only at g2 g3 ⊢
  subst g2
  rw [fX5_goesBy_2.eq_2]
  simp (disch := omega) only [nI_leN]
  by_cases hi : m ≤ i
  · have : i = m := by omega
    subst this
    rw [if_pos hi, wp_some]
    try dsimp only
    exact ⟨rfl, g3⟩
  · rw [if_neg hi, wp_jpb]
    refine (sp_goesT (Y := Y + i) hn h g3 (VR_goFN h.1 hw i)).mono ?_
    rintro ⟨x, ci2, cj2, cr2⟩ ⟨q1, q2, q3⟩
    simp only at q1 q2 q3 ⊢
    rw [nI_add]
    exact ih (r - 1) (nI (i + 1)) _ _ _ (by omega) ⟨i + 1, by omega, rfl, q2⟩
/-- what the component's questions may write -/
def QC (ci : jI) (cj : jJ) (cr : jR) (ci' : jI) (cj' : jJ) (cr' : jR) : Prop := (∀ i, i ≠ 23 → i < 68 ∨ i = 120 ∨ (181 ≤ i ∧ i < 185) ∨ 505 ≤ i → ci' i = ci i) ∧ jM12 cj cj' ∧ (∀ i, i ≠ 79 → cr' i = cr i) ∧ ∀ K f, RW K cr 68 f → ∃ f', RW K cr' 68 f'
theorem TC.qc {ci0 : jI} {cj0 : jJ} {cr0 : jR} {K0 : jK} (h : TC c K ci0 cj0 cr0 ci cj cr v) : (∀ i, i ≠ 23 → i < 68 ∨ i = 120 ∨ (181 ≤ i ∧ i < 185) ∨ 505 ≤ i → ci i = ci0 i) ∧ jM12 cj0 cj ∧ (∀ i, i ≠ 79 → cr i = cr0 i) :=
  ⟨fun i _ hi => h.2.1 i (by omega), h.2.2.1, h.2.2.2⟩
end
