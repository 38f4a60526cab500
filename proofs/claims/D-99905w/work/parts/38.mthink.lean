/-! THE MODEL THINKS AHEAD -/
set_option maxRecDepth 100000
/-- a number within 0 .. m - 1 -/
abbrev iv (a : Int32) (m : Nat) : Prop := 0 ≤ a ∧ a < nI m
theorem iv_ex {a : Int32} {m : Nat} (h : iv a m) (hm : m < 2147483648) : ∃ k, k < m ∧ a = nI k := by
  obtain ⟨k, h1, h2⟩ := nI_ex h.1
  refine ⟨k, ?_, h2⟩
  have := h.2
  rw [h2, nI_ltN h1 hm] at this; exact this
theorem iv_nI {k m : Nat} (h : k < m) (hm : m < 2147483648) : iv (nI k) m := ⟨nI_pos' (by omega), nI_lt h hm⟩
/-- years ahead -/
abbrev iah (y a : Int32) (lo hi : Nat) : Prop := nI lo ≤ a ∧ a ≤ nI hi ∧ y + a ≤ nI 999
theorem e6_isIn (n : Nat) (a b d : Int64) (ci : jI) (cj : jJ) : fX6_isIn n a b d ci cj = some (if b ≤ a ∧ a ≤ d then nI 1 else nI 0, ci, cj) := by
  unfold fX6_isIn fX6_isIn_17 fX6_isIn_18
  by_cases h1 : a < b
  · rw [if_pos h1, if_pos bt0, if_neg (fun h => i64_nle.mpr h1 h.1)]
  · rw [if_neg h1]
    by_cases h2 : d < a
    · rw [if_pos h2, if_pos bt0, if_neg (fun h => i64_nle.mpr h2 h.2)]
    · rw [if_neg h2, if_pos bt1, if_pos ⟨i64_nlt.mp h1, i64_nlt.mp h2⟩]
theorem iv_sub {a : Int32} {m : Nat} (hm : m < 2147483648) : (lN 0 ≤ a.toInt64 ∧ a.toInt64 ≤ (nI m - nI 1).toInt64) ↔ iv a m := by
  rw [show lN 0 = (nI 0).toInt64 from rfl, Int32.toInt64_le, Int32.toInt64_le]
  refine and_congr Iff.rfl ?_
  rw [Int32.le_iff_toInt_le, Int32.lt_iff_toInt_lt, Int32.toInt_sub, nI_toInt hm, nI_toInt (by omega), Int.bmod_eq_of_le (by omega) (by omega)]
  omega
section
variable {n : Nat} {c : jCo} {ci : jI} {cj : jJ}
theorem e6_isShoal (hc : CR c) (hm : MC c ci) (a : Int32) : fX6_isShoal n a ci cj = some (if iv a (coS c) then nI 1 else nI 0, ci, cj) := by
  unfold fX6_isShoal
  rw [e6_shoalMany, Option.bind_some, e6_isIn, Option.bind_some, hm.2.2.1]
  simp only [iv_sub (show coS c < 2147483648 by have := hc.2.2.1; omega)]
  by_cases h : iv a (coS c)
  · rw [if_pos h, if_pos bt1]
  · rw [if_neg h, if_pos bt0]
theorem e6_isPair (hc : CR c) (hm : MC c ci) (a : Int32) : fX6_isPair n a ci cj = some (if iv a (coP c) then nI 1 else nI 0, ci, cj) := by
  unfold fX6_isPair
  rw [e6_pairMany, Option.bind_some, e6_isIn, Option.bind_some, hm.2.1]
  simp only [iv_sub (show coP c < 2147483648 by have := hc.2.1; omega)]
  by_cases h : iv a (coP c)
  · rw [if_pos h, if_pos bt1]
  · rw [if_neg h, if_pos bt0]
theorem e6_isBay (hc : CR c) (hm : MC c ci) (a : Int32) : fX6_isBay n a.toInt64 ci cj = some (if iv a (coB c) then nI 1 else nI 0, ci, cj) := by
  unfold fX6_isBay
  rw [e6_bayMany, Option.bind_some, e6_isIn, Option.bind_some, hm.1]
  simp only [iv_sub (show coB c < 2147483648 by have := hc.1; omega)]
  by_cases h : iv a (coB c)
  · rw [if_pos h, if_pos bt1]
  · rw [if_neg h, if_pos bt0]
theorem e6_isAhead (a : Int32) (lo hi : Nat) : fX6_isAhead n a (nI lo) (nI hi) ci cj = some (if iah (ci 1585 0) a lo hi then nI 1 else nI 0, ci, cj) := by
  unfold fX6_isAhead fX6_isAhead_30 fX6_isAhead_31
  rw [e6_isIn, Option.bind_some]
  simp only [Int32.toInt64_le]
  by_cases h1 : nI lo ≤ a ∧ a ≤ nI hi
  · rw [if_pos h1, if_neg n10, if_pos (by rw [jok_t (by omega) (by omega)]; trivial), nI_cl (by omega)]
    by_cases h2 : nI 999 < ci 1585 0 + a
    · rw [if_pos h2, if_pos bt0, if_neg (fun h => i32_nle.mpr h2 h.2.2)]
    · rw [if_neg h2, if_pos bt1, if_pos ⟨h1.1, h1.2, i32_nlt.mp h2⟩]
  · rw [if_neg h1, if_pos z00, if_pos bt0, if_neg (fun h => h1 ⟨h.1, h.2.1⟩)]
end
/-- what may be written while the model thinks -/
def FrT (ci ci' : jI) : Prop := Fr [1585, 1586, 1587, 1588, 1589, 1590, 1591, 1593] [49, 52, 53, 54, 55, 58, 59, 60, 103] ci ci'
/-- the model thinks: v is what stands now -/
def TH (c : jCo) (ci0 : jI) (cj0 : jJ) (ci : jI) (cj : jJ) (v : jV8) : Prop := ci 1547 58 = nI 1 ∧ (∀ k, k < 45 → ci 1586 k = ci0 1585 k) ∧ (∀ k, k < 45 → ci 1585 k = v k) ∧ (∀ k, 45 ≤ k → k < 166 → ci 1585 k = ci0 1585 k) ∧ FrT ci0 ci ∧ sJ cj0 cj
theorem TH.mc {c : jCo} {ci0 ci : jI} {cj0 cj : jJ} {v : jV8} (h : TH c ci0 cj0 ci cj v) (hm : MC c ci0) : MC c ci := hm.fr' h.2.2.2.2.1 (by decide)
section
variable {n : Nat} {c : jCo} {ci0 ci : jI} {cj0 cj : jJ} {v : jV8} {Y : Nat}
theorem sp_putsAside (hn : 4000 ≤ n) : Wp (fX6_putsAside n ci cj) (fun q => TH c ci cj q.1 q.2 (ci 1585)) := by
  unfold fX6_putsAside
  have F0 : Fr [1586] [58] ci (ju ci 1547 58 (nI 1)) := Fr.rfl'.upf (by decide)
  refine Wp.loop2 (fun k (a0 : Int32) (a1 : jI) => fX6_putsAside_7 n k a0 a1 cj) (fun r b => ∃ i, i + r = 45 ∧ b.1 = nI i ∧ (∀ j, j < i → b.2 1586 j = ci 1585 j) ∧ b.2 1547 58 = nI 1 ∧ Fr [1586] [58] ci b.2) _ ?_ n 45 (nI 0) _ (by omega) ⟨0, by omega, rfl, fun j hj => absurd hj (Nat.not_lt_zero j), by show ju ci 1547 58 (nI 1) 1547 58 = nI 1; rw [ju_eq], F0⟩
  rintro k r l ci1 ⟨i, h1, h2, h3, h4, h5⟩ ih
  simp only at h2 h3 h4 h5 ⊢
  subst h2
  rw [fX6_putsAside_7.eq_2]
  have e85 : ci1 1585 = ci 1585 := h5.1 1585 (by decide) (by decide)
  by_cases hi : 45 ≤ i
  · rw [if_pos (by rw [nI_leN (by omega) (by omega)]; exact hi), wp_some]
    try dsimp only
    exact ⟨h4, fun k hk => h3 k (by omega), fun k _ => congrFun e85 k, fun k _ _ => congrFun e85 k, h5.le (by decide) (by decide), sJ.rfl'⟩
  · rw [if_neg (by rw [nI_leN (by omega) (by omega)]; exact hi)]
    simp (disch := omega) only [jok_t, if_true, nI_cl, nI_add, e85]
    refine ih (r - 1) (nI (i + 1)) _ (by omega) ⟨i + 1, by omega, rfl, fun j hj => ?_, ?_, h5.up (by decide) (by decide)⟩
    · show ju ci1 1586 i _ 1586 j = _
      by_cases j1 : j = i
      · subst j1; exact ju_eq _ _ _ _
      · rw [ju_ne2 _ _ j1]; exact h3 j (by omega)
    · simp (disch := omega) only [ju_row]
      exact h4
theorem sp_triesAnew (hn : 4000 ≤ n) (h : TH c ci0 cj0 ci cj v) : Wp (fX6_triesAnew n ci cj) (fun q => TH c ci0 cj0 q.1 q.2 (ci0 1585) ∧ Fr [1585] [] ci q.1 ∧ q.2 = cj) := by
  obtain ⟨t1, t2, t3, t4, t5, t6⟩ := h
  unfold fX6_triesAnew
  refine Wp.loop2 (fun k (a0 : Int32) (a1 : jI) => fX6_triesAnew_2 n k a0 a1 cj) (fun r b => ∃ i, i + r = 45 ∧ b.1 = nI i ∧ (∀ j, j < i → b.2 1585 j = ci0 1585 j) ∧ (∀ j, 45 ≤ j → b.2 1585 j = ci 1585 j) ∧ Fr [1585] [] ci b.2) _ ?_ n 45 (nI 0) ci (by omega) ⟨0, by omega, rfl, fun j hj => absurd hj (Nat.not_lt_zero j), fun _ _ => rfl, Fr.rfl'⟩
  rintro k r l ci1 ⟨i, h1, h2, h3, h4, h5⟩ ih
  simp only at h2 h3 h4 h5 ⊢
  subst h2
  rw [fX6_triesAnew_2.eq_2]
  have e86 : ci1 1586 = ci 1586 := h5.1 1586 (by decide) (by decide)
  by_cases hi : 45 ≤ i
  · rw [if_pos (by rw [nI_leN (by omega) (by omega)]; exact hi), wp_some]
    try dsimp only
    exact ⟨⟨by rw [h5.2 58 (by decide)]; exact t1, fun k hk => by rw [e86]; exact t2 k hk, fun k hk => h3 k (by omega), fun k k1 k2 => by rw [h4 k k1]; exact t4 k k1 k2, Fr.tr t5 (h5.le (by decide) (by decide)), t6⟩, h5, rfl⟩
  · rw [if_neg (by rw [nI_leN (by omega) (by omega)]; exact hi)]
    have ex := t2 i (by omega)
    simp (disch := omega) only [jok_t, if_true, nI_cl, nI_add, e86, ex]
    refine ih (r - 1) (nI (i + 1)) _ (by omega) ⟨i + 1, by omega, rfl, fun j hj => ?_, fun j hj => ?_, h5.up (by decide) (by decide)⟩
    · show ju ci1 1585 i _ 1585 j = _
      by_cases j1 : j = i
      · subst j1; exact ju_eq _ _ _ _
      · rw [ju_ne2 _ _ j1]; exact h3 j (by omega)
    · show ju ci1 1585 i _ 1585 j = _
      rw [ju_ne2 _ _ (by omega)]; exact h4 j hj
/-- nothing but what is laid anew by each call -/
def QM (ci : jI) (cj : jJ) (ci' : jI) (cj' : jJ) : Prop := (∀ k, k < 166 → ci' 1585 k = ci 1585 k) ∧ ci' 1547 58 = ci 1547 58 ∧ FrT ci ci' ∧ sJ cj cj'
theorem QM.rfl' : QM ci cj ci cj := ⟨fun _ _ => rfl, rfl, Fr.rfl', sJ.rfl'⟩
theorem sp_takesBack (hn : 4000 ≤ n) (h : TH c ci0 cj0 ci cj v) (h58 : ci0 1547 58 = 0) : Wp (fX6_takesBack n ci cj) (fun q => QM ci0 cj0 q.1 q.2) := by
  unfold fX6_takesBack
  rw [wp_bind]
  refine (sp_triesAnew hn h).mono ?_
  rintro ⟨ci1, cj1⟩ ⟨⟨t1, t2, t3, t4, t5, t6⟩, q2, q3⟩
  simp only at t1 t2 t3 t4 t5 t6 q2 q3 ⊢
  rw [wp_some]
  try dsimp only
  refine ⟨fun k hk => ?_, ?_, Fr.upf t5 (by decide), t6⟩
  · simp (disch := omega) only [ju_row]
    by_cases k1 : k < 45
    · exact t3 k k1
    · exact t4 k (by omega) hk
  · show ju ci1 1547 58 _ 1547 58 = _
    rw [ju_eq, h58]; rfl
/-- a year in thought -/
theorem sp_yearT (hn : 4000 ≤ n) (hY : Y ≤ 2000) (hc : CR c) (hm : MC c ci0) (hk0 : rg (ci0 1585 45) 40) (h : TH c ci0 cj0 ci cj v) (hv : VR c v Y) :
    Wp (fX6_yearGoes n ci cj) (fun q => TH c ci0 cj0 q.1 q.2 (goV c v) ∧ (∀ s, s < coS c → q.1 1589 s = tos c v s) ∧ (∀ b, b < 6 → q.1 1588 b = tks c v b) ∧ q.1 1547 60 = ci 1547 60 + fsh c v (coS c) ∧ (∀ i, i = 1591 ∨ i = 1593 → q.1 i = ci i)) := by
  obtain ⟨t1, t2, t3, t4, t5, t6⟩ := h
  have e : e45 v (ci 1585) := fun k hk => (t3 k hk).symm
  have hm' : MC c ci := hm.fr' t5 (by decide)
  refine (sp_yearGoes hn hY hc hm' (hv.e45 hc e) (by rw [t4 45 (by omega) (by omega)]; exact hk0)).mono ?_
  rintro ⟨ci1, cj1⟩ ⟨⟨y1, y2, y3, y4, y5, y6, y7, y8⟩, z⟩
  simp only at y1 y2 y3 y4 y5 y6 y7 y8 z ⊢
  have h58 : ci 1547 58 ≠ 0 := by rw [t1]; decide
  refine ⟨⟨by rw [y8.2 58 (by decide)]; exact t1, fun k hk => by rw [y8.1 1586 (by decide) (by decide)]; exact t2 k hk, fun k hk => by rw [y1 k hk]; exact (goV_congr hc e k hk).symm, fun k k1 k2 => by rw [y3 h58 k k1 k2]; exact t4 k k1 k2, Fr.tr t5 (y8.le (by decide) (by decide)), t6.tr z⟩, fun s hs => by rw [y4 s hs]; exact (tos_congr hc e hs).symm, fun b hb => by rw [y5 b hb]; exact (tks_congr hc e b).symm, ?_, fun i hi => ?_⟩
  · rw [y7]
    congr 1
    exact sg_congr (fun s hs => by rw [tos_congr hc e hs])
  · rcases hi with z | z <;> subst z <;> exact y8.1 _ (by decide) (by decide)
/-- many years in thought -/
theorem sp_yearsT {m : Nat} (hn : 4000 ≤ n) (hY : Y + m ≤ 2000) (hc : CR c) (hm : MC c ci0) (hk0 : rg (ci0 1585 45) 40) (h : TH c ci0 cj0 ci cj v) (hv : VR c v Y) :
    Wp (fX6_yearsGo n (nI m) ci cj) (fun q => TH c ci0 cj0 q.1 q.2 (goN c v m) ∧ q.1 1547 60 = sg (fun k => fsh c (goN c v k) (coS c)) m ∧ (∀ i, i = 1591 ∨ i = 1593 → q.1 i = ci i)) := by
  obtain ⟨t1, t2, t3, t4, t5, t6⟩ := h
  unfold fX6_yearsGo
  refine Wp.loop3 (fun k (a0 : Int32) (a1 : jI) (a2 : jJ) => fX6_yearsGo_12 n k (nI m) a0 a1 a2) (fun r b => ∃ i, i + r = m ∧ b.1 = nI i ∧ TH c ci0 cj0 b.2.1 b.2.2 (goN c v i) ∧ b.2.1 1547 60 = sg (fun k => fsh c (goN c v k) (coS c)) i ∧ (∀ i, i = 1591 ∨ i = 1593 → b.2.1 i = ci i)) _ ?_ n m (nI 0) _ _ (by omega) ⟨0, by omega, rfl, ⟨?_, ?_, ?_, ?_, Fr.upf (Fr.upf t5 (by decide)) (by decide), t6⟩, by show ju (ju ci 1547 59 (nI 0)) 1547 60 (nI 0) 1547 60 = nI 0; rw [ju_eq], fun i hi => ?_⟩
  rotate_left
  · show ju (ju ci 1547 59 (nI 0)) 1547 60 (nI 0) 1547 58 = _
    rw [ju_ne2 _ _ (by decide), ju_ne2 _ _ (by decide)]; exact t1
  · intro k hk
    simp (disch := omega) only [ju_row]
    exact t2 k hk
  · intro k hk
    simp (disch := omega) only [ju_row]
    exact t3 k hk
  · intro k k1 k2
    simp (disch := omega) only [ju_row]
    exact t4 k k1 k2
  · show ju (ju ci 1547 59 _) 1547 60 _ i = _
    rw [ju_row _ _ (by omega), ju_row _ _ (by omega)]
  rintro k r l ci1 cj1 ⟨i, h1, h2, h3, h4, h5⟩ ih
  simp only at h2 h3 h4 h5 ⊢
  subst h2
  rw [fX6_yearsGo_12.eq_2]
  simp (disch := omega) only [nI_leN]
  by_cases hi : m ≤ i
  · have : i = m := by omega
    subst this
    rw [if_pos hi, wp_some]
    try dsimp only
    exact ⟨h3, h4, h5⟩
  · rw [if_neg hi, wp_bind]
    refine (sp_yearT (Y := Y + i) hn (by omega) hc hm hk0 h3 (VR_goN hc hv i)).mono ?_
    rintro ⟨ci2, cj2⟩ ⟨q1, q2, q3, q4, q5⟩
    simp only at q1 q2 q3 q4 q5 ⊢
    rw [nI_add]
    refine ih (r - 1) (nI (i + 1)) _ _ (by omega) ⟨i + 1, by omega, rfl, q1, ?_, fun j hj => (q5 j hj).trans (h5 j hj)⟩
    show ci2 1547 60 = sg _ i + _
    rw [q4, h4]
end
