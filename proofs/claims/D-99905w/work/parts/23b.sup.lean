/-! SUPPORT FOR STAGE A (printed by gen/comp.py) -/
theorem jb19 : (Int8.ofInt (19)).toInt32 = (nI 19) := by decide
theorem jb31 : (Int8.ofInt (31)).toInt32 = (nI 31) := by decide
theorem jb39 : (Int8.ofInt (39)).toInt32 = (nI 39) := by decide
theorem jb63 : (Int8.ofInt (63)).toInt32 = (nI 63) := by decide
theorem ji_m8 : Int32.ofInt (-8) = (-8) := by decide
theorem js147 : (Int16.ofInt (147)).toInt32 = (nI 147) := by decide
theorem js1874 : (Int16.ofInt (1874)).toInt32 = (nI 1874) := by decide
theorem js338 : (Int16.ofInt (338)).toInt32 = (nI 338) := by decide
theorem js467 : (Int16.ofInt (467)).toInt32 = (nI 467) := by decide
theorem jtab_4_10 {x : Int32} (h4 : ¬ x = (nI 4)) (h5 : ¬ x = (nI 5)) (h6 : ¬ x = (nI 6)) (h7 : ¬ x = (nI 7)) (h8 : ¬ x = (nI 8)) (h9 : ¬ x = (nI 9)) (h10 : ¬ x = (nI 10)) : x.toInt < 4 ∨ 10 < x.toInt := by
  have e4 : ¬ x.toInt = 4 := fun z => h4 (Int32.toInt_inj.mp (z.trans (by decide)))
  have e5 : ¬ x.toInt = 5 := fun z => h5 (Int32.toInt_inj.mp (z.trans (by decide)))
  have e6 : ¬ x.toInt = 6 := fun z => h6 (Int32.toInt_inj.mp (z.trans (by decide)))
  have e7 : ¬ x.toInt = 7 := fun z => h7 (Int32.toInt_inj.mp (z.trans (by decide)))
  have e8 : ¬ x.toInt = 8 := fun z => h8 (Int32.toInt_inj.mp (z.trans (by decide)))
  have e9 : ¬ x.toInt = 9 := fun z => h9 (Int32.toInt_inj.mp (z.trans (by decide)))
  have e10 : ¬ x.toInt = 10 := fun z => h10 (Int32.toInt_inj.mp (z.trans (by decide)))
  omega
theorem jtab_42_45 {x : Int32} (h42 : ¬ x = (nI 42)) (h43 : ¬ x = (nI 43)) (h44 : ¬ x = (nI 44)) (h45 : ¬ x = (nI 45)) : x.toInt < 42 ∨ 45 < x.toInt := by
  have e42 : ¬ x.toInt = 42 := fun z => h42 (Int32.toInt_inj.mp (z.trans (by decide)))
  have e43 : ¬ x.toInt = 43 := fun z => h43 (Int32.toInt_inj.mp (z.trans (by decide)))
  have e44 : ¬ x.toInt = 44 := fun z => h44 (Int32.toInt_inj.mp (z.trans (by decide)))
  have e45 : ¬ x.toInt = 45 := fun z => h45 (Int32.toInt_inj.mp (z.trans (by decide)))
  omega
theorem kX0_173 : jCa "MarriageHerring" 173 [7] := ⟨_, q1272, by
  intro c hc
  simp only [List.mem_cons, List.not_mem_nil, or_false] at hc
  subst hc
  exact ⟨by decide, RX8, TX8, 3, rfl, Or.inl rfl⟩⟩
theorem kX0_175 : jCa "MarriageHerring" 175 [8] := ⟨_, q1281, by
  intro c hc
  simp only [List.mem_cons, List.not_mem_nil, or_false] at hc
  subst hc
  exact ⟨by decide, RX9, TX9, 3, rfl, Or.inl rfl⟩⟩
theorem kX0_177 : jCa "MarriageHerring" 177 [9] := ⟨_, q1263, by
  intro c hc
  simp only [List.mem_cons, List.not_mem_nil, or_false] at hc
  subst hc
  exact ⟨by decide, RX10, TX10, 3, rfl, Or.inl rfl⟩⟩
theorem kX0_199 : jCa "MarriageHerring" 199 [7, 8, 9] := ⟨_, q1392, by
  intro c hc
  simp only [List.mem_cons, List.not_mem_nil, or_false] at hc
  rcases hc with z | z | z <;> subst z
  · exact ⟨by decide, RX8, TX8, 3, rfl, Or.inr q2565⟩
  · exact ⟨by decide, RX9, TX9, 3, rfl, Or.inr q2566⟩
  · exact ⟨by decide, RX10, TX10, 3, rfl, Or.inr q2567⟩⟩
theorem kX12_2 : jCa "MarriageHerring$Chain" 2 [10, 11, 12, 13, 14] := ⟨_, q1339, by
  intro c hc
  simp only [List.mem_cons, List.not_mem_nil, or_false] at hc
  rcases hc with z | z | z | z | z <;> subst z
  · exact ⟨by decide, RX12, TX12, 2, rfl, Or.inr q2573⟩
  · exact ⟨by decide, RX13, TX13, 3, rfl, Or.inr q2576⟩
  · exact ⟨by decide, RX14, TX14, 1, rfl, Or.inr q2574⟩
  · exact ⟨by decide, RX15, TX15, 1, rfl, Or.inr q2572⟩
  · exact ⟨by decide, RX16, TX16, 3, rfl, Or.inr q2575⟩⟩
theorem kX18_2 : jCa "MarriageHerring$Facts" 2 [15, 16, 17, 18] := ⟨_, q1310, by
  intro c hc
  simp only [List.mem_cons, List.not_mem_nil, or_false] at hc
  rcases hc with z | z | z | z <;> subst z
  · exact ⟨by decide, RX18, TX18, 2, rfl, Or.inr q2569⟩
  · exact ⟨by decide, RX19, TX19, 1, rfl, Or.inr q2570⟩
  · exact ⟨by decide, RX20, TX14, 0, rfl, Or.inr q2568⟩
  · exact ⟨by decide, RX21, TX21, 3, rfl, Or.inr q2571⟩⟩
theorem kX7_10 : jCa "MarriageHerring$Named" 10 [7, 8, 9] := ⟨_, q805, by
  intro c hc
  simp only [List.mem_cons, List.not_mem_nil, or_false] at hc
  rcases hc with z | z | z <;> subst z
  · exact ⟨by decide, RX8, TX8, 3, rfl, Or.inr q2565⟩
  · exact ⟨by decide, RX9, TX9, 3, rfl, Or.inr q2566⟩
  · exact ⟨by decide, RX10, TX10, 3, rfl, Or.inr q2567⟩⟩
theorem kJ6_10 : jCa "java/lang/String" 10 [21] := ⟨_, q598, by
  intro c hc
  simp only [List.mem_cons, List.not_mem_nil, or_false] at hc
  subst hc
  exact ⟨by decide, RJ6, TJ6, 4, rfl, Or.inl rfl⟩⟩
def vatM : List (Nat × jM) := [(10, mX12_at), (11, mX13_at), (12, mX14_at), (13, mX15_at), (14, mX16_at)]
def vhoM : List (Nat × jM) := [(15, mX18_holds), (16, mX19_holds), (17, mX20_holds), (18, mX21_holds)]
theorem vatL : ∀ p ∈ vatM, 2 ≤ p.2.2.2.1 := by
  intro p hp
  simp only [vatM, List.mem_cons, List.not_mem_nil, or_false] at hp
  rcases hp with z | z | z | z | z <;> subst z <;> exact Nat.le_of_ble_eq_true rfl
theorem vhoL : ∀ p ∈ vhoM, 2 ≤ p.2.2.2.1 := by
  intro p hp
  simp only [vhoM, List.mem_cons, List.not_mem_nil, or_false] at hp
  rcases hp with z | z | z | z <;> subst z <;> exact Nat.le_of_ble_eq_true rfl
theorem yaX12_39 : ∀ p ∈ vatM, jUp "MarriageHerring$Chain" 39 p.1 1 p.2 := by
  intro p hp
  simp only [vatM, List.mem_cons, List.not_mem_nil, or_false] at hp
  rcases hp with z | z | z | z | z <;> subst z
  · exact vX12_39_10
  · exact vX12_39_11
  · exact vX12_39_12
  · exact vX12_39_13
  · exact vX12_39_14
theorem yaX13_20 : ∀ p ∈ vatM, jUp "MarriageHerring$Pair" 20 p.1 1 p.2 := by
  intro p hp
  simp only [vatM, List.mem_cons, List.not_mem_nil, or_false] at hp
  rcases hp with z | z | z | z | z <;> subst z
  · exact vX13_20_10
  · exact vX13_20_11
  · exact vX13_20_12
  · exact vX13_20_13
  · exact vX13_20_14
theorem yaX16_21 : ∀ p ∈ vatM, jUp "MarriageHerring$Looked" 21 p.1 1 p.2 := by
  intro p hp
  simp only [vatM, List.mem_cons, List.not_mem_nil, or_false] at hp
  rcases hp with z | z | z | z | z <;> subst z
  · exact vX16_21_10
  · exact vX16_21_11
  · exact vX16_21_12
  · exact vX16_21_13
  · exact vX16_21_14
theorem yhX18_32 : ∀ p ∈ vhoM, jUp "MarriageHerring$Facts" 32 p.1 1 p.2 := by
  intro p hp
  simp only [vhoM, List.mem_cons, List.not_mem_nil, or_false] at hp
  rcases hp with z | z | z | z <;> subst z
  · exact vX18_32_15
  · exact vX18_32_16
  · exact vX18_32_17
  · exact vX18_32_18
theorem yhX19_13 : ∀ p ∈ vhoM, jUp "MarriageHerring$Not" 13 p.1 1 p.2 := by
  intro p hp
  simp only [vhoM, List.mem_cons, List.not_mem_nil, or_false] at hp
  rcases hp with z | z | z | z <;> subst z
  · exact vX19_13_15
  · exact vX19_13_16
  · exact vX19_13_17
  · exact vX19_13_18
theorem yaX21_20 : ∀ p ∈ vatM, jUp "MarriageHerring$Than" 20 p.1 1 p.2 := by
  intro p hp
  simp only [vatM, List.mem_cons, List.not_mem_nil, or_false] at hp
  rcases hp with z | z | z | z | z <;> subst z
  · exact vX21_20_10
  · exact vX21_20_11
  · exact vX21_20_12
  · exact vX21_20_13
  · exact vX21_20_14
theorem yhX22_29 : ∀ p ∈ vhoM, jUp "MarriageHerring$Question" 29 p.1 1 p.2 := by
  intro p hp
  simp only [vhoM, List.mem_cons, List.not_mem_nil, or_false] at hp
  rcases hp with z | z | z | z <;> subst z
  · exact vX22_29_15
  · exact vX22_29_16
  · exact vX22_29_17
  · exact vX22_29_18
theorem yaX22_45 : ∀ p ∈ vatM, jUp "MarriageHerring$Question" 45 p.1 1 p.2 := by
  intro p hp
  simp only [vatM, List.mem_cons, List.not_mem_nil, or_false] at hp
  rcases hp with z | z | z | z | z <;> subst z
  · exact vX22_45_10
  · exact vX22_45_11
  · exact vX22_45_12
  · exact vX22_45_13
  · exact vX22_45_14
theorem yhX5_115 : ∀ p ∈ vhoM, jUp "MarriageHerring$State" 115 p.1 1 p.2 := by
  intro p hp
  simp only [vhoM, List.mem_cons, List.not_mem_nil, or_false] at hp
  rcases hp with z | z | z | z <;> subst z
  · exact vX5_115_15
  · exact vX5_115_16
  · exact vX5_115_17
  · exact vX5_115_18
theorem yaX5_142 : ∀ p ∈ vatM, jUp "MarriageHerring$State" 142 p.1 1 p.2 := by
  intro p hp
  simp only [vatM, List.mem_cons, List.not_mem_nil, or_false] at hp
  rcases hp with z | z | z | z | z <;> subst z
  · exact vX5_142_10
  · exact vX5_142_11
  · exact vX5_142_12
  · exact vX5_142_13
  · exact vX5_142_14
/-! methods that make nothing and throw nothing -/
abbrev jTp (α : Type) : Type := α × jI × jJ × jR
def jqp {α : Type} (wf : α → Option Value) (K : jK) (q : jTp α) (Qr : jQ) : Prop := jCW K q.2.2.2 → Qr (wf q.1) K q.2.1 q.2.2.1 q.2.2.2
def jpb {α β : Type} (x : Option (jTp α)) (k : α → jI → jJ → jR → Option β) : Option β := x.bind (fun q => k q.1 q.2.1 q.2.2.1 q.2.2.2)
theorem jpb_inv {α β : Type} {x : Option (jTp α)} {k : α → jI → jJ → jR → Option β} {w : β} (h : jpb x k = some w) : ∃ r ci cj cr, x = some (r, ci, cj, cr) ∧ k r ci cj cr = some w := by
  obtain ⟨q, h1, h2⟩ := Option.bind_eq_some_iff.mp h
  exact ⟨q.1, q.2.1, q.2.2.1, q.2.2.2, h1, h2⟩
/-- what is told of the methods of a family, by the kind of the object -/
def jvat (g : jG) (d : Nat) (Ms : List (Nat × jM)) {α : Type} (wf : α → Option Value) (vat : Nat → Nat → jK → jI → jJ → jR → Option (jTp α)) : Prop :=
  ∀ d', d ≤ d' → ∀ (r mo : Nat) (K : jK) (ci : jI) (cj : jJ) (cr : jR) (q : jTp α) (Qr : jQ) (Qx : jX), jCW K cr → vat r mo K ci cj cr = some q → jqp wf K q Qr → r < K.2.2 ∧ ∃ M', (K.1 r, M') ∈ Ms ∧ EvM g d' M' [.ref r, .ref mo] K ci cj cr 0 0 Qr Qx
theorem jvat.up {g : jG} {d k : Nat} {Ms : List (Nat × jM)} {α : Type} {wf : α → Option Value} {vat : Nat → Nat → jK → jI → jJ → jR → Option (jTp α)} (h : jvat g d Ms wf vat) (hk : d ≤ k) : jvat g k Ms wf vat :=
  fun d' hd => h d' (Nat.le_trans hk hd)
/-- what is told of a method of the reader -/
def jcb (g : jG) (d : Nat) (M' : jM) (cb : jK → jI → jJ → jR → Option (jT Nat)) : Prop :=
  ∀ d', d ≤ d' → ∀ (K : jK) (ci : jI) (cj : jJ) (cr : jR) {q : jT Nat} {Qr : jQ} {Qx : jX}, jCW K cr → cb K ci cj cr = some q → jqx wR q Qr Qx → EvM g d' M' [.ref 9] K ci cj cr q.2.2.2.2.2.1 q.2.2.2.2.2.2 Qr Qx
theorem jcb.up {g : jG} {d k : Nat} {M' : jM} {cb : jK → jI → jJ → jR → Option (jT Nat)} (h : jcb g d M' cb) (hk : d ≤ k) : jcb g k M' cb :=
  fun d' hd => h d' (Nat.le_trans hk hd)
section
variable {g : jG} {d : Nat} {M M' : jM} {pc : Nat} {L st : List Value} {K : jK} {ci : jI} {cj : jJ} {cr : jR} {c c1 sl s1 : Nat} {Qr : jQ} {Qx : jX}
theorem ev_vcall {α : Type} {wf : α → Option Value} {index r mo : Nat} {Ms : List (Nat × jM)} {vat : Nat → Nat → jK → jI → jJ → jR → Option (jTp α)} {q : jTp α} (hd : decode M.2.1 pc = .ok (.invokevirtual index, 3)) (hs : ∀ p ∈ Ms, jUp M.1.cls index p.1 1 p.2) (hL : ∀ p ∈ Ms, 2 ≤ p.2.2.2.1) (hv : jvat g d Ms wf vat) (hC : jCW K cr) (z : vat r mo K ci cj cr = some q) (hst : (st.map fun v => v.category).sum ≤ 8) (hh : M.2.2.2.2 = [])
    (k : jqp wf K q (fun w K ci cj cr => Ev g (d + 1) M (pc + 3) L (w.toList ++ st) K ci cj cr c sl Qr Qx)) : Ev g (d + 1) M pc L (.ref mo :: .ref r :: st) K ci cj cr c sl Qr Qx := by
  obtain ⟨h1, M', h2, h3⟩ := hv d (Nat.le_refl _) r mo K ci cj cr q _ Qx hC z k
  exact ev_zU1 hd (hs _ h2) rfl (Or.inl h1) (hL _ h2) hst hh h3
theorem ev_hV0 {index b cN : Nat} (hd : decode M.2.1 pc = .ok (.invokevirtual index, 3)) (hs : jV M.1.cls index cN 0 M') (hk : K.1 b = cN) (hin : b < K.2.2 ∨ 1000000 ≤ b) (hlen : (jent (.ref b :: [])).length ≤ M'.2.2.1) (hst : (st.map fun v => v.category).sum ≤ 8) (hcal : EvM g d M' (.ref b :: []) K ci cj cr 0 0 (fun w K ci cj cr => Ev g (d + 1) M (pc + 3) L (w.toList ++ st) K ci cj cr c sl Qr Qx) (fun _ _ _ _ _ => False)) : Ev g (d + 1) M pc L (.ref b :: st) K ci cj cr c sl Qr Qx := by
  have h9 := jcall (c1 := 0) (s1 := 0) (stk := .ref b :: st) (As := .ref b :: []) hs.choose_spec.choose_spec.choose_spec.2.2.2.2.2.1 hlen (jdo_V (As := []) hd hs hk hin rfl hst) hcal (fun _ _ _ _ _ q => q.elim)
  rw [Nat.zero_add, Nat.zero_add] at h9
  exact h9
theorem ev_cV0 {index b cN : Nat} (hd : decode M.2.1 pc = .ok (.invokevirtual index, 3)) (hs : jV M.1.cls index cN 0 M') (hk : K.1 b = cN) (hin : b < K.2.2 ∨ 1000000 ≤ b) (hlen : (jent (.ref b :: [])).length ≤ M'.2.2.1) (hst : (st.map fun v => v.category).sum ≤ 8) (hcal : EvM g d M' (.ref b :: []) K ci cj cr c1 s1 (fun w K ci cj cr => Ev g (d + 1) M (pc + 3) L (w.toList ++ st) K ci cj cr c sl Qr Qx) (fun i K ci cj cr => EvX g (d + 1) M pc L i K ci cj cr c sl Qr Qx)) : Ev g (d + 1) M pc L (.ref b :: st) K ci cj cr (c1 + c) (s1 + sl) Qr Qx :=
  jcall (stk := .ref b :: st) (As := .ref b :: []) hs.choose_spec.choose_spec.choose_spec.2.2.2.2.2.1 hlen (jdo_V (As := []) hd hs hk hin rfl hst) hcal (fun _ _ _ _ _ q => q)
theorem ev_hV1 {index b cN : Nat} {x0 : Value} (hd : decode M.2.1 pc = .ok (.invokevirtual index, 3)) (hs : jV M.1.cls index cN 1 M') (hk : K.1 b = cN) (hin : b < K.2.2 ∨ 1000000 ≤ b) (hlen : (jent (.ref b :: [x0])).length ≤ M'.2.2.1) (hst : (st.map fun v => v.category).sum ≤ 8) (hcal : EvM g d M' (.ref b :: [x0]) K ci cj cr 0 0 (fun w K ci cj cr => Ev g (d + 1) M (pc + 3) L (w.toList ++ st) K ci cj cr c sl Qr Qx) (fun _ _ _ _ _ => False)) : Ev g (d + 1) M pc L (x0 :: .ref b :: st) K ci cj cr c sl Qr Qx := by
  have h9 := jcall (c1 := 0) (s1 := 0) (stk := x0 :: .ref b :: st) (As := .ref b :: [x0]) hs.choose_spec.choose_spec.choose_spec.2.2.2.2.2.1 hlen (jdo_V (As := [x0]) hd hs hk hin rfl hst) hcal (fun _ _ _ _ _ q => q.elim)
  rw [Nat.zero_add, Nat.zero_add] at h9
  exact h9
theorem ev_cV1 {index b cN : Nat} {x0 : Value} (hd : decode M.2.1 pc = .ok (.invokevirtual index, 3)) (hs : jV M.1.cls index cN 1 M') (hk : K.1 b = cN) (hin : b < K.2.2 ∨ 1000000 ≤ b) (hlen : (jent (.ref b :: [x0])).length ≤ M'.2.2.1) (hst : (st.map fun v => v.category).sum ≤ 8) (hcal : EvM g d M' (.ref b :: [x0]) K ci cj cr c1 s1 (fun w K ci cj cr => Ev g (d + 1) M (pc + 3) L (w.toList ++ st) K ci cj cr c sl Qr Qx) (fun i K ci cj cr => EvX g (d + 1) M pc L i K ci cj cr c sl Qr Qx)) : Ev g (d + 1) M pc L (x0 :: .ref b :: st) K ci cj cr (c1 + c) (s1 + sl) Qr Qx :=
  jcall (stk := x0 :: .ref b :: st) (As := .ref b :: [x0]) hs.choose_spec.choose_spec.choose_spec.2.2.2.2.2.1 hlen (jdo_V (As := [x0]) hd hs hk hin rfl hst) hcal (fun _ _ _ _ _ q => q)
theorem ev_hV2 {index b cN : Nat} {x0 x1 : Value} (hd : decode M.2.1 pc = .ok (.invokevirtual index, 3)) (hs : jV M.1.cls index cN 2 M') (hk : K.1 b = cN) (hin : b < K.2.2 ∨ 1000000 ≤ b) (hlen : (jent (.ref b :: [x0, x1])).length ≤ M'.2.2.1) (hst : (st.map fun v => v.category).sum ≤ 8) (hcal : EvM g d M' (.ref b :: [x0, x1]) K ci cj cr 0 0 (fun w K ci cj cr => Ev g (d + 1) M (pc + 3) L (w.toList ++ st) K ci cj cr c sl Qr Qx) (fun _ _ _ _ _ => False)) : Ev g (d + 1) M pc L (x1 :: x0 :: .ref b :: st) K ci cj cr c sl Qr Qx := by
  have h9 := jcall (c1 := 0) (s1 := 0) (stk := x1 :: x0 :: .ref b :: st) (As := .ref b :: [x0, x1]) hs.choose_spec.choose_spec.choose_spec.2.2.2.2.2.1 hlen (jdo_V (As := [x0, x1]) hd hs hk hin rfl hst) hcal (fun _ _ _ _ _ q => q.elim)
  rw [Nat.zero_add, Nat.zero_add] at h9
  exact h9
theorem ev_cV2 {index b cN : Nat} {x0 x1 : Value} (hd : decode M.2.1 pc = .ok (.invokevirtual index, 3)) (hs : jV M.1.cls index cN 2 M') (hk : K.1 b = cN) (hin : b < K.2.2 ∨ 1000000 ≤ b) (hlen : (jent (.ref b :: [x0, x1])).length ≤ M'.2.2.1) (hst : (st.map fun v => v.category).sum ≤ 8) (hcal : EvM g d M' (.ref b :: [x0, x1]) K ci cj cr c1 s1 (fun w K ci cj cr => Ev g (d + 1) M (pc + 3) L (w.toList ++ st) K ci cj cr c sl Qr Qx) (fun i K ci cj cr => EvX g (d + 1) M pc L i K ci cj cr c sl Qr Qx)) : Ev g (d + 1) M pc L (x1 :: x0 :: .ref b :: st) K ci cj cr (c1 + c) (s1 + sl) Qr Qx :=
  jcall (stk := x1 :: x0 :: .ref b :: st) (As := .ref b :: [x0, x1]) hs.choose_spec.choose_spec.choose_spec.2.2.2.2.2.1 hlen (jdo_V (As := [x0, x1]) hd hs hk hin rfl hst) hcal (fun _ _ _ _ _ q => q)
end
/-- first x, then k, or hd where x throws -/
def jxc {α β : Type} (x : Option (jT α)) (k : α → jK → jI → jJ → jR → Option (jT β)) (hd : jK → jI → jJ → jR → Option (jT β)) : Option (jT β) := x.bind (fun q => match q.1 with
  | none => (hd q.2.1 q.2.2.1 q.2.2.2.1 q.2.2.2.2.1).map (fun w => (w.1, w.2.1, w.2.2.1, w.2.2.2.1, w.2.2.2.2.1, q.2.2.2.2.2.1 + w.2.2.2.2.2.1, q.2.2.2.2.2.2 + w.2.2.2.2.2.2))
  | some r => (k r q.2.1 q.2.2.1 q.2.2.2.1 q.2.2.2.2.1).map (fun w => (w.1, w.2.1, w.2.2.1, w.2.2.2.1, w.2.2.2.2.1, q.2.2.2.2.2.1 + w.2.2.2.2.2.1, q.2.2.2.2.2.2 + w.2.2.2.2.2.2)))
theorem jx_invc {g : jG} {d d2 : Nat} {M M' : jM} {pc pc' : Nat} {L st stk As : List Value} {K : jK} {ci : jI} {cj : jJ} {cr : jR} {α β : Type} {wf : α → Option Value} {wf2 : β → Option Value} {x : Option (jT α)} {k : α → jK → jI → jJ → jR → Option (jT β)} {hd : jK → jI → jJ → jR → Option (jT β)} {w : jT β} {Qr : jQ} {Qx : jX}
    (hinv : ∀ c1 s1 c sl, EvM g d M' As K ci cj cr c1 s1 (fun v K ci cj cr => Ev g d2 M pc' L (v.toList ++ st) K ci cj cr c sl Qr Qx) (fun i K ci cj cr => EvX g d2 M pc L i K ci cj cr c sl Qr Qx) → Ev g d2 M pc L stk K ci cj cr (c1 + c) (s1 + sl) Qr Qx) (h : jxc x k hd = some w) (hq : jqx wf2 w Qr Qx)
    (hcal : ∀ (q : jT α) (Qr' : jQ) (Qx' : jX), x = some q → jqx wf q Qr' Qx' → EvM g d M' As K ci cj cr q.2.2.2.2.2.1 q.2.2.2.2.2.2 Qr' Qx')
    (hk : ∀ (r : α) (K' : jK) (ci' : jI) (cj' : jJ) (cr' : jR) (w' : jT β), k r K' ci' cj' cr' = some w' → jCW K' cr' → jqx wf2 w' Qr Qx → Ev g d2 M pc' L ((wf r).toList ++ st) K' ci' cj' cr' w'.2.2.2.2.2.1 w'.2.2.2.2.2.2 Qr Qx)
    (hh : ∀ (K' : jK) (ci' : jI) (cj' : jJ) (cr' : jR) (w' : jT β), hd K' ci' cj' cr' = some w' → jCW K' cr' → jqx wf2 w' Qr Qx → EvX g d2 M pc L 10 K' ci' cj' cr' w'.2.2.2.2.2.1 w'.2.2.2.2.2.2 Qr Qx) : Ev g d2 M pc L stk K ci cj cr w.2.2.2.2.2.1 w.2.2.2.2.2.2 Qr Qx := by
  obtain ⟨q, h1, h2⟩ := Option.bind_eq_some_iff.mp h
  cases hr : q.1 with
  | none =>
    rw [hr] at h2
    obtain ⟨w', h3, h4⟩ := Option.map_eq_some_iff.mp h2
    subst h4
    exact hinv q.2.2.2.2.2.1 q.2.2.2.2.2.2 w'.2.2.2.2.2.1 w'.2.2.2.2.2.2 (hcal q _ _ h1 (fun hC => by
      rw [hr]
      exact hh _ _ _ _ w' h3 hC hq))
  | some r =>
    rw [hr] at h2
    obtain ⟨w', h3, h4⟩ := Option.map_eq_some_iff.mp h2
    subst h4
    exact hinv q.2.2.2.2.2.1 q.2.2.2.2.2.2 w'.2.2.2.2.2.1 w'.2.2.2.2.2.2 (hcal q _ _ h1 (fun hC => by
      rw [hr]
      exact hk r _ _ _ _ w' h3 hC hq))
