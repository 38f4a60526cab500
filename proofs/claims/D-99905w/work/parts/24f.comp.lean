/-! STAGE A OF THE COMPONENT (printed by gen/comp.py) -/
set_option maxRecDepth 100000
def fX13_at_44 (n : Nat) (vat : Nat → Nat → jK → jI → jJ → jR → Option (jTp Int64)) (t0 : Int64) (K : jK) (ci : jI) (cj : jJ) (cr : jR) : Option (jTp Int64) := some (t0, ci, cj, cr)
theorem wX13_at_44 {g : jG} {d : Nat} {c sl : Nat} {Qr : jQ} {Qx : jX} (n : Nat) (vat : Nat → Nat → jK → jI → jJ → jR → Option (jTp Int64)) (hvat : jvat g d vatM wJ vat) (t0 : Int64) (K : jK) (ci : jI) (cj : jJ) (cr : jR) {q} (hC : jCW K cr) (h : fX13_at_44 n vat  t0 K ci cj cr = some q) (hq : jqp wJ K q Qr) : Ev g (d + 1) mX13_at 44 [jU, jU, jU, jU, jU, jU] [.long t0] K ci cj cr c sl Qr Qx := by
  unfold fX13_at_44 at h
  cases h
  exact ev_lret dX13_at_44 rfl (hq hC)
def fX13_at_35 (n : Nat) (vat : Nat → Nat → jK → jI → jJ → jR → Option (jTp Int64)) (l2 : Int64) (l4 : Int64) (t0 : Int32) (t1 : Int32) (K : jK) (ci : jI) (cj : jJ) (cr : jR) : Option (jTp Int64) := if t1 = t0 then fX13_at_44 n vat  l2 K ci cj cr else fX13_at_44 n vat  l4 K ci cj cr
theorem wX13_at_35 {g : jG} {d : Nat} {c sl : Nat} {Qr : jQ} {Qx : jX} (n : Nat) (vat : Nat → Nat → jK → jI → jJ → jR → Option (jTp Int64)) (hvat : jvat g d vatM wJ vat) (l2 : Int64) (l4 : Int64) (t0 : Int32) (t1 : Int32) (K : jK) (ci : jI) (cj : jJ) (cr : jR) {q} (hC : jCW K cr) (h : fX13_at_35 n vat  l2 l4 t0 t1 K ci cj cr = some q) (hq : jqp wJ K q Qr) : Ev g (d + 1) mX13_at 35 [jU, jU, .long l2, jU, .long l4, jU] [.int t0, .int t1] K ci cj cr c sl Qr Qx := by
  unfold fX13_at_35 at h
  refine ev_icmp_ne 42 dX13_at_35 rfl (fun z1 => ?_) (fun z1 => ?_)
  · rw [if_neg z1] at h
    refine ev_lload dX13_at_42 rfl ?_
    exact ev_mask [false, false, false, false, false, false] (wX13_at_44 n _ hvat   _ _ _ _ _ hC h hq)
  · rw [if_pos z1] at h
    refine ev_lload_n dX13_at_38 rfl ?_
    refine ev_goto 44 dX13_at_39 rfl ?_
    exact ev_mask [false, false, false, false, false, false] (wX13_at_44 n _ hvat   _ _ _ _ _ hC h hq)
def fX13_at (n : Nat) (vat : Nat → Nat → jK → jI → jJ → jR → Option (jTp Int64)) (ah : Nat) (a0 : Nat) (K : jK) (ci : jI) (cj : jJ) (cr : jR) : Option (jTp Int64) := if K.1 ah = 11 ∧ ah < K.2.2 then Option.bind (cr ah 1) (fun r2 => jpb (vat r2 a0 K ci cj cr) (fun r4 ci5 cj6 cr7 => Option.bind (cr7 ah 2) (fun r10 => jpb (vat r10 a0 K ci5 cj6 cr7) (fun r12 ci13 cj14 cr15 => if r4 ≤ r12 then fX13_at_35 n vat  r4 r12 (nI 0) (ci13 ah 0) K ci13 cj14 cr15 else fX13_at_35 n vat  r4 r12 (nI 1) (ci13 ah 0) K ci13 cj14 cr15)))) else none
theorem metX13_at {g : jG} {d : Nat} {c sl : Nat} {Qr : jQ} {Qx : jX} (n : Nat) (vat : Nat → Nat → jK → jI → jJ → jR → Option (jTp Int64)) (hvat : jvat g d vatM wJ vat) (ah : Nat) (a0 : Nat) (K : jK) (ci : jI) (cj : jJ) (cr : jR) {q} (hC : jCW K cr) (h : fX13_at n vat ah a0 K ci cj cr = some q) (hq : jqp wJ K q Qr) : EvM g (d + 1) mX13_at [.ref ah, .ref a0] K ci cj cr c sl Qr Qx := by
  unfold fX13_at at h
  show Ev g (d + 1) mX13_at 0 [.ref ah, .ref a0, jU, jU, jU, jU] [] K ci cj cr c sl Qr Qx
  refine ev_aload_n dX13_at_0 rfl ?_
  by_cases z1 : K.1 ah = 11 ∧ ah < K.2.2
  rotate_left
  · rw [if_neg z1] at h; cases h
  rw [if_pos z1] at h
  obtain ⟨r2, z3, h⟩ := Option.bind_eq_some_iff.mp h
  refine ev_getR dX13_at_1 fX13_13_11 z1.1 (Or.inl z1.2) rfl z3 ?_
  refine ev_aload_n dX13_at_4 rfl ?_
  obtain ⟨r4, ci5, cj6, cr7, z8, h⟩ := jpb_inv h
  refine ev_vcall dX13_at_5 yaX13_20 vatL (jvat.up hvat (by omega)) hC z8 (Nat.le_of_ble_eq_true rfl) rfl (fun hC9 => ?_)
  show Ev g _ _ 8 _ [.long r4] K ci5 cj6 cr7 _ _ Qr Qx
  refine ev_lstore_n (L' := [_, _, _, _, _, _]) dX13_at_8 (by decide) rfl ?_
  refine ev_aload_n dX13_at_9 rfl ?_
  obtain ⟨r10, z11, h⟩ := Option.bind_eq_some_iff.mp h
  refine ev_getR dX13_at_10 fX13_17_11 z1.1 (Or.inl z1.2) rfl z11 ?_
  refine ev_aload_n dX13_at_13 rfl ?_
  obtain ⟨r12, ci13, cj14, cr15, z16, h⟩ := jpb_inv h
  refine ev_vcall dX13_at_14 yaX13_20 vatL (jvat.up hvat (by omega)) hC9 z16 (Nat.le_of_ble_eq_true rfl) rfl (fun hC17 => ?_)
  show Ev g _ _ 17 _ [.long r12] K ci13 cj14 cr15 _ _ Qr Qx
  refine ev_lstore (L' := [_, _, _, _, _, _]) dX13_at_17 (by decide) rfl ?_
  refine ev_aload_n dX13_at_19 rfl ?_
  refine ev_getI dX13_at_20 fX13_7_11 z1.1 (Or.inl z1.2) rfl ?_
  refine ev_lload_n dX13_at_23 rfl ?_
  refine ev_lload dX13_at_24 rfl ?_
  refine ev_lcif_le 34 dX13_at_26 dX13_at_27 rfl (fun z18 => ?_) (fun z18 => ?_)
  · rw [if_pos z18] at h
    refine ev_iconst (v := (nI 0)) dX13_at_34 jc0 ?_
    exact ev_mask [false, false, true, false, true, false] (wX13_at_35 n _ hvat   _ _ _ _ _ _ _ _ hC17 h hq)
  · rw [if_neg z18] at h
    refine ev_iconst (v := (nI 1)) dX13_at_30 jc1 ?_
    refine ev_goto 35 dX13_at_31 rfl ?_
    exact ev_mask [false, false, true, false, true, false] (wX13_at_35 n _ hvat   _ _ _ _ _ _ _ _ hC17 h hq)
def fX14_at (n : Nat) (ah : Nat) (a0 : Nat) (K : jK) (ci : jI) (cj : jJ) (cr : jR) : Option (jTp Int64) := if K.1 ah = 12 ∧ ah < K.2.2 then some ((cj ah 0), ci, cj, cr) else none
theorem metX14_at {g : jG} {d : Nat} {c sl : Nat} {Qr : jQ} {Qx : jX} (n : Nat) (ah : Nat) (a0 : Nat) (K : jK) (ci : jI) (cj : jJ) (cr : jR) {q} (hC : jCW K cr) (h : fX14_at n ah a0 K ci cj cr = some q) (hq : jqp wJ K q Qr) : EvM g (d + 1) mX14_at [.ref ah, .ref a0] K ci cj cr c sl Qr Qx := by
  unfold fX14_at at h
  show Ev g (d + 1) mX14_at 0 [.ref ah, .ref a0] [] K ci cj cr c sl Qr Qx
  refine ev_aload_n dX14_at_0 rfl ?_
  by_cases z1 : K.1 ah = 12 ∧ ah < K.2.2
  rotate_left
  · rw [if_neg z1] at h; cases h
  rw [if_pos z1] at h
  refine ev_getJ dX14_at_1 fX14_7_12 z1.1 (Or.inl z1.2) rfl ?_
  cases h
  exact ev_lret dX14_at_4 rfl (hq hC)
def fX15_at (n : Nat) (ah : Nat) (a0 : Nat) (K : jK) (ci : jI) (cj : jJ) (cr : jR) : Option (jTp Int64) := if K.1 a0 = 4 ∧ a0 < K.2.2 then Option.bind (cr a0 0) (fun r2 => if K.1 ah = 13 ∧ ah < K.2.2 then if K.1 r2 = 103 ∧ r2 < K.2.2 then if jok (ci ah 0) (K.2.1 r2) then jpb (fX0_held n (cj r2 ((ci ah 0)).toNatClampNeg) K ci cj cr) (fun r7 ci8 cj9 cr10 => some (r7, ci8, cj9, cr10)) else none else none else none) else none
theorem metX15_at {g : jG} {d : Nat} {c sl : Nat} {Qr : jQ} {Qx : jX} (n : Nat) (ah : Nat) (a0 : Nat) (K : jK) (ci : jI) (cj : jJ) (cr : jR) {q} (hC : jCW K cr) (h : fX15_at n ah a0 K ci cj cr = some q) (hq : jqp wJ K q Qr) : EvM g (d + 3) mX15_at [.ref ah, .ref a0] K ci cj cr c sl Qr Qx := by
  unfold fX15_at at h
  show Ev g (d + 3) mX15_at 0 [.ref ah, .ref a0] [] K ci cj cr c sl Qr Qx
  refine ev_aload_n dX15_at_0 rfl ?_
  by_cases z1 : K.1 a0 = 4 ∧ a0 < K.2.2
  rotate_left
  · rw [if_neg z1] at h; cases h
  rw [if_pos z1] at h
  obtain ⟨r2, z3, h⟩ := Option.bind_eq_some_iff.mp h
  refine ev_getR dX15_at_1 fX15_13_4 z1.1 (Or.inl z1.2) rfl z3 ?_
  refine ev_aload_n dX15_at_4 rfl ?_
  by_cases z4 : K.1 ah = 13 ∧ ah < K.2.2
  rotate_left
  · rw [if_neg z4] at h; cases h
  rw [if_pos z4] at h
  refine ev_getI dX15_at_5 fX15_7_13 z4.1 (Or.inl z4.2) rfl ?_
  by_cases z5 : K.1 r2 = 103 ∧ r2 < K.2.2
  rotate_left
  · rw [if_neg z5] at h; cases h
  rw [if_pos z5] at h
  by_cases z6 : jok (ci ah 0) (K.2.1 r2)
  rotate_left
  · rw [if_neg z6] at h; cases h
  rw [if_pos z6] at h
  refine ev_laload dX15_at_8 z5.1 (Or.inl z5.2) (jok.ix z6 rfl) ?_
  obtain ⟨r7, ci8, cj9, cr10, z11, h⟩ := jpb_inv h
  refine ev_zS1 dX15_at_9 sX15_19 (Nat.le_of_ble_eq_true rfl) (Nat.le_of_ble_eq_true rfl) rfl (metX0_held n _ _ _ _ _ hC z11 (fun hC12 => ?_))
  show Ev g _ _ 12 _ [.long r7] K ci8 cj9 cr10 _ _ Qr Qx
  cases h
  exact ev_lret dX15_at_12 rfl (hq hC12)
def fX16_at (n : Nat) (vat : Nat → Nat → jK → jI → jJ → jR → Option (jTp Int64)) (vho : Nat → Nat → jK → jI → jJ → jR → Option (jTp Int32)) (ah : Nat) (a0 : Nat) (K : jK) (ci : jI) (cj : jJ) (cr : jR) : Option (jTp Int64) := if K.1 ah = 14 ∧ ah < K.2.2 then if cr ah 2 = some 0 then Option.bind (cr ah 1) (fun r4 => jpb (vat r4 a0 K ci cj cr) (fun r6 ci7 cj8 cr9 => jpb (fX0_looked n vho (ci ah 0) r6 K ci7 cj8 cr9) (fun r12 ci13 cj14 cr15 => jpb (fX0_held n r12 K ci13 cj14 cr15) (fun r18 ci19 cj20 cr21 => some (r18, ci19, cj20, cr21))))) else none else none
theorem metX16_at {g : jG} {d : Nat} {c sl : Nat} {Qr : jQ} {Qx : jX} (n : Nat) (vat : Nat → Nat → jK → jI → jJ → jR → Option (jTp Int64)) (vho : Nat → Nat → jK → jI → jJ → jR → Option (jTp Int32)) (hvat : jvat g d vatM wJ vat) (hvho : jvat g d vhoM wI vho) (ah : Nat) (a0 : Nat) (K : jK) (ci : jI) (cj : jJ) (cr : jR) {q} (hC : jCW K cr) (h : fX16_at n vat vho ah a0 K ci cj cr = some q) (hq : jqp wJ K q Qr) : EvM g (d + 8) mX16_at [.ref ah, .ref a0] K ci cj cr c sl Qr Qx := by
  unfold fX16_at at h
  show Ev g (d + 8) mX16_at 0 [.ref ah, .ref a0] [] K ci cj cr c sl Qr Qx
  refine ev_aload_n dX16_at_0 rfl ?_
  by_cases z1 : K.1 ah = 14 ∧ ah < K.2.2
  rotate_left
  · rw [if_neg z1] at h; cases h
  rw [if_pos z1] at h
  by_cases z3 : cr ah 2 = some 0
  rotate_left
  · rw [if_neg z3] at h; cases h
  rw [if_pos z3] at h
  refine ev_getR dX16_at_1 fX16_1_14 z1.1 (Or.inl z1.2) rfl z3 ?_
  refine ev_aload_n dX16_at_4 rfl ?_
  refine ev_getI dX16_at_5 fX16_13_14 z1.1 (Or.inl z1.2) rfl ?_
  refine ev_aload_n dX16_at_8 rfl ?_
  obtain ⟨r4, z5, h⟩ := Option.bind_eq_some_iff.mp h
  refine ev_getR dX16_at_9 fX16_17_14 z1.1 (Or.inl z1.2) rfl z5 ?_
  refine ev_aload_n dX16_at_12 rfl ?_
  obtain ⟨r6, ci7, cj8, cr9, z10, h⟩ := jpb_inv h
  refine ev_vcall dX16_at_13 yaX16_21 vatL (jvat.up hvat (by omega)) hC z10 (Nat.le_of_ble_eq_true rfl) rfl (fun hC11 => ?_)
  show Ev g _ _ 16 _ [.long r6, .int (ci ah 0), .ref 0] K ci7 cj8 cr9 _ _ Qr Qx
  obtain ⟨r12, ci13, cj14, cr15, z16, h⟩ := jpb_inv h
  refine ev_zV2 dX16_at_16 vX16_25_0 (ck0 hC11) (Or.inl (cl0 hC11)) (Nat.le_of_ble_eq_true rfl) (Nat.le_of_ble_eq_true rfl) rfl (metX0_looked n _ (jvat.up hvho (by omega)) _ _ _ _ _ _ hC11 z16 (fun hC17 => ?_))
  show Ev g _ _ 19 _ [.long r12] K ci13 cj14 cr15 _ _ Qr Qx
  obtain ⟨r18, ci19, cj20, cr21, z22, h⟩ := jpb_inv h
  refine ev_zS1 dX16_at_19 sX16_31 (Nat.le_of_ble_eq_true rfl) (Nat.le_of_ble_eq_true rfl) rfl (metX0_held n _ _ _ _ _ hC17 z22 (fun hC23 => ?_))
  show Ev g _ _ 22 _ [.long r18] K ci19 cj20 cr21 _ _ Qr Qx
  cases h
  exact ev_lret dX16_at_22 rfl (hq hC23)
def fX18_holds_51 (n : Nat) (vho : Nat → Nat → jK → jI → jJ → jR → Option (jTp Int32)) (t0 : Int32) (K : jK) (ci : jI) (cj : jJ) (cr : jR) : Option (jTp Int32) := if t0 = 0 ∨ t0 = 1 then some (t0, ci, cj, cr) else none
theorem wX18_holds_51 {g : jG} {d : Nat} {c sl : Nat} {Qr : jQ} {Qx : jX} (n : Nat) (vho : Nat → Nat → jK → jI → jJ → jR → Option (jTp Int32)) (hvho : jvat g d vhoM wI vho) (t0 : Int32) (K : jK) (ci : jI) (cj : jJ) (cr : jR) {q} (hC : jCW K cr) (h : fX18_holds_51 n vho  t0 K ci cj cr = some q) (hq : jqp wI K q Qr) : Ev g (d + 4) mX18_holds 51 [jU, jU, jU] [.int t0] K ci cj cr c sl Qr Qx := by
  unfold fX18_holds_51 at h
  by_cases z1 : t0 = 0 ∨ t0 = 1
  rotate_left
  · rw [if_neg z1] at h; cases h
  rw [if_pos z1] at h
  cases h
  exact ev_iret dX18_holds_51 rfl (jbool z1) (hq hC)
def fX18_holds_2 (n : Nat) (vho : Nat → Nat → jK → jI → jJ → jR → Option (jTp Int32)) : Nat → Nat → Nat → Int32 → jK → jI → jJ → jR → Option (jTp Int32)
  | 0, _, _, _, _, _, _, _ => none
  | k + 1, l0, l1, l2, K, ci, cj, cr => if K.1 l0 = 15 ∧ l0 < K.2.2 then Option.bind (cr l0 0) (fun r2 => if K.1 r2 = 20 ∧ r2 < K.2.2 then jpb (fJ2_size n r2 K ci cj cr) (fun r5 ci6 cj7 cr8 => if r5 ≤ l2 then if (ci6 l0 1) = 0 ∨ (ci6 l0 1) = 1 then some ((ci6 l0 1), ci6, cj7, cr8) else none else Option.bind (cr8 l0 0) (fun r13 => if K.1 r13 = 20 ∧ r13 < K.2.2 then jpb (fJ2_get n r13 l2 K ci6 cj7 cr8) (fun r16 ci17 cj18 cr19 => if (K.1 r16 = 15 ∨ K.1 r16 = 16 ∨ K.1 r16 = 17 ∨ K.1 r16 = 18) ∧ r16 < K.2.2 then jpb (vho r16 l1 K ci17 cj18 cr19) (fun r23 ci24 cj25 cr26 => if r23 = (ci24 l0 1) then fX18_holds_2 n vho  k l0 l1 (l2 + (nI 1)) K ci24 cj25 cr26 else if (ci24 l0 1) = 0 then fX18_holds_51 n vho  (nI 1) K ci24 cj25 cr26 else fX18_holds_51 n vho  (nI 0) K ci24 cj25 cr26) else none) else none)) else none) else none
theorem wX18_holds_2 {g : jG} {d : Nat} {c sl : Nat} {Qr : jQ} {Qx : jX} (n : Nat) (vho : Nat → Nat → jK → jI → jJ → jR → Option (jTp Int32)) (hvho : jvat g d vhoM wI vho) : ∀ (k : Nat) (l0 : Nat) (l1 : Nat) (l2 : Int32) (K : jK) (ci : jI) (cj : jJ) (cr : jR) {q}, jCW K cr → fX18_holds_2 n vho  k l0 l1 l2 K ci cj cr = some q → jqp wI K q Qr → Ev g (d + 4) mX18_holds 2 [.ref l0, .ref l1, .int l2] [] K ci cj cr c sl Qr Qx := by
  intro k
  induction k with
  | zero =>
    intro l0 l1 l2 K ci cj cr q hC h hq
    rw [fX18_holds_2.eq_1] at h; cases h
  | succ k ih =>
    intro l0 l1 l2 K ci cj cr q hC h hq
    rw [fX18_holds_2.eq_2] at h
    refine ev_iload_n dX18_holds_2 rfl ?_
    refine ev_aload_n dX18_holds_3 rfl ?_
    by_cases z1 : K.1 l0 = 15 ∧ l0 < K.2.2
    rotate_left
    · rw [if_neg z1] at h; cases h
    rw [if_pos z1] at h
    obtain ⟨r2, z3, h⟩ := Option.bind_eq_some_iff.mp h
    refine ev_getR dX18_holds_4 fX18_12_15 z1.1 (Or.inl z1.2) rfl z3 ?_
    by_cases z4 : K.1 r2 = 20 ∧ r2 < K.2.2
    rotate_left
    · rw [if_neg z4] at h; cases h
    rw [if_pos z4] at h
    obtain ⟨r5, ci6, cj7, cr8, z9, h⟩ := jpb_inv h
    refine ev_zF0 dX18_holds_7 vX18_22_20 z4.1 (Or.inl z4.2) (Nat.le_of_ble_eq_true rfl) (Nat.le_of_ble_eq_true rfl) rfl (metJ2_size n _ _ _ _ _ hC z9 (fun hC10 => ?_))
    show Ev g _ _ 12 _ [.int r5, .int l2] K ci6 cj7 cr8 _ _ Qr Qx
    refine ev_icmp_ge 58 dX18_holds_12 rfl (fun z11 => ?_) (fun z11 => ?_)
    · rw [if_pos z11] at h
      refine ev_aload_n dX18_holds_58 rfl ?_
      refine ev_getI dX18_holds_59 fX18_18_15 z1.1 (Or.inl z1.2) rfl ?_
      by_cases z12 : (ci6 l0 1) = 0 ∨ (ci6 l0 1) = 1
      rotate_left
      · rw [if_neg z12] at h; cases h
      rw [if_pos z12] at h
      cases h
      exact ev_iret dX18_holds_62 rfl (jbool z12) (hq hC10)
    · rw [if_neg z11] at h
      refine ev_aload_n dX18_holds_15 rfl ?_
      obtain ⟨r13, z14, h⟩ := Option.bind_eq_some_iff.mp h
      refine ev_getR dX18_holds_16 fX18_12_15 z1.1 (Or.inl z1.2) rfl z14 ?_
      refine ev_iload_n dX18_holds_19 rfl ?_
      by_cases z15 : K.1 r13 = 20 ∧ r13 < K.2.2
      rotate_left
      · rw [if_neg z15] at h; cases h
      rw [if_pos z15] at h
      obtain ⟨r16, ci17, cj18, cr19, z20, h⟩ := jpb_inv h
      refine ev_zF1 dX18_holds_20 vX18_28_20 z15.1 (Or.inl z15.2) (Nat.le_of_ble_eq_true rfl) (Nat.le_of_ble_eq_true rfl) rfl (metJ2_get n _ _ _ _ _ _ hC10 z20 (fun hC21 => ?_))
      show Ev g _ _ 25 _ [.ref r16] K ci17 cj18 cr19 _ _ Qr Qx
      by_cases z22 : (K.1 r16 = 15 ∨ K.1 r16 = 16 ∨ K.1 r16 = 17 ∨ K.1 r16 = 18) ∧ r16 < K.2.2
      rotate_left
      · rw [if_neg z22] at h; cases h
      rw [if_pos z22] at h
      refine ev_cast dX18_holds_25 kX18_2 (by rcases z22.1 with z | z | z | z <;> rw [z] <;> decide) (Or.inl z22.2) ?_
      refine ev_aload_n dX18_holds_28 rfl ?_
      obtain ⟨r23, ci24, cj25, cr26, z27, h⟩ := jpb_inv h
      refine ev_vcall dX18_holds_29 yhX18_32 vhoL (jvat.up hvho (by omega)) hC21 z27 (Nat.le_of_ble_eq_true rfl) rfl (fun hC28 => ?_)
      show Ev g _ _ 32 _ [.int r23] K ci24 cj25 cr26 _ _ Qr Qx
      refine ev_aload_n dX18_holds_32 rfl ?_
      refine ev_getI dX18_holds_33 fX18_18_15 z1.1 (Or.inl z1.2) rfl ?_
      refine ev_icmp_eq 52 dX18_holds_36 rfl (fun z29 => ?_) (fun z29 => ?_)
      · rw [if_pos z29] at h
        refine ev_iinc (v := (l2 + (nI 1))) (L' := [_, _, _]) dX18_holds_52 rfl (by rw [ji_1]) (by decide) rfl ?_
        refine ev_goto 2 dX18_holds_55 rfl ?_
        exact ih _ _ _ _ _ _ _ hC28 h hq
      · rw [if_neg z29] at h
        refine ev_aload_n dX18_holds_39 rfl ?_
        refine ev_getI dX18_holds_40 fX18_18_15 z1.1 (Or.inl z1.2) rfl ?_
        refine ev_if_ne 50 dX18_holds_43 rfl (fun z30 => ?_) (fun z30 => ?_)
        · rw [if_neg z30] at h
          refine ev_iconst (v := (nI 0)) dX18_holds_50 jc0 ?_
          exact ev_mask [false, false, false] (wX18_holds_51 n _ hvho   _ _ _ _ _ hC28 h hq)
        · rw [if_pos z30] at h
          refine ev_iconst (v := (nI 1)) dX18_holds_46 jc1 ?_
          refine ev_goto 51 dX18_holds_47 rfl ?_
          exact ev_mask [false, false, false] (wX18_holds_51 n _ hvho   _ _ _ _ _ hC28 h hq)
def fX18_holds (n : Nat) (vho : Nat → Nat → jK → jI → jJ → jR → Option (jTp Int32)) (ah : Nat) (a0 : Nat) (K : jK) (ci : jI) (cj : jJ) (cr : jR) : Option (jTp Int32) := fX18_holds_2 n vho  n ah a0 (nI 0) K ci cj cr
theorem metX18_holds {g : jG} {d : Nat} {c sl : Nat} {Qr : jQ} {Qx : jX} (n : Nat) (vho : Nat → Nat → jK → jI → jJ → jR → Option (jTp Int32)) (hvho : jvat g d vhoM wI vho) (ah : Nat) (a0 : Nat) (K : jK) (ci : jI) (cj : jJ) (cr : jR) {q} (hC : jCW K cr) (h : fX18_holds n vho ah a0 K ci cj cr = some q) (hq : jqp wI K q Qr) : EvM g (d + 4) mX18_holds [.ref ah, .ref a0] K ci cj cr c sl Qr Qx := by
  unfold fX18_holds at h
  show Ev g (d + 4) mX18_holds 0 [.ref ah, .ref a0, jU] [] K ci cj cr c sl Qr Qx
  refine ev_iconst (v := (nI 0)) dX18_holds_0 jc0 ?_
  refine ev_istore_n (L' := [_, _, _]) dX18_holds_1 (by decide) rfl ?_
  exact wX18_holds_2 n _ hvho   n _ _ _ _ _ _ _ hC h hq
def fX19_holds_16 (n : Nat) (vho : Nat → Nat → jK → jI → jJ → jR → Option (jTp Int32)) (t0 : Int32) (K : jK) (ci : jI) (cj : jJ) (cr : jR) : Option (jTp Int32) := if t0 = 0 ∨ t0 = 1 then some (t0, ci, cj, cr) else none
theorem wX19_holds_16 {g : jG} {d : Nat} {c sl : Nat} {Qr : jQ} {Qx : jX} (n : Nat) (vho : Nat → Nat → jK → jI → jJ → jR → Option (jTp Int32)) (hvho : jvat g d vhoM wI vho) (t0 : Int32) (K : jK) (ci : jI) (cj : jJ) (cr : jR) {q} (hC : jCW K cr) (h : fX19_holds_16 n vho  t0 K ci cj cr = some q) (hq : jqp wI K q Qr) : Ev g (d + 1) mX19_holds 16 [jU, jU] [.int t0] K ci cj cr c sl Qr Qx := by
  unfold fX19_holds_16 at h
  by_cases z1 : t0 = 0 ∨ t0 = 1
  rotate_left
  · rw [if_neg z1] at h; cases h
  rw [if_pos z1] at h
  cases h
  exact ev_iret dX19_holds_16 rfl (jbool z1) (hq hC)
def fX19_holds (n : Nat) (vho : Nat → Nat → jK → jI → jJ → jR → Option (jTp Int32)) (ah : Nat) (a0 : Nat) (K : jK) (ci : jI) (cj : jJ) (cr : jR) : Option (jTp Int32) := if K.1 ah = 16 ∧ ah < K.2.2 then Option.bind (cr ah 0) (fun r2 => jpb (vho r2 a0 K ci cj cr) (fun r4 ci5 cj6 cr7 => if r4 = 0 then fX19_holds_16 n vho  (nI 1) K ci5 cj6 cr7 else fX19_holds_16 n vho  (nI 0) K ci5 cj6 cr7)) else none
theorem metX19_holds {g : jG} {d : Nat} {c sl : Nat} {Qr : jQ} {Qx : jX} (n : Nat) (vho : Nat → Nat → jK → jI → jJ → jR → Option (jTp Int32)) (hvho : jvat g d vhoM wI vho) (ah : Nat) (a0 : Nat) (K : jK) (ci : jI) (cj : jJ) (cr : jR) {q} (hC : jCW K cr) (h : fX19_holds n vho ah a0 K ci cj cr = some q) (hq : jqp wI K q Qr) : EvM g (d + 1) mX19_holds [.ref ah, .ref a0] K ci cj cr c sl Qr Qx := by
  unfold fX19_holds at h
  show Ev g (d + 1) mX19_holds 0 [.ref ah, .ref a0] [] K ci cj cr c sl Qr Qx
  refine ev_aload_n dX19_holds_0 rfl ?_
  by_cases z1 : K.1 ah = 16 ∧ ah < K.2.2
  rotate_left
  · rw [if_neg z1] at h; cases h
  rw [if_pos z1] at h
  obtain ⟨r2, z3, h⟩ := Option.bind_eq_some_iff.mp h
  refine ev_getR dX19_holds_1 fX19_7_16 z1.1 (Or.inl z1.2) rfl z3 ?_
  refine ev_aload_n dX19_holds_4 rfl ?_
  obtain ⟨r4, ci5, cj6, cr7, z8, h⟩ := jpb_inv h
  refine ev_vcall dX19_holds_5 yhX19_13 vhoL (jvat.up hvho (by omega)) hC z8 (Nat.le_of_ble_eq_true rfl) rfl (fun hC9 => ?_)
  show Ev g _ _ 8 _ [.int r4] K ci5 cj6 cr7 _ _ Qr Qx
  refine ev_if_ne 15 dX19_holds_8 rfl (fun z10 => ?_) (fun z10 => ?_)
  · rw [if_neg z10] at h
    refine ev_iconst (v := (nI 0)) dX19_holds_15 jc0 ?_
    exact ev_mask [false, false] (wX19_holds_16 n _ hvho   _ _ _ _ _ hC9 h hq)
  · rw [if_pos z10] at h
    refine ev_iconst (v := (nI 1)) dX19_holds_11 jc1 ?_
    refine ev_goto 16 dX19_holds_12 rfl ?_
    exact ev_mask [false, false] (wX19_holds_16 n _ hvho   _ _ _ _ _ hC9 h hq)
def fX20_holds (n : Nat) (ah : Nat) (a0 : Nat) (K : jK) (ci : jI) (cj : jJ) (cr : jR) : Option (jTp Int32) := some ((nI 1), ci, cj, cr)
theorem metX20_holds {g : jG} {d : Nat} {c sl : Nat} {Qr : jQ} {Qx : jX} (n : Nat) (ah : Nat) (a0 : Nat) (K : jK) (ci : jI) (cj : jJ) (cr : jR) {q} (hC : jCW K cr) (h : fX20_holds n ah a0 K ci cj cr = some q) (hq : jqp wI K q Qr) : EvM g (d + 1) mX20_holds [.ref ah, .ref a0] K ci cj cr c sl Qr Qx := by
  unfold fX20_holds at h
  show Ev g (d + 1) mX20_holds 0 [.ref ah, .ref a0] [] K ci cj cr c sl Qr Qx
  refine ev_iconst (v := (nI 1)) dX20_holds_0 jc1 ?_
  cases h
  exact ev_iret dX20_holds_1 rfl (by decide) (hq hC)
def fX21_holds_79 (n : Nat) (vat : Nat → Nat → jK → jI → jJ → jR → Option (jTp Int64)) (t0 : Int32) (K : jK) (ci : jI) (cj : jJ) (cr : jR) : Option (jTp Int32) := if t0 = 0 ∨ t0 = 1 then some (t0, ci, cj, cr) else none
theorem wX21_holds_79 {g : jG} {d : Nat} {c sl : Nat} {Qr : jQ} {Qx : jX} (n : Nat) (vat : Nat → Nat → jK → jI → jJ → jR → Option (jTp Int64)) (hvat : jvat g d vatM wJ vat) (t0 : Int32) (K : jK) (ci : jI) (cj : jJ) (cr : jR) {q} (hC : jCW K cr) (h : fX21_holds_79 n vat  t0 K ci cj cr = some q) (hq : jqp wI K q Qr) : Ev g (d + 1) mX21_holds 79 [jU, jU, jU, jU, jU, jU] [.int t0] K ci cj cr c sl Qr Qx := by
  unfold fX21_holds_79 at h
  by_cases z1 : t0 = 0 ∨ t0 = 1
  rotate_left
  · rw [if_neg z1] at h; cases h
  rw [if_pos z1] at h
  cases h
  exact ev_iret dX21_holds_79 rfl (jbool z1) (hq hC)
def fX21_holds (n : Nat) (vat : Nat → Nat → jK → jI → jJ → jR → Option (jTp Int64)) (ah : Nat) (a0 : Nat) (K : jK) (ci : jI) (cj : jJ) (cr : jR) : Option (jTp Int32) := if K.1 ah = 18 ∧ ah < K.2.2 then Option.bind (cr ah 0) (fun r2 => jpb (vat r2 a0 K ci cj cr) (fun r4 ci5 cj6 cr7 => Option.bind (cr7 ah 1) (fun r10 => jpb (vat r10 a0 K ci5 cj6 cr7) (fun r12 ci13 cj14 cr15 => if (ci13 ah 2) = (nI 60) then if r12 ≤ r4 then fX21_holds_79 n vat  (nI 0) K ci13 cj14 cr15 else fX21_holds_79 n vat  (nI 1) K ci13 cj14 cr15 else if (ci13 ah 2) = (nI 62) then if r4 ≤ r12 then fX21_holds_79 n vat  (nI 0) K ci13 cj14 cr15 else fX21_holds_79 n vat  (nI 1) K ci13 cj14 cr15 else if r4 = r12 then fX21_holds_79 n vat  (nI 1) K ci13 cj14 cr15 else fX21_holds_79 n vat  (nI 0) K ci13 cj14 cr15)))) else none
theorem metX21_holds {g : jG} {d : Nat} {c sl : Nat} {Qr : jQ} {Qx : jX} (n : Nat) (vat : Nat → Nat → jK → jI → jJ → jR → Option (jTp Int64)) (hvat : jvat g d vatM wJ vat) (ah : Nat) (a0 : Nat) (K : jK) (ci : jI) (cj : jJ) (cr : jR) {q} (hC : jCW K cr) (h : fX21_holds n vat ah a0 K ci cj cr = some q) (hq : jqp wI K q Qr) : EvM g (d + 1) mX21_holds [.ref ah, .ref a0] K ci cj cr c sl Qr Qx := by
  unfold fX21_holds at h
  show Ev g (d + 1) mX21_holds 0 [.ref ah, .ref a0, jU, jU, jU, jU] [] K ci cj cr c sl Qr Qx
  refine ev_aload_n dX21_holds_0 rfl ?_
  by_cases z1 : K.1 ah = 18 ∧ ah < K.2.2
  rotate_left
  · rw [if_neg z1] at h; cases h
  rw [if_pos z1] at h
  obtain ⟨r2, z3, h⟩ := Option.bind_eq_some_iff.mp h
  refine ev_getR dX21_holds_1 fX21_7_18 z1.1 (Or.inl z1.2) rfl z3 ?_
  refine ev_aload_n dX21_holds_4 rfl ?_
  obtain ⟨r4, ci5, cj6, cr7, z8, h⟩ := jpb_inv h
  refine ev_vcall dX21_holds_5 yaX21_20 vatL (jvat.up hvat (by omega)) hC z8 (Nat.le_of_ble_eq_true rfl) rfl (fun hC9 => ?_)
  show Ev g _ _ 8 _ [.long r4] K ci5 cj6 cr7 _ _ Qr Qx
  refine ev_lstore_n (L' := [_, _, _, _, _, _]) dX21_holds_8 (by decide) rfl ?_
  refine ev_aload_n dX21_holds_9 rfl ?_
  obtain ⟨r10, z11, h⟩ := Option.bind_eq_some_iff.mp h
  refine ev_getR dX21_holds_10 fX21_17_18 z1.1 (Or.inl z1.2) rfl z11 ?_
  refine ev_aload_n dX21_holds_13 rfl ?_
  obtain ⟨r12, ci13, cj14, cr15, z16, h⟩ := jpb_inv h
  refine ev_vcall dX21_holds_14 yaX21_20 vatL (jvat.up hvat (by omega)) hC9 z16 (Nat.le_of_ble_eq_true rfl) rfl (fun hC17 => ?_)
  show Ev g _ _ 17 _ [.long r12] K ci13 cj14 cr15 _ _ Qr Qx
  refine ev_lstore (L' := [_, _, _, _, _, _]) dX21_holds_17 (by decide) rfl ?_
  refine ev_aload_n dX21_holds_19 rfl ?_
  refine ev_getI dX21_holds_20 fX21_13_18 z1.1 (Or.inl z1.2) rfl ?_
  refine ev_bipush (v := (nI 60)) dX21_holds_23 jb60 ?_
  refine ev_icmp_ne 43 dX21_holds_25 rfl (fun z18 => ?_) (fun z18 => ?_)
  · rw [if_neg z18] at h
    refine ev_aload_n dX21_holds_43 rfl ?_
    refine ev_getI dX21_holds_44 fX21_13_18 z1.1 (Or.inl z1.2) rfl ?_
    refine ev_bipush (v := (nI 62)) dX21_holds_47 jb62 ?_
    refine ev_icmp_ne 67 dX21_holds_49 rfl (fun z19 => ?_) (fun z19 => ?_)
    · rw [if_neg z19] at h
      refine ev_lload_n dX21_holds_67 rfl ?_
      refine ev_lload dX21_holds_68 rfl ?_
      refine ev_lcif_ne 78 dX21_holds_70 dX21_holds_71 rfl (fun z20 => ?_) (fun z20 => ?_)
      · rw [if_neg z20] at h
        refine ev_iconst (v := (nI 0)) dX21_holds_78 jc0 ?_
        exact ev_mask [false, false, false, false, false, false] (wX21_holds_79 n _ hvat   _ _ _ _ _ hC17 h hq)
      · rw [if_pos z20] at h
        refine ev_iconst (v := (nI 1)) dX21_holds_74 jc1 ?_
        refine ev_goto 79 dX21_holds_75 rfl ?_
        exact ev_mask [false, false, false, false, false, false] (wX21_holds_79 n _ hvat   _ _ _ _ _ hC17 h hq)
    · rw [if_pos z19] at h
      refine ev_lload_n dX21_holds_52 rfl ?_
      refine ev_lload dX21_holds_53 rfl ?_
      refine ev_lcif_le 63 dX21_holds_55 dX21_holds_56 rfl (fun z21 => ?_) (fun z21 => ?_)
      · rw [if_pos z21] at h
        refine ev_iconst (v := (nI 0)) dX21_holds_63 jc0 ?_
        refine ev_goto 79 dX21_holds_64 rfl ?_
        exact ev_mask [false, false, false, false, false, false] (wX21_holds_79 n _ hvat   _ _ _ _ _ hC17 h hq)
      · rw [if_neg z21] at h
        refine ev_iconst (v := (nI 1)) dX21_holds_59 jc1 ?_
        refine ev_goto 79 dX21_holds_60 rfl ?_
        exact ev_mask [false, false, false, false, false, false] (wX21_holds_79 n _ hvat   _ _ _ _ _ hC17 h hq)
  · rw [if_pos z18] at h
    refine ev_lload_n dX21_holds_28 rfl ?_
    refine ev_lload dX21_holds_29 rfl ?_
    refine ev_lcif_ge 39 dX21_holds_31 dX21_holds_32 rfl (fun z22 => ?_) (fun z22 => ?_)
    · rw [if_pos z22] at h
      refine ev_iconst (v := (nI 0)) dX21_holds_39 jc0 ?_
      refine ev_goto 79 dX21_holds_40 rfl ?_
      exact ev_mask [false, false, false, false, false, false] (wX21_holds_79 n _ hvat   _ _ _ _ _ hC17 h hq)
    · rw [if_neg z22] at h
      refine ev_iconst (v := (nI 1)) dX21_holds_35 jc1 ?_
      refine ev_goto 79 dX21_holds_36 rfl ?_
      exact ev_mask [false, false, false, false, false, false] (wX21_holds_79 n _ hvat   _ _ _ _ _ hC17 h hq)
/-! THE KNOT OF THE EVALUATION: at and holds, by a budget of 60 calls in one another -/
def fev (n : Nat) : Nat → (Nat → Nat → jK → jI → jJ → jR → Option (jTp Int64)) × (Nat → Nat → jK → jI → jJ → jR → Option (jTp Int32))
  | 0 => (fun _ _ _ _ _ _ => none, fun _ _ _ _ _ _ => none)
  | m + 1 => (fun r mo K ci cj cr => if r < K.2.2 then (if K.1 r = 10 then fX12_at n (fev n m).1 r mo K ci cj cr else if K.1 r = 11 then fX13_at n (fev n m).1 r mo K ci cj cr else if K.1 r = 12 then fX14_at n r mo K ci cj cr else if K.1 r = 13 then fX15_at n r mo K ci cj cr else if K.1 r = 14 then fX16_at n (fev n m).1 (fev n m).2 r mo K ci cj cr else none) else none,
    fun r mo K ci cj cr => if r < K.2.2 then (if K.1 r = 15 then fX18_holds n (fev n m).2 r mo K ci cj cr else if K.1 r = 16 then fX19_holds n (fev n m).2 r mo K ci cj cr else if K.1 r = 17 then fX20_holds n r mo K ci cj cr else if K.1 r = 18 then fX21_holds n (fev n m).1 r mo K ci cj cr else none) else none)
def fat (n : Nat) : Nat → Nat → jK → jI → jJ → jR → Option (jTp Int64) := (fev n 60).1
def fho (n : Nat) : Nat → Nat → jK → jI → jJ → jR → Option (jTp Int32) := (fev n 60).2
theorem tev {g : jG} (n : Nat) : ∀ (m d : Nat), jvat g (d + 9 * m) vatM wJ (fev n m).1 ∧ jvat g (d + 9 * m) vhoM wI (fev n m).2 := by
  intro m
  induction m with
  | zero =>
    intro d
    exact ⟨fun d' hd r mo K ci cj cr q Qr Qx hC h hq => (by cases h), fun d' hd r mo K ci cj cr q Qr Qx hC h hq => (by cases h)⟩
  | succ m ih =>
    intro d
    obtain ⟨h1, h2⟩ := ih d
    have key : ∀ (M' : jM) (As : List Value) (rk d' : Nat) (K : jK) (ci : jI) (cj : jJ) (cr : jR) (Qr : jQ) (Qx : jX), rk ≤ 9 → d + 9 * (m + 1) ≤ d' → (∀ d0, d + 9 * m ≤ d0 → EvM g (d0 + rk) M' As K ci cj cr 0 0 Qr Qx) → EvM g d' M' As K ci cj cr 0 0 Qr Qx := by
      intro M' As rk d' K ci cj cr Qr Qx hr hd h
      have e : d' = (d' - rk) + rk := by rw [Nat.mul_add] at hd; omega
      rw [e]
      exact h _ (by rw [Nat.mul_add] at hd; omega)
    refine ⟨fun d' hd r mo K ci cj cr q Qr Qx hC h hq => ?_, fun d' hd r mo K ci cj cr q Qr Qx hC h hq => ?_⟩
    · rw [fev.eq_2] at h
      have h : (if r < K.2.2 then (if K.1 r = 10 then fX12_at n (fev n m).1 r mo K ci cj cr else if K.1 r = 11 then fX13_at n (fev n m).1 r mo K ci cj cr else if K.1 r = 12 then fX14_at n r mo K ci cj cr else if K.1 r = 13 then fX15_at n r mo K ci cj cr else if K.1 r = 14 then fX16_at n (fev n m).1 (fev n m).2 r mo K ci cj cr else none) else none) = some q := h
      split at h
      · next hl =>
        refine ⟨hl, ?_⟩
        split at h
        · next hk => exact ⟨mX12_at, by rw [hk]; first | exact List.mem_cons_self | (repeat (first | exact List.mem_cons_self | apply List.mem_cons_of_mem)), key _ _ _ _ _ _ _ _ _ _ (by decide) hd (fun d0 hd0 => metX12_at n _ (fun d' hd' => h1 d' (Nat.le_trans hd0 hd')) _ _ _ _ _ _ hC h hq)⟩
        · split at h
          · next hk => exact ⟨mX13_at, by rw [hk]; first | exact List.mem_cons_self | (repeat (first | exact List.mem_cons_self | apply List.mem_cons_of_mem)), key _ _ _ _ _ _ _ _ _ _ (by decide) hd (fun d0 hd0 => metX13_at n _ (fun d' hd' => h1 d' (Nat.le_trans hd0 hd')) _ _ _ _ _ _ hC h hq)⟩
          · split at h
            · next hk => exact ⟨mX14_at, by rw [hk]; first | exact List.mem_cons_self | (repeat (first | exact List.mem_cons_self | apply List.mem_cons_of_mem)), key _ _ _ _ _ _ _ _ _ _ (by decide) hd (fun d0 hd0 => metX14_at n _ _ _ _ _ _ hC h hq)⟩
            · split at h
              · next hk => exact ⟨mX15_at, by rw [hk]; first | exact List.mem_cons_self | (repeat (first | exact List.mem_cons_self | apply List.mem_cons_of_mem)), key _ _ _ _ _ _ _ _ _ _ (by decide) hd (fun d0 hd0 => metX15_at n _ _ _ _ _ _ hC h hq)⟩
              · split at h
                · next hk => exact ⟨mX16_at, by rw [hk]; first | exact List.mem_cons_self | (repeat (first | exact List.mem_cons_self | apply List.mem_cons_of_mem)), key _ _ _ _ _ _ _ _ _ _ (by decide) hd (fun d0 hd0 => metX16_at n _ _ (fun d' hd' => h1 d' (Nat.le_trans hd0 hd')) (fun d' hd' => h2 d' (Nat.le_trans hd0 hd')) _ _ _ _ _ _ hC h hq)⟩
                · cases h
      · cases h
    · rw [fev.eq_2] at h
      have h : (if r < K.2.2 then (if K.1 r = 15 then fX18_holds n (fev n m).2 r mo K ci cj cr else if K.1 r = 16 then fX19_holds n (fev n m).2 r mo K ci cj cr else if K.1 r = 17 then fX20_holds n r mo K ci cj cr else if K.1 r = 18 then fX21_holds n (fev n m).1 r mo K ci cj cr else none) else none) = some q := h
      split at h
      · next hl =>
        refine ⟨hl, ?_⟩
        split at h
        · next hk => exact ⟨mX18_holds, by rw [hk]; first | exact List.mem_cons_self | (repeat (first | exact List.mem_cons_self | apply List.mem_cons_of_mem)), key _ _ _ _ _ _ _ _ _ _ (by decide) hd (fun d0 hd0 => metX18_holds n _ (fun d' hd' => h2 d' (Nat.le_trans hd0 hd')) _ _ _ _ _ _ hC h hq)⟩
        · split at h
          · next hk => exact ⟨mX19_holds, by rw [hk]; first | exact List.mem_cons_self | (repeat (first | exact List.mem_cons_self | apply List.mem_cons_of_mem)), key _ _ _ _ _ _ _ _ _ _ (by decide) hd (fun d0 hd0 => metX19_holds n _ (fun d' hd' => h2 d' (Nat.le_trans hd0 hd')) _ _ _ _ _ _ hC h hq)⟩
          · split at h
            · next hk => exact ⟨mX20_holds, by rw [hk]; first | exact List.mem_cons_self | (repeat (first | exact List.mem_cons_self | apply List.mem_cons_of_mem)), key _ _ _ _ _ _ _ _ _ _ (by decide) hd (fun d0 hd0 => metX20_holds n _ _ _ _ _ _ hC h hq)⟩
            · split at h
              · next hk => exact ⟨mX21_holds, by rw [hk]; first | exact List.mem_cons_self | (repeat (first | exact List.mem_cons_self | apply List.mem_cons_of_mem)), key _ _ _ _ _ _ _ _ _ _ (by decide) hd (fun d0 hd0 => metX21_holds n _ (fun d' hd' => h1 d' (Nat.le_trans hd0 hd')) _ _ _ _ _ _ hC h hq)⟩
              · cases h
      · cases h
theorem tvat {g : jG} {n d : Nat} : jvat g (d + 540) vatM wJ (fat n) := (tev n 60 d).1
theorem tvho {g : jG} {n d : Nat} : jvat g (d + 540) vhoM wI (fho n) := (tev n 60 d).2
/-! THE KNOT OF THE READER: sums, atoms, tests, facts, by a budget of 8 calls in one another -/
def fpa (n : Nat) : Nat → (jK → jI → jJ → jR → Option (jT Nat)) × (jK → jI → jJ → jR → Option (jT Nat)) × (jK → jI → jJ → jR → Option (jT Nat)) × (jK → jI → jJ → jR → Option (jT Nat))
  | 0 => (fun _ _ _ _ => none, fun _ _ _ _ => none, fun _ _ _ _ => none, fun _ _ _ _ => none)
  | m + 1 => (fX2_sum n (fpa n m).1 (fpa n m).2.1, fX2_atom n (fpa n m).1 (fpa n m).2.1, fX2_test n (fpa n m).1 (fpa n m).2.1 (fpa n m).2.2.1 (fpa n m).2.2.2, fX2_fact n (fpa n m).1 (fpa n m).2.1 (fpa n m).2.2.1 (fpa n m).2.2.2)
def fsum (n : Nat) := (fpa n 8).1
def fatom (n : Nat) := (fpa n 8).2.1
def ftest (n : Nat) := (fpa n 8).2.2.1
def ffact (n : Nat) := (fpa n 8).2.2.2
theorem tpa {g : jG} (n : Nat) : ∀ (m d : Nat), jcb g (d + 14 * m) mX2_sum (fpa n m).1 ∧ jcb g (d + 14 * m) mX2_atom (fpa n m).2.1 ∧ jcb g (d + 14 * m) mX2_test (fpa n m).2.2.1 ∧ jcb g (d + 14 * m) mX2_fact (fpa n m).2.2.2 := by
  intro m
  induction m with
  | zero =>
    intro d
    exact ⟨fun d' hd K ci cj cr q Qr Qx hC h hq => (by cases h), fun d' hd K ci cj cr q Qr Qx hC h hq => (by cases h), fun d' hd K ci cj cr q Qr Qx hC h hq => (by cases h), fun d' hd K ci cj cr q Qr Qx hC h hq => (by cases h)⟩
  | succ m ih =>
    intro d
    obtain ⟨h1, h2, h3, h4⟩ := ih d
    have key : ∀ (M' : jM) (rk d' c1 s1 : Nat) (K : jK) (ci : jI) (cj : jJ) (cr : jR) (Qr : jQ) (Qx : jX), rk ≤ 14 → d + 14 * (m + 1) ≤ d' → (∀ d0, d + 14 * m ≤ d0 → EvM g (d0 + rk) M' [.ref 9] K ci cj cr c1 s1 Qr Qx) → EvM g d' M' [.ref 9] K ci cj cr c1 s1 Qr Qx := by
      intro M' rk d' c1 s1 K ci cj cr Qr Qx hr hd h
      have e : d' = (d' - rk) + rk := by rw [Nat.mul_add] at hd; omega
      rw [e]
      exact h _ (by rw [Nat.mul_add] at hd; omega)
    rw [fpa.eq_2]
    refine ⟨fun d' hd K ci cj cr q Qr Qx hC h hq => ?_, fun d' hd K ci cj cr q Qr Qx hC h hq => ?_, fun d' hd K ci cj cr q Qr Qx hC h hq => ?_, fun d' hd K ci cj cr q Qr Qx hC h hq => ?_⟩
    · exact key _ _ _ _ _ _ _ _ _ _ _ (by decide) hd (fun d0 hd0 => metX2_sum n _ _ (fun d' hd' => h1 d' (Nat.le_trans hd0 hd')) (fun d' hd' => h2 d' (Nat.le_trans hd0 hd')) _ _ _ _ hC h hq)
    · exact key _ _ _ _ _ _ _ _ _ _ _ (by decide) hd (fun d0 hd0 => metX2_atom n _ _ (fun d' hd' => h1 d' (Nat.le_trans hd0 hd')) (fun d' hd' => h2 d' (Nat.le_trans hd0 hd')) _ _ _ _ hC h hq)
    · exact key _ _ _ _ _ _ _ _ _ _ _ (by decide) hd (fun d0 hd0 => metX2_test n _ _ _ _ (fun d' hd' => h1 d' (Nat.le_trans hd0 hd')) (fun d' hd' => h2 d' (Nat.le_trans hd0 hd')) (fun d' hd' => h3 d' (Nat.le_trans hd0 hd')) (fun d' hd' => h4 d' (Nat.le_trans hd0 hd')) _ _ _ _ hC h hq)
    · exact key _ _ _ _ _ _ _ _ _ _ _ (by decide) hd (fun d0 hd0 => metX2_fact n _ _ _ _ (fun d' hd' => h1 d' (Nat.le_trans hd0 hd')) (fun d' hd' => h2 d' (Nat.le_trans hd0 hd')) (fun d' hd' => h3 d' (Nat.le_trans hd0 hd')) (fun d' hd' => h4 d' (Nat.le_trans hd0 hd')) _ _ _ _ hC h hq)
theorem tsum {g : jG} {n d : Nat} : jcb g (d + 112) mX2_sum (fsum n) := (tpa n 8 d).1
theorem tatom {g : jG} {n d : Nat} : jcb g (d + 112) mX2_atom (fatom n) := (tpa n 8 d).2.1
theorem ttest {g : jG} {n d : Nat} : jcb g (d + 112) mX2_test (ftest n) := (tpa n 8 d).2.2.1
theorem tfact {g : jG} {n d : Nat} : jcb g (d + 112) mX2_fact (ffact n) := (tpa n 8 d).2.2.2
def fX2_once_10 (n : Nat) (a0 : Option Nat) (l2 : Int32) (l3 : Int32) (t0 : Int32) (K : jK) (ci : jI) (cj : jJ) (cr : jR) : Option (jT Nat) := jxb (fX2_most n t0 l2 K ci cj cr) (fun r1 K2 ci3 cj4 cr5 => jxb (fX2_sum n (fsum n) (fatom n)  K2 (ju ci3 9 5 l3) cj4 cr5) (fun r8 K9 ci10 cj11 cr12 => some (some r8, K9, ci10, cj11, cr12, 0, 0)))
theorem wX2_once_10 {g : jG} {d : Nat} {Qr : jQ} {Qx : jX} (n : Nat) (a0 : Option Nat) (l2 : Int32) (l3 : Int32) (t0 : Int32) (K : jK) (ci : jI) (cj : jJ) (cr : jR) {q} (hC : jCW K cr) (h : fX2_once_10 n a0  l2 l3 t0 K ci cj cr = some q) (hq : jqx wR q Qr Qx) : Ev g (d + 123) mX2_once 10 [.ref 9, jU, .int l2, .int l3] [.int t0, .ref 9] K ci cj cr q.2.2.2.2.2.1 q.2.2.2.2.2.2 Qr Qx := by
  unfold fX2_once_10 at h
  refine ev_iload_n dX2_once_10 rfl ?_
  refine jx_inv (wf := wV) (fun c1 s1 c sl z => ev_invV2 dX2_once_11 vX2_120_2 (ck9 hC) (Or.inl (cl9 hC)) (Nat.le_of_ble_eq_true rfl) (Nat.le_of_ble_eq_true rfl) rfl z) h hq (fun q Qr' z zq => metX2_most n _ _ _ _ _ _ hC z zq) (fun r1 K2 ci3 cj4 cr5 w6 h hC7 hq => ?_)
  show Ev g _ _ 14 _ [] K2 ci3 cj4 cr5 _ _ Qr Qx
  refine ev_aload_n dX2_once_14 rfl ?_
  refine ev_iload_n dX2_once_15 rfl ?_
  refine ev_putI dX2_once_16 (pX2_206_2 _) (ck9 hC7) (cl9 hC7) rfl rfl rfl ?_
  refine ev_aload_n dX2_once_19 rfl ?_
  refine jx_inv (wf := wR) (fun c1 s1 c sl z => ev_invV0 dX2_once_20 vX2_209_2 (ck9 hC7) (Or.inl (cl9 hC7)) (Nat.le_of_ble_eq_true rfl) (Nat.le_of_ble_eq_true rfl) rfl z) h hq (fun q Qr' z zq => metX2_sum n _ _ tsum tatom  _ _ _ _ hC7 z zq) (fun r8 K9 ci10 cj11 cr12 w13 h hC14 hq => ?_)
  show Ev g _ _ 23 _ [.ref r8] K9 ci10 cj11 cr12 _ _ Qr Qx
  cases h
  exact ev_aret dX2_once_23 rfl rfl (hq hC14)
def fX2_once (n : Nat) (a0 : Option Nat) (a1 : Int32) (a2 : Int32) (K : jK) (ci : jI) (cj : jJ) (cr : jR) : Option (jT Nat) := if a0 = none then fX2_once_10 n a0  a1 a2 (nI 0) K ci cj cr else fX2_once_10 n a0  a1 a2 (nI 1) K ci cj cr
theorem metX2_once {g : jG} {d : Nat} {Qr : jQ} {Qx : jX} (n : Nat) (a0 : Option Nat) (a1 : Int32) (a2 : Int32) (K : jK) (ci : jI) (cj : jJ) (cr : jR) {q} (hC : jCW K cr) (h : fX2_once n a0 a1 a2 K ci cj cr = some q) (hq : jqx wR q Qr Qx) : EvM g (d + 123) mX2_once [.ref 9, va_rf a0, .int a1, .int a2] K ci cj cr q.2.2.2.2.2.1 q.2.2.2.2.2.2 Qr Qx := by
  unfold fX2_once at h
  have e9 : jentP mX2_once.2.2.1 [.ref 9, va_rf a0, .int a1, .int a2] = [.ref 9, va_rf a0, .int a1, .int a2] := by cases a0 <;>  rfl
  show Ev g (d + 123) mX2_once 0 (jentP mX2_once.2.2.1 [.ref 9, va_rf a0, .int a1, .int a2]) [] K ci cj cr q.2.2.2.2.2.1 q.2.2.2.2.2.2 Qr Qx
  rw [e9]
  refine ev_aload_n dX2_once_0 rfl ?_
  refine ev_aload_nQ dX2_once_1 rfl ?_
  refine ev_ifnullQ 9 dX2_once_2 rfl (fun z1 => ?_) (fun z1 => ?_)
  · rw [if_pos z1] at h
    refine ev_iconst (v := (nI 0)) dX2_once_9 jc0 ?_
    exact ev_mask [true, false, true, true] (wX2_once_10 n _   _ _ _ _ _ _ _ hC h hq)
  · rw [if_neg z1] at h
    refine ev_iconst (v := (nI 1)) dX2_once_5 jc1 ?_
    refine ev_goto 10 dX2_once_6 rfl ?_
    exact ev_mask [true, false, true, true] (wX2_once_10 n _   _ _ _ _ _ _ _ hC h hq)
def fX2_more_262 (n : Nat) (K : jK) (ci : jI) (cj : jJ) (cr : jR) : Option (jT Unit) := some (some (), K, ci, cj, cr, 0, 0)
theorem wX2_more_262 {g : jG} {d : Nat} {Qr : jQ} {Qx : jX} (n : Nat) (K : jK) (ci : jI) (cj : jJ) (cr : jR) {q} (hC : jCW K cr) (h : fX2_more_262 n   K ci cj cr = some q) (hq : jqx wV q Qr Qx) : Ev g (d + 126) mX2_more 262 [jU, jU, jU, jU, jU] [] K ci cj cr q.2.2.2.2.2.1 q.2.2.2.2.2.2 Qr Qx := by
  unfold fX2_more_262 at h
  cases h
  exact ev_ret dX2_more_262 rfl (hq hC)
def fX2_more_230 (n : Nat) (l2 : Int32) (t0 : Int32) (K : jK) (ci : jI) (cj : jJ) (cr : jR) : Option (jT Unit) := jxb (fX2_most n t0 l2 K ci cj cr) (fun r1 K2 ci3 cj4 cr5 => Option.bind (cr5 9 6) (fun r8 => jxb (fX2_test n (fsum n) (fatom n) (ftest n) (ffact n)  K2 (ju ci3 9 5 (nI 338)) cj4 cr5) (fun r10 K11 ci12 cj13 cr14 => if K11.1 r8 = 1 ∧ r8 < K11.2.2 then fX2_more_262 n   K11 ci12 cj13 (ju cr14 r8 8 (some r10)) else none)))
theorem wX2_more_230 {g : jG} {d : Nat} {Qr : jQ} {Qx : jX} (n : Nat) (l2 : Int32) (t0 : Int32) (K : jK) (ci : jI) (cj : jJ) (cr : jR) {q} (hC : jCW K cr) (h : fX2_more_230 n  l2 t0 K ci cj cr = some q) (hq : jqx wV q Qr Qx) : Ev g (d + 126) mX2_more 230 [.ref 9, jU, .int l2, jU, jU] [.int t0, .ref 9] K ci cj cr q.2.2.2.2.2.1 q.2.2.2.2.2.2 Qr Qx := by
  unfold fX2_more_230 at h
  refine ev_iload_n dX2_more_230 rfl ?_
  refine jx_inv (wf := wV) (fun c1 s1 c sl z => ev_invV2 dX2_more_231 vX2_120_2 (ck9 hC) (Or.inl (cl9 hC)) (Nat.le_of_ble_eq_true rfl) (Nat.le_of_ble_eq_true rfl) rfl z) h hq (fun q Qr' z zq => metX2_most n _ _ _ _ _ _ hC z zq) (fun r1 K2 ci3 cj4 cr5 w6 h hC7 hq => ?_)
  show Ev g _ _ 234 _ [] K2 ci3 cj4 cr5 _ _ Qr Qx
  refine ev_aload_n dX2_more_234 rfl ?_
  refine ev_sipush (v := (nI 338)) dX2_more_235 js338 ?_
  refine ev_putI dX2_more_238 (pX2_206_2 _) (ck9 hC7) (cl9 hC7) rfl rfl rfl ?_
  refine ev_aload_n dX2_more_241 rfl ?_
  obtain ⟨r8, z9, h⟩ := Option.bind_eq_some_iff.mp h
  refine ev_getR dX2_more_242 fX2_103_2 (ck9 hC7) (Or.inl (cl9 hC7)) rfl z9 ?_
  refine ev_aload_n dX2_more_245 rfl ?_
  refine jx_inv (wf := wR) (fun c1 s1 c sl z => ev_invV0 dX2_more_246 vX2_235_2 (ck9 hC7) (Or.inl (cl9 hC7)) (Nat.le_of_ble_eq_true rfl) (Nat.le_of_ble_eq_true rfl) rfl z) h hq (fun q Qr' z zq => metX2_test n _ _ _ _ tsum tatom ttest tfact  _ _ _ _ hC7 z zq) (fun r10 K11 ci12 cj13 cr14 w15 h hC16 hq => ?_)
  show Ev g _ _ 249 _ [.ref r10, .ref r8] K11 ci12 cj13 cr14 _ _ Qr Qx
  by_cases z17 : K11.1 r8 = 1 ∧ r8 < K11.2.2
  rotate_left
  · rw [if_neg z17] at h; cases h
  rw [if_pos z17] at h
  refine ev_putR dX2_more_249 (pX2_232_1 _) z17.1 z17.2 rfl ?_
  have hC18 := jCW.upd hC16 (k := 8) (v := (some r10)) z17.1 (by decide)
  refine ev_goto 262 dX2_more_252 rfl ?_
  exact ev_mask [false, false, false, false, false] (wX2_more_262 n    _ _ _ _ hC18 h hq)
def fX2_more_109 (n : Nat) (l2 : Int32) (l4 : Int32) (K : jK) (ci : jI) (cj : jJ) (cr : jR) : Option (jT Unit) := if l4 = (nI 0) then Option.bind (cr 9 6) (fun r2 => Option.bind (cr 9 6) (fun r4 => if K.1 r4 = 1 ∧ r4 < K.2.2 then jxb (fX2_once n (cr r4 5) l2 (nI 63) K ci cj cr) (fun r7 K8 ci9 cj10 cr11 => if K8.1 r2 = 1 ∧ r2 < K8.2.2 then fX2_more_262 n   K8 ci9 cj10 (ju cr11 r2 5 (some r7)) else none) else none)) else if l4 = (nI 1) then Option.bind (cr 9 6) (fun r17 => Option.bind (cr 9 6) (fun r19 => if K.1 r19 = 1 ∧ r19 < K.2.2 then jxb (fX2_once n (cr r19 6) l2 (nI 467) K ci cj cr) (fun r22 K23 ci24 cj25 cr26 => if K23.1 r17 = 1 ∧ r17 < K23.2.2 then fX2_more_262 n   K23 ci24 cj25 (ju cr26 r17 6 (some r22)) else none) else none)) else if l4 = (nI 2) then Option.bind (cr 9 6) (fun r32 => Option.bind (cr 9 6) (fun r34 => if K.1 r34 = 1 ∧ r34 < K.2.2 then jxb (fX2_once n (cr r34 7) l2 (nI 147) K ci cj cr) (fun r37 K38 ci39 cj40 cr41 => if K38.1 r32 = 1 ∧ r32 < K38.2.2 then fX2_more_262 n   K38 ci39 cj40 (ju cr41 r32 7 (some r37)) else none) else none)) else if l4 = (nI 3) then Option.bind (cr 9 6) (fun r47 => if K.1 r47 = 1 ∧ r47 < K.2.2 then if (cr r47 8) = none then fX2_more_230 n  l2 (nI 0) K ci cj cr else fX2_more_230 n  l2 (nI 1) K ci cj cr else none) else jpb (fX2_wrong n (nI 1) l2 K ci cj cr) (fun r51 ci52 cj53 cr54 => if r51 = 10 then some (none, K, ci52, cj53, cr54, 0, 0) else none)
theorem wX2_more_109 {g : jG} {d : Nat} {Qr : jQ} {Qx : jX} (n : Nat) (l2 : Int32) (l4 : Int32) (K : jK) (ci : jI) (cj : jJ) (cr : jR) {q} (hC : jCW K cr) (h : fX2_more_109 n  l2 l4 K ci cj cr = some q) (hq : jqx wV q Qr Qx) : Ev g (d + 126) mX2_more 109 [.ref 9, jU, .int l2, jU, .int l4] [] K ci cj cr q.2.2.2.2.2.1 q.2.2.2.2.2.2 Qr Qx := by
  unfold fX2_more_109 at h
  refine ev_iload dX2_more_109 rfl ?_
  by_cases z1 : l4 = (nI 0)
  · rw [if_pos z1] at h
    refine ev_tableIn 140 dX2_more_111 (by rw [z1]; decide) (by rw [z1]; decide) (by rw [z1]; rfl) rfl ?_
    refine ev_aload_n dX2_more_140 rfl ?_
    obtain ⟨r2, z3, h⟩ := Option.bind_eq_some_iff.mp h
    refine ev_getR dX2_more_141 fX2_103_2 (ck9 hC) (Or.inl (cl9 hC)) rfl z3 ?_
    refine ev_aload_n dX2_more_144 rfl ?_
    refine ev_aload_n dX2_more_145 rfl ?_
    obtain ⟨r4, z5, h⟩ := Option.bind_eq_some_iff.mp h
    refine ev_getR dX2_more_146 fX2_103_2 (ck9 hC) (Or.inl (cl9 hC)) rfl z5 ?_
    by_cases z6 : K.1 r4 = 1 ∧ r4 < K.2.2
    rotate_left
    · rw [if_neg z6] at h; cases h
    rw [if_pos z6] at h
    refine ev_getQ dX2_more_149 fX2_221_1 z6.1 (Or.inl z6.2) rfl ?_
    refine ev_iload_n dX2_more_152 rfl ?_
    refine ev_bipush (v := (nI 63)) dX2_more_153 jb63 ?_
    refine jx_inv (wf := wR) (fun c1 s1 c sl z => ev_invV3 dX2_more_155 vX2_224_2 (ck9 hC) (Or.inl (cl9 hC)) (by rcases (cr r4 5) with _ | _ <;>  exact Nat.le_of_ble_eq_true rfl) (Nat.le_of_ble_eq_true rfl) rfl z) h hq (fun q Qr' z zq => metX2_once n _ _ _ _ _ _ _ hC z zq) (fun r7 K8 ci9 cj10 cr11 w12 h hC13 hq => ?_)
    show Ev g _ _ 158 _ [.ref r7, .ref r2] K8 ci9 cj10 cr11 _ _ Qr Qx
    by_cases z14 : K8.1 r2 = 1 ∧ r2 < K8.2.2
    rotate_left
    · rw [if_neg z14] at h; cases h
    rw [if_pos z14] at h
    refine ev_putR dX2_more_158 (pX2_221_1 _) z14.1 z14.2 rfl ?_
    have hC15 := jCW.upd hC13 (k := 5) (v := (some r7)) z14.1 (by decide)
    refine ev_goto 262 dX2_more_161 rfl ?_
    exact ev_mask [false, false, false, false, false] (wX2_more_262 n    _ _ _ _ hC15 h hq)
  rw [if_neg z1] at h
  by_cases z16 : l4 = (nI 1)
  · rw [if_pos z16] at h
    refine ev_tableIn 164 dX2_more_111 (by rw [z16]; decide) (by rw [z16]; decide) (by rw [z16]; rfl) rfl ?_
    refine ev_aload_n dX2_more_164 rfl ?_
    obtain ⟨r17, z18, h⟩ := Option.bind_eq_some_iff.mp h
    refine ev_getR dX2_more_165 fX2_103_2 (ck9 hC) (Or.inl (cl9 hC)) rfl z18 ?_
    refine ev_aload_n dX2_more_168 rfl ?_
    refine ev_aload_n dX2_more_169 rfl ?_
    obtain ⟨r19, z20, h⟩ := Option.bind_eq_some_iff.mp h
    refine ev_getR dX2_more_170 fX2_103_2 (ck9 hC) (Or.inl (cl9 hC)) rfl z20 ?_
    by_cases z21 : K.1 r19 = 1 ∧ r19 < K.2.2
    rotate_left
    · rw [if_neg z21] at h; cases h
    rw [if_pos z21] at h
    refine ev_getQ dX2_more_173 fX2_228_1 z21.1 (Or.inl z21.2) rfl ?_
    refine ev_iload_n dX2_more_176 rfl ?_
    refine ev_sipush (v := (nI 467)) dX2_more_177 js467 ?_
    refine jx_inv (wf := wR) (fun c1 s1 c sl z => ev_invV3 dX2_more_180 vX2_224_2 (ck9 hC) (Or.inl (cl9 hC)) (by rcases (cr r19 6) with _ | _ <;>  exact Nat.le_of_ble_eq_true rfl) (Nat.le_of_ble_eq_true rfl) rfl z) h hq (fun q Qr' z zq => metX2_once n _ _ _ _ _ _ _ hC z zq) (fun r22 K23 ci24 cj25 cr26 w27 h hC28 hq => ?_)
    show Ev g _ _ 183 _ [.ref r22, .ref r17] K23 ci24 cj25 cr26 _ _ Qr Qx
    by_cases z29 : K23.1 r17 = 1 ∧ r17 < K23.2.2
    rotate_left
    · rw [if_neg z29] at h; cases h
    rw [if_pos z29] at h
    refine ev_putR dX2_more_183 (pX2_228_1 _) z29.1 z29.2 rfl ?_
    have hC30 := jCW.upd hC28 (k := 6) (v := (some r22)) z29.1 (by decide)
    refine ev_goto 262 dX2_more_186 rfl ?_
    exact ev_mask [false, false, false, false, false] (wX2_more_262 n    _ _ _ _ hC30 h hq)
  rw [if_neg z16] at h
  by_cases z31 : l4 = (nI 2)
  · rw [if_pos z31] at h
    refine ev_tableIn 189 dX2_more_111 (by rw [z31]; decide) (by rw [z31]; decide) (by rw [z31]; rfl) rfl ?_
    refine ev_aload_n dX2_more_189 rfl ?_
    obtain ⟨r32, z33, h⟩ := Option.bind_eq_some_iff.mp h
    refine ev_getR dX2_more_190 fX2_103_2 (ck9 hC) (Or.inl (cl9 hC)) rfl z33 ?_
    refine ev_aload_n dX2_more_193 rfl ?_
    refine ev_aload_n dX2_more_194 rfl ?_
    obtain ⟨r34, z35, h⟩ := Option.bind_eq_some_iff.mp h
    refine ev_getR dX2_more_195 fX2_103_2 (ck9 hC) (Or.inl (cl9 hC)) rfl z35 ?_
    by_cases z36 : K.1 r34 = 1 ∧ r34 < K.2.2
    rotate_left
    · rw [if_neg z36] at h; cases h
    rw [if_pos z36] at h
    refine ev_getQ dX2_more_198 fX2_230_1 z36.1 (Or.inl z36.2) rfl ?_
    refine ev_iload_n dX2_more_201 rfl ?_
    refine ev_sipush (v := (nI 147)) dX2_more_202 js147 ?_
    refine jx_inv (wf := wR) (fun c1 s1 c sl z => ev_invV3 dX2_more_205 vX2_224_2 (ck9 hC) (Or.inl (cl9 hC)) (by rcases (cr r34 7) with _ | _ <;>  exact Nat.le_of_ble_eq_true rfl) (Nat.le_of_ble_eq_true rfl) rfl z) h hq (fun q Qr' z zq => metX2_once n _ _ _ _ _ _ _ hC z zq) (fun r37 K38 ci39 cj40 cr41 w42 h hC43 hq => ?_)
    show Ev g _ _ 208 _ [.ref r37, .ref r32] K38 ci39 cj40 cr41 _ _ Qr Qx
    by_cases z44 : K38.1 r32 = 1 ∧ r32 < K38.2.2
    rotate_left
    · rw [if_neg z44] at h; cases h
    rw [if_pos z44] at h
    refine ev_putR dX2_more_208 (pX2_230_1 _) z44.1 z44.2 rfl ?_
    have hC45 := jCW.upd hC43 (k := 7) (v := (some r37)) z44.1 (by decide)
    refine ev_goto 262 dX2_more_211 rfl ?_
    exact ev_mask [false, false, false, false, false] (wX2_more_262 n    _ _ _ _ hC45 h hq)
  rw [if_neg z31] at h
  by_cases z46 : l4 = (nI 3)
  · rw [if_pos z46] at h
    refine ev_tableIn 214 dX2_more_111 (by rw [z46]; decide) (by rw [z46]; decide) (by rw [z46]; rfl) rfl ?_
    refine ev_aload_n dX2_more_214 rfl ?_
    refine ev_aload_n dX2_more_215 rfl ?_
    obtain ⟨r47, z48, h⟩ := Option.bind_eq_some_iff.mp h
    refine ev_getR dX2_more_216 fX2_103_2 (ck9 hC) (Or.inl (cl9 hC)) rfl z48 ?_
    by_cases z49 : K.1 r47 = 1 ∧ r47 < K.2.2
    rotate_left
    · rw [if_neg z49] at h; cases h
    rw [if_pos z49] at h
    refine ev_getQ dX2_more_219 fX2_232_1 z49.1 (Or.inl z49.2) rfl ?_
    refine ev_ifnullQ 229 dX2_more_222 rfl (fun z50 => ?_) (fun z50 => ?_)
    · rw [if_pos z50] at h
      refine ev_iconst (v := (nI 0)) dX2_more_229 jc0 ?_
      exact ev_mask [true, false, true, false, false] (wX2_more_230 n   _ _ _ _ _ _ hC h hq)
    · rw [if_neg z50] at h
      refine ev_iconst (v := (nI 1)) dX2_more_225 jc1 ?_
      refine ev_goto 230 dX2_more_226 rfl ?_
      exact ev_mask [true, false, true, false, false] (wX2_more_230 n   _ _ _ _ _ _ hC h hq)
  rw [if_neg z46] at h
  refine ev_tableOut 255 dX2_more_111 (jtab_0_3 z1 z16 z31 z46) rfl ?_
  refine ev_aload_n dX2_more_255 rfl ?_
  refine ev_iconst (v := (nI 1)) dX2_more_256 jc1 ?_
  refine ev_iload_n dX2_more_257 rfl ?_
  obtain ⟨r51, ci52, cj53, cr54, z55, h⟩ := jpb_inv h
  refine ev_zV2 dX2_more_258 vX2_47_2 (ck9 hC) (Or.inl (cl9 hC)) (Nat.le_of_ble_eq_true rfl) (Nat.le_of_ble_eq_true rfl) rfl (metX2_wrong n _ _ _ _ _ _ hC z55 (fun hC56 => ?_))
  show Ev g _ _ 261 _ [.ref r51] K ci52 cj53 cr54 _ _ Qr Qx
  by_cases z57 : r51 = 10
  rotate_left
  · rw [if_neg z57] at h; cases h
  rw [if_pos z57] at h
  subst z57
  cases h
  exact ev_athrow dX2_more_261 (cl10 hC56) (ck10 hC56) rfl (hq hC56)
def fX2_more (n : Nat) (a0 : Nat) (a1 : Int32) (K : jK) (ci : jI) (cj : jJ) (cr : jR) : Option (jT Unit) := if K.1 a0 = 21 ∧ (a0 < K.2.2 ∨ 1000000 ≤ a0) then jpb (fJ6_hashCode n a0 K ci cj cr) (fun r2 ci3 cj4 cr5 => if r2 = (-1897183214) then jpb (fJ6_equals n a0 1000148 K ci3 cj4 cr5) (fun r9 ci10 cj11 cr12 => if r9 = 0 then fX2_more_109 n  a1 (-1) K ci10 cj11 cr12 else fX2_more_109 n  a1 (nI 2) K ci10 cj11 cr12) else if r2 = (-1354575548) then jpb (fJ6_equals n a0 1000150 K ci3 cj4 cr5) (fun r17 ci18 cj19 cr20 => if r17 = 0 then fX2_more_109 n  a1 (-1) K ci18 cj19 cr20 else fX2_more_109 n  a1 (nI 3) K ci18 cj19 cr20) else if r2 = (nI 103338615) then jpb (fJ6_equals n a0 1000144 K ci3 cj4 cr5) (fun r25 ci26 cj27 cr28 => if r25 = 0 then fX2_more_109 n  a1 (-1) K ci26 cj27 cr28 else fX2_more_109 n  a1 (nI 0) K ci26 cj27 cr28) else if r2 = (nI 103781605) then jpb (fJ6_equals n a0 1000146 K ci3 cj4 cr5) (fun r33 ci34 cj35 cr36 => if r33 = 0 then fX2_more_109 n  a1 (-1) K ci34 cj35 cr36 else fX2_more_109 n  a1 (nI 1) K ci34 cj35 cr36) else fX2_more_109 n  a1 (-1) K ci3 cj4 cr5) else none
theorem metX2_more {g : jG} {d : Nat} {Qr : jQ} {Qx : jX} (n : Nat) (a0 : Nat) (a1 : Int32) (K : jK) (ci : jI) (cj : jJ) (cr : jR) {q} (hC : jCW K cr) (h : fX2_more n a0 a1 K ci cj cr = some q) (hq : jqx wV q Qr Qx) : EvM g (d + 126) mX2_more [.ref 9, .ref a0, .int a1] K ci cj cr q.2.2.2.2.2.1 q.2.2.2.2.2.2 Qr Qx := by
  unfold fX2_more at h
  show Ev g (d + 126) mX2_more 0 [.ref 9, .ref a0, .int a1, jU, jU] [] K ci cj cr q.2.2.2.2.2.1 q.2.2.2.2.2.2 Qr Qx
  refine ev_aload_n dX2_more_0 rfl ?_
  refine ev_astore_n (L' := [_, _, _, _, _]) dX2_more_1 (by decide) rfl ?_
  refine ev_iconst (v := (-1)) dX2_more_2 jcm1 ?_
  refine ev_istore (L' := [_, _, _, _, _]) dX2_more_3 (by decide) rfl ?_
  refine ev_aload_n dX2_more_5 rfl ?_
  by_cases z1 : K.1 a0 = 21 ∧ (a0 < K.2.2 ∨ 1000000 ≤ a0)
  rotate_left
  · rw [if_neg z1] at h; cases h
  rw [if_pos z1] at h
  obtain ⟨r2, ci3, cj4, cr5, z6, h⟩ := jpb_inv h
  refine ev_zV0 dX2_more_6 vX2_184_21 z1.1 z1.2 (Nat.le_of_ble_eq_true rfl) (Nat.le_of_ble_eq_true rfl) rfl (metJ6_hashCode n _ _ _ _ _ hC z6 (fun hC7 => ?_))
  show Ev g _ _ 9 _ [.int r2] K ci3 cj4 cr5 _ _ Qr Qx
  by_cases z8 : r2 = (-1897183214)
  · rw [if_pos z8] at h
    refine ev_lookup 82 dX2_more_9 (by decide) (off := 73) (by rw [z8]; decide) rfl ?_
    refine ev_aload_n dX2_more_82 rfl ?_
    refine ev_ldcS "starves" 1000148 dX2_more_83 (by decide +kernel) ?_
    obtain ⟨r9, ci10, cj11, cr12, z13, h⟩ := jpb_inv h
    refine ev_zV1 dX2_more_85 vX2_74_21 z1.1 z1.2 (Nat.le_of_ble_eq_true rfl) (Nat.le_of_ble_eq_true rfl) rfl (metJ6_equals n _ _ _ _ _ _ hC7 z13 (fun hC14 => ?_))
    show Ev g _ _ 88 _ [.int r9] K ci10 cj11 cr12 _ _ Qr Qx
    refine ev_if_eq 109 dX2_more_88 rfl (fun z15 => ?_) (fun z15 => ?_)
    · rw [if_pos z15] at h
      exact ev_mask [true, false, true, false, true] (wX2_more_109 n   _ _ _ _ _ _ hC14 h hq)
    · rw [if_neg z15] at h
      refine ev_iconst (v := (nI 2)) dX2_more_91 jc2 ?_
      refine ev_istore (L' := [_, _, _, _, _]) dX2_more_92 (by decide) rfl ?_
      refine ev_goto 109 dX2_more_94 rfl ?_
      exact ev_mask [true, false, true, false, true] (wX2_more_109 n   _ _ _ _ _ _ hC14 h hq)
  rw [if_neg z8] at h
  by_cases z16 : r2 = (-1354575548)
  · rw [if_pos z16] at h
    refine ev_lookup 97 dX2_more_9 (by decide) (off := 88) (by rw [z16]; decide) rfl ?_
    refine ev_aload_n dX2_more_97 rfl ?_
    refine ev_ldcS "counts" 1000150 dX2_more_98 (by decide +kernel) ?_
    obtain ⟨r17, ci18, cj19, cr20, z21, h⟩ := jpb_inv h
    refine ev_zV1 dX2_more_100 vX2_74_21 z1.1 z1.2 (Nat.le_of_ble_eq_true rfl) (Nat.le_of_ble_eq_true rfl) rfl (metJ6_equals n _ _ _ _ _ _ hC7 z21 (fun hC22 => ?_))
    show Ev g _ _ 103 _ [.int r17] K ci18 cj19 cr20 _ _ Qr Qx
    refine ev_if_eq 109 dX2_more_103 rfl (fun z23 => ?_) (fun z23 => ?_)
    · rw [if_pos z23] at h
      exact ev_mask [true, false, true, false, true] (wX2_more_109 n   _ _ _ _ _ _ hC22 h hq)
    · rw [if_neg z23] at h
      refine ev_iconst (v := (nI 3)) dX2_more_106 jc3 ?_
      refine ev_istore (L' := [_, _, _, _, _]) dX2_more_107 (by decide) rfl ?_
      exact ev_mask [true, false, true, false, true] (wX2_more_109 n   _ _ _ _ _ _ hC22 h hq)
  rw [if_neg z16] at h
  by_cases z24 : r2 = (nI 103338615)
  · rw [if_pos z24] at h
    refine ev_lookup 52 dX2_more_9 (by decide) (off := 43) (by rw [z24]; decide) rfl ?_
    refine ev_aload_n dX2_more_52 rfl ?_
    refine ev_ldcS "lures" 1000144 dX2_more_53 (by decide +kernel) ?_
    obtain ⟨r25, ci26, cj27, cr28, z29, h⟩ := jpb_inv h
    refine ev_zV1 dX2_more_55 vX2_74_21 z1.1 z1.2 (Nat.le_of_ble_eq_true rfl) (Nat.le_of_ble_eq_true rfl) rfl (metJ6_equals n _ _ _ _ _ _ hC7 z29 (fun hC30 => ?_))
    show Ev g _ _ 58 _ [.int r25] K ci26 cj27 cr28 _ _ Qr Qx
    refine ev_if_eq 109 dX2_more_58 rfl (fun z31 => ?_) (fun z31 => ?_)
    · rw [if_pos z31] at h
      exact ev_mask [true, false, true, false, true] (wX2_more_109 n   _ _ _ _ _ _ hC30 h hq)
    · rw [if_neg z31] at h
      refine ev_iconst (v := (nI 0)) dX2_more_61 jc0 ?_
      refine ev_istore (L' := [_, _, _, _, _]) dX2_more_62 (by decide) rfl ?_
      refine ev_goto 109 dX2_more_64 rfl ?_
      exact ev_mask [true, false, true, false, true] (wX2_more_109 n   _ _ _ _ _ _ hC30 h hq)
  rw [if_neg z24] at h
  by_cases z32 : r2 = (nI 103781605)
  · rw [if_pos z32] at h
    refine ev_lookup 67 dX2_more_9 (by decide) (off := 58) (by rw [z32]; decide) rfl ?_
    refine ev_aload_n dX2_more_67 rfl ?_
    refine ev_ldcS "mends" 1000146 dX2_more_68 (by decide +kernel) ?_
    obtain ⟨r33, ci34, cj35, cr36, z37, h⟩ := jpb_inv h
    refine ev_zV1 dX2_more_70 vX2_74_21 z1.1 z1.2 (Nat.le_of_ble_eq_true rfl) (Nat.le_of_ble_eq_true rfl) rfl (metJ6_equals n _ _ _ _ _ _ hC7 z37 (fun hC38 => ?_))
    show Ev g _ _ 73 _ [.int r33] K ci34 cj35 cr36 _ _ Qr Qx
    refine ev_if_eq 109 dX2_more_73 rfl (fun z39 => ?_) (fun z39 => ?_)
    · rw [if_pos z39] at h
      exact ev_mask [true, false, true, false, true] (wX2_more_109 n   _ _ _ _ _ _ hC38 h hq)
    · rw [if_neg z39] at h
      refine ev_iconst (v := (nI 1)) dX2_more_76 jc1 ?_
      refine ev_istore (L' := [_, _, _, _, _]) dX2_more_77 (by decide) rfl ?_
      refine ev_goto 109 dX2_more_79 rfl ?_
      exact ev_mask [true, false, true, false, true] (wX2_more_109 n   _ _ _ _ _ _ hC38 h hq)
  rw [if_neg z32] at h
  refine ev_lookup 109 dX2_more_9 (by decide) (off := 100) (by show Op.lookupswitch.offset [(-1897183214, 73), (-1354575548, 88), (103338615, 43), (103781605, 58)] 100 _ = 100; rw [lv_osw z8 (by decide : ((-1897183214) : Int32).toInt = -1897183214), lv_osw z16 (by decide : ((-1354575548) : Int32).toInt = -1354575548), lv_osw z24 (by decide : ((nI 103338615) : Int32).toInt = 103338615), lv_osw z32 (by decide : ((nI 103781605) : Int32).toInt = 103781605)]; rfl) rfl ?_
  exact ev_mask [true, false, true, false, true] (wX2_more_109 n   _ _ _ _ _ _ hC7 h hq)
def fX2_all_98 (n : Nat) (rec26 : jK → jI → jJ → jR → Option (jT Nat)) (K : jK) (ci : jI) (cj : jJ) (cr : jR) : Option (jT Nat) := jxb (fX2_must n (nI 59) K ci cj cr) (fun r1 K2 ci3 cj4 cr5 => rec26  K2 ci3 cj4 cr5)
theorem wX2_all_98 {g : jG} {d : Nat} {Qr : jQ} {Qx : jX} (n : Nat) (rec26 : jK → jI → jJ → jR → Option (jT Nat)) (hrec26 : (∀ (K : jK) (ci : jI) (cj : jJ) (cr : jR) {q}, jCW K cr → rec26  K ci cj cr = some q → jqx wR q Qr Qx → Ev g (d + 127) mX2_all 26 [.ref 9, jU, jU] [] K ci cj cr q.2.2.2.2.2.1 q.2.2.2.2.2.2 Qr Qx)) (K : jK) (ci : jI) (cj : jJ) (cr : jR) {q} (hC : jCW K cr) (h : fX2_all_98 n rec26  K ci cj cr = some q) (hq : jqx wR q Qr Qx) : Ev g (d + 127) mX2_all 98 [.ref 9, jU, jU] [] K ci cj cr q.2.2.2.2.2.1 q.2.2.2.2.2.2 Qr Qx := by
  unfold fX2_all_98 at h
  refine ev_aload_n dX2_all_98 rfl ?_
  refine ev_bipush (v := (nI 59)) dX2_all_99 jb59 ?_
  refine jx_inv (wf := wV) (fun c1 s1 c sl z => ev_invV1 dX2_all_101 vX2_132_2 (ck9 hC) (Or.inl (cl9 hC)) (Nat.le_of_ble_eq_true rfl) (Nat.le_of_ble_eq_true rfl) rfl z) h hq (fun q Qr' z zq => metX2_must n _ _ _ _ _ hC z zq) (fun r1 K2 ci3 cj4 cr5 w6 h hC7 hq => ?_)
  show Ev g _ _ 104 _ [] K2 ci3 cj4 cr5 _ _ Qr Qx
  refine ev_goto 26 dX2_all_104 rfl ?_
  exact hrec26  _ _ _ _ hC7 h hq
def fX2_all_52 (n : Nat) (rec26 : jK → jI → jJ → jR → Option (jT Nat)) (t0 : Int32) (K : jK) (ci : jI) (cj : jJ) (cr : jR) : Option (jT Nat) := jxb (fX2_most n t0 (ci 9 2) K ci cj cr) (fun r1 K2 ci3 cj4 cr5 => Option.bind (cr5 9 6) (fun r8 => if K2.1 r8 = 1 ∧ r8 < K2.2.2 then jxb (fX2_word n  K2 (ju ci3 r8 0 ((ci3 r8 0) + (nI 1))) cj4 cr5) (fun r11 K12 ci13 cj14 cr15 => jxb (fX2_isTold n r11 (ci13 9 3) K12 ci13 cj14 cr15) (fun r18 K19 ci20 cj21 cr22 => if r18 = 0 then jxb (fX2_more n r11 (ci20 9 3) K19 ci20 cj21 cr22) (fun r26 K27 ci28 cj29 cr30 => fX2_all_98 n rec26  K27 ci28 cj29 cr30) else fX2_all_98 n rec26  K19 ci20 cj21 cr22)) else none))
theorem wX2_all_52 {g : jG} {d : Nat} {Qr : jQ} {Qx : jX} (n : Nat) (rec26 : jK → jI → jJ → jR → Option (jT Nat)) (hrec26 : (∀ (K : jK) (ci : jI) (cj : jJ) (cr : jR) {q}, jCW K cr → rec26  K ci cj cr = some q → jqx wR q Qr Qx → Ev g (d + 127) mX2_all 26 [.ref 9, jU, jU] [] K ci cj cr q.2.2.2.2.2.1 q.2.2.2.2.2.2 Qr Qx)) (t0 : Int32) (K : jK) (ci : jI) (cj : jJ) (cr : jR) {q} (hC : jCW K cr) (h : fX2_all_52 n rec26 t0 K ci cj cr = some q) (hq : jqx wR q Qr Qx) : Ev g (d + 127) mX2_all 52 [.ref 9, jU, jU] [.int t0, .ref 9] K ci cj cr q.2.2.2.2.2.1 q.2.2.2.2.2.2 Qr Qx := by
  unfold fX2_all_52 at h
  refine ev_aload_n dX2_all_52 rfl ?_
  refine ev_getI dX2_all_53 fX2_36_2 (ck9 hC) (Or.inl (cl9 hC)) rfl ?_
  refine jx_inv (wf := wV) (fun c1 s1 c sl z => ev_invV2 dX2_all_56 vX2_120_2 (ck9 hC) (Or.inl (cl9 hC)) (Nat.le_of_ble_eq_true rfl) (Nat.le_of_ble_eq_true rfl) rfl z) h hq (fun q Qr' z zq => metX2_most n _ _ _ _ _ _ hC z zq) (fun r1 K2 ci3 cj4 cr5 w6 h hC7 hq => ?_)
  show Ev g _ _ 59 _ [] K2 ci3 cj4 cr5 _ _ Qr Qx
  refine ev_aload_n dX2_all_59 rfl ?_
  obtain ⟨r8, z9, h⟩ := Option.bind_eq_some_iff.mp h
  refine ev_getR dX2_all_60 fX2_103_2 (ck9 hC7) (Or.inl (cl9 hC7)) rfl z9 ?_
  refine ev_dup dX2_all_63 rfl ?_
  by_cases z10 : K2.1 r8 = 1 ∧ r8 < K2.2.2
  rotate_left
  · rw [if_neg z10] at h; cases h
  rw [if_pos z10] at h
  refine ev_getI dX2_all_64 fX2_117_1 z10.1 (Or.inl z10.2) rfl ?_
  refine ev_iconst (v := (nI 1)) dX2_all_67 jc1 ?_
  refine ev_iadd dX2_all_68 ?_
  refine ev_putI dX2_all_69 (pX2_117_1 _) z10.1 z10.2 rfl rfl rfl ?_
  refine ev_aload_n dX2_all_72 rfl ?_
  refine jx_inv (wf := wR) (fun c1 s1 c sl z => ev_invV0 dX2_all_73 vX2_70_2 (ck9 hC7) (Or.inl (cl9 hC7)) (Nat.le_of_ble_eq_true rfl) (Nat.le_of_ble_eq_true rfl) rfl z) h hq (fun q Qr' z zq => metX2_word n  _ _ _ _ hC7 z zq) (fun r11 K12 ci13 cj14 cr15 w16 h hC17 hq => ?_)
  show Ev g _ _ 76 _ [.ref r11] K12 ci13 cj14 cr15 _ _ Qr Qx
  refine ev_astore_n (L' := [_, _, _]) dX2_all_76 (by decide) rfl ?_
  refine ev_aload_n dX2_all_77 rfl ?_
  refine ev_aload_n dX2_all_78 rfl ?_
  refine ev_aload_n dX2_all_79 rfl ?_
  refine ev_getI dX2_all_80 fX2_61_2 (ck9 hC17) (Or.inl (cl9 hC17)) rfl ?_
  refine jx_inv (wf := wI) (fun c1 s1 c sl z => ev_invV2 dX2_all_83 vX2_124_2 (ck9 hC17) (Or.inl (cl9 hC17)) (Nat.le_of_ble_eq_true rfl) (Nat.le_of_ble_eq_true rfl) rfl z) h hq (fun q Qr' z zq => metX2_isTold n _ _ _ _ _ _ hC17 z zq) (fun r18 K19 ci20 cj21 cr22 w23 h hC24 hq => ?_)
  show Ev g _ _ 86 _ [.int r18] K19 ci20 cj21 cr22 _ _ Qr Qx
  refine ev_if_ne 98 dX2_all_86 rfl (fun z25 => ?_) (fun z25 => ?_)
  · rw [if_neg z25] at h
    exact ev_mask [true, false, false] (wX2_all_98 n _ (hrec26)  _ _ _ _ hC24 h hq)
  · rw [if_pos z25] at h
    refine ev_aload_n dX2_all_89 rfl ?_
    refine ev_aload_n dX2_all_90 rfl ?_
    refine ev_aload_n dX2_all_91 rfl ?_
    refine ev_getI dX2_all_92 fX2_61_2 (ck9 hC24) (Or.inl (cl9 hC24)) rfl ?_
    refine jx_inv (wf := wV) (fun c1 s1 c sl z => ev_invV2 dX2_all_95 vX2_128_2 (ck9 hC24) (Or.inl (cl9 hC24)) (Nat.le_of_ble_eq_true rfl) (Nat.le_of_ble_eq_true rfl) rfl z) h hq (fun q Qr' z zq => metX2_more n _ _ _ _ _ _ hC24 z zq) (fun r26 K27 ci28 cj29 cr30 w31 h hC32 hq => ?_)
    show Ev g _ _ 98 _ [] K27 ci28 cj29 cr30 _ _ Qr Qx
    exact ev_mask [true, false, false] (wX2_all_98 n _ (hrec26)  _ _ _ _ hC32 h hq)
def fX2_all_26 (n : Nat) : Nat → jK → jI → jJ → jR → Option (jT Nat)
  | 0, _, _, _, _ => none
  | k + 1, K, ci, cj, cr => jpb (fX2_here n  K ci cj cr) (fun r1 ci2 cj3 cr4 => if r1 = (-1) then Option.bind (cr4 9 6) (fun r8 => some (some r8, K, ci2, cj3, cr4, 0, 0)) else Option.bind (cr4 9 6) (fun r10 => if K.1 r10 = 1 ∧ r10 < K.2.2 then if (ci2 r10 0) = (nI 60) then fX2_all_52 n (fX2_all_26 n  k) (nI 1) K ci2 cj3 cr4 else fX2_all_52 n (fX2_all_26 n  k) (nI 0) K ci2 cj3 cr4 else none))
theorem wX2_all_26 {g : jG} {d : Nat} {Qr : jQ} {Qx : jX} (n : Nat) : ∀ (k : Nat) (K : jK) (ci : jI) (cj : jJ) (cr : jR) {q}, jCW K cr → fX2_all_26 n  k  K ci cj cr = some q → jqx wR q Qr Qx → Ev g (d + 127) mX2_all 26 [.ref 9, jU, jU] [] K ci cj cr q.2.2.2.2.2.1 q.2.2.2.2.2.2 Qr Qx := by
  intro k
  induction k with
  | zero =>
    intro  K ci cj cr q hC h hq
    rw [fX2_all_26.eq_1] at h; cases h
  | succ k ih =>
    intro  K ci cj cr q hC h hq
    rw [fX2_all_26.eq_2] at h
    refine ev_aload_n dX2_all_26 rfl ?_
    obtain ⟨r1, ci2, cj3, cr4, z5, h⟩ := jpb_inv h
    refine ev_zV0 dX2_all_27 vX2_43_2 (ck9 hC) (Or.inl (cl9 hC)) (Nat.le_of_ble_eq_true rfl) (Nat.le_of_ble_eq_true rfl) rfl (metX2_here n  _ _ _ _ hC z5 (fun hC6 => ?_))
    show Ev g _ _ 30 _ [.int r1] K ci2 cj3 cr4 _ _ Qr Qx
    refine ev_iconst (v := (-1)) dX2_all_30 jcm1 ?_
    refine ev_icmp_eq 107 dX2_all_31 rfl (fun z7 => ?_) (fun z7 => ?_)
    · rw [if_pos z7] at h
      refine ev_aload_n dX2_all_107 rfl ?_
      obtain ⟨r8, z9, h⟩ := Option.bind_eq_some_iff.mp h
      refine ev_getR dX2_all_108 fX2_103_2 (ck9 hC6) (Or.inl (cl9 hC6)) rfl z9 ?_
      cases h
      exact ev_aret dX2_all_111 rfl rfl (hq hC6)
    · rw [if_neg z7] at h
      refine ev_aload_n dX2_all_34 rfl ?_
      refine ev_aload_n dX2_all_35 rfl ?_
      obtain ⟨r10, z11, h⟩ := Option.bind_eq_some_iff.mp h
      refine ev_getR dX2_all_36 fX2_103_2 (ck9 hC6) (Or.inl (cl9 hC6)) rfl z11 ?_
      by_cases z12 : K.1 r10 = 1 ∧ r10 < K.2.2
      rotate_left
      · rw [if_neg z12] at h; cases h
      rw [if_pos z12] at h
      refine ev_getI dX2_all_39 fX2_117_1 z12.1 (Or.inl z12.2) rfl ?_
      refine ev_bipush (v := (nI 60)) dX2_all_42 jb60 ?_
      refine ev_icmp_ne 51 dX2_all_44 rfl (fun z13 => ?_) (fun z13 => ?_)
      · rw [if_neg z13] at h
        refine ev_iconst (v := (nI 0)) dX2_all_51 jc0 ?_
        exact wX2_all_52 n _ (ih) _ _ _ _ _ hC6 h hq
      · rw [if_pos z13] at h
        refine ev_iconst (v := (nI 1)) dX2_all_47 jc1 ?_
        refine ev_goto 52 dX2_all_48 rfl ?_
        exact wX2_all_52 n _ (ih) _ _ _ _ _ hC6 h hq
def fX2_all (n : Nat) (a0 : Int32) (K : jK) (ci : jI) (cj : jJ) (cr : jR) : Option (jT Nat) := if K.2.2 < 1000000 then jal (jfn 1) (jxb (fX1_init n K.2.2 (jnK K 1 0) ci cj cr) (fun r4 K5 ci6 cj7 cr8 => fX2_all_26 n  n  K5 (ju (ju (ju ci6 9 1 a0) 9 2 (nI 0)) 9 4 (nI 0)) cj7 (ju cr8 9 6 (some K.2.2)))) else none
theorem metX2_all {g : jG} {d : Nat} {Qr : jQ} {Qx : jX} (n : Nat) (a0 : Int32) (K : jK) (ci : jI) (cj : jJ) (cr : jR) {q} (hC : jCW K cr) (h : fX2_all n a0 K ci cj cr = some q) (hq : jqx wR q Qr Qx) : EvM g (d + 127) mX2_all [.ref 9, .int a0] K ci cj cr q.2.2.2.2.2.1 q.2.2.2.2.2.2 Qr Qx := by
  unfold fX2_all at h
  show Ev g (d + 127) mX2_all 0 [.ref 9, .int a0, jU] [] K ci cj cr q.2.2.2.2.2.1 q.2.2.2.2.2.2 Qr Qx
  refine ev_aload_n dX2_all_0 rfl ?_
  by_cases z1 : K.2.2 < 1000000
  rotate_left
  · rw [if_neg z1] at h; cases h
  rw [if_pos z1] at h
  refine jx_new (fun c sl z => ev_new dX2_all_1 nX2_108 z1 z) h hq (fun w2 h hq => ?_)
  have hC3 := jCW.new hC 1 0
  show Ev g _ _ 4 _ [.ref K.2.2, .ref 9] (jnK K 1 0) ci cj cr _ _ Qr Qx
  refine ev_dup dX2_all_4 rfl ?_
  refine jx_inv (wf := wV) (fun c1 s1 c sl z => ev_invI0 dX2_all_5 iX2_113 (Nat.le_of_ble_eq_true rfl) (Nat.le_of_ble_eq_true rfl) rfl z) h hq (fun q Qr' z zq => metX1_init n _ _ _ _ _ hC3 z zq) (fun r4 K5 ci6 cj7 cr8 w9 h hC10 hq => ?_)
  show Ev g _ _ 8 _ [.ref K.2.2, .ref 9] K5 ci6 cj7 cr8 _ _ Qr Qx
  refine ev_putR dX2_all_8 (pX2_103_2 _) (ck9 hC10) (cl9 hC10) rfl ?_
  have hC11 := jCW.upd9 hC10 (v := (some K.2.2))
  refine ev_aload_n dX2_all_11 rfl ?_
  refine ev_iload_n dX2_all_12 rfl ?_
  refine ev_putI dX2_all_13 (pX2_29_2 _) (ck9 hC11) (cl9 hC11) rfl rfl rfl ?_
  refine ev_aload_n dX2_all_16 rfl ?_
  refine ev_iconst (v := (nI 0)) dX2_all_17 jc0 ?_
  refine ev_putI dX2_all_18 (pX2_36_2 _) (ck9 hC11) (cl9 hC11) rfl rfl rfl ?_
  refine ev_aload_n dX2_all_21 rfl ?_
  refine ev_iconst (v := (nI 0)) dX2_all_22 jc0 ?_
  refine ev_putI dX2_all_23 (pX2_114_2 _) (ck9 hC11) (cl9 hC11) rfl rfl rfl ?_
  exact ev_mask [true, false, false] (wX2_all_26 n   n  _ _ _ _ hC11 h hq)
def fX0_coast_28 (n : Nat) (K : jK) (ci : jI) (cj : jJ) (cr : jR) : Option (jT Int32) := jpb (fX0_refuses n (nI 1) K (ju (ju ci 0 3 (ci 10 6)) 0 4 ((ju ci 0 3 (ci 10 6)) 10 7)) cj cr) (fun r1 ci2 cj3 cr4 => some (some r1, K, ci2, cj3, cr4, 0, 0))
theorem wX0_coast_28 {g : jG} {d : Nat} {Qr : jQ} {Qx : jX} (n : Nat) (K : jK) (ci : jI) (cj : jJ) (cr : jR) {q} (hC : jCW K cr) (h : fX0_coast_28 n   K ci cj cr = some q) (hq : jqx wI q Qr Qx) : Ev g (d + 128) mX0_coast 28 [.ref 0, jU] [.ref 10] K ci cj cr q.2.2.2.2.2.1 q.2.2.2.2.2.2 Qr Qx := by
  unfold fX0_coast_28 at h
  refine ev_astore_n (L' := [_, _]) dX0_coast_28 (by decide) rfl ?_
  refine ev_aload_n dX0_coast_29 rfl ?_
  refine ev_aload_n dX0_coast_30 rfl ?_
  refine ev_getI dX0_coast_31 fX0_130_3 (ck10 hC) (Or.inl (cl10 hC)) rfl ?_
  refine ev_putI dX0_coast_34 (pX0_117_0 _) (ck0 hC) (cl0 hC) rfl rfl rfl ?_
  refine ev_aload_n dX0_coast_37 rfl ?_
  refine ev_aload_n dX0_coast_38 rfl ?_
  refine ev_getI dX0_coast_39 fX0_133_3 (ck10 hC) (Or.inl (cl10 hC)) rfl ?_
  refine ev_putI dX0_coast_42 (pX0_39_0 _) (ck0 hC) (cl0 hC) rfl rfl rfl ?_
  refine ev_aload_n dX0_coast_45 rfl ?_
  refine ev_iconst (v := (nI 1)) dX0_coast_46 jc1 ?_
  obtain ⟨r1, ci2, cj3, cr4, z5, h⟩ := jpb_inv h
  refine ev_hV1 dX0_coast_47 vX0_109_0 (ck0 hC) (Or.inl (cl0 hC)) (Nat.le_of_ble_eq_true rfl) (Nat.le_of_ble_eq_true rfl) (metX0_refuses n _ _ _ _ _ hC z5 (fun hC6 => ?_))
  show Ev g _ _ 50 _ [.int r1] K ci2 cj3 cr4 _ _ Qr Qx
  cases h
  exact ev_iret dX0_coast_50 rfl rfl (hq hC6)
def fX0_coast (n : Nat) (K : jK) (ci : jI) (cj : jJ) (cr : jR) : Option (jT Int32) := jpb (fX0_tapeTaken n  K (ju (ju ci 0 3 (nI 0)) 0 4 (-1)) cj cr) (fun r1 ci2 cj3 cr4 => jxc (fX2_all n r1 K ci2 cj3 cr4) (fun r7 K8 ci9 cj10 cr11 => jpb (fX5_begins n 16 K8 ci9 cj10 (ju cr11 0 0 (some r7))) (fun r21 ci22 cj23 cr24 => Option.bind (cr24 0 0) (fun r27 => if K8.1 r27 = 1 ∧ r27 < K8.2.2 then some (some ((ju (ju ci22 0 18 (nI 0)) 0 15 (nI 0)) r27 0), K8, (ju (ju ci22 0 18 (nI 0)) 0 15 (nI 0)), cj23, cr24, 0, 0) else none))) (fun K14 ci15 cj16 cr17 => fX0_coast_28 n   K14 ci15 cj16 cr17))
theorem metX0_coast {g : jG} {d : Nat} {Qr : jQ} {Qx : jX} (n : Nat) (K : jK) (ci : jI) (cj : jJ) (cr : jR) {q} (hC : jCW K cr) (h : fX0_coast n  K ci cj cr = some q) (hq : jqx wI q Qr Qx) : EvM g (d + 128) mX0_coast [.ref 0] K ci cj cr q.2.2.2.2.2.1 q.2.2.2.2.2.2 Qr Qx := by
  unfold fX0_coast at h
  show Ev g (d + 128) mX0_coast 0 [.ref 0, jU] [] K ci cj cr q.2.2.2.2.2.1 q.2.2.2.2.2.2 Qr Qx
  refine ev_aload_n dX0_coast_0 rfl ?_
  refine ev_iconst (v := (nI 0)) dX0_coast_1 jc0 ?_
  refine ev_putI dX0_coast_2 (pX0_117_0 _) (ck0 hC) (cl0 hC) rfl rfl rfl ?_
  refine ev_aload_n dX0_coast_5 rfl ?_
  refine ev_iconst (v := (-1)) dX0_coast_6 jcm1 ?_
  refine ev_putI dX0_coast_7 (pX0_39_0 _) (ck0 hC) (cl0 hC) rfl rfl rfl ?_
  refine ev_aload_n dX0_coast_10 rfl ?_
  refine ev_aload_n dX0_coast_11 rfl ?_
  refine ev_getR dX0_coast_12 fX0_48_0 (ck0 hC) (Or.inl (cl0 hC)) rfl (cq0_5 hC) ?_
  refine ev_aload_n dX0_coast_15 rfl ?_
  obtain ⟨r1, ci2, cj3, cr4, z5, h⟩ := jpb_inv h
  refine ev_hV0 dX0_coast_16 vX0_120_0 (ck0 hC) (Or.inl (cl0 hC)) (Nat.le_of_ble_eq_true rfl) (Nat.le_of_ble_eq_true rfl) (metX0_tapeTaken n  _ _ _ _ hC z5 (fun hC6 => ?_))
  show Ev g _ _ 19 _ [.int r1, .ref 9, .ref 0] K ci2 cj3 cr4 _ _ Qr Qx
  refine jx_invc (wf := wR) (fun c1 s1 c sl z => ev_cV1 dX0_coast_19 vX0_124_2 (ck9 hC6) (Or.inl (cl9 hC6)) (Nat.le_of_ble_eq_true rfl) (Nat.le_of_ble_eq_true rfl) z) h hq (fun q Qr' Qx' z zq => metX2_all n _ _ _ _ _ hC6 z zq) (fun r7 K8 ci9 cj10 cr11 w12 h hC13 hq => ?_) (fun K14 ci15 cj16 cr17 w18 h hC19 hq => evx_catch rfl (by decide) (by decide) q554 ?_)
  rotate_left
  · exact wX0_coast_28 n    _ _ _ _ hC19 h hq
  show Ev g _ _ 22 _ [.ref r7, .ref 0] K8 ci9 cj10 cr11 _ _ Qr Qx
  refine ev_putR dX0_coast_22 (pX0_31_0 _) (ck0 hC13) (cl0 hC13) rfl ?_
  have hC20 := jCW.upd0 hC13 (v := (some r7))
  refine ev_goto 51 dX0_coast_25 rfl ?_
  refine ev_aload_n dX0_coast_51 rfl ?_
  refine ev_getR dX0_coast_52 fX0_69_0 (ck0 hC20) (Or.inl (cl0 hC20)) rfl (cq0_9 hC20) ?_
  obtain ⟨r21, ci22, cj23, cr24, z25, h⟩ := jpb_inv h
  refine ev_hV0 dX0_coast_55 vX0_136_5 (sk0 hC20 is16) (Or.inl (sl0 hC20 is16)) (Nat.le_of_ble_eq_true rfl) (Nat.le_of_ble_eq_true rfl) (metX5_begins n _ _ _ _ _ hC20 z25 (fun hC26 => ?_))
  show Ev g _ _ 58 _ [] K8 ci22 cj23 cr24 _ _ Qr Qx
  refine ev_aload_n dX0_coast_58 rfl ?_
  refine ev_iconst (v := (nI 0)) dX0_coast_59 jc0 ?_
  refine ev_putI dX0_coast_60 (pX0_139_0 _) (ck0 hC26) (cl0 hC26) rfl rfl rfl ?_
  refine ev_aload_n dX0_coast_63 rfl ?_
  refine ev_iconst (v := (nI 0)) dX0_coast_64 jc0 ?_
  refine ev_putI dX0_coast_65 (pX0_142_0 _) (ck0 hC26) (cl0 hC26) rfl rfl rfl ?_
  refine ev_aload_n dX0_coast_68 rfl ?_
  obtain ⟨r27, z28, h⟩ := Option.bind_eq_some_iff.mp h
  refine ev_getR dX0_coast_69 fX0_31_0 (ck0 hC26) (Or.inl (cl0 hC26)) rfl z28 ?_
  by_cases z29 : K8.1 r27 = 1 ∧ r27 < K8.2.2
  rotate_left
  · rw [if_neg z29] at h; cases h
  rw [if_pos z29] at h
  refine ev_getI dX0_coast_72 fX0_145_1 z29.1 (Or.inl z29.2) rfl ?_
  cases h
  exact ev_iret dX0_coast_75 rfl rfl (hq hC26)
def fX0_has_2_106 (n : Nat) (rec81 : Int32 → Int32 → jK → jI → jJ → jR → Option (jTp Int32)) (l3 : Int32) (t0 : Int32) (t1 : Int32) (K : jK) (ci : jI) (cj : jJ) (cr : jR) : Option (jTp Int32) := rec81 (t1 + t0) (l3 + (nI 1)) K ci cj cr
theorem wX0_has_2_106 {g : jG} {d : Nat} {c sl : Nat} {Qr : jQ} {Qx : jX} (n : Nat) (rec81 : Int32 → Int32 → jK → jI → jJ → jR → Option (jTp Int32)) (hrec81 : (∀ (l2 : Int32) (l3 : Int32) (K : jK) (ci : jI) (cj : jJ) (cr : jR) {q}, jCW K cr → rec81 l2 l3 K ci cj cr = some q → jqp wI K q Qr → Ev g (d + 546) mX0_has_2 81 [.ref 0, jU, .int l2, .int l3] [] K ci cj cr c sl Qr Qx)) (l3 : Int32) (t0 : Int32) (t1 : Int32) (K : jK) (ci : jI) (cj : jJ) (cr : jR) {q} (hC : jCW K cr) (h : fX0_has_2_106 n rec81 l3 t0 t1 K ci cj cr = some q) (hq : jqp wI K q Qr) : Ev g (d + 546) mX0_has_2 106 [.ref 0, jU, jU, .int l3] [.int t0, .int t1] K ci cj cr c sl Qr Qx := by
  unfold fX0_has_2_106 at h
  refine ev_iadd dX0_has_2_106 ?_
  refine ev_istore_n (L' := [_, _, _, _]) dX0_has_2_107 (by decide) rfl ?_
  refine ev_iinc (v := (l3 + (nI 1))) (L' := [_, _, _, _]) dX0_has_2_108 rfl (by rw [ji_1]) (by decide) rfl ?_
  refine ev_goto 81 dX0_has_2_111 rfl ?_
  exact hrec81 _ _ _ _ _ _ hC h hq
def fX0_has_2_81 (n : Nat) : Nat → Int32 → Int32 → jK → jI → jJ → jR → Option (jTp Int32)
  | 0, _, _, _, _, _, _ => none
  | k + 1, l2, l3, K, ci, cj, cr => jpb (fX0_pairs n  K ci cj cr) (fun r1 ci2 cj3 cr4 => if r1 ≤ l3 then some (l2, ci2, cj3, cr4) else jpb (fX5_isCounted n (fho n) 16 l3 K ci2 cj3 cr4) (fun r8 ci9 cj10 cr11 => if r8 = 0 then fX0_has_2_106 n (fX0_has_2_81 n  k) l3 (nI 0) l2 K ci9 cj10 cr11 else fX0_has_2_106 n (fX0_has_2_81 n  k) l3 (nI 1) l2 K ci9 cj10 cr11))
theorem wX0_has_2_81 {g : jG} {d : Nat} {c sl : Nat} {Qr : jQ} {Qx : jX} (n : Nat) : ∀ (k : Nat) (l2 : Int32) (l3 : Int32) (K : jK) (ci : jI) (cj : jJ) (cr : jR) {q}, jCW K cr → fX0_has_2_81 n  k l2 l3 K ci cj cr = some q → jqp wI K q Qr → Ev g (d + 546) mX0_has_2 81 [.ref 0, jU, .int l2, .int l3] [] K ci cj cr c sl Qr Qx := by
  intro k
  induction k with
  | zero =>
    intro l2 l3 K ci cj cr q hC h hq
    rw [fX0_has_2_81.eq_1] at h; cases h
  | succ k ih =>
    intro l2 l3 K ci cj cr q hC h hq
    rw [fX0_has_2_81.eq_2] at h
    refine ev_iload_n dX0_has_2_81 rfl ?_
    refine ev_aload_n dX0_has_2_82 rfl ?_
    obtain ⟨r1, ci2, cj3, cr4, z5, h⟩ := jpb_inv h
    refine ev_zV0 dX0_has_2_83 vX0_165_0 (ck0 hC) (Or.inl (cl0 hC)) (Nat.le_of_ble_eq_true rfl) (Nat.le_of_ble_eq_true rfl) rfl (metX0_pairs n  _ _ _ _ hC z5 (fun hC6 => ?_))
    show Ev g _ _ 86 _ [.int r1, .int l3] K ci2 cj3 cr4 _ _ Qr Qx
    refine ev_icmp_ge 114 dX0_has_2_86 rfl (fun z7 => ?_) (fun z7 => ?_)
    · rw [if_pos z7] at h
      refine ev_iload_n dX0_has_2_114 rfl ?_
      cases h
      exact ev_iret dX0_has_2_115 rfl rfl (hq hC6)
    · rw [if_neg z7] at h
      refine ev_iload_n dX0_has_2_89 rfl ?_
      refine ev_aload_n dX0_has_2_90 rfl ?_
      refine ev_getR dX0_has_2_91 fX0_69_0 (ck0 hC6) (Or.inl (cl0 hC6)) rfl (cq0_9 hC6) ?_
      refine ev_iload_n dX0_has_2_94 rfl ?_
      obtain ⟨r8, ci9, cj10, cr11, z12, h⟩ := jpb_inv h
      refine ev_zV1 dX0_has_2_95 vX0_182_5 (sk0 hC6 is16) (Or.inl (sl0 hC6 is16)) (Nat.le_of_ble_eq_true rfl) (Nat.le_of_ble_eq_true rfl) rfl (metX5_isCounted n _ tvho _ _ _ _ _ _ hC6 z12 (fun hC13 => ?_))
      show Ev g _ _ 98 _ [.int r8, .int l2] K ci9 cj10 cr11 _ _ Qr Qx
      refine ev_if_eq 105 dX0_has_2_98 rfl (fun z14 => ?_) (fun z14 => ?_)
      · rw [if_pos z14] at h
        refine ev_iconst (v := (nI 0)) dX0_has_2_105 jc0 ?_
        exact ev_mask [true, false, false, true] (wX0_has_2_106 n _ (ih) _ _ _ _ _ _ _ hC13 h hq)
      · rw [if_neg z14] at h
        refine ev_iconst (v := (nI 1)) dX0_has_2_101 jc1 ?_
        refine ev_goto 106 dX0_has_2_102 rfl ?_
        exact ev_mask [true, false, false, true] (wX0_has_2_106 n _ (ih) _ _ _ _ _ _ _ hC13 h hq)
def fX0_has_2_145 (n : Nat) (rec118 : Int32 → Int32 → jK → jI → jJ → jR → Option (jTp Int32)) (l3 : Int32) (t0 : Int32) (t1 : Int32) (K : jK) (ci : jI) (cj : jJ) (cr : jR) : Option (jTp Int32) := rec118 (t1 + t0) (l3 + (nI 1)) K ci cj cr
theorem wX0_has_2_145 {g : jG} {d : Nat} {c sl : Nat} {Qr : jQ} {Qx : jX} (n : Nat) (rec118 : Int32 → Int32 → jK → jI → jJ → jR → Option (jTp Int32)) (hrec118 : (∀ (l2 : Int32) (l3 : Int32) (K : jK) (ci : jI) (cj : jJ) (cr : jR) {q}, jCW K cr → rec118 l2 l3 K ci cj cr = some q → jqp wI K q Qr → Ev g (d + 546) mX0_has_2 118 [.ref 0, jU, .int l2, .int l3] [] K ci cj cr c sl Qr Qx)) (l3 : Int32) (t0 : Int32) (t1 : Int32) (K : jK) (ci : jI) (cj : jJ) (cr : jR) {q} (hC : jCW K cr) (h : fX0_has_2_145 n rec118 l3 t0 t1 K ci cj cr = some q) (hq : jqp wI K q Qr) : Ev g (d + 546) mX0_has_2 145 [.ref 0, jU, jU, .int l3] [.int t0, .int t1] K ci cj cr c sl Qr Qx := by
  unfold fX0_has_2_145 at h
  refine ev_iadd dX0_has_2_145 ?_
  refine ev_istore_n (L' := [_, _, _, _]) dX0_has_2_146 (by decide) rfl ?_
  refine ev_iinc (v := (l3 + (nI 1))) (L' := [_, _, _, _]) dX0_has_2_147 rfl (by rw [ji_1]) (by decide) rfl ?_
  refine ev_goto 118 dX0_has_2_150 rfl ?_
  exact hrec118 _ _ _ _ _ _ hC h hq
def fX0_has_2_118 (n : Nat) : Nat → Int32 → Int32 → jK → jI → jJ → jR → Option (jTp Int32)
  | 0, _, _, _, _, _, _ => none
  | k + 1, l2, l3, K, ci, cj, cr => jpb (fX0_shoals n  K ci cj cr) (fun r1 ci2 cj3 cr4 => if r1 ≤ l3 then some (l2, ci2, cj3, cr4) else if jok l3 3 then if (ci2 (16 + 2) (l3).toNatClampNeg) = (-1) then fX0_has_2_145 n (fX0_has_2_118 n  k) l3 (nI 0) l2 K ci2 cj3 cr4 else fX0_has_2_145 n (fX0_has_2_118 n  k) l3 (nI 1) l2 K ci2 cj3 cr4 else none)
theorem wX0_has_2_118 {g : jG} {d : Nat} {c sl : Nat} {Qr : jQ} {Qx : jX} (n : Nat) : ∀ (k : Nat) (l2 : Int32) (l3 : Int32) (K : jK) (ci : jI) (cj : jJ) (cr : jR) {q}, jCW K cr → fX0_has_2_118 n  k l2 l3 K ci cj cr = some q → jqp wI K q Qr → Ev g (d + 546) mX0_has_2 118 [.ref 0, jU, .int l2, .int l3] [] K ci cj cr c sl Qr Qx := by
  intro k
  induction k with
  | zero =>
    intro l2 l3 K ci cj cr q hC h hq
    rw [fX0_has_2_118.eq_1] at h; cases h
  | succ k ih =>
    intro l2 l3 K ci cj cr q hC h hq
    rw [fX0_has_2_118.eq_2] at h
    refine ev_iload_n dX0_has_2_118 rfl ?_
    refine ev_aload_n dX0_has_2_119 rfl ?_
    obtain ⟨r1, ci2, cj3, cr4, z5, h⟩ := jpb_inv h
    refine ev_zV0 dX0_has_2_120 vX0_167_0 (ck0 hC) (Or.inl (cl0 hC)) (Nat.le_of_ble_eq_true rfl) (Nat.le_of_ble_eq_true rfl) rfl (metX0_shoals n  _ _ _ _ hC z5 (fun hC6 => ?_))
    show Ev g _ _ 123 _ [.int r1, .int l3] K ci2 cj3 cr4 _ _ Qr Qx
    refine ev_icmp_ge 153 dX0_has_2_123 rfl (fun z7 => ?_) (fun z7 => ?_)
    · rw [if_pos z7] at h
      refine ev_iload_n dX0_has_2_153 rfl ?_
      cases h
      exact ev_iret dX0_has_2_154 rfl rfl (hq hC6)
    · rw [if_neg z7] at h
      refine ev_iload_n dX0_has_2_126 rfl ?_
      refine ev_aload_n dX0_has_2_127 rfl ?_
      refine ev_getR dX0_has_2_128 fX0_69_0 (ck0 hC6) (Or.inl (cl0 hC6)) rfl (cq0_9 hC6) ?_
      refine ev_getR dX0_has_2_131 fX0_186_5 (sk0 hC6 is16) (Or.inl (sl0 hC6 is16)) rfl (sr2 hC6 is16) ?_
      refine ev_iload_n dX0_has_2_134 rfl ?_
      by_cases z8 : jok l3 3
      rotate_left
      · rw [if_neg z8] at h; cases h
      rw [if_pos z8] at h
      refine ev_iaload dX0_has_2_135 (sk2 hC6 is16) (Or.inl (sl2 hC6 is16)) (jok.ix z8 (sn2 hC6 is16)) ?_
      refine ev_iconst (v := (-1)) dX0_has_2_136 jcm1 ?_
      refine ev_icmp_eq 144 dX0_has_2_137 rfl (fun z9 => ?_) (fun z9 => ?_)
      · rw [if_pos z9] at h
        refine ev_iconst (v := (nI 0)) dX0_has_2_144 jc0 ?_
        exact ev_mask [true, false, false, true] (wX0_has_2_145 n _ (ih) _ _ _ _ _ _ _ hC6 h hq)
      · rw [if_neg z9] at h
        refine ev_iconst (v := (nI 1)) dX0_has_2_140 jc1 ?_
        refine ev_goto 145 dX0_has_2_141 rfl ?_
        exact ev_mask [true, false, false, true] (wX0_has_2_145 n _ (ih) _ _ _ _ _ _ _ hC6 h hq)
def fX0_has_2 (n : Nat) (a0 : Int32) (K : jK) (ci : jI) (cj : jJ) (cr : jR) : Option (jTp Int32) := if a0 = (nI 0) then jpb (fX0_bays n  K ci cj cr) (fun r2 ci3 cj4 cr5 => some (r2, ci3, cj4, cr5)) else if a0 = (nI 1) then jpb (fX0_pairs n  K ci cj cr) (fun r9 ci10 cj11 cr12 => some (r9, ci10, cj11, cr12)) else if a0 = (nI 2) then jpb (fX0_shoals n  K ci cj cr) (fun r16 ci17 cj18 cr19 => some (r16, ci17, cj18, cr19)) else if a0 = (nI 3) then some ((ci 16 0), ci, cj, cr) else if a0 = (nI 4) then fX0_has_2_81 n  n (nI 0) (nI 0) K ci cj cr else if a0 = (nI 5) then fX0_has_2_118 n  n (nI 0) (nI 0) K ci cj cr else if a0 = (nI 6) then jpb (fX5_tookAll n 16 K ci cj cr) (fun r26 ci27 cj28 cr29 => some (r26, ci27, cj28, cr29)) else if a0 = (nI 7) then some ((ci 16 1), ci, cj, cr) else if a0 = (nI 8) then some ((ci 0 15), ci, cj, cr) else if a0 = (nI 9) then some ((ci 0 18), ci, cj, cr) else some ((-1), ci, cj, cr)
theorem metX0_has_2 {g : jG} {d : Nat} {c sl : Nat} {Qr : jQ} {Qx : jX} (n : Nat) (a0 : Int32) (K : jK) (ci : jI) (cj : jJ) (cr : jR) {q} (hC : jCW K cr) (h : fX0_has_2 n a0 K ci cj cr = some q) (hq : jqp wI K q Qr) : EvM g (d + 546) mX0_has_2 [.ref 0, .int a0] K ci cj cr c sl Qr Qx := by
  unfold fX0_has_2 at h
  show Ev g (d + 546) mX0_has_2 0 [.ref 0, .int a0, jU, jU] [] K ci cj cr c sl Qr Qx
  refine ev_iconst (v := (nI 0)) dX0_has_2_0 jc0 ?_
  refine ev_istore_n (L' := [_, _, _, _]) dX0_has_2_1 (by decide) rfl ?_
  refine ev_iload_n dX0_has_2_2 rfl ?_
  by_cases z1 : a0 = (nI 0)
  · rw [if_pos z1] at h
    refine ev_tableIn 56 dX0_has_2_3 (by rw [z1]; decide) (by rw [z1]; decide) (by rw [z1]; rfl) rfl ?_
    refine ev_aload_n dX0_has_2_56 rfl ?_
    obtain ⟨r2, ci3, cj4, cr5, z6, h⟩ := jpb_inv h
    refine ev_zV0 dX0_has_2_57 vX0_163_0 (ck0 hC) (Or.inl (cl0 hC)) (Nat.le_of_ble_eq_true rfl) (Nat.le_of_ble_eq_true rfl) rfl (metX0_bays n  _ _ _ _ hC z6 (fun hC7 => ?_))
    show Ev g _ _ 60 _ [.int r2] K ci3 cj4 cr5 _ _ Qr Qx
    cases h
    exact ev_iret dX0_has_2_60 rfl rfl (hq hC7)
  rw [if_neg z1] at h
  by_cases z8 : a0 = (nI 1)
  · rw [if_pos z8] at h
    refine ev_tableIn 61 dX0_has_2_3 (by rw [z8]; decide) (by rw [z8]; decide) (by rw [z8]; rfl) rfl ?_
    refine ev_aload_n dX0_has_2_61 rfl ?_
    obtain ⟨r9, ci10, cj11, cr12, z13, h⟩ := jpb_inv h
    refine ev_zV0 dX0_has_2_62 vX0_165_0 (ck0 hC) (Or.inl (cl0 hC)) (Nat.le_of_ble_eq_true rfl) (Nat.le_of_ble_eq_true rfl) rfl (metX0_pairs n  _ _ _ _ hC z13 (fun hC14 => ?_))
    show Ev g _ _ 65 _ [.int r9] K ci10 cj11 cr12 _ _ Qr Qx
    cases h
    exact ev_iret dX0_has_2_65 rfl rfl (hq hC14)
  rw [if_neg z8] at h
  by_cases z15 : a0 = (nI 2)
  · rw [if_pos z15] at h
    refine ev_tableIn 66 dX0_has_2_3 (by rw [z15]; decide) (by rw [z15]; decide) (by rw [z15]; rfl) rfl ?_
    refine ev_aload_n dX0_has_2_66 rfl ?_
    obtain ⟨r16, ci17, cj18, cr19, z20, h⟩ := jpb_inv h
    refine ev_zV0 dX0_has_2_67 vX0_167_0 (ck0 hC) (Or.inl (cl0 hC)) (Nat.le_of_ble_eq_true rfl) (Nat.le_of_ble_eq_true rfl) rfl (metX0_shoals n  _ _ _ _ hC z20 (fun hC21 => ?_))
    show Ev g _ _ 70 _ [.int r16] K ci17 cj18 cr19 _ _ Qr Qx
    cases h
    exact ev_iret dX0_has_2_70 rfl rfl (hq hC21)
  rw [if_neg z15] at h
  by_cases z22 : a0 = (nI 3)
  · rw [if_pos z22] at h
    refine ev_tableIn 71 dX0_has_2_3 (by rw [z22]; decide) (by rw [z22]; decide) (by rw [z22]; rfl) rfl ?_
    refine ev_aload_n dX0_has_2_71 rfl ?_
    refine ev_getR dX0_has_2_72 fX0_69_0 (ck0 hC) (Or.inl (cl0 hC)) rfl (cq0_9 hC) ?_
    refine ev_getI dX0_has_2_75 fX0_179_5 (sk0 hC is16) (Or.inl (sl0 hC is16)) rfl ?_
    cases h
    exact ev_iret dX0_has_2_78 rfl rfl (hq hC)
  rw [if_neg z22] at h
  by_cases z23 : a0 = (nI 4)
  · rw [if_pos z23] at h
    refine ev_tableIn 79 dX0_has_2_3 (by rw [z23]; decide) (by rw [z23]; decide) (by rw [z23]; rfl) rfl ?_
    refine ev_iconst (v := (nI 0)) dX0_has_2_79 jc0 ?_
    refine ev_istore_n (L' := [_, _, _, _]) dX0_has_2_80 (by decide) rfl ?_
    exact ev_mask [true, false, true, true] (wX0_has_2_81 n   n _ _ _ _ _ _ hC h hq)
  rw [if_neg z23] at h
  by_cases z24 : a0 = (nI 5)
  · rw [if_pos z24] at h
    refine ev_tableIn 116 dX0_has_2_3 (by rw [z24]; decide) (by rw [z24]; decide) (by rw [z24]; rfl) rfl ?_
    refine ev_iconst (v := (nI 0)) dX0_has_2_116 jc0 ?_
    refine ev_istore_n (L' := [_, _, _, _]) dX0_has_2_117 (by decide) rfl ?_
    exact ev_mask [true, false, true, true] (wX0_has_2_118 n   n _ _ _ _ _ _ hC h hq)
  rw [if_neg z24] at h
  by_cases z25 : a0 = (nI 6)
  · rw [if_pos z25] at h
    refine ev_tableIn 155 dX0_has_2_3 (by rw [z25]; decide) (by rw [z25]; decide) (by rw [z25]; rfl) rfl ?_
    refine ev_aload_n dX0_has_2_155 rfl ?_
    refine ev_getR dX0_has_2_156 fX0_69_0 (ck0 hC) (Or.inl (cl0 hC)) rfl (cq0_9 hC) ?_
    obtain ⟨r26, ci27, cj28, cr29, z30, h⟩ := jpb_inv h
    refine ev_zV0 dX0_has_2_159 vX0_189_5 (sk0 hC is16) (Or.inl (sl0 hC is16)) (Nat.le_of_ble_eq_true rfl) (Nat.le_of_ble_eq_true rfl) rfl (metX5_tookAll n _ _ _ _ _ hC z30 (fun hC31 => ?_))
    show Ev g _ _ 162 _ [.int r26] K ci27 cj28 cr29 _ _ Qr Qx
    cases h
    exact ev_iret dX0_has_2_162 rfl rfl (hq hC31)
  rw [if_neg z25] at h
  by_cases z32 : a0 = (nI 7)
  · rw [if_pos z32] at h
    refine ev_tableIn 163 dX0_has_2_3 (by rw [z32]; decide) (by rw [z32]; decide) (by rw [z32]; rfl) rfl ?_
    refine ev_aload_n dX0_has_2_163 rfl ?_
    refine ev_getR dX0_has_2_164 fX0_69_0 (ck0 hC) (Or.inl (cl0 hC)) rfl (cq0_9 hC) ?_
    refine ev_getI dX0_has_2_167 fX0_192_5 (sk0 hC is16) (Or.inl (sl0 hC is16)) rfl ?_
    cases h
    exact ev_iret dX0_has_2_170 rfl rfl (hq hC)
  rw [if_neg z32] at h
  by_cases z33 : a0 = (nI 8)
  · rw [if_pos z33] at h
    refine ev_tableIn 171 dX0_has_2_3 (by rw [z33]; decide) (by rw [z33]; decide) (by rw [z33]; rfl) rfl ?_
    refine ev_aload_n dX0_has_2_171 rfl ?_
    refine ev_getI dX0_has_2_172 fX0_142_0 (ck0 hC) (Or.inl (cl0 hC)) rfl ?_
    cases h
    exact ev_iret dX0_has_2_175 rfl rfl (hq hC)
  rw [if_neg z33] at h
  by_cases z34 : a0 = (nI 9)
  · rw [if_pos z34] at h
    refine ev_tableIn 176 dX0_has_2_3 (by rw [z34]; decide) (by rw [z34]; decide) (by rw [z34]; rfl) rfl ?_
    refine ev_aload_n dX0_has_2_176 rfl ?_
    refine ev_getI dX0_has_2_177 fX0_139_0 (ck0 hC) (Or.inl (cl0 hC)) rfl ?_
    cases h
    exact ev_iret dX0_has_2_180 rfl rfl (hq hC)
  rw [if_neg z34] at h
  refine ev_tableOut 181 dX0_has_2_3 (jtab_0_9 z1 z8 z15 z22 z23 z24 z25 z32 z33 z34) rfl ?_
  refine ev_iconst (v := (-1)) dX0_has_2_181 jcm1 ?_
  cases h
  exact ev_iret dX0_has_2_182 rfl rfl (hq hC)
def fX0_bay (n : Nat) (a0 : Int32) (a1 : Int32) (K : jK) (ci : jI) (cj : jJ) (cr : jR) : Option (jTp Int32) := jpb (fX0_isBay n a0 K ci cj cr) (fun r1 ci2 cj3 cr4 => if r1 = 0 then some ((-1), ci2, cj3, cr4) else if a1 = (nI 0) then jpb (fX0_bayOf n a0 K ci2 cj3 cr4) (fun r9 ci10 cj11 cr12 => if K.1 r9 = 7 ∧ r9 < K.2.2 then some ((ci10 r9 1), ci10, cj11, cr12) else none) else if a1 = (nI 1) then if jok a0 6 then some ((ci2 (16 + 4) (a0).toNatClampNeg), ci2, cj3, cr4) else none else if a1 = (nI 2) then jpb (fX5_vowsOf n (fho n) 16 a0 K ci2 cj3 cr4) (fun r19 ci20 cj21 cr22 => some (r19, ci20, cj21, cr22)) else if a1 = (nI 3) then if jok a0 6 then some ((ci2 (16 + 6) (a0).toNatClampNeg), ci2, cj3, cr4) else none else if a1 = (nI 4) then if jok a0 6 then some ((ci2 (16 + 5) (a0).toNatClampNeg), ci2, cj3, cr4) else none else some ((-1), ci2, cj3, cr4))
theorem metX0_bay {g : jG} {d : Nat} {c sl : Nat} {Qr : jQ} {Qx : jX} (n : Nat) (a0 : Int32) (a1 : Int32) (K : jK) (ci : jI) (cj : jJ) (cr : jR) {q} (hC : jCW K cr) (h : fX0_bay n a0 a1 K ci cj cr = some q) (hq : jqp wI K q Qr) : EvM g (d + 547) mX0_bay [.ref 0, .int a0, .int a1] K ci cj cr c sl Qr Qx := by
  unfold fX0_bay at h
  show Ev g (d + 547) mX0_bay 0 [.ref 0, .int a0, .int a1] [] K ci cj cr c sl Qr Qx
  refine ev_aload_n dX0_bay_0 rfl ?_
  refine ev_iload_n dX0_bay_1 rfl ?_
  obtain ⟨r1, ci2, cj3, cr4, z5, h⟩ := jpb_inv h
  refine ev_zV1 dX0_bay_2 vX0_204_0 (ck0 hC) (Or.inl (cl0 hC)) (Nat.le_of_ble_eq_true rfl) (Nat.le_of_ble_eq_true rfl) rfl (metX0_isBay n _ _ _ _ _ hC z5 (fun hC6 => ?_))
  show Ev g _ _ 5 _ [.int r1] K ci2 cj3 cr4 _ _ Qr Qx
  refine ev_if_ne 10 dX0_bay_5 rfl (fun z7 => ?_) (fun z7 => ?_)
  · rw [if_neg z7] at h
    refine ev_iload_n dX0_bay_10 rfl ?_
    by_cases z8 : a1 = (nI 0)
    · rw [if_pos z8] at h
      refine ev_tableIn 44 dX0_bay_11 (by rw [z8]; decide) (by rw [z8]; decide) (by rw [z8]; rfl) rfl ?_
      refine ev_aload_n dX0_bay_44 rfl ?_
      refine ev_iload_n dX0_bay_45 rfl ?_
      obtain ⟨r9, ci10, cj11, cr12, z13, h⟩ := jpb_inv h
      refine ev_zV1 dX0_bay_46 vX0_207_0 (ck0 hC6) (Or.inl (cl0 hC6)) (Nat.le_of_ble_eq_true rfl) (Nat.le_of_ble_eq_true rfl) rfl (metX0_bayOf n _ _ _ _ _ hC6 z13 (fun hC14 => ?_))
      show Ev g _ _ 49 _ [.ref r9] K ci10 cj11 cr12 _ _ Qr Qx
      by_cases z15 : K.1 r9 = 7 ∧ r9 < K.2.2
      rotate_left
      · rw [if_neg z15] at h; cases h
      rw [if_pos z15] at h
      refine ev_getI dX0_bay_49 fX0_211_7 z15.1 (Or.inl z15.2) rfl ?_
      cases h
      exact ev_iret dX0_bay_52 rfl rfl (hq hC14)
    rw [if_neg z8] at h
    by_cases z16 : a1 = (nI 1)
    · rw [if_pos z16] at h
      refine ev_tableIn 53 dX0_bay_11 (by rw [z16]; decide) (by rw [z16]; decide) (by rw [z16]; rfl) rfl ?_
      refine ev_aload_n dX0_bay_53 rfl ?_
      refine ev_getR dX0_bay_54 fX0_69_0 (ck0 hC6) (Or.inl (cl0 hC6)) rfl (cq0_9 hC6) ?_
      refine ev_getR dX0_bay_57 fX0_214_5 (sk0 hC6 is16) (Or.inl (sl0 hC6 is16)) rfl (sr4 hC6 is16) ?_
      refine ev_iload_n dX0_bay_60 rfl ?_
      by_cases z17 : jok a0 6
      rotate_left
      · rw [if_neg z17] at h; cases h
      rw [if_pos z17] at h
      refine ev_iaload dX0_bay_61 (sk4 hC6 is16) (Or.inl (sl4 hC6 is16)) (jok.ix z17 (sn4 hC6 is16)) ?_
      cases h
      exact ev_iret dX0_bay_62 rfl rfl (hq hC6)
    rw [if_neg z16] at h
    by_cases z18 : a1 = (nI 2)
    · rw [if_pos z18] at h
      refine ev_tableIn 63 dX0_bay_11 (by rw [z18]; decide) (by rw [z18]; decide) (by rw [z18]; rfl) rfl ?_
      refine ev_aload_n dX0_bay_63 rfl ?_
      refine ev_getR dX0_bay_64 fX0_69_0 (ck0 hC6) (Or.inl (cl0 hC6)) rfl (cq0_9 hC6) ?_
      refine ev_iload_n dX0_bay_67 rfl ?_
      obtain ⟨r19, ci20, cj21, cr22, z23, h⟩ := jpb_inv h
      refine ev_zV1 dX0_bay_68 vX0_217_5 (sk0 hC6 is16) (Or.inl (sl0 hC6 is16)) (Nat.le_of_ble_eq_true rfl) (Nat.le_of_ble_eq_true rfl) rfl (metX5_vowsOf n _ tvho _ _ _ _ _ _ hC6 z23 (fun hC24 => ?_))
      show Ev g _ _ 71 _ [.int r19] K ci20 cj21 cr22 _ _ Qr Qx
      cases h
      exact ev_iret dX0_bay_71 rfl rfl (hq hC24)
    rw [if_neg z18] at h
    by_cases z25 : a1 = (nI 3)
    · rw [if_pos z25] at h
      refine ev_tableIn 72 dX0_bay_11 (by rw [z25]; decide) (by rw [z25]; decide) (by rw [z25]; rfl) rfl ?_
      refine ev_aload_n dX0_bay_72 rfl ?_
      refine ev_getR dX0_bay_73 fX0_69_0 (ck0 hC6) (Or.inl (cl0 hC6)) rfl (cq0_9 hC6) ?_
      refine ev_getR dX0_bay_76 fX0_220_5 (sk0 hC6 is16) (Or.inl (sl0 hC6 is16)) rfl (sr6 hC6 is16) ?_
      refine ev_iload_n dX0_bay_79 rfl ?_
      by_cases z26 : jok a0 6
      rotate_left
      · rw [if_neg z26] at h; cases h
      rw [if_pos z26] at h
      refine ev_iaload dX0_bay_80 (sk6 hC6 is16) (Or.inl (sl6 hC6 is16)) (jok.ix z26 (sn6 hC6 is16)) ?_
      cases h
      exact ev_iret dX0_bay_81 rfl rfl (hq hC6)
    rw [if_neg z25] at h
    by_cases z27 : a1 = (nI 4)
    · rw [if_pos z27] at h
      refine ev_tableIn 82 dX0_bay_11 (by rw [z27]; decide) (by rw [z27]; decide) (by rw [z27]; rfl) rfl ?_
      refine ev_aload_n dX0_bay_82 rfl ?_
      refine ev_getR dX0_bay_83 fX0_69_0 (ck0 hC6) (Or.inl (cl0 hC6)) rfl (cq0_9 hC6) ?_
      refine ev_getR dX0_bay_86 fX0_223_5 (sk0 hC6 is16) (Or.inl (sl0 hC6 is16)) rfl (sr5 hC6 is16) ?_
      refine ev_iload_n dX0_bay_89 rfl ?_
      by_cases z28 : jok a0 6
      rotate_left
      · rw [if_neg z28] at h; cases h
      rw [if_pos z28] at h
      refine ev_iaload dX0_bay_90 (sk5 hC6 is16) (Or.inl (sl5 hC6 is16)) (jok.ix z28 (sn5 hC6 is16)) ?_
      cases h
      exact ev_iret dX0_bay_91 rfl rfl (hq hC6)
    rw [if_neg z27] at h
    refine ev_tableOut 92 dX0_bay_11 (jtab_0_4 z8 z16 z18 z25 z27) rfl ?_
    refine ev_iconst (v := (-1)) dX0_bay_92 jcm1 ?_
    cases h
    exact ev_iret dX0_bay_93 rfl rfl (hq hC6)
  · rw [if_pos z7] at h
    refine ev_iconst (v := (-1)) dX0_bay_8 jcm1 ?_
    cases h
    exact ev_iret dX0_bay_9 rfl rfl (hq hC6)
def fX0_pair_84 (n : Nat) (t0 : Int32) (K : jK) (ci : jI) (cj : jJ) (cr : jR) : Option (jTp Int32) := some (t0, ci, cj, cr)
theorem wX0_pair_84 {g : jG} {d : Nat} {c sl : Nat} {Qr : jQ} {Qx : jX} (n : Nat) (t0 : Int32) (K : jK) (ci : jI) (cj : jJ) (cr : jR) {q} (hC : jCW K cr) (h : fX0_pair_84 n  t0 K ci cj cr = some q) (hq : jqp wI K q Qr) : Ev g (d + 546) mX0_pair 84 [jU, jU, jU] [.int t0] K ci cj cr c sl Qr Qx := by
  unfold fX0_pair_84 at h
  cases h
  exact ev_iret dX0_pair_84 rfl rfl (hq hC)
def fX0_pair (n : Nat) (a0 : Int32) (a1 : Int32) (K : jK) (ci : jI) (cj : jJ) (cr : jR) : Option (jTp Int32) := jpb (fX0_isPair n a0 K ci cj cr) (fun r1 ci2 cj3 cr4 => if r1 = 0 then some ((-1), ci2, cj3, cr4) else if a1 = 0 then jpb (fX0_pairOf n a0 K ci2 cj3 cr4) (fun r21 ci22 cj23 cr24 => if K.1 r21 = 8 ∧ r21 < K.2.2 then fX0_pair_84 n  (ci22 r21 1) K ci22 cj23 cr24 else none) else if a1 = (nI 1) then if jok a0 10 then fX0_pair_84 n  (ci2 (16 + 8) (a0).toNatClampNeg) K ci2 cj3 cr4 else none else if a1 = (nI 2) then if jok a0 10 then fX0_pair_84 n  (ci2 (16 + 10) (a0).toNatClampNeg) K ci2 cj3 cr4 else none else if a1 = (nI 3) then jpb (fX5_isCounted n (fho n) 16 a0 K ci2 cj3 cr4) (fun r12 ci13 cj14 cr15 => if r12 = 0 then fX0_pair_84 n  (nI 0) K ci13 cj14 cr15 else fX0_pair_84 n  (nI 1) K ci13 cj14 cr15) else fX0_pair_84 n  (-1) K ci2 cj3 cr4)
theorem metX0_pair {g : jG} {d : Nat} {c sl : Nat} {Qr : jQ} {Qx : jX} (n : Nat) (a0 : Int32) (a1 : Int32) (K : jK) (ci : jI) (cj : jJ) (cr : jR) {q} (hC : jCW K cr) (h : fX0_pair n a0 a1 K ci cj cr = some q) (hq : jqp wI K q Qr) : EvM g (d + 546) mX0_pair [.ref 0, .int a0, .int a1] K ci cj cr c sl Qr Qx := by
  unfold fX0_pair at h
  show Ev g (d + 546) mX0_pair 0 [.ref 0, .int a0, .int a1] [] K ci cj cr c sl Qr Qx
  refine ev_aload_n dX0_pair_0 rfl ?_
  refine ev_iload_n dX0_pair_1 rfl ?_
  obtain ⟨r1, ci2, cj3, cr4, z5, h⟩ := jpb_inv h
  refine ev_zV1 dX0_pair_2 vX0_226_0 (ck0 hC) (Or.inl (cl0 hC)) (Nat.le_of_ble_eq_true rfl) (Nat.le_of_ble_eq_true rfl) rfl (metX0_isPair n _ _ _ _ _ hC z5 (fun hC6 => ?_))
  show Ev g _ _ 5 _ [.int r1] K ci2 cj3 cr4 _ _ Qr Qx
  refine ev_if_ne 10 dX0_pair_5 rfl (fun z7 => ?_) (fun z7 => ?_)
  · rw [if_neg z7] at h
    refine ev_iload_n dX0_pair_10 rfl ?_
    refine ev_if_ne 25 dX0_pair_11 rfl (fun z8 => ?_) (fun z8 => ?_)
    · rw [if_neg z8] at h
      refine ev_iload_n dX0_pair_25 rfl ?_
      refine ev_iconst (v := (nI 1)) dX0_pair_26 jc1 ?_
      refine ev_icmp_ne 42 dX0_pair_27 rfl (fun z9 => ?_) (fun z9 => ?_)
      · rw [if_neg z9] at h
        refine ev_iload_n dX0_pair_42 rfl ?_
        refine ev_iconst (v := (nI 2)) dX0_pair_43 jc2 ?_
        refine ev_icmp_ne 59 dX0_pair_44 rfl (fun z10 => ?_) (fun z10 => ?_)
        · rw [if_neg z10] at h
          refine ev_iload_n dX0_pair_59 rfl ?_
          refine ev_iconst (v := (nI 3)) dX0_pair_60 jc3 ?_
          refine ev_icmp_ne 83 dX0_pair_61 rfl (fun z11 => ?_) (fun z11 => ?_)
          · rw [if_neg z11] at h
            refine ev_iconst (v := (-1)) dX0_pair_83 jcm1 ?_
            exact ev_mask [false, false, false] (wX0_pair_84 n   _ _ _ _ _ hC6 h hq)
          · rw [if_pos z11] at h
            refine ev_aload_n dX0_pair_64 rfl ?_
            refine ev_getR dX0_pair_65 fX0_69_0 (ck0 hC6) (Or.inl (cl0 hC6)) rfl (cq0_9 hC6) ?_
            refine ev_iload_n dX0_pair_68 rfl ?_
            obtain ⟨r12, ci13, cj14, cr15, z16, h⟩ := jpb_inv h
            refine ev_zV1 dX0_pair_69 vX0_182_5 (sk0 hC6 is16) (Or.inl (sl0 hC6 is16)) (Nat.le_of_ble_eq_true rfl) (Nat.le_of_ble_eq_true rfl) rfl (metX5_isCounted n _ tvho _ _ _ _ _ _ hC6 z16 (fun hC17 => ?_))
            show Ev g _ _ 72 _ [.int r12] K ci13 cj14 cr15 _ _ Qr Qx
            refine ev_if_eq 79 dX0_pair_72 rfl (fun z18 => ?_) (fun z18 => ?_)
            · rw [if_pos z18] at h
              refine ev_iconst (v := (nI 0)) dX0_pair_79 jc0 ?_
              refine ev_goto 84 dX0_pair_80 rfl ?_
              exact ev_mask [false, false, false] (wX0_pair_84 n   _ _ _ _ _ hC17 h hq)
            · rw [if_neg z18] at h
              refine ev_iconst (v := (nI 1)) dX0_pair_75 jc1 ?_
              refine ev_goto 84 dX0_pair_76 rfl ?_
              exact ev_mask [false, false, false] (wX0_pair_84 n   _ _ _ _ _ hC17 h hq)
        · rw [if_pos z10] at h
          refine ev_aload_n dX0_pair_47 rfl ?_
          refine ev_getR dX0_pair_48 fX0_69_0 (ck0 hC6) (Or.inl (cl0 hC6)) rfl (cq0_9 hC6) ?_
          refine ev_getR dX0_pair_51 fX0_239_5 (sk0 hC6 is16) (Or.inl (sl0 hC6 is16)) rfl (sr10 hC6 is16) ?_
          refine ev_iload_n dX0_pair_54 rfl ?_
          by_cases z19 : jok a0 10
          rotate_left
          · rw [if_neg z19] at h; cases h
          rw [if_pos z19] at h
          refine ev_iaload dX0_pair_55 (sk10 hC6 is16) (Or.inl (sl10 hC6 is16)) (jok.ix z19 (sn10 hC6 is16)) ?_
          refine ev_goto 84 dX0_pair_56 rfl ?_
          exact ev_mask [false, false, false] (wX0_pair_84 n   _ _ _ _ _ hC6 h hq)
      · rw [if_pos z9] at h
        refine ev_aload_n dX0_pair_30 rfl ?_
        refine ev_getR dX0_pair_31 fX0_69_0 (ck0 hC6) (Or.inl (cl0 hC6)) rfl (cq0_9 hC6) ?_
        refine ev_getR dX0_pair_34 fX0_236_5 (sk0 hC6 is16) (Or.inl (sl0 hC6 is16)) rfl (sr8 hC6 is16) ?_
        refine ev_iload_n dX0_pair_37 rfl ?_
        by_cases z20 : jok a0 10
        rotate_left
        · rw [if_neg z20] at h; cases h
        rw [if_pos z20] at h
        refine ev_iaload dX0_pair_38 (sk8 hC6 is16) (Or.inl (sl8 hC6 is16)) (jok.ix z20 (sn8 hC6 is16)) ?_
        refine ev_goto 84 dX0_pair_39 rfl ?_
        exact ev_mask [false, false, false] (wX0_pair_84 n   _ _ _ _ _ hC6 h hq)
    · rw [if_pos z8] at h
      refine ev_aload_n dX0_pair_14 rfl ?_
      refine ev_iload_n dX0_pair_15 rfl ?_
      obtain ⟨r21, ci22, cj23, cr24, z25, h⟩ := jpb_inv h
      refine ev_zV1 dX0_pair_16 vX0_229_0 (ck0 hC6) (Or.inl (cl0 hC6)) (Nat.le_of_ble_eq_true rfl) (Nat.le_of_ble_eq_true rfl) rfl (metX0_pairOf n _ _ _ _ _ hC6 z25 (fun hC26 => ?_))
      show Ev g _ _ 19 _ [.ref r21] K ci22 cj23 cr24 _ _ Qr Qx
      by_cases z27 : K.1 r21 = 8 ∧ r21 < K.2.2
      rotate_left
      · rw [if_neg z27] at h; cases h
      rw [if_pos z27] at h
      refine ev_getI dX0_pair_19 fX0_233_8 z27.1 (Or.inl z27.2) rfl ?_
      refine ev_goto 84 dX0_pair_22 rfl ?_
      exact ev_mask [false, false, false] (wX0_pair_84 n   _ _ _ _ _ hC26 h hq)
  · rw [if_pos z7] at h
    refine ev_iconst (v := (-1)) dX0_pair_8 jcm1 ?_
    cases h
    exact ev_iret dX0_pair_9 rfl rfl (hq hC6)
def fX5_luring (n : Nat) (ah : Nat) (a0 : Int32) (a1 : Int32) (K : jK) (ci : jI) (cj : jJ) (cr : jR) : Option (jTp Int64) := if isSt ah then Option.bind (cr 0 0) (fun r1 => if K.1 r1 = 1 ∧ r1 < K.2.2 then if (cr r1 5) = none then if jok a1 6 then some (((ci (ah + 7) (a1).toNatClampNeg)).toInt64, ci, cj, cr) else none else if jok a1 6 then if jok (nI 0) 11 then if jok a1 6 then if jok (nI 1) 11 then if jok a0 3 then jpb (fX0_bayOf n a1 K ci (ju (ju cj 12 ((nI 0)).toNatClampNeg (((ci (ah + 7) (a1).toNatClampNeg)).toInt64)) 12 ((nI 1)).toNatClampNeg (((ci (ah + 4) (a1).toNatClampNeg)).toInt64)) cr) (fun r10 ci11 cj12 cr13 => if K.1 r10 = 7 ∧ r10 < K.2.2 then jpb (fJ12_abs n ((ci (ah + 1) (a0).toNatClampNeg) - (ci11 r10 1)) K ci11 cj12 cr13) (fun r17 ci18 cj19 cr20 => if jok (nI 2) 11 then jpb (fX0_shoalOf n a0 K ci18 (ju cj19 12 ((nI 2)).toNatClampNeg ((r17).toInt64)) cr20) (fun r24 ci25 cj26 cr27 => if K.1 r24 = 9 ∧ r24 < K.2.2 then if jok (nI 3) 11 then if jok (nI 4) 11 then if jok a1 6 then if jok (nI 5) 11 then Option.bind (cr27 0 0) (fun r35 => if K.1 r35 = 1 ∧ r35 < K.2.2 then Option.bind (cr27 r35 5) (fun r38 => jpb (fat n r38 11 K ci25 (ju (ju (ju cj26 12 ((nI 3)).toNatClampNeg (((ci25 r24 2)).toInt64)) 12 ((nI 4)).toNatClampNeg (((ci25 ah 0)).toInt64)) 12 ((nI 5)).toNatClampNeg (((ci25 (ah + 6) (a1).toNatClampNeg)).toInt64)) cr27) (fun r40 ci41 cj42 cr43 => some (r40, ci41, cj42, cr43))) else none) else none else none else none else none else none) else none) else none) else none else none else none else none else none else none) else none
theorem metX5_luring {g : jG} {d : Nat} {c sl : Nat} {Qr : jQ} {Qx : jX} (n : Nat) (ah : Nat) (a0 : Int32) (a1 : Int32) (K : jK) (ci : jI) (cj : jJ) (cr : jR) {q} (hC : jCW K cr) (h : fX5_luring n ah a0 a1 K ci cj cr = some q) (hq : jqp wJ K q Qr) : EvM g (d + 541) mX5_luring [.ref ah, .int a0, .int a1] K ci cj cr c sl Qr Qx := by
  unfold fX5_luring at h
  show Ev g (d + 541) mX5_luring 0 [.ref ah, .int a0, .int a1] [] K ci cj cr c sl Qr Qx
  by_cases hs_ah : isSt ah
  rotate_left
  · rw [if_neg hs_ah] at h; cases h
  rw [if_pos hs_ah] at h
  refine ev_aload_n dX5_luring_0 rfl ?_
  refine ev_getR dX5_luring_1 fX5_3_5 (sk0 hC hs_ah) (Or.inl (sl0 hC hs_ah)) rfl (sr12 hC hs_ah) ?_
  obtain ⟨r1, z2, h⟩ := Option.bind_eq_some_iff.mp h
  refine ev_getR dX5_luring_4 fX5_92_0 (ck0 hC) (Or.inl (cl0 hC)) rfl z2 ?_
  by_cases z3 : K.1 r1 = 1 ∧ r1 < K.2.2
  rotate_left
  · rw [if_neg z3] at h; cases h
  rw [if_pos z3] at h
  refine ev_getQ dX5_luring_7 fX5_129_1 z3.1 (Or.inl z3.2) rfl ?_
  refine ev_ifnonnullQ 21 dX5_luring_10 rfl (fun z4 => ?_) (fun z4 => ?_)
  · rw [if_neg z4] at h
    refine ev_aload_n dX5_luring_21 rfl ?_
    refine ev_getR dX5_luring_22 fX5_3_5 (sk0 hC hs_ah) (Or.inl (sl0 hC hs_ah)) rfl (sr12 hC hs_ah) ?_
    refine ev_getR dX5_luring_25 fX5_102_0 (ck0 hC) (Or.inl (cl0 hC)) rfl (cq0_6 hC) ?_
    refine ev_getR dX5_luring_28 fX5_106_4 (ck11 hC) (Or.inl (cl11 hC)) rfl (cq11_0 hC) ?_
    refine ev_iconst (v := (nI 0)) dX5_luring_31 jc0 ?_
    refine ev_aload_n dX5_luring_32 rfl ?_
    refine ev_getR dX5_luring_33 fX5_34_5 (sk0 hC hs_ah) (Or.inl (sl0 hC hs_ah)) rfl (sr7 hC hs_ah) ?_
    refine ev_iload_n dX5_luring_36 rfl ?_
    by_cases z5 : jok a1 6
    rotate_left
    · rw [if_neg z5] at h; cases h
    rw [if_pos z5] at h
    refine ev_iaload dX5_luring_37 (sk7 hC hs_ah) (Or.inl (sl7 hC hs_ah)) (jok.ix z5 (sn7 hC hs_ah)) ?_
    refine ev_i2l dX5_luring_38 ?_
    by_cases z6 : jok (nI 0) 11
    rotate_left
    · rw [if_neg z6] at h; cases h
    rw [if_pos z6] at h
    refine ev_lastore dX5_luring_39 (ck12 hC) (cl12 hC) (jok.ix z6 (cn12 hC)) ?_
    refine ev_aload_n dX5_luring_40 rfl ?_
    refine ev_getR dX5_luring_41 fX5_3_5 (sk0 hC hs_ah) (Or.inl (sl0 hC hs_ah)) rfl (sr12 hC hs_ah) ?_
    refine ev_getR dX5_luring_44 fX5_102_0 (ck0 hC) (Or.inl (cl0 hC)) rfl (cq0_6 hC) ?_
    refine ev_getR dX5_luring_47 fX5_106_4 (ck11 hC) (Or.inl (cl11 hC)) rfl (cq11_0 hC) ?_
    refine ev_iconst (v := (nI 1)) dX5_luring_50 jc1 ?_
    refine ev_aload_n dX5_luring_51 rfl ?_
    refine ev_getR dX5_luring_52 fX5_25_5 (sk0 hC hs_ah) (Or.inl (sl0 hC hs_ah)) rfl (sr4 hC hs_ah) ?_
    refine ev_iload_n dX5_luring_55 rfl ?_
    by_cases z7 : jok a1 6
    rotate_left
    · rw [if_neg z7] at h; cases h
    rw [if_pos z7] at h
    refine ev_iaload dX5_luring_56 (sk4 hC hs_ah) (Or.inl (sl4 hC hs_ah)) (jok.ix z7 (sn4 hC hs_ah)) ?_
    refine ev_i2l dX5_luring_57 ?_
    by_cases z8 : jok (nI 1) 11
    rotate_left
    · rw [if_neg z8] at h; cases h
    rw [if_pos z8] at h
    refine ev_lastore dX5_luring_58 (ck12 hC) (cl12 hC) (jok.ix z8 (cn12 hC)) ?_
    refine ev_aload_n dX5_luring_59 rfl ?_
    refine ev_getR dX5_luring_60 fX5_3_5 (sk0 hC hs_ah) (Or.inl (sl0 hC hs_ah)) rfl (sr12 hC hs_ah) ?_
    refine ev_getR dX5_luring_63 fX5_102_0 (ck0 hC) (Or.inl (cl0 hC)) rfl (cq0_6 hC) ?_
    refine ev_getR dX5_luring_66 fX5_106_4 (ck11 hC) (Or.inl (cl11 hC)) rfl (cq11_0 hC) ?_
    refine ev_iconst (v := (nI 2)) dX5_luring_69 jc2 ?_
    refine ev_aload_n dX5_luring_70 rfl ?_
    refine ev_getR dX5_luring_71 fX5_15_5 (sk0 hC hs_ah) (Or.inl (sl0 hC hs_ah)) rfl (sr1 hC hs_ah) ?_
    refine ev_iload_n dX5_luring_74 rfl ?_
    by_cases z9 : jok a0 3
    rotate_left
    · rw [if_neg z9] at h; cases h
    rw [if_pos z9] at h
    refine ev_iaload dX5_luring_75 (sk1 hC hs_ah) (Or.inl (sl1 hC hs_ah)) (jok.ix z9 (sn1 hC hs_ah)) ?_
    refine ev_aload_n dX5_luring_76 rfl ?_
    refine ev_getR dX5_luring_77 fX5_3_5 (sk0 hC hs_ah) (Or.inl (sl0 hC hs_ah)) rfl (sr12 hC hs_ah) ?_
    refine ev_iload_n dX5_luring_80 rfl ?_
    obtain ⟨r10, ci11, cj12, cr13, z14, h⟩ := jpb_inv h
    refine ev_zV1 dX5_luring_81 vX5_73_0 (ck0 hC) (Or.inl (cl0 hC)) (Nat.le_of_ble_eq_true rfl) (Nat.le_of_ble_eq_true rfl) rfl (metX0_bayOf n _ _ _ _ _ hC z14 (fun hC15 => ?_))
    show Ev g _ _ 84 _ [.ref r10, .int (ci (ah + 1) (a0).toNatClampNeg), .int (nI 2), .ref 12] K ci11 cj12 cr13 _ _ Qr Qx
    by_cases z16 : K.1 r10 = 7 ∧ r10 < K.2.2
    rotate_left
    · rw [if_neg z16] at h; cases h
    rw [if_pos z16] at h
    refine ev_getI dX5_luring_84 fX5_133_7 z16.1 (Or.inl z16.2) rfl ?_
    refine ev_isub dX5_luring_87 ?_
    obtain ⟨r17, ci18, cj19, cr20, z21, h⟩ := jpb_inv h
    refine ev_zS1 dX5_luring_88 sX5_134 (Nat.le_of_ble_eq_true rfl) (Nat.le_of_ble_eq_true rfl) rfl (metJ12_abs n _ _ _ _ _ hC15 z21 (fun hC22 => ?_))
    show Ev g _ _ 91 _ [.int r17, .int (nI 2), .ref 12] K ci18 cj19 cr20 _ _ Qr Qx
    refine ev_i2l dX5_luring_91 ?_
    by_cases z23 : jok (nI 2) 11
    rotate_left
    · rw [if_neg z23] at h; cases h
    rw [if_pos z23] at h
    refine ev_lastore dX5_luring_92 (ck12 hC22) (cl12 hC22) (jok.ix z23 (cn12 hC22)) ?_
    refine ev_aload_n dX5_luring_93 rfl ?_
    refine ev_getR dX5_luring_94 fX5_3_5 (sk0 hC22 hs_ah) (Or.inl (sl0 hC22 hs_ah)) rfl (sr12 hC22 hs_ah) ?_
    refine ev_getR dX5_luring_97 fX5_102_0 (ck0 hC22) (Or.inl (cl0 hC22)) rfl (cq0_6 hC22) ?_
    refine ev_getR dX5_luring_100 fX5_106_4 (ck11 hC22) (Or.inl (cl11 hC22)) rfl (cq11_0 hC22) ?_
    refine ev_iconst (v := (nI 3)) dX5_luring_103 jc3 ?_
    refine ev_aload_n dX5_luring_104 rfl ?_
    refine ev_getR dX5_luring_105 fX5_3_5 (sk0 hC22 hs_ah) (Or.inl (sl0 hC22 hs_ah)) rfl (sr12 hC22 hs_ah) ?_
    refine ev_iload_n dX5_luring_108 rfl ?_
    obtain ⟨r24, ci25, cj26, cr27, z28, h⟩ := jpb_inv h
    refine ev_zV1 dX5_luring_109 vX5_62_0 (ck0 hC22) (Or.inl (cl0 hC22)) (Nat.le_of_ble_eq_true rfl) (Nat.le_of_ble_eq_true rfl) rfl (metX0_shoalOf n _ _ _ _ _ hC22 z28 (fun hC29 => ?_))
    show Ev g _ _ 112 _ [.ref r24, .int (nI 3), .ref 12] K ci25 cj26 cr27 _ _ Qr Qx
    by_cases z30 : K.1 r24 = 9 ∧ r24 < K.2.2
    rotate_left
    · rw [if_neg z30] at h; cases h
    rw [if_pos z30] at h
    refine ev_getI dX5_luring_112 fX5_139_9 z30.1 (Or.inl z30.2) rfl ?_
    refine ev_i2l dX5_luring_115 ?_
    by_cases z31 : jok (nI 3) 11
    rotate_left
    · rw [if_neg z31] at h; cases h
    rw [if_pos z31] at h
    refine ev_lastore dX5_luring_116 (ck12 hC29) (cl12 hC29) (jok.ix z31 (cn12 hC29)) ?_
    refine ev_aload_n dX5_luring_117 rfl ?_
    refine ev_getR dX5_luring_118 fX5_3_5 (sk0 hC29 hs_ah) (Or.inl (sl0 hC29 hs_ah)) rfl (sr12 hC29 hs_ah) ?_
    refine ev_getR dX5_luring_121 fX5_102_0 (ck0 hC29) (Or.inl (cl0 hC29)) rfl (cq0_6 hC29) ?_
    refine ev_getR dX5_luring_124 fX5_106_4 (ck11 hC29) (Or.inl (cl11 hC29)) rfl (cq11_0 hC29) ?_
    refine ev_iconst (v := (nI 4)) dX5_luring_127 jc4 ?_
    refine ev_aload_n dX5_luring_128 rfl ?_
    refine ev_getI dX5_luring_129 fX5_51_5 (sk0 hC29 hs_ah) (Or.inl (sl0 hC29 hs_ah)) rfl ?_
    refine ev_i2l dX5_luring_132 ?_
    by_cases z32 : jok (nI 4) 11
    rotate_left
    · rw [if_neg z32] at h; cases h
    rw [if_pos z32] at h
    refine ev_lastore dX5_luring_133 (ck12 hC29) (cl12 hC29) (jok.ix z32 (cn12 hC29)) ?_
    refine ev_aload_n dX5_luring_134 rfl ?_
    refine ev_getR dX5_luring_135 fX5_3_5 (sk0 hC29 hs_ah) (Or.inl (sl0 hC29 hs_ah)) rfl (sr12 hC29 hs_ah) ?_
    refine ev_getR dX5_luring_138 fX5_102_0 (ck0 hC29) (Or.inl (cl0 hC29)) rfl (cq0_6 hC29) ?_
    refine ev_getR dX5_luring_141 fX5_106_4 (ck11 hC29) (Or.inl (cl11 hC29)) rfl (cq11_0 hC29) ?_
    refine ev_iconst (v := (nI 5)) dX5_luring_144 jc5 ?_
    refine ev_aload_n dX5_luring_145 rfl ?_
    refine ev_getR dX5_luring_146 fX5_31_5 (sk0 hC29 hs_ah) (Or.inl (sl0 hC29 hs_ah)) rfl (sr6 hC29 hs_ah) ?_
    refine ev_iload_n dX5_luring_149 rfl ?_
    by_cases z33 : jok a1 6
    rotate_left
    · rw [if_neg z33] at h; cases h
    rw [if_pos z33] at h
    refine ev_iaload dX5_luring_150 (sk6 hC29 hs_ah) (Or.inl (sl6 hC29 hs_ah)) (jok.ix z33 (sn6 hC29 hs_ah)) ?_
    refine ev_i2l dX5_luring_151 ?_
    by_cases z34 : jok (nI 5) 11
    rotate_left
    · rw [if_neg z34] at h; cases h
    rw [if_pos z34] at h
    refine ev_lastore dX5_luring_152 (ck12 hC29) (cl12 hC29) (jok.ix z34 (cn12 hC29)) ?_
    refine ev_aload_n dX5_luring_153 rfl ?_
    refine ev_getR dX5_luring_154 fX5_3_5 (sk0 hC29 hs_ah) (Or.inl (sl0 hC29 hs_ah)) rfl (sr12 hC29 hs_ah) ?_
    obtain ⟨r35, z36, h⟩ := Option.bind_eq_some_iff.mp h
    refine ev_getR dX5_luring_157 fX5_92_0 (ck0 hC29) (Or.inl (cl0 hC29)) rfl z36 ?_
    by_cases z37 : K.1 r35 = 1 ∧ r35 < K.2.2
    rotate_left
    · rw [if_neg z37] at h; cases h
    rw [if_pos z37] at h
    obtain ⟨r38, z39, h⟩ := Option.bind_eq_some_iff.mp h
    refine ev_getR dX5_luring_160 fX5_129_1 z37.1 (Or.inl z37.2) rfl z39 ?_
    refine ev_aload_n dX5_luring_163 rfl ?_
    refine ev_getR dX5_luring_164 fX5_3_5 (sk0 hC29 hs_ah) (Or.inl (sl0 hC29 hs_ah)) rfl (sr12 hC29 hs_ah) ?_
    refine ev_getR dX5_luring_167 fX5_102_0 (ck0 hC29) (Or.inl (cl0 hC29)) rfl (cq0_6 hC29) ?_
    obtain ⟨r40, ci41, cj42, cr43, z44, h⟩ := jpb_inv h
    refine ev_vcall dX5_luring_170 yaX5_142 vatL tvat hC29 z44 (Nat.le_of_ble_eq_true rfl) rfl (fun hC45 => ?_)
    show Ev g _ _ 173 _ [.long r40] K ci41 cj42 cr43 _ _ Qr Qx
    cases h
    exact ev_lret dX5_luring_173 rfl (hq hC45)
  · rw [if_pos z4] at h
    refine ev_aload_n dX5_luring_13 rfl ?_
    refine ev_getR dX5_luring_14 fX5_34_5 (sk0 hC hs_ah) (Or.inl (sl0 hC hs_ah)) rfl (sr7 hC hs_ah) ?_
    refine ev_iload_n dX5_luring_17 rfl ?_
    by_cases z46 : jok a1 6
    rotate_left
    · rw [if_neg z46] at h; cases h
    rw [if_pos z46] at h
    refine ev_iaload dX5_luring_18 (sk7 hC hs_ah) (Or.inl (sl7 hC hs_ah)) (jok.ix z46 (sn7 hC hs_ah)) ?_
    refine ev_i2l dX5_luring_19 ?_
    cases h
    exact ev_lret dX5_luring_20 rfl (hq hC)
def fX5_vows_2 (n : Nat) (ah : Nat) : Nat → Int32 → jK → jI → jJ → jR → Option (jTp Unit)
  | 0, _, _, _, _, _ => none
  | k + 1, l1, K, ci, cj, cr => jpb (fX0_bays n  K ci cj cr) (fun r1 ci2 cj3 cr4 => if r1 ≤ l1 then some ((), ci2, cj3, cr4) else jpb (fX5_vowsOf n (fho n) ah l1 K ci2 cj3 cr4) (fun r8 ci9 cj10 cr11 => if jok l1 6 then fX5_vows_2 n ah  k (l1 + (nI 1)) K (ju ci9 (ah + 7) (l1).toNatClampNeg r8) cj10 cr11 else none))
theorem wX5_vows_2 {g : jG} {d : Nat} {c sl : Nat} {Qr : jQ} {Qx : jX} (n : Nat) (ah : Nat) (hs_ah : isSt ah) : ∀ (k : Nat) (l1 : Int32) (K : jK) (ci : jI) (cj : jJ) (cr : jR) {q}, jCW K cr → fX5_vows_2 n ah  k l1 K ci cj cr = some q → jqp wV K q Qr → Ev g (d + 547) mX5_vows 2 [.ref ah, .int l1] [] K ci cj cr c sl Qr Qx := by
  intro k
  induction k with
  | zero =>
    intro l1 K ci cj cr q hC h hq
    rw [fX5_vows_2.eq_1] at h; cases h
  | succ k ih =>
    intro l1 K ci cj cr q hC h hq
    rw [fX5_vows_2.eq_2] at h
    refine ev_iload_n dX5_vows_2 rfl ?_
    refine ev_aload_n dX5_vows_3 rfl ?_
    refine ev_getR dX5_vows_4 fX5_3_5 (sk0 hC hs_ah) (Or.inl (sl0 hC hs_ah)) rfl (sr12 hC hs_ah) ?_
    obtain ⟨r1, ci2, cj3, cr4, z5, h⟩ := jpb_inv h
    refine ev_zV0 dX5_vows_7 vX5_70_0 (ck0 hC) (Or.inl (cl0 hC)) (Nat.le_of_ble_eq_true rfl) (Nat.le_of_ble_eq_true rfl) rfl (metX0_bays n  _ _ _ _ hC z5 (fun hC6 => ?_))
    show Ev g _ _ 10 _ [.int r1, .int l1] K ci2 cj3 cr4 _ _ Qr Qx
    refine ev_icmp_ge 30 dX5_vows_10 rfl (fun z7 => ?_) (fun z7 => ?_)
    · rw [if_pos z7] at h
      cases h
      exact ev_ret dX5_vows_30 rfl (hq hC6)
    · rw [if_neg z7] at h
      refine ev_aload_n dX5_vows_13 rfl ?_
      refine ev_getR dX5_vows_14 fX5_34_5 (sk0 hC6 hs_ah) (Or.inl (sl0 hC6 hs_ah)) rfl (sr7 hC6 hs_ah) ?_
      refine ev_iload_n dX5_vows_17 rfl ?_
      refine ev_aload_n dX5_vows_18 rfl ?_
      refine ev_iload_n dX5_vows_19 rfl ?_
      obtain ⟨r8, ci9, cj10, cr11, z12, h⟩ := jpb_inv h
      refine ev_zV1 dX5_vows_20 vX5_125_5 (sk0 hC6 hs_ah) (Or.inl (sl0 hC6 hs_ah)) (Nat.le_of_ble_eq_true rfl) (Nat.le_of_ble_eq_true rfl) rfl (metX5_vowsOf n _ tvho _ _ _ _ _ _ hC6 z12 (fun hC13 => ?_))
      show Ev g _ _ 23 _ [.int r8, .int l1, .ref (ah + 7)] K ci9 cj10 cr11 _ _ Qr Qx
      by_cases z14 : jok l1 6
      rotate_left
      · rw [if_neg z14] at h; cases h
      rw [if_pos z14] at h
      refine ev_iastore dX5_vows_23 (sk7 hC13 hs_ah) (sl7 hC13 hs_ah) (jok.ix z14 (sn7 hC13 hs_ah)) ?_
      refine ev_iinc (v := (l1 + (nI 1))) (L' := [_, _]) dX5_vows_24 rfl (by rw [ji_1]) (by decide) rfl ?_
      refine ev_goto 2 dX5_vows_27 rfl ?_
      exact ih _ _ _ _ _ hC13 h hq
def fX5_vows (n : Nat) (ah : Nat) (K : jK) (ci : jI) (cj : jJ) (cr : jR) : Option (jTp Unit) := if isSt ah then fX5_vows_2 n ah  n (nI 0) K ci cj cr else none
theorem metX5_vows {g : jG} {d : Nat} {c sl : Nat} {Qr : jQ} {Qx : jX} (n : Nat) (ah : Nat) (K : jK) (ci : jI) (cj : jJ) (cr : jR) {q} (hC : jCW K cr) (h : fX5_vows n ah K ci cj cr = some q) (hq : jqp wV K q Qr) : EvM g (d + 547) mX5_vows [.ref ah] K ci cj cr c sl Qr Qx := by
  unfold fX5_vows at h
  show Ev g (d + 547) mX5_vows 0 [.ref ah, jU] [] K ci cj cr c sl Qr Qx
  by_cases hs_ah : isSt ah
  rotate_left
  · rw [if_neg hs_ah] at h; cases h
  rw [if_pos hs_ah] at h
  refine ev_iconst (v := (nI 0)) dX5_vows_0 jc0 ?_
  refine ev_istore_n (L' := [_, _]) dX5_vows_1 (by decide) rfl ?_
  exact wX5_vows_2 n _ hs_ah   n _ _ _ _ _ hC h hq
def fX5_lureNow (n : Nat) (ah : Nat) (a0 : Int32) (a1 : Int32) (K : jK) (ci : jI) (cj : jJ) (cr : jR) : Option (jTp Int64) := if isSt ah then jpb (fX5_vows n ah K ci cj cr) (fun r1 ci2 cj3 cr4 => jpb (fX5_luring n ah a0 a1 K ci2 cj3 cr4) (fun r7 ci8 cj9 cr10 => some (r7, ci8, cj9, cr10))) else none
theorem metX5_lureNow {g : jG} {d : Nat} {c sl : Nat} {Qr : jQ} {Qx : jX} (n : Nat) (ah : Nat) (a0 : Int32) (a1 : Int32) (K : jK) (ci : jI) (cj : jJ) (cr : jR) {q} (hC : jCW K cr) (h : fX5_lureNow n ah a0 a1 K ci cj cr = some q) (hq : jqp wJ K q Qr) : EvM g (d + 548) mX5_lureNow [.ref ah, .int a0, .int a1] K ci cj cr c sl Qr Qx := by
  unfold fX5_lureNow at h
  show Ev g (d + 548) mX5_lureNow 0 [.ref ah, .int a0, .int a1] [] K ci cj cr c sl Qr Qx
  by_cases hs_ah : isSt ah
  rotate_left
  · rw [if_neg hs_ah] at h; cases h
  rw [if_pos hs_ah] at h
  refine ev_aload_n dX5_lureNow_0 rfl ?_
  obtain ⟨r1, ci2, cj3, cr4, z5, h⟩ := jpb_inv h
  refine ev_zV0 dX5_lureNow_1 vX5_147_5 (sk0 hC hs_ah) (Or.inl (sl0 hC hs_ah)) (Nat.le_of_ble_eq_true rfl) (Nat.le_of_ble_eq_true rfl) rfl (metX5_vows n _ _ _ _ _ hC z5 (fun hC6 => ?_))
  show Ev g _ _ 4 _ [] K ci2 cj3 cr4 _ _ Qr Qx
  refine ev_aload_n dX5_lureNow_4 rfl ?_
  refine ev_iload_n dX5_lureNow_5 rfl ?_
  refine ev_iload_n dX5_lureNow_6 rfl ?_
  obtain ⟨r7, ci8, cj9, cr10, z11, h⟩ := jpb_inv h
  refine ev_zV2 dX5_lureNow_7 vX5_150_5 (sk0 hC6 hs_ah) (Or.inl (sl0 hC6 hs_ah)) (Nat.le_of_ble_eq_true rfl) (Nat.le_of_ble_eq_true rfl) rfl (metX5_luring n _ _ _ _ _ _ _ hC6 z11 (fun hC12 => ?_))
  show Ev g _ _ 10 _ [.long r7] K ci8 cj9 cr10 _ _ Qr Qx
  cases h
  exact ev_lret dX5_lureNow_10 rfl (hq hC12)
def fX0_lure_31 (n : Nat) (t0 : Int64) (K : jK) (ci : jI) (cj : jJ) (cr : jR) : Option (jTp Int64) := some (t0, ci, cj, cr)
theorem wX0_lure_31 {g : jG} {d : Nat} {c sl : Nat} {Qr : jQ} {Qx : jX} (n : Nat) (t0 : Int64) (K : jK) (ci : jI) (cj : jJ) (cr : jR) {q} (hC : jCW K cr) (h : fX0_lure_31 n  t0 K ci cj cr = some q) (hq : jqp wJ K q Qr) : Ev g (d + 549) mX0_lure 31 [jU, jU, jU] [.long t0] K ci cj cr c sl Qr Qx := by
  unfold fX0_lure_31 at h
  cases h
  exact ev_lret dX0_lure_31 rfl (hq hC)
def fX0_lure_28 (n : Nat) (K : jK) (ci : jI) (cj : jJ) (cr : jR) : Option (jTp Int64) := fX0_lure_31 n  (-1000000000000000 : Int64) K ci cj cr
theorem wX0_lure_28 {g : jG} {d : Nat} {c sl : Nat} {Qr : jQ} {Qx : jX} (n : Nat) (K : jK) (ci : jI) (cj : jJ) (cr : jR) {q} (hC : jCW K cr) (h : fX0_lure_28 n   K ci cj cr = some q) (hq : jqp wJ K q Qr) : Ev g (d + 549) mX0_lure 28 [jU, jU, jU] [] K ci cj cr c sl Qr Qx := by
  unfold fX0_lure_28 at h
  refine ev_ldc2 dX0_lure_28 q1460 ?_
  exact wX0_lure_31 n   _ _ _ _ _ hC h hq
def fX0_lure (n : Nat) (a0 : Int32) (a1 : Int32) (K : jK) (ci : jI) (cj : jJ) (cr : jR) : Option (jTp Int64) := jpb (fX0_isShoal n a0 K ci cj cr) (fun r1 ci2 cj3 cr4 => if r1 = 0 then fX0_lure_28 n   K ci2 cj3 cr4 else jpb (fX0_isBay n a1 K ci2 cj3 cr4) (fun r8 ci9 cj10 cr11 => if r8 = 0 then fX0_lure_28 n   K ci9 cj10 cr11 else jpb (fX5_lureNow n 16 a0 a1 K ci9 cj10 cr11) (fun r15 ci16 cj17 cr18 => fX0_lure_31 n  r15 K ci16 cj17 cr18)))
theorem metX0_lure {g : jG} {d : Nat} {c sl : Nat} {Qr : jQ} {Qx : jX} (n : Nat) (a0 : Int32) (a1 : Int32) (K : jK) (ci : jI) (cj : jJ) (cr : jR) {q} (hC : jCW K cr) (h : fX0_lure n a0 a1 K ci cj cr = some q) (hq : jqp wJ K q Qr) : EvM g (d + 549) mX0_lure [.ref 0, .int a0, .int a1] K ci cj cr c sl Qr Qx := by
  unfold fX0_lure at h
  show Ev g (d + 549) mX0_lure 0 [.ref 0, .int a0, .int a1] [] K ci cj cr c sl Qr Qx
  refine ev_aload_n dX0_lure_0 rfl ?_
  refine ev_iload_n dX0_lure_1 rfl ?_
  obtain ⟨r1, ci2, cj3, cr4, z5, h⟩ := jpb_inv h
  refine ev_zV1 dX0_lure_2 vX0_242_0 (ck0 hC) (Or.inl (cl0 hC)) (Nat.le_of_ble_eq_true rfl) (Nat.le_of_ble_eq_true rfl) rfl (metX0_isShoal n _ _ _ _ _ hC z5 (fun hC6 => ?_))
  show Ev g _ _ 5 _ [.int r1] K ci2 cj3 cr4 _ _ Qr Qx
  refine ev_if_eq 28 dX0_lure_5 rfl (fun z7 => ?_) (fun z7 => ?_)
  · rw [if_pos z7] at h
    exact ev_mask [false, false, false] (wX0_lure_28 n    _ _ _ _ hC6 h hq)
  · rw [if_neg z7] at h
    refine ev_aload_n dX0_lure_8 rfl ?_
    refine ev_iload_n dX0_lure_9 rfl ?_
    obtain ⟨r8, ci9, cj10, cr11, z12, h⟩ := jpb_inv h
    refine ev_zV1 dX0_lure_10 vX0_204_0 (ck0 hC6) (Or.inl (cl0 hC6)) (Nat.le_of_ble_eq_true rfl) (Nat.le_of_ble_eq_true rfl) rfl (metX0_isBay n _ _ _ _ _ hC6 z12 (fun hC13 => ?_))
    show Ev g _ _ 13 _ [.int r8] K ci9 cj10 cr11 _ _ Qr Qx
    refine ev_if_eq 28 dX0_lure_13 rfl (fun z14 => ?_) (fun z14 => ?_)
    · rw [if_pos z14] at h
      exact ev_mask [false, false, false] (wX0_lure_28 n    _ _ _ _ hC13 h hq)
    · rw [if_neg z14] at h
      refine ev_aload_n dX0_lure_16 rfl ?_
      refine ev_getR dX0_lure_17 fX0_69_0 (ck0 hC13) (Or.inl (cl0 hC13)) rfl (cq0_9 hC13) ?_
      refine ev_iload_n dX0_lure_20 rfl ?_
      refine ev_iload_n dX0_lure_21 rfl ?_
      obtain ⟨r15, ci16, cj17, cr18, z19, h⟩ := jpb_inv h
      refine ev_zV2 dX0_lure_22 vX0_253_5 (sk0 hC13 is16) (Or.inl (sl0 hC13 is16)) (Nat.le_of_ble_eq_true rfl) (Nat.le_of_ble_eq_true rfl) rfl (metX5_lureNow n _ _ _ _ _ _ _ hC13 z19 (fun hC20 => ?_))
      show Ev g _ _ 25 _ [.long r15] K ci16 cj17 cr18 _ _ Qr Qx
      refine ev_goto 31 dX0_lure_25 rfl ?_
      exact ev_mask [false, false, false] (wX0_lure_31 n   _ _ _ _ _ hC20 h hq)
def fX5_choice_44 (n : Nat) (ah : Nat) (rec7 : Int32 → Int32 → Int64 → Int32 → jK → jI → jJ → jR → Option (jTp Int32)) (l1 : Int32) (l2 : Int32) (l3 : Int64) (l5 : Int32) (K : jK) (ci : jI) (cj : jJ) (cr : jR) : Option (jTp Int32) := rec7 l1 l2 l3 (l5 + (nI 1)) K ci cj cr
theorem wX5_choice_44 {g : jG} {d : Nat} {c sl : Nat} {Qr : jQ} {Qx : jX} (n : Nat) (ah : Nat) (hs_ah : isSt ah) (rec7 : Int32 → Int32 → Int64 → Int32 → jK → jI → jJ → jR → Option (jTp Int32)) (hrec7 : (∀ (l1 : Int32) (l2 : Int32) (l3 : Int64) (l5 : Int32) (K : jK) (ci : jI) (cj : jJ) (cr : jR) {q}, jCW K cr → rec7 l1 l2 l3 l5 K ci cj cr = some q → jqp wI K q Qr → Ev g (d + 542) mX5_choice 7 [.ref ah, .int l1, .int l2, .long l3, jU, .int l5, jU, jU] [] K ci cj cr c sl Qr Qx)) (l1 : Int32) (l2 : Int32) (l3 : Int64) (l5 : Int32) (K : jK) (ci : jI) (cj : jJ) (cr : jR) {q} (hC : jCW K cr) (h : fX5_choice_44 n ah rec7 l1 l2 l3 l5 K ci cj cr = some q) (hq : jqp wI K q Qr) : Ev g (d + 542) mX5_choice 44 [.ref ah, .int l1, .int l2, .long l3, jU, .int l5, jU, jU] [] K ci cj cr c sl Qr Qx := by
  unfold fX5_choice_44 at h
  refine ev_iinc (v := (l5 + (nI 1))) (L' := [_, _, _, _, _, _, _, _]) dX5_choice_44 rfl (by rw [ji_1]) (by decide) rfl ?_
  refine ev_goto 7 dX5_choice_47 rfl ?_
  exact hrec7 _ _ _ _ _ _ _ _ hC h hq
def fX5_choice_7 (n : Nat) (ah : Nat) : Nat → Int32 → Int32 → Int64 → Int32 → jK → jI → jJ → jR → Option (jTp Int32)
  | 0, _, _, _, _, _, _, _, _ => none
  | k + 1, l1, l2, l3, l5, K, ci, cj, cr => jpb (fX0_bays n  K ci cj cr) (fun r1 ci2 cj3 cr4 => if r1 ≤ l5 then some (l2, ci2, cj3, cr4) else jpb (fX5_luring n ah l1 l5 K ci2 cj3 cr4) (fun r8 ci9 cj10 cr11 => if l3 < r8 then fX5_choice_44 n ah (fX5_choice_7 n ah  k) l1 l5 r8 l5 K ci9 cj10 cr11 else fX5_choice_44 n ah (fX5_choice_7 n ah  k) l1 l2 l3 l5 K ci9 cj10 cr11))
theorem wX5_choice_7 {g : jG} {d : Nat} {c sl : Nat} {Qr : jQ} {Qx : jX} (n : Nat) (ah : Nat) (hs_ah : isSt ah) : ∀ (k : Nat) (l1 : Int32) (l2 : Int32) (l3 : Int64) (l5 : Int32) (K : jK) (ci : jI) (cj : jJ) (cr : jR) {q}, jCW K cr → fX5_choice_7 n ah  k l1 l2 l3 l5 K ci cj cr = some q → jqp wI K q Qr → Ev g (d + 542) mX5_choice 7 [.ref ah, .int l1, .int l2, .long l3, jU, .int l5, jU, jU] [] K ci cj cr c sl Qr Qx := by
  intro k
  induction k with
  | zero =>
    intro l1 l2 l3 l5 K ci cj cr q hC h hq
    rw [fX5_choice_7.eq_1] at h; cases h
  | succ k ih =>
    intro l1 l2 l3 l5 K ci cj cr q hC h hq
    rw [fX5_choice_7.eq_2] at h
    refine ev_iload dX5_choice_7 rfl ?_
    refine ev_aload_n dX5_choice_9 rfl ?_
    refine ev_getR dX5_choice_10 fX5_3_5 (sk0 hC hs_ah) (Or.inl (sl0 hC hs_ah)) rfl (sr12 hC hs_ah) ?_
    obtain ⟨r1, ci2, cj3, cr4, z5, h⟩ := jpb_inv h
    refine ev_zV0 dX5_choice_13 vX5_70_0 (ck0 hC) (Or.inl (cl0 hC)) (Nat.le_of_ble_eq_true rfl) (Nat.le_of_ble_eq_true rfl) rfl (metX0_bays n  _ _ _ _ hC z5 (fun hC6 => ?_))
    show Ev g _ _ 16 _ [.int r1, .int l5] K ci2 cj3 cr4 _ _ Qr Qx
    refine ev_icmp_ge 50 dX5_choice_16 rfl (fun z7 => ?_) (fun z7 => ?_)
    · rw [if_pos z7] at h
      refine ev_iload_n dX5_choice_50 rfl ?_
      cases h
      exact ev_iret dX5_choice_51 rfl rfl (hq hC6)
    · rw [if_neg z7] at h
      refine ev_aload_n dX5_choice_19 rfl ?_
      refine ev_iload_n dX5_choice_20 rfl ?_
      refine ev_iload dX5_choice_21 rfl ?_
      obtain ⟨r8, ci9, cj10, cr11, z12, h⟩ := jpb_inv h
      refine ev_zV2 dX5_choice_23 vX5_150_5 (sk0 hC6 hs_ah) (Or.inl (sl0 hC6 hs_ah)) (Nat.le_of_ble_eq_true rfl) (Nat.le_of_ble_eq_true rfl) rfl (metX5_luring n _ _ _ _ _ _ _ hC6 z12 (fun hC13 => ?_))
      show Ev g _ _ 26 _ [.long r8] K ci9 cj10 cr11 _ _ Qr Qx
      refine ev_lstore (L' := [_, _, _, _, _, _, _, _]) dX5_choice_26 (by decide) rfl ?_
      refine ev_lload dX5_choice_28 rfl ?_
      refine ev_lload_n dX5_choice_30 rfl ?_
      refine ev_lcif_gt 38 dX5_choice_31 dX5_choice_32 rfl (fun z14 => ?_) (fun z14 => ?_)
      · rw [if_pos z14] at h
        refine ev_lload dX5_choice_38 rfl ?_
        refine ev_lstore_n (L' := [_, _, _, _, _, _, _, _]) dX5_choice_40 (by decide) rfl ?_
        refine ev_iload dX5_choice_41 rfl ?_
        refine ev_istore_n (L' := [_, _, _, _, _, _, _, _]) dX5_choice_43 (by decide) rfl ?_
        exact ev_mask [true, true, true, true, false, true, false, false] (wX5_choice_44 n _ hs_ah _ (ih) _ _ _ _ _ _ _ _ hC13 h hq)
      · rw [if_neg z14] at h
        refine ev_goto 44 dX5_choice_35 rfl ?_
        exact ev_mask [true, true, true, true, false, true, false, false] (wX5_choice_44 n _ hs_ah _ (ih) _ _ _ _ _ _ _ _ hC13 h hq)
def fX5_choice (n : Nat) (ah : Nat) (a0 : Int32) (K : jK) (ci : jI) (cj : jJ) (cr : jR) : Option (jTp Int32) := if isSt ah then fX5_choice_7 n ah  n a0 (-1) (lN 0) (nI 0) K ci cj cr else none
theorem metX5_choice {g : jG} {d : Nat} {c sl : Nat} {Qr : jQ} {Qx : jX} (n : Nat) (ah : Nat) (a0 : Int32) (K : jK) (ci : jI) (cj : jJ) (cr : jR) {q} (hC : jCW K cr) (h : fX5_choice n ah a0 K ci cj cr = some q) (hq : jqp wI K q Qr) : EvM g (d + 542) mX5_choice [.ref ah, .int a0] K ci cj cr c sl Qr Qx := by
  unfold fX5_choice at h
  show Ev g (d + 542) mX5_choice 0 [.ref ah, .int a0, jU, jU, jU, jU, jU, jU] [] K ci cj cr c sl Qr Qx
  by_cases hs_ah : isSt ah
  rotate_left
  · rw [if_neg hs_ah] at h; cases h
  rw [if_pos hs_ah] at h
  refine ev_iconst (v := (-1)) dX5_choice_0 jcm1 ?_
  refine ev_istore_n (L' := [_, _, _, _, _, _, _, _]) dX5_choice_1 (by decide) rfl ?_
  refine ev_lconst (v := lN 0) dX5_choice_2 rfl ?_
  refine ev_lstore_n (L' := [_, _, _, _, _, _, _, _]) dX5_choice_3 (by decide) rfl ?_
  refine ev_iconst (v := (nI 0)) dX5_choice_4 jc0 ?_
  refine ev_istore (L' := [_, _, _, _, _, _, _, _]) dX5_choice_5 (by decide) rfl ?_
  exact wX5_choice_7 n _ hs_ah   n _ _ _ _ _ _ _ _ hC h hq
def fX5_mending (n : Nat) (ah : Nat) (a0 : Int32) (K : jK) (ci : jI) (cj : jJ) (cr : jR) : Option (jTp Int32) := if isSt ah then Option.bind (cr 0 0) (fun r1 => if K.1 r1 = 1 ∧ r1 < K.2.2 then if (cr r1 6) = none then if jok a0 10 then some ((ci (ah + 8) (a0).toNatClampNeg), ci, cj, cr) else none else jpb (fX0_pairOf n a0 K ci cj cr) (fun r5 ci6 cj7 cr8 => if K.1 r5 = 8 ∧ r5 < K.2.2 then if jok (ci6 r5 1) 6 then if jok (nI 0) 11 then if jok (ci6 r5 1) 6 then if jok (nI 1) 11 then if jok (nI 4) 11 then if jok a0 10 then if jok (nI 6) 11 then if jok (ci6 r5 1) 6 then if jok (nI 7) 11 then if jok a0 10 then if jok (nI 8) 11 then Option.bind (cr8 0 0) (fun r23 => if K.1 r23 = 1 ∧ r23 < K.2.2 then Option.bind (cr8 r23 6) (fun r26 => jpb (fat n r26 11 K ci6 (ju (ju (ju (ju (ju (ju cj7 12 ((nI 0)).toNatClampNeg (((ci6 (ah + 7) ((ci6 r5 1)).toNatClampNeg)).toInt64)) 12 ((nI 1)).toNatClampNeg (((ci6 (ah + 4) ((ci6 r5 1)).toNatClampNeg)).toInt64)) 12 ((nI 4)).toNatClampNeg (((ci6 ah 0)).toInt64)) 12 ((nI 6)).toNatClampNeg (((ci6 (ah + 8) (a0).toNatClampNeg)).toInt64)) 12 ((nI 7)).toNatClampNeg (((ci6 (ah + 5) ((ci6 r5 1)).toNatClampNeg)).toInt64)) 12 ((nI 8)).toNatClampNeg (((ci6 (ah + 10) (a0).toNatClampNeg)).toInt64)) cr8) (fun r28 ci29 cj30 cr31 => jpb (fX0_within n r28 (nI 9) K ci29 cj30 cr31) (fun r34 ci35 cj36 cr37 => some (r34, ci35, cj36, cr37)))) else none) else none else none else none else none else none else none else none else none else none else none else none else none) else none) else none
theorem metX5_mending {g : jG} {d : Nat} {c sl : Nat} {Qr : jQ} {Qx : jX} (n : Nat) (ah : Nat) (a0 : Int32) (K : jK) (ci : jI) (cj : jJ) (cr : jR) {q} (hC : jCW K cr) (h : fX5_mending n ah a0 K ci cj cr = some q) (hq : jqp wI K q Qr) : EvM g (d + 541) mX5_mending [.ref ah, .int a0] K ci cj cr c sl Qr Qx := by
  unfold fX5_mending at h
  show Ev g (d + 541) mX5_mending 0 [.ref ah, .int a0, jU] [] K ci cj cr c sl Qr Qx
  by_cases hs_ah : isSt ah
  rotate_left
  · rw [if_neg hs_ah] at h; cases h
  rw [if_pos hs_ah] at h
  refine ev_aload_n dX5_mending_0 rfl ?_
  refine ev_getR dX5_mending_1 fX5_3_5 (sk0 hC hs_ah) (Or.inl (sl0 hC hs_ah)) rfl (sr12 hC hs_ah) ?_
  obtain ⟨r1, z2, h⟩ := Option.bind_eq_some_iff.mp h
  refine ev_getR dX5_mending_4 fX5_92_0 (ck0 hC) (Or.inl (cl0 hC)) rfl z2 ?_
  by_cases z3 : K.1 r1 = 1 ∧ r1 < K.2.2
  rotate_left
  · rw [if_neg z3] at h; cases h
  rw [if_pos z3] at h
  refine ev_getQ dX5_mending_7 fX5_154_1 z3.1 (Or.inl z3.2) rfl ?_
  refine ev_ifnonnullQ 20 dX5_mending_10 rfl (fun z4 => ?_) (fun z4 => ?_)
  · rw [if_neg z4] at h
    refine ev_aload_n dX5_mending_20 rfl ?_
    refine ev_getR dX5_mending_21 fX5_3_5 (sk0 hC hs_ah) (Or.inl (sl0 hC hs_ah)) rfl (sr12 hC hs_ah) ?_
    refine ev_iload_n dX5_mending_24 rfl ?_
    obtain ⟨r5, ci6, cj7, cr8, z9, h⟩ := jpb_inv h
    refine ev_zV1 dX5_mending_25 vX5_84_0 (ck0 hC) (Or.inl (cl0 hC)) (Nat.le_of_ble_eq_true rfl) (Nat.le_of_ble_eq_true rfl) rfl (metX0_pairOf n _ _ _ _ _ hC z9 (fun hC10 => ?_))
    show Ev g _ _ 28 _ [.ref r5] K ci6 cj7 cr8 _ _ Qr Qx
    by_cases z11 : K.1 r5 = 8 ∧ r5 < K.2.2
    rotate_left
    · rw [if_neg z11] at h; cases h
    rw [if_pos z11] at h
    refine ev_getI dX5_mending_28 fX5_112_8 z11.1 (Or.inl z11.2) rfl ?_
    refine ev_istore_n (L' := [_, _, _]) dX5_mending_31 (by decide) rfl ?_
    refine ev_aload_n dX5_mending_32 rfl ?_
    refine ev_getR dX5_mending_33 fX5_3_5 (sk0 hC10 hs_ah) (Or.inl (sl0 hC10 hs_ah)) rfl (sr12 hC10 hs_ah) ?_
    refine ev_getR dX5_mending_36 fX5_102_0 (ck0 hC10) (Or.inl (cl0 hC10)) rfl (cq0_6 hC10) ?_
    refine ev_getR dX5_mending_39 fX5_106_4 (ck11 hC10) (Or.inl (cl11 hC10)) rfl (cq11_0 hC10) ?_
    refine ev_iconst (v := (nI 0)) dX5_mending_42 jc0 ?_
    refine ev_aload_n dX5_mending_43 rfl ?_
    refine ev_getR dX5_mending_44 fX5_34_5 (sk0 hC10 hs_ah) (Or.inl (sl0 hC10 hs_ah)) rfl (sr7 hC10 hs_ah) ?_
    refine ev_iload_n dX5_mending_47 rfl ?_
    by_cases z12 : jok (ci6 r5 1) 6
    rotate_left
    · rw [if_neg z12] at h; cases h
    rw [if_pos z12] at h
    refine ev_iaload dX5_mending_48 (sk7 hC10 hs_ah) (Or.inl (sl7 hC10 hs_ah)) (jok.ix z12 (sn7 hC10 hs_ah)) ?_
    refine ev_i2l dX5_mending_49 ?_
    by_cases z13 : jok (nI 0) 11
    rotate_left
    · rw [if_neg z13] at h; cases h
    rw [if_pos z13] at h
    refine ev_lastore dX5_mending_50 (ck12 hC10) (cl12 hC10) (jok.ix z13 (cn12 hC10)) ?_
    refine ev_aload_n dX5_mending_51 rfl ?_
    refine ev_getR dX5_mending_52 fX5_3_5 (sk0 hC10 hs_ah) (Or.inl (sl0 hC10 hs_ah)) rfl (sr12 hC10 hs_ah) ?_
    refine ev_getR dX5_mending_55 fX5_102_0 (ck0 hC10) (Or.inl (cl0 hC10)) rfl (cq0_6 hC10) ?_
    refine ev_getR dX5_mending_58 fX5_106_4 (ck11 hC10) (Or.inl (cl11 hC10)) rfl (cq11_0 hC10) ?_
    refine ev_iconst (v := (nI 1)) dX5_mending_61 jc1 ?_
    refine ev_aload_n dX5_mending_62 rfl ?_
    refine ev_getR dX5_mending_63 fX5_25_5 (sk0 hC10 hs_ah) (Or.inl (sl0 hC10 hs_ah)) rfl (sr4 hC10 hs_ah) ?_
    refine ev_iload_n dX5_mending_66 rfl ?_
    by_cases z14 : jok (ci6 r5 1) 6
    rotate_left
    · rw [if_neg z14] at h; cases h
    rw [if_pos z14] at h
    refine ev_iaload dX5_mending_67 (sk4 hC10 hs_ah) (Or.inl (sl4 hC10 hs_ah)) (jok.ix z14 (sn4 hC10 hs_ah)) ?_
    refine ev_i2l dX5_mending_68 ?_
    by_cases z15 : jok (nI 1) 11
    rotate_left
    · rw [if_neg z15] at h; cases h
    rw [if_pos z15] at h
    refine ev_lastore dX5_mending_69 (ck12 hC10) (cl12 hC10) (jok.ix z15 (cn12 hC10)) ?_
    refine ev_aload_n dX5_mending_70 rfl ?_
    refine ev_getR dX5_mending_71 fX5_3_5 (sk0 hC10 hs_ah) (Or.inl (sl0 hC10 hs_ah)) rfl (sr12 hC10 hs_ah) ?_
    refine ev_getR dX5_mending_74 fX5_102_0 (ck0 hC10) (Or.inl (cl0 hC10)) rfl (cq0_6 hC10) ?_
    refine ev_getR dX5_mending_77 fX5_106_4 (ck11 hC10) (Or.inl (cl11 hC10)) rfl (cq11_0 hC10) ?_
    refine ev_iconst (v := (nI 4)) dX5_mending_80 jc4 ?_
    refine ev_aload_n dX5_mending_81 rfl ?_
    refine ev_getI dX5_mending_82 fX5_51_5 (sk0 hC10 hs_ah) (Or.inl (sl0 hC10 hs_ah)) rfl ?_
    refine ev_i2l dX5_mending_85 ?_
    by_cases z16 : jok (nI 4) 11
    rotate_left
    · rw [if_neg z16] at h; cases h
    rw [if_pos z16] at h
    refine ev_lastore dX5_mending_86 (ck12 hC10) (cl12 hC10) (jok.ix z16 (cn12 hC10)) ?_
    refine ev_aload_n dX5_mending_87 rfl ?_
    refine ev_getR dX5_mending_88 fX5_3_5 (sk0 hC10 hs_ah) (Or.inl (sl0 hC10 hs_ah)) rfl (sr12 hC10 hs_ah) ?_
    refine ev_getR dX5_mending_91 fX5_102_0 (ck0 hC10) (Or.inl (cl0 hC10)) rfl (cq0_6 hC10) ?_
    refine ev_getR dX5_mending_94 fX5_106_4 (ck11 hC10) (Or.inl (cl11 hC10)) rfl (cq11_0 hC10) ?_
    refine ev_bipush (v := (nI 6)) dX5_mending_97 jb6 ?_
    refine ev_aload_n dX5_mending_99 rfl ?_
    refine ev_getR dX5_mending_100 fX5_37_5 (sk0 hC10 hs_ah) (Or.inl (sl0 hC10 hs_ah)) rfl (sr8 hC10 hs_ah) ?_
    refine ev_iload_n dX5_mending_103 rfl ?_
    by_cases z17 : jok a0 10
    rotate_left
    · rw [if_neg z17] at h; cases h
    rw [if_pos z17] at h
    refine ev_iaload dX5_mending_104 (sk8 hC10 hs_ah) (Or.inl (sl8 hC10 hs_ah)) (jok.ix z17 (sn8 hC10 hs_ah)) ?_
    refine ev_i2l dX5_mending_105 ?_
    by_cases z18 : jok (nI 6) 11
    rotate_left
    · rw [if_neg z18] at h; cases h
    rw [if_pos z18] at h
    refine ev_lastore dX5_mending_106 (ck12 hC10) (cl12 hC10) (jok.ix z18 (cn12 hC10)) ?_
    refine ev_aload_n dX5_mending_107 rfl ?_
    refine ev_getR dX5_mending_108 fX5_3_5 (sk0 hC10 hs_ah) (Or.inl (sl0 hC10 hs_ah)) rfl (sr12 hC10 hs_ah) ?_
    refine ev_getR dX5_mending_111 fX5_102_0 (ck0 hC10) (Or.inl (cl0 hC10)) rfl (cq0_6 hC10) ?_
    refine ev_getR dX5_mending_114 fX5_106_4 (ck11 hC10) (Or.inl (cl11 hC10)) rfl (cq11_0 hC10) ?_
    refine ev_bipush (v := (nI 7)) dX5_mending_117 jb7 ?_
    refine ev_aload_n dX5_mending_119 rfl ?_
    refine ev_getR dX5_mending_120 fX5_28_5 (sk0 hC10 hs_ah) (Or.inl (sl0 hC10 hs_ah)) rfl (sr5 hC10 hs_ah) ?_
    refine ev_iload_n dX5_mending_123 rfl ?_
    by_cases z19 : jok (ci6 r5 1) 6
    rotate_left
    · rw [if_neg z19] at h; cases h
    rw [if_pos z19] at h
    refine ev_iaload dX5_mending_124 (sk5 hC10 hs_ah) (Or.inl (sl5 hC10 hs_ah)) (jok.ix z19 (sn5 hC10 hs_ah)) ?_
    refine ev_i2l dX5_mending_125 ?_
    by_cases z20 : jok (nI 7) 11
    rotate_left
    · rw [if_neg z20] at h; cases h
    rw [if_pos z20] at h
    refine ev_lastore dX5_mending_126 (ck12 hC10) (cl12 hC10) (jok.ix z20 (cn12 hC10)) ?_
    refine ev_aload_n dX5_mending_127 rfl ?_
    refine ev_getR dX5_mending_128 fX5_3_5 (sk0 hC10 hs_ah) (Or.inl (sl0 hC10 hs_ah)) rfl (sr12 hC10 hs_ah) ?_
    refine ev_getR dX5_mending_131 fX5_102_0 (ck0 hC10) (Or.inl (cl0 hC10)) rfl (cq0_6 hC10) ?_
    refine ev_getR dX5_mending_134 fX5_106_4 (ck11 hC10) (Or.inl (cl11 hC10)) rfl (cq11_0 hC10) ?_
    refine ev_bipush (v := (nI 8)) dX5_mending_137 jb8 ?_
    refine ev_aload_n dX5_mending_139 rfl ?_
    refine ev_getR dX5_mending_140 fX5_43_5 (sk0 hC10 hs_ah) (Or.inl (sl0 hC10 hs_ah)) rfl (sr10 hC10 hs_ah) ?_
    refine ev_iload_n dX5_mending_143 rfl ?_
    by_cases z21 : jok a0 10
    rotate_left
    · rw [if_neg z21] at h; cases h
    rw [if_pos z21] at h
    refine ev_iaload dX5_mending_144 (sk10 hC10 hs_ah) (Or.inl (sl10 hC10 hs_ah)) (jok.ix z21 (sn10 hC10 hs_ah)) ?_
    refine ev_i2l dX5_mending_145 ?_
    by_cases z22 : jok (nI 8) 11
    rotate_left
    · rw [if_neg z22] at h; cases h
    rw [if_pos z22] at h
    refine ev_lastore dX5_mending_146 (ck12 hC10) (cl12 hC10) (jok.ix z22 (cn12 hC10)) ?_
    refine ev_aload_n dX5_mending_147 rfl ?_
    refine ev_getR dX5_mending_148 fX5_3_5 (sk0 hC10 hs_ah) (Or.inl (sl0 hC10 hs_ah)) rfl (sr12 hC10 hs_ah) ?_
    obtain ⟨r23, z24, h⟩ := Option.bind_eq_some_iff.mp h
    refine ev_getR dX5_mending_151 fX5_92_0 (ck0 hC10) (Or.inl (cl0 hC10)) rfl z24 ?_
    by_cases z25 : K.1 r23 = 1 ∧ r23 < K.2.2
    rotate_left
    · rw [if_neg z25] at h; cases h
    rw [if_pos z25] at h
    obtain ⟨r26, z27, h⟩ := Option.bind_eq_some_iff.mp h
    refine ev_getR dX5_mending_154 fX5_154_1 z25.1 (Or.inl z25.2) rfl z27 ?_
    refine ev_aload_n dX5_mending_157 rfl ?_
    refine ev_getR dX5_mending_158 fX5_3_5 (sk0 hC10 hs_ah) (Or.inl (sl0 hC10 hs_ah)) rfl (sr12 hC10 hs_ah) ?_
    refine ev_getR dX5_mending_161 fX5_102_0 (ck0 hC10) (Or.inl (cl0 hC10)) rfl (cq0_6 hC10) ?_
    obtain ⟨r28, ci29, cj30, cr31, z32, h⟩ := jpb_inv h
    refine ev_vcall dX5_mending_164 yaX5_142 vatL tvat hC10 z32 (Nat.le_of_ble_eq_true rfl) rfl (fun hC33 => ?_)
    show Ev g _ _ 167 _ [.long r28] K ci29 cj30 cr31 _ _ Qr Qx
    refine ev_bipush (v := (nI 9)) dX5_mending_167 jb9 ?_
    obtain ⟨r34, ci35, cj36, cr37, z38, h⟩ := jpb_inv h
    refine ev_zS2 dX5_mending_169 sX5_157 (Nat.le_of_ble_eq_true rfl) (Nat.le_of_ble_eq_true rfl) rfl (metX0_within n _ _ _ _ _ _ hC33 z38 (fun hC39 => ?_))
    show Ev g _ _ 172 _ [.int r34] K ci35 cj36 cr37 _ _ Qr Qx
    cases h
    exact ev_iret dX5_mending_172 rfl rfl (hq hC39)
  · rw [if_pos z4] at h
    refine ev_aload_n dX5_mending_13 rfl ?_
    refine ev_getR dX5_mending_14 fX5_37_5 (sk0 hC hs_ah) (Or.inl (sl0 hC hs_ah)) rfl (sr8 hC hs_ah) ?_
    refine ev_iload_n dX5_mending_17 rfl ?_
    by_cases z40 : jok a0 10
    rotate_left
    · rw [if_neg z40] at h; cases h
    rw [if_pos z40] at h
    refine ev_iaload dX5_mending_18 (sk8 hC hs_ah) (Or.inl (sl8 hC hs_ah)) (jok.ix z40 (sn8 hC hs_ah)) ?_
    cases h
    exact ev_iret dX5_mending_19 rfl rfl (hq hC)
