/-! STAGE A OF THE COMPONENT (printed by gen/comp.py) -/
set_option maxRecDepth 100000
def fX0_fault_24 (n : Nat) (t0 : Int32) (K : jK) (ci : jI) (cj : jJ) (cr : jR) : Option (jTp Int32) := some (t0, ci, cj, cr)
theorem wX0_fault_24 {g : jG} {d : Nat} {c sl : Nat} {Qr : jQ} {Qx : jX} (n : Nat) (t0 : Int32) (K : jK) (ci : jI) (cj : jJ) (cr : jR) {q} (hC : jCW K cr) (h : fX0_fault_24 n  t0 K ci cj cr = some q) (hq : jqp wI K q Qr) : Ev g (d + 1) mX0_fault 24 [jU, jU] [.int t0] K ci cj cr c sl Qr Qx := by
  unfold fX0_fault_24 at h
  cases h
  exact ev_iret dX0_fault_24 rfl rfl (hq hC)
def fX0_fault (n : Nat) (a0 : Int32) (K : jK) (ci : jI) (cj : jJ) (cr : jR) : Option (jTp Int32) := if a0 = 0 then fX0_fault_24 n  (ci 0 3) K ci cj cr else if a0 = (nI 1) then fX0_fault_24 n  (ci 0 4) K ci cj cr else fX0_fault_24 n  (-1) K ci cj cr
theorem metX0_fault {g : jG} {d : Nat} {c sl : Nat} {Qr : jQ} {Qx : jX} (n : Nat) (a0 : Int32) (K : jK) (ci : jI) (cj : jJ) (cr : jR) {q} (hC : jCW K cr) (h : fX0_fault n a0 K ci cj cr = some q) (hq : jqp wI K q Qr) : EvM g (d + 1) mX0_fault [.ref 0, .int a0] K ci cj cr c sl Qr Qx := by
  unfold fX0_fault at h
  show Ev g (d + 1) mX0_fault 0 [.ref 0, .int a0] [] K ci cj cr c sl Qr Qx
  refine ev_iload_n dX0_fault_0 rfl ?_
  refine ev_if_ne 11 dX0_fault_1 rfl (fun z1 => ?_) (fun z1 => ?_)
  · rw [if_neg z1] at h
    refine ev_iload_n dX0_fault_11 rfl ?_
    refine ev_iconst (v := (nI 1)) dX0_fault_12 jc1 ?_
    refine ev_icmp_ne 23 dX0_fault_13 rfl (fun z2 => ?_) (fun z2 => ?_)
    · rw [if_neg z2] at h
      refine ev_iconst (v := (-1)) dX0_fault_23 jcm1 ?_
      exact ev_mask [false, false] (wX0_fault_24 n   _ _ _ _ _ hC h hq)
    · rw [if_pos z2] at h
      refine ev_aload_n dX0_fault_16 rfl ?_
      refine ev_getI dX0_fault_17 fX0_39_0 (ck0 hC) (Or.inl (cl0 hC)) rfl ?_
      refine ev_goto 24 dX0_fault_20 rfl ?_
      exact ev_mask [false, false] (wX0_fault_24 n   _ _ _ _ _ hC h hq)
  · rw [if_pos z1] at h
    refine ev_aload_n dX0_fault_4 rfl ?_
    refine ev_getI dX0_fault_5 fX0_117_0 (ck0 hC) (Or.inl (cl0 hC)) rfl ?_
    refine ev_goto 24 dX0_fault_8 rfl ?_
    exact ev_mask [false, false] (wX0_fault_24 n   _ _ _ _ _ hC h hq)
def fX5_isCounted_27 (n : Nat) (vho : Nat → Nat → jK → jI → jJ → jR → Option (jTp Int32)) (ah : Nat) (t0 : Int32) (K : jK) (ci : jI) (cj : jJ) (cr : jR) : Option (jTp Int32) := if t0 = 0 ∨ t0 = 1 then some (t0, ci, cj, cr) else none
theorem wX5_isCounted_27 {g : jG} {d : Nat} {c sl : Nat} {Qr : jQ} {Qx : jX} (n : Nat) (vho : Nat → Nat → jK → jI → jJ → jR → Option (jTp Int32)) (hvho : jvat g d vhoM wI vho) (ah : Nat) (hs_ah : isSt ah) (t0 : Int32) (K : jK) (ci : jI) (cj : jJ) (cr : jR) {q} (hC : jCW K cr) (h : fX5_isCounted_27 n vho ah  t0 K ci cj cr = some q) (hq : jqp wI K q Qr) : Ev g (d + 5) mX5_isCounted 27 [jU, jU] [.int t0] K ci cj cr c sl Qr Qx := by
  unfold fX5_isCounted_27 at h
  by_cases z1 : t0 = 0 ∨ t0 = 1
  rotate_left
  · rw [if_neg z1] at h; cases h
  rw [if_pos z1] at h
  cases h
  exact ev_iret dX5_isCounted_27 rfl (jbool z1) (hq hC)
def fX5_isCounted (n : Nat) (vho : Nat → Nat → jK → jI → jJ → jR → Option (jTp Int32)) (ah : Nat) (a0 : Int32) (K : jK) (ci : jI) (cj : jJ) (cr : jR) : Option (jTp Int32) := if isSt ah then Option.bind (cr 0 0) (fun r1 => if K.1 r1 = 1 ∧ r1 < K.2.2 then if (cr r1 8) = none then if jok a0 10 then if (ci (ah + 8) (a0).toNatClampNeg) ≤ 0 then fX5_isCounted_27 n vho ah  (nI 0) K ci cj cr else fX5_isCounted_27 n vho ah  (nI 1) K ci cj cr else none else jpb (fX0_pairOf n a0 K ci cj cr) (fun r5 ci6 cj7 cr8 => if K.1 r5 = 8 ∧ r5 < K.2.2 then if jok (ci6 r5 1) 6 then if jok (nI 1) 11 then if jok (nI 4) 11 then if jok a0 10 then if jok (nI 6) 11 then if jok a0 10 then if jok (nI 8) 11 then Option.bind (cr8 0 0) (fun r19 => if K.1 r19 = 1 ∧ r19 < K.2.2 then Option.bind (cr8 r19 8) (fun r22 => jpb (vho r22 11 K ci6 (ju (ju (ju (ju cj7 12 ((nI 1)).toNatClampNeg (((ci6 (ah + 4) ((ci6 r5 1)).toNatClampNeg)).toInt64)) 12 ((nI 4)).toNatClampNeg (((ci6 ah 0)).toInt64)) 12 ((nI 6)).toNatClampNeg (((ci6 (ah + 8) (a0).toNatClampNeg)).toInt64)) 12 ((nI 8)).toNatClampNeg (((ci6 (ah + 10) (a0).toNatClampNeg)).toInt64)) cr8) (fun r24 ci25 cj26 cr27 => if r24 = 0 ∨ r24 = 1 then some (r24, ci25, cj26, cr27) else none)) else none) else none else none else none else none else none else none else none else none) else none) else none
theorem metX5_isCounted {g : jG} {d : Nat} {c sl : Nat} {Qr : jQ} {Qx : jX} (n : Nat) (vho : Nat → Nat → jK → jI → jJ → jR → Option (jTp Int32)) (hvho : jvat g d vhoM wI vho) (ah : Nat) (a0 : Int32) (K : jK) (ci : jI) (cj : jJ) (cr : jR) {q} (hC : jCW K cr) (h : fX5_isCounted n vho ah a0 K ci cj cr = some q) (hq : jqp wI K q Qr) : EvM g (d + 5) mX5_isCounted [.ref ah, .int a0] K ci cj cr c sl Qr Qx := by
  unfold fX5_isCounted at h
  show Ev g (d + 5) mX5_isCounted 0 [.ref ah, .int a0] [] K ci cj cr c sl Qr Qx
  by_cases hs_ah : isSt ah
  rotate_left
  · rw [if_neg hs_ah] at h; cases h
  rw [if_pos hs_ah] at h
  refine ev_aload_n dX5_isCounted_0 rfl ?_
  refine ev_getR dX5_isCounted_1 fX5_3_5 (sk0 hC hs_ah) (Or.inl (sl0 hC hs_ah)) rfl (sr12 hC hs_ah) ?_
  obtain ⟨r1, z2, h⟩ := Option.bind_eq_some_iff.mp h
  refine ev_getR dX5_isCounted_4 fX5_92_0 (ck0 hC) (Or.inl (cl0 hC)) rfl z2 ?_
  by_cases z3 : K.1 r1 = 1 ∧ r1 < K.2.2
  rotate_left
  · rw [if_neg z3] at h; cases h
  rw [if_pos z3] at h
  refine ev_getQ dX5_isCounted_7 fX5_96_1 z3.1 (Or.inl z3.2) rfl ?_
  refine ev_ifnonnullQ 28 dX5_isCounted_10 rfl (fun z4 => ?_) (fun z4 => ?_)
  · rw [if_neg z4] at h
    refine ev_aload_n dX5_isCounted_28 rfl ?_
    refine ev_getR dX5_isCounted_29 fX5_3_5 (sk0 hC hs_ah) (Or.inl (sl0 hC hs_ah)) rfl (sr12 hC hs_ah) ?_
    refine ev_getR dX5_isCounted_32 fX5_102_0 (ck0 hC) (Or.inl (cl0 hC)) rfl (cq0_6 hC) ?_
    refine ev_getR dX5_isCounted_35 fX5_106_4 (ck11 hC) (Or.inl (cl11 hC)) rfl (cq11_0 hC) ?_
    refine ev_iconst (v := (nI 1)) dX5_isCounted_38 jc1 ?_
    refine ev_aload_n dX5_isCounted_39 rfl ?_
    refine ev_getR dX5_isCounted_40 fX5_25_5 (sk0 hC hs_ah) (Or.inl (sl0 hC hs_ah)) rfl (sr4 hC hs_ah) ?_
    refine ev_aload_n dX5_isCounted_43 rfl ?_
    refine ev_getR dX5_isCounted_44 fX5_3_5 (sk0 hC hs_ah) (Or.inl (sl0 hC hs_ah)) rfl (sr12 hC hs_ah) ?_
    refine ev_iload_n dX5_isCounted_47 rfl ?_
    obtain ⟨r5, ci6, cj7, cr8, z9, h⟩ := jpb_inv h
    refine ev_zV1 dX5_isCounted_48 vX5_84_0 (ck0 hC) (Or.inl (cl0 hC)) (Nat.le_of_ble_eq_true rfl) (Nat.le_of_ble_eq_true rfl) rfl (metX0_pairOf n _ _ _ _ _ hC z9 (fun hC10 => ?_))
    show Ev g _ _ 51 _ [.ref r5, .ref (ah + 4), .int (nI 1), .ref 12] K ci6 cj7 cr8 _ _ Qr Qx
    by_cases z11 : K.1 r5 = 8 ∧ r5 < K.2.2
    rotate_left
    · rw [if_neg z11] at h; cases h
    rw [if_pos z11] at h
    refine ev_getI dX5_isCounted_51 fX5_112_8 z11.1 (Or.inl z11.2) rfl ?_
    by_cases z12 : jok (ci6 r5 1) 6
    rotate_left
    · rw [if_neg z12] at h; cases h
    rw [if_pos z12] at h
    refine ev_iaload dX5_isCounted_54 (sk4 hC10 hs_ah) (Or.inl (sl4 hC10 hs_ah)) (jok.ix z12 (sn4 hC10 hs_ah)) ?_
    refine ev_i2l dX5_isCounted_55 ?_
    by_cases z13 : jok (nI 1) 11
    rotate_left
    · rw [if_neg z13] at h; cases h
    rw [if_pos z13] at h
    refine ev_lastore dX5_isCounted_56 (ck12 hC10) (cl12 hC10) (jok.ix z13 (cn12 hC10)) ?_
    refine ev_aload_n dX5_isCounted_57 rfl ?_
    refine ev_getR dX5_isCounted_58 fX5_3_5 (sk0 hC10 hs_ah) (Or.inl (sl0 hC10 hs_ah)) rfl (sr12 hC10 hs_ah) ?_
    refine ev_getR dX5_isCounted_61 fX5_102_0 (ck0 hC10) (Or.inl (cl0 hC10)) rfl (cq0_6 hC10) ?_
    refine ev_getR dX5_isCounted_64 fX5_106_4 (ck11 hC10) (Or.inl (cl11 hC10)) rfl (cq11_0 hC10) ?_
    refine ev_iconst (v := (nI 4)) dX5_isCounted_67 jc4 ?_
    refine ev_aload_n dX5_isCounted_68 rfl ?_
    refine ev_getI dX5_isCounted_69 fX5_51_5 (sk0 hC10 hs_ah) (Or.inl (sl0 hC10 hs_ah)) rfl ?_
    refine ev_i2l dX5_isCounted_72 ?_
    by_cases z14 : jok (nI 4) 11
    rotate_left
    · rw [if_neg z14] at h; cases h
    rw [if_pos z14] at h
    refine ev_lastore dX5_isCounted_73 (ck12 hC10) (cl12 hC10) (jok.ix z14 (cn12 hC10)) ?_
    refine ev_aload_n dX5_isCounted_74 rfl ?_
    refine ev_getR dX5_isCounted_75 fX5_3_5 (sk0 hC10 hs_ah) (Or.inl (sl0 hC10 hs_ah)) rfl (sr12 hC10 hs_ah) ?_
    refine ev_getR dX5_isCounted_78 fX5_102_0 (ck0 hC10) (Or.inl (cl0 hC10)) rfl (cq0_6 hC10) ?_
    refine ev_getR dX5_isCounted_81 fX5_106_4 (ck11 hC10) (Or.inl (cl11 hC10)) rfl (cq11_0 hC10) ?_
    refine ev_bipush (v := (nI 6)) dX5_isCounted_84 jb6 ?_
    refine ev_aload_n dX5_isCounted_86 rfl ?_
    refine ev_getR dX5_isCounted_87 fX5_37_5 (sk0 hC10 hs_ah) (Or.inl (sl0 hC10 hs_ah)) rfl (sr8 hC10 hs_ah) ?_
    refine ev_iload_n dX5_isCounted_90 rfl ?_
    by_cases z15 : jok a0 10
    rotate_left
    · rw [if_neg z15] at h; cases h
    rw [if_pos z15] at h
    refine ev_iaload dX5_isCounted_91 (sk8 hC10 hs_ah) (Or.inl (sl8 hC10 hs_ah)) (jok.ix z15 (sn8 hC10 hs_ah)) ?_
    refine ev_i2l dX5_isCounted_92 ?_
    by_cases z16 : jok (nI 6) 11
    rotate_left
    · rw [if_neg z16] at h; cases h
    rw [if_pos z16] at h
    refine ev_lastore dX5_isCounted_93 (ck12 hC10) (cl12 hC10) (jok.ix z16 (cn12 hC10)) ?_
    refine ev_aload_n dX5_isCounted_94 rfl ?_
    refine ev_getR dX5_isCounted_95 fX5_3_5 (sk0 hC10 hs_ah) (Or.inl (sl0 hC10 hs_ah)) rfl (sr12 hC10 hs_ah) ?_
    refine ev_getR dX5_isCounted_98 fX5_102_0 (ck0 hC10) (Or.inl (cl0 hC10)) rfl (cq0_6 hC10) ?_
    refine ev_getR dX5_isCounted_101 fX5_106_4 (ck11 hC10) (Or.inl (cl11 hC10)) rfl (cq11_0 hC10) ?_
    refine ev_bipush (v := (nI 8)) dX5_isCounted_104 jb8 ?_
    refine ev_aload_n dX5_isCounted_106 rfl ?_
    refine ev_getR dX5_isCounted_107 fX5_43_5 (sk0 hC10 hs_ah) (Or.inl (sl0 hC10 hs_ah)) rfl (sr10 hC10 hs_ah) ?_
    refine ev_iload_n dX5_isCounted_110 rfl ?_
    by_cases z17 : jok a0 10
    rotate_left
    · rw [if_neg z17] at h; cases h
    rw [if_pos z17] at h
    refine ev_iaload dX5_isCounted_111 (sk10 hC10 hs_ah) (Or.inl (sl10 hC10 hs_ah)) (jok.ix z17 (sn10 hC10 hs_ah)) ?_
    refine ev_i2l dX5_isCounted_112 ?_
    by_cases z18 : jok (nI 8) 11
    rotate_left
    · rw [if_neg z18] at h; cases h
    rw [if_pos z18] at h
    refine ev_lastore dX5_isCounted_113 (ck12 hC10) (cl12 hC10) (jok.ix z18 (cn12 hC10)) ?_
    refine ev_aload_n dX5_isCounted_114 rfl ?_
    refine ev_getR dX5_isCounted_115 fX5_3_5 (sk0 hC10 hs_ah) (Or.inl (sl0 hC10 hs_ah)) rfl (sr12 hC10 hs_ah) ?_
    obtain ⟨r19, z20, h⟩ := Option.bind_eq_some_iff.mp h
    refine ev_getR dX5_isCounted_118 fX5_92_0 (ck0 hC10) (Or.inl (cl0 hC10)) rfl z20 ?_
    by_cases z21 : K.1 r19 = 1 ∧ r19 < K.2.2
    rotate_left
    · rw [if_neg z21] at h; cases h
    rw [if_pos z21] at h
    obtain ⟨r22, z23, h⟩ := Option.bind_eq_some_iff.mp h
    refine ev_getR dX5_isCounted_121 fX5_96_1 z21.1 (Or.inl z21.2) rfl z23 ?_
    refine ev_aload_n dX5_isCounted_124 rfl ?_
    refine ev_getR dX5_isCounted_125 fX5_3_5 (sk0 hC10 hs_ah) (Or.inl (sl0 hC10 hs_ah)) rfl (sr12 hC10 hs_ah) ?_
    refine ev_getR dX5_isCounted_128 fX5_102_0 (ck0 hC10) (Or.inl (cl0 hC10)) rfl (cq0_6 hC10) ?_
    obtain ⟨r24, ci25, cj26, cr27, z28, h⟩ := jpb_inv h
    refine ev_vcall dX5_isCounted_131 yhX5_115 vhoL (jvat.up hvho (by omega)) hC10 z28 (Nat.le_of_ble_eq_true rfl) rfl (fun hC29 => ?_)
    show Ev g _ _ 134 _ [.int r24] K ci25 cj26 cr27 _ _ Qr Qx
    by_cases z30 : r24 = 0 ∨ r24 = 1
    rotate_left
    · rw [if_neg z30] at h; cases h
    rw [if_pos z30] at h
    cases h
    exact ev_iret dX5_isCounted_134 rfl (jbool z30) (hq hC29)
  · rw [if_pos z4] at h
    refine ev_aload_n dX5_isCounted_13 rfl ?_
    refine ev_getR dX5_isCounted_14 fX5_37_5 (sk0 hC hs_ah) (Or.inl (sl0 hC hs_ah)) rfl (sr8 hC hs_ah) ?_
    refine ev_iload_n dX5_isCounted_17 rfl ?_
    by_cases z31 : jok a0 10
    rotate_left
    · rw [if_neg z31] at h; cases h
    rw [if_pos z31] at h
    refine ev_iaload dX5_isCounted_18 (sk8 hC hs_ah) (Or.inl (sl8 hC hs_ah)) (jok.ix z31 (sn8 hC hs_ah)) ?_
    refine ev_if_le 26 dX5_isCounted_19 rfl (fun z32 => ?_) (fun z32 => ?_)
    · rw [if_pos z32] at h
      refine ev_iconst (v := (nI 0)) dX5_isCounted_26 jc0 ?_
      exact ev_mask [false, false] (wX5_isCounted_27 n _ hvho _ hs_ah   _ _ _ _ _ hC h hq)
    · rw [if_neg z32] at h
      refine ev_iconst (v := (nI 1)) dX5_isCounted_22 jc1 ?_
      refine ev_goto 27 dX5_isCounted_23 rfl ?_
      exact ev_mask [false, false] (wX5_isCounted_27 n _ hvho _ hs_ah   _ _ _ _ _ hC h hq)
def fX5_tookAll_4 (n : Nat) (ah : Nat) : Nat → Int32 → Int32 → jK → jI → jJ → jR → Option (jTp Int32)
  | 0, _, _, _, _, _, _ => none
  | k + 1, l1, l2, K, ci, cj, cr => jpb (fX0_bays n  K ci cj cr) (fun r1 ci2 cj3 cr4 => if r1 ≤ l2 then some (l1, ci2, cj3, cr4) else if jok l2 6 then fX5_tookAll_4 n ah  k (l1 + (ci2 (ah + 5) (l2).toNatClampNeg)) (l2 + (nI 1)) K ci2 cj3 cr4 else none)
theorem wX5_tookAll_4 {g : jG} {d : Nat} {c sl : Nat} {Qr : jQ} {Qx : jX} (n : Nat) (ah : Nat) (hs_ah : isSt ah) : ∀ (k : Nat) (l1 : Int32) (l2 : Int32) (K : jK) (ci : jI) (cj : jJ) (cr : jR) {q}, jCW K cr → fX5_tookAll_4 n ah  k l1 l2 K ci cj cr = some q → jqp wI K q Qr → Ev g (d + 3) mX5_tookAll 4 [.ref ah, .int l1, .int l2] [] K ci cj cr c sl Qr Qx := by
  intro k
  induction k with
  | zero =>
    intro l1 l2 K ci cj cr q hC h hq
    rw [fX5_tookAll_4.eq_1] at h; cases h
  | succ k ih =>
    intro l1 l2 K ci cj cr q hC h hq
    rw [fX5_tookAll_4.eq_2] at h
    refine ev_iload_n dX5_tookAll_4 rfl ?_
    refine ev_aload_n dX5_tookAll_5 rfl ?_
    refine ev_getR dX5_tookAll_6 fX5_3_5 (sk0 hC hs_ah) (Or.inl (sl0 hC hs_ah)) rfl (sr12 hC hs_ah) ?_
    obtain ⟨r1, ci2, cj3, cr4, z5, h⟩ := jpb_inv h
    refine ev_zV0 dX5_tookAll_9 vX5_70_0 (ck0 hC) (Or.inl (cl0 hC)) (Nat.le_of_ble_eq_true rfl) (Nat.le_of_ble_eq_true rfl) rfl (metX0_bays n  _ _ _ _ hC z5 (fun hC6 => ?_))
    show Ev g _ _ 12 _ [.int r1, .int l2] K ci2 cj3 cr4 _ _ Qr Qx
    refine ev_icmp_ge 30 dX5_tookAll_12 rfl (fun z7 => ?_) (fun z7 => ?_)
    · rw [if_pos z7] at h
      refine ev_iload_n dX5_tookAll_30 rfl ?_
      cases h
      exact ev_iret dX5_tookAll_31 rfl rfl (hq hC6)
    · rw [if_neg z7] at h
      refine ev_iload_n dX5_tookAll_15 rfl ?_
      refine ev_aload_n dX5_tookAll_16 rfl ?_
      refine ev_getR dX5_tookAll_17 fX5_28_5 (sk0 hC6 hs_ah) (Or.inl (sl0 hC6 hs_ah)) rfl (sr5 hC6 hs_ah) ?_
      refine ev_iload_n dX5_tookAll_20 rfl ?_
      by_cases z8 : jok l2 6
      rotate_left
      · rw [if_neg z8] at h; cases h
      rw [if_pos z8] at h
      refine ev_iaload dX5_tookAll_21 (sk5 hC6 hs_ah) (Or.inl (sl5 hC6 hs_ah)) (jok.ix z8 (sn5 hC6 hs_ah)) ?_
      refine ev_iadd dX5_tookAll_22 ?_
      refine ev_istore_n (L' := [_, _, _]) dX5_tookAll_23 (by decide) rfl ?_
      refine ev_iinc (v := (l2 + (nI 1))) (L' := [_, _, _]) dX5_tookAll_24 rfl (by rw [ji_1]) (by decide) rfl ?_
      refine ev_goto 4 dX5_tookAll_27 rfl ?_
      exact ih _ _ _ _ _ _ hC6 h hq
def fX5_tookAll (n : Nat) (ah : Nat) (K : jK) (ci : jI) (cj : jJ) (cr : jR) : Option (jTp Int32) := if isSt ah then fX5_tookAll_4 n ah  n (nI 0) (nI 0) K ci cj cr else none
theorem metX5_tookAll {g : jG} {d : Nat} {c sl : Nat} {Qr : jQ} {Qx : jX} (n : Nat) (ah : Nat) (K : jK) (ci : jI) (cj : jJ) (cr : jR) {q} (hC : jCW K cr) (h : fX5_tookAll n ah K ci cj cr = some q) (hq : jqp wI K q Qr) : EvM g (d + 3) mX5_tookAll [.ref ah] K ci cj cr c sl Qr Qx := by
  unfold fX5_tookAll at h
  show Ev g (d + 3) mX5_tookAll 0 [.ref ah, jU, jU] [] K ci cj cr c sl Qr Qx
  by_cases hs_ah : isSt ah
  rotate_left
  · rw [if_neg hs_ah] at h; cases h
  rw [if_pos hs_ah] at h
  refine ev_iconst (v := (nI 0)) dX5_tookAll_0 jc0 ?_
  refine ev_istore_n (L' := [_, _, _]) dX5_tookAll_1 (by decide) rfl ?_
  refine ev_iconst (v := (nI 0)) dX5_tookAll_2 jc0 ?_
  refine ev_istore_n (L' := [_, _, _]) dX5_tookAll_3 (by decide) rfl ?_
  exact wX5_tookAll_4 n _ hs_ah   n _ _ _ _ _ _ hC h hq
def fX0_held (n : Nat) (a0 : Int64) (K : jK) (ci : jI) (cj : jJ) (cr : jR) : Option (jTp Int64) := jpb (fJ12_min_2 n (1000000 : Int64) a0 K ci cj cr) (fun r1 ci2 cj3 cr4 => jpb (fJ12_max_2 n (-1000000 : Int64) r1 K ci2 cj3 cr4) (fun r7 ci8 cj9 cr10 => some (r7, ci8, cj9, cr10)))
theorem metX0_held {g : jG} {d : Nat} {c sl : Nat} {Qr : jQ} {Qx : jX} (n : Nat) (a0 : Int64) (K : jK) (ci : jI) (cj : jJ) (cr : jR) {q} (hC : jCW K cr) (h : fX0_held n a0 K ci cj cr = some q) (hq : jqp wJ K q Qr) : EvM g (d + 2) mX0_held [.long a0] K ci cj cr c sl Qr Qx := by
  unfold fX0_held at h
  show Ev g (d + 2) mX0_held 0 [.long a0, jU] [] K ci cj cr c sl Qr Qx
  refine ev_ldc2 dX0_held_0 q1326 ?_
  refine ev_ldc2 dX0_held_3 q1327 ?_
  refine ev_lload_n dX0_held_6 rfl ?_
  obtain ⟨r1, ci2, cj3, cr4, z5, h⟩ := jpb_inv h
  refine ev_zS2 dX0_held_7 sX0_7 (Nat.le_of_ble_eq_true rfl) (Nat.le_of_ble_eq_true rfl) rfl (metJ12_min_2 n _ _ _ _ _ _ hC z5 (fun hC6 => ?_))
  show Ev g _ _ 10 _ [.long r1, .long (-1000000 : Int64)] K ci2 cj3 cr4 _ _ Qr Qx
  obtain ⟨r7, ci8, cj9, cr10, z11, h⟩ := jpb_inv h
  refine ev_zS2 dX0_held_10 sX0_13 (Nat.le_of_ble_eq_true rfl) (Nat.le_of_ble_eq_true rfl) rfl (metJ12_max_2 n _ _ _ _ _ _ hC6 z11 (fun hC12 => ?_))
  show Ev g _ _ 13 _ [.long r7] K ci8 cj9 cr10 _ _ Qr Qx
  cases h
  exact ev_lret dX0_held_13 rfl (hq hC12)
def fX5_vowsOf_49 (n : Nat) (vho : Nat → Nat → jK → jI → jJ → jR → Option (jTp Int32)) (ah : Nat) (rec4 : Int32 → Int32 → Int32 → jK → jI → jJ → jR → Option (jTp Int32)) (l1 : Int32) (l3 : Int32) (t0 : Int32) (t1 : Int32) (K : jK) (ci : jI) (cj : jJ) (cr : jR) : Option (jTp Int32) := rec4 l1 (t1 + t0) (l3 + (nI 1)) K ci cj cr
theorem wX5_vowsOf_49 {g : jG} {d : Nat} {c sl : Nat} {Qr : jQ} {Qx : jX} (n : Nat) (vho : Nat → Nat → jK → jI → jJ → jR → Option (jTp Int32)) (hvho : jvat g d vhoM wI vho) (ah : Nat) (hs_ah : isSt ah) (rec4 : Int32 → Int32 → Int32 → jK → jI → jJ → jR → Option (jTp Int32)) (hrec4 : (∀ (l1 : Int32) (l2 : Int32) (l3 : Int32) (K : jK) (ci : jI) (cj : jJ) (cr : jR) {q}, jCW K cr → rec4 l1 l2 l3 K ci cj cr = some q → jqp wI K q Qr → Ev g (d + 6) mX5_vowsOf 4 [.ref ah, .int l1, .int l2, .int l3] [] K ci cj cr c sl Qr Qx)) (l1 : Int32) (l3 : Int32) (t0 : Int32) (t1 : Int32) (K : jK) (ci : jI) (cj : jJ) (cr : jR) {q} (hC : jCW K cr) (h : fX5_vowsOf_49 n vho ah rec4 l1 l3 t0 t1 K ci cj cr = some q) (hq : jqp wI K q Qr) : Ev g (d + 6) mX5_vowsOf 49 [.ref ah, .int l1, jU, .int l3] [.int t0, .int t1] K ci cj cr c sl Qr Qx := by
  unfold fX5_vowsOf_49 at h
  refine ev_iadd dX5_vowsOf_49 ?_
  refine ev_istore_n (L' := [_, _, _, _]) dX5_vowsOf_50 (by decide) rfl ?_
  refine ev_iinc (v := (l3 + (nI 1))) (L' := [_, _, _, _]) dX5_vowsOf_51 rfl (by rw [ji_1]) (by decide) rfl ?_
  refine ev_goto 4 dX5_vowsOf_54 rfl ?_
  exact hrec4 _ _ _ _ _ _ _ hC h hq
def fX5_vowsOf_48 (n : Nat) (vho : Nat → Nat → jK → jI → jJ → jR → Option (jTp Int32)) (ah : Nat) (rec4 : Int32 → Int32 → Int32 → jK → jI → jJ → jR → Option (jTp Int32)) (l1 : Int32) (l3 : Int32) (t0 : Int32) (K : jK) (ci : jI) (cj : jJ) (cr : jR) : Option (jTp Int32) := fX5_vowsOf_49 n vho ah rec4 l1 l3 (nI 0) t0 K ci cj cr
theorem wX5_vowsOf_48 {g : jG} {d : Nat} {c sl : Nat} {Qr : jQ} {Qx : jX} (n : Nat) (vho : Nat → Nat → jK → jI → jJ → jR → Option (jTp Int32)) (hvho : jvat g d vhoM wI vho) (ah : Nat) (hs_ah : isSt ah) (rec4 : Int32 → Int32 → Int32 → jK → jI → jJ → jR → Option (jTp Int32)) (hrec4 : (∀ (l1 : Int32) (l2 : Int32) (l3 : Int32) (K : jK) (ci : jI) (cj : jJ) (cr : jR) {q}, jCW K cr → rec4 l1 l2 l3 K ci cj cr = some q → jqp wI K q Qr → Ev g (d + 6) mX5_vowsOf 4 [.ref ah, .int l1, .int l2, .int l3] [] K ci cj cr c sl Qr Qx)) (l1 : Int32) (l3 : Int32) (t0 : Int32) (K : jK) (ci : jI) (cj : jJ) (cr : jR) {q} (hC : jCW K cr) (h : fX5_vowsOf_48 n vho ah rec4 l1 l3 t0 K ci cj cr = some q) (hq : jqp wI K q Qr) : Ev g (d + 6) mX5_vowsOf 48 [.ref ah, .int l1, jU, .int l3] [.int t0] K ci cj cr c sl Qr Qx := by
  unfold fX5_vowsOf_48 at h
  refine ev_iconst (v := (nI 0)) dX5_vowsOf_48 jc0 ?_
  exact wX5_vowsOf_49 n _ hvho _ hs_ah _ (hrec4) _ _ _ _ _ _ _ _ hC h hq
def fX5_vowsOf_4 (n : Nat) (vho : Nat → Nat → jK → jI → jJ → jR → Option (jTp Int32)) (ah : Nat) : Nat → Int32 → Int32 → Int32 → jK → jI → jJ → jR → Option (jTp Int32)
  | 0, _, _, _, _, _, _, _ => none
  | k + 1, l1, l2, l3, K, ci, cj, cr => jpb (fX0_pairs n  K ci cj cr) (fun r1 ci2 cj3 cr4 => if r1 ≤ l3 then some (l2, ci2, cj3, cr4) else jpb (fX0_pairOf n l3 K ci2 cj3 cr4) (fun r8 ci9 cj10 cr11 => if K.1 r8 = 8 ∧ r8 < K.2.2 then if (ci9 r8 1) = l1 then jpb (fX5_isCounted n vho ah l3 K ci9 cj10 cr11) (fun r16 ci17 cj18 cr19 => if r16 = 0 then fX5_vowsOf_48 n vho ah (fX5_vowsOf_4 n vho ah  k) l1 l3 l2 K ci17 cj18 cr19 else if jok l3 10 then fX5_vowsOf_49 n vho ah (fX5_vowsOf_4 n vho ah  k) l1 l3 (ci17 (ah + 8) (l3).toNatClampNeg) l2 K ci17 cj18 cr19 else none) else fX5_vowsOf_48 n vho ah (fX5_vowsOf_4 n vho ah  k) l1 l3 l2 K ci9 cj10 cr11 else none))
theorem wX5_vowsOf_4 {g : jG} {d : Nat} {c sl : Nat} {Qr : jQ} {Qx : jX} (n : Nat) (vho : Nat → Nat → jK → jI → jJ → jR → Option (jTp Int32)) (hvho : jvat g d vhoM wI vho) (ah : Nat) (hs_ah : isSt ah) : ∀ (k : Nat) (l1 : Int32) (l2 : Int32) (l3 : Int32) (K : jK) (ci : jI) (cj : jJ) (cr : jR) {q}, jCW K cr → fX5_vowsOf_4 n vho ah  k l1 l2 l3 K ci cj cr = some q → jqp wI K q Qr → Ev g (d + 6) mX5_vowsOf 4 [.ref ah, .int l1, .int l2, .int l3] [] K ci cj cr c sl Qr Qx := by
  intro k
  induction k with
  | zero =>
    intro l1 l2 l3 K ci cj cr q hC h hq
    rw [fX5_vowsOf_4.eq_1] at h; cases h
  | succ k ih =>
    intro l1 l2 l3 K ci cj cr q hC h hq
    rw [fX5_vowsOf_4.eq_2] at h
    refine ev_iload_n dX5_vowsOf_4 rfl ?_
    refine ev_aload_n dX5_vowsOf_5 rfl ?_
    refine ev_getR dX5_vowsOf_6 fX5_3_5 (sk0 hC hs_ah) (Or.inl (sl0 hC hs_ah)) rfl (sr12 hC hs_ah) ?_
    obtain ⟨r1, ci2, cj3, cr4, z5, h⟩ := jpb_inv h
    refine ev_zV0 dX5_vowsOf_9 vX5_81_0 (ck0 hC) (Or.inl (cl0 hC)) (Nat.le_of_ble_eq_true rfl) (Nat.le_of_ble_eq_true rfl) rfl (metX0_pairs n  _ _ _ _ hC z5 (fun hC6 => ?_))
    show Ev g _ _ 12 _ [.int r1, .int l3] K ci2 cj3 cr4 _ _ Qr Qx
    refine ev_icmp_ge 57 dX5_vowsOf_12 rfl (fun z7 => ?_) (fun z7 => ?_)
    · rw [if_pos z7] at h
      refine ev_iload_n dX5_vowsOf_57 rfl ?_
      cases h
      exact ev_iret dX5_vowsOf_58 rfl rfl (hq hC6)
    · rw [if_neg z7] at h
      refine ev_iload_n dX5_vowsOf_15 rfl ?_
      refine ev_aload_n dX5_vowsOf_16 rfl ?_
      refine ev_getR dX5_vowsOf_17 fX5_3_5 (sk0 hC6 hs_ah) (Or.inl (sl0 hC6 hs_ah)) rfl (sr12 hC6 hs_ah) ?_
      refine ev_iload_n dX5_vowsOf_20 rfl ?_
      obtain ⟨r8, ci9, cj10, cr11, z12, h⟩ := jpb_inv h
      refine ev_zV1 dX5_vowsOf_21 vX5_84_0 (ck0 hC6) (Or.inl (cl0 hC6)) (Nat.le_of_ble_eq_true rfl) (Nat.le_of_ble_eq_true rfl) rfl (metX0_pairOf n _ _ _ _ _ hC6 z12 (fun hC13 => ?_))
      show Ev g _ _ 24 _ [.ref r8, .int l2] K ci9 cj10 cr11 _ _ Qr Qx
      by_cases z14 : K.1 r8 = 8 ∧ r8 < K.2.2
      rotate_left
      · rw [if_neg z14] at h; cases h
      rw [if_pos z14] at h
      refine ev_getI dX5_vowsOf_24 fX5_112_8 z14.1 (Or.inl z14.2) rfl ?_
      refine ev_iload_n dX5_vowsOf_27 rfl ?_
      refine ev_icmp_ne 48 dX5_vowsOf_28 rfl (fun z15 => ?_) (fun z15 => ?_)
      · rw [if_neg z15] at h
        exact ev_mask [true, true, false, true] (wX5_vowsOf_48 n _ hvho _ hs_ah _ (ih) _ _ _ _ _ _ _ hC13 h hq)
      · rw [if_pos z15] at h
        refine ev_aload_n dX5_vowsOf_31 rfl ?_
        refine ev_iload_n dX5_vowsOf_32 rfl ?_
        obtain ⟨r16, ci17, cj18, cr19, z20, h⟩ := jpb_inv h
        refine ev_zV1 dX5_vowsOf_33 vX5_121_5 (sk0 hC13 hs_ah) (Or.inl (sl0 hC13 hs_ah)) (Nat.le_of_ble_eq_true rfl) (Nat.le_of_ble_eq_true rfl) rfl (metX5_isCounted n _ (jvat.up hvho (by omega)) _ _ _ _ _ _ hC13 z20 (fun hC21 => ?_))
        show Ev g _ _ 36 _ [.int r16, .int l2] K ci17 cj18 cr19 _ _ Qr Qx
        refine ev_if_eq 48 dX5_vowsOf_36 rfl (fun z22 => ?_) (fun z22 => ?_)
        · rw [if_pos z22] at h
          exact ev_mask [true, true, false, true] (wX5_vowsOf_48 n _ hvho _ hs_ah _ (ih) _ _ _ _ _ _ _ hC21 h hq)
        · rw [if_neg z22] at h
          refine ev_aload_n dX5_vowsOf_39 rfl ?_
          refine ev_getR dX5_vowsOf_40 fX5_37_5 (sk0 hC21 hs_ah) (Or.inl (sl0 hC21 hs_ah)) rfl (sr8 hC21 hs_ah) ?_
          refine ev_iload_n dX5_vowsOf_43 rfl ?_
          by_cases z23 : jok l3 10
          rotate_left
          · rw [if_neg z23] at h; cases h
          rw [if_pos z23] at h
          refine ev_iaload dX5_vowsOf_44 (sk8 hC21 hs_ah) (Or.inl (sl8 hC21 hs_ah)) (jok.ix z23 (sn8 hC21 hs_ah)) ?_
          refine ev_goto 49 dX5_vowsOf_45 rfl ?_
          exact ev_mask [true, true, false, true] (wX5_vowsOf_49 n _ hvho _ hs_ah _ (ih) _ _ _ _ _ _ _ _ hC21 h hq)
def fX5_vowsOf (n : Nat) (vho : Nat → Nat → jK → jI → jJ → jR → Option (jTp Int32)) (ah : Nat) (a0 : Int32) (K : jK) (ci : jI) (cj : jJ) (cr : jR) : Option (jTp Int32) := if isSt ah then fX5_vowsOf_4 n vho ah  n a0 (nI 0) (nI 0) K ci cj cr else none
theorem metX5_vowsOf {g : jG} {d : Nat} {c sl : Nat} {Qr : jQ} {Qx : jX} (n : Nat) (vho : Nat → Nat → jK → jI → jJ → jR → Option (jTp Int32)) (hvho : jvat g d vhoM wI vho) (ah : Nat) (a0 : Int32) (K : jK) (ci : jI) (cj : jJ) (cr : jR) {q} (hC : jCW K cr) (h : fX5_vowsOf n vho ah a0 K ci cj cr = some q) (hq : jqp wI K q Qr) : EvM g (d + 6) mX5_vowsOf [.ref ah, .int a0] K ci cj cr c sl Qr Qx := by
  unfold fX5_vowsOf at h
  show Ev g (d + 6) mX5_vowsOf 0 [.ref ah, .int a0, jU, jU] [] K ci cj cr c sl Qr Qx
  by_cases hs_ah : isSt ah
  rotate_left
  · rw [if_neg hs_ah] at h; cases h
  rw [if_pos hs_ah] at h
  refine ev_iconst (v := (nI 0)) dX5_vowsOf_0 jc0 ?_
  refine ev_istore_n (L' := [_, _, _, _]) dX5_vowsOf_1 (by decide) rfl ?_
  refine ev_iconst (v := (nI 0)) dX5_vowsOf_2 jc0 ?_
  refine ev_istore_n (L' := [_, _, _, _]) dX5_vowsOf_3 (by decide) rfl ?_
  exact wX5_vowsOf_4 n _ hvho _ hs_ah   n _ _ _ _ _ _ _ hC h hq
def fX0_looked_16 (n : Nat) (vho : Nat → Nat → jK → jI → jJ → jR → Option (jTp Int32)) (K : jK) (ci : jI) (cj : jJ) (cr : jR) : Option (jTp Int64) := some ((lN 0), ci, cj, cr)
theorem wX0_looked_16 {g : jG} {d : Nat} {c sl : Nat} {Qr : jQ} {Qx : jX} (n : Nat) (vho : Nat → Nat → jK → jI → jJ → jR → Option (jTp Int32)) (hvho : jvat g d vhoM wI vho) (K : jK) (ci : jI) (cj : jJ) (cr : jR) {q} (hC : jCW K cr) (h : fX0_looked_16 n vho   K ci cj cr = some q) (hq : jqp wJ K q Qr) : Ev g (d + 7) mX0_looked 16 [jU, jU, jU, jU] [] K ci cj cr c sl Qr Qx := by
  unfold fX0_looked_16 at h
  refine ev_lconst (v := lN 0) dX0_looked_16 rfl ?_
  cases h
  exact ev_lret dX0_looked_17 rfl (hq hC)
def fX0_looked_46 (n : Nat) (vho : Nat → Nat → jK → jI → jJ → jR → Option (jTp Int32)) (t0 : Int64) (K : jK) (ci : jI) (cj : jJ) (cr : jR) : Option (jTp Int64) := some (t0, ci, cj, cr)
theorem wX0_looked_46 {g : jG} {d : Nat} {c sl : Nat} {Qr : jQ} {Qx : jX} (n : Nat) (vho : Nat → Nat → jK → jI → jJ → jR → Option (jTp Int32)) (hvho : jvat g d vhoM wI vho) (t0 : Int64) (K : jK) (ci : jI) (cj : jJ) (cr : jR) {q} (hC : jCW K cr) (h : fX0_looked_46 n vho  t0 K ci cj cr = some q) (hq : jqp wJ K q Qr) : Ev g (d + 7) mX0_looked 46 [jU, jU, jU, jU] [.long t0] K ci cj cr c sl Qr Qx := by
  unfold fX0_looked_46 at h
  cases h
  exact ev_lret dX0_looked_46 rfl (hq hC)
def fX0_looked (n : Nat) (vho : Nat → Nat → jK → jI → jJ → jR → Option (jTp Int32)) (a0 : Int32) (a1 : Int64) (K : jK) (ci : jI) (cj : jJ) (cr : jR) : Option (jTp Int64) := if a1 < (lN 0) then fX0_looked_16 n vho   K ci cj cr else jpb (fX0_bays n  K ci cj cr) (fun r2 ci3 cj4 cr5 => if a1 < (r2).toInt64 then if a0 = 0 then jpb (fX5_vowsOf n vho 16 ((a1).toInt32) K ci3 cj4 cr5) (fun r11 ci12 cj13 cr14 => fX0_looked_46 n vho  ((r11).toInt64) K ci12 cj13 cr14) else if jok ((a1).toInt32) 6 then fX0_looked_46 n vho  (((ci3 (16 + 5) ((a1).toInt32).toNatClampNeg)).toInt64) K ci3 cj4 cr5 else none else fX0_looked_16 n vho   K ci3 cj4 cr5)
theorem metX0_looked {g : jG} {d : Nat} {c sl : Nat} {Qr : jQ} {Qx : jX} (n : Nat) (vho : Nat → Nat → jK → jI → jJ → jR → Option (jTp Int32)) (hvho : jvat g d vhoM wI vho) (a0 : Int32) (a1 : Int64) (K : jK) (ci : jI) (cj : jJ) (cr : jR) {q} (hC : jCW K cr) (h : fX0_looked n vho a0 a1 K ci cj cr = some q) (hq : jqp wJ K q Qr) : EvM g (d + 7) mX0_looked [.ref 0, .int a0, .long a1] K ci cj cr c sl Qr Qx := by
  unfold fX0_looked at h
  show Ev g (d + 7) mX0_looked 0 [.ref 0, .int a0, .long a1, jU] [] K ci cj cr c sl Qr Qx
  refine ev_lload_n dX0_looked_0 rfl ?_
  refine ev_lconst (v := lN 0) dX0_looked_1 rfl ?_
  refine ev_lcif_lt 16 dX0_looked_2 dX0_looked_3 rfl (fun z1 => ?_) (fun z1 => ?_)
  · rw [if_pos z1] at h
    exact ev_mask [false, false, false, false] (wX0_looked_16 n _ hvho    _ _ _ _ hC h hq)
  · rw [if_neg z1] at h
    refine ev_lload_n dX0_looked_6 rfl ?_
    refine ev_aload_n dX0_looked_7 rfl ?_
    obtain ⟨r2, ci3, cj4, cr5, z6, h⟩ := jpb_inv h
    refine ev_zV0 dX0_looked_8 vX0_163_0 (ck0 hC) (Or.inl (cl0 hC)) (Nat.le_of_ble_eq_true rfl) (Nat.le_of_ble_eq_true rfl) rfl (metX0_bays n  _ _ _ _ hC z6 (fun hC7 => ?_))
    show Ev g _ _ 11 _ [.int r2, .long a1] K ci3 cj4 cr5 _ _ Qr Qx
    refine ev_i2l dX0_looked_11 ?_
    refine ev_lcif_lt 18 dX0_looked_12 dX0_looked_13 rfl (fun z8 => ?_) (fun z8 => ?_)
    · rw [if_pos z8] at h
      refine ev_iload_n dX0_looked_18 rfl ?_
      refine ev_if_ne 35 dX0_looked_19 rfl (fun z9 => ?_) (fun z9 => ?_)
      · rw [if_neg z9] at h
        refine ev_aload_n dX0_looked_35 rfl ?_
        refine ev_getR dX0_looked_36 fX0_69_0 (ck0 hC7) (Or.inl (cl0 hC7)) rfl (cq0_9 hC7) ?_
        refine ev_getR dX0_looked_39 fX0_223_5 (sk0 hC7 is16) (Or.inl (sl0 hC7 is16)) rfl (sr5 hC7 is16) ?_
        refine ev_lload_n dX0_looked_42 rfl ?_
        refine ev_l2i dX0_looked_43 ?_
        by_cases z10 : jok ((a1).toInt32) 6
        rotate_left
        · rw [if_neg z10] at h; cases h
        rw [if_pos z10] at h
        refine ev_iaload dX0_looked_44 (sk5 hC7 is16) (Or.inl (sl5 hC7 is16)) (jok.ix z10 (sn5 hC7 is16)) ?_
        refine ev_i2l dX0_looked_45 ?_
        exact ev_mask [false, false, false, false] (wX0_looked_46 n _ hvho   _ _ _ _ _ hC7 h hq)
      · rw [if_pos z9] at h
        refine ev_aload_n dX0_looked_22 rfl ?_
        refine ev_getR dX0_looked_23 fX0_69_0 (ck0 hC7) (Or.inl (cl0 hC7)) rfl (cq0_9 hC7) ?_
        refine ev_lload_n dX0_looked_26 rfl ?_
        refine ev_l2i dX0_looked_27 ?_
        obtain ⟨r11, ci12, cj13, cr14, z15, h⟩ := jpb_inv h
        refine ev_zV1 dX0_looked_28 vX0_217_5 (sk0 hC7 is16) (Or.inl (sl0 hC7 is16)) (Nat.le_of_ble_eq_true rfl) (Nat.le_of_ble_eq_true rfl) rfl (metX5_vowsOf n _ (jvat.up hvho (by omega)) _ _ _ _ _ _ hC7 z15 (fun hC16 => ?_))
        show Ev g _ _ 31 _ [.int r11] K ci12 cj13 cr14 _ _ Qr Qx
        refine ev_i2l dX0_looked_31 ?_
        refine ev_goto 46 dX0_looked_32 rfl ?_
        exact ev_mask [false, false, false, false] (wX0_looked_46 n _ hvho   _ _ _ _ _ hC16 h hq)
    · rw [if_neg z8] at h
      exact ev_mask [false, false, false, false] (wX0_looked_16 n _ hvho    _ _ _ _ hC7 h hq)
def fX7_signAt_28 (n : Nat) (t0 : Int32) (K : jK) (ci : jI) (cj : jJ) (cr : jR) : Option (jTp Int32) := some (t0, ci, cj, cr)
theorem wX7_signAt_28 {g : jG} {d : Nat} {c sl : Nat} {Qr : jQ} {Qx : jX} (n : Nat) (t0 : Int32) (K : jK) (ci : jI) (cj : jJ) (cr : jR) {q} (hC : jCW K cr) (h : fX7_signAt_28 n  t0 K ci cj cr = some q) (hq : jqp wI K q Qr) : Ev g (d + 5) mX7_signAt 28 [jU, jU] [.int t0] K ci cj cr c sl Qr Qx := by
  unfold fX7_signAt_28 at h
  cases h
  exact ev_iret dX7_signAt_28 rfl rfl (hq hC)
def fX7_signAt (n : Nat) (ah : Nat) (a0 : Int32) (K : jK) (ci : jI) (cj : jJ) (cr : jR) : Option (jTp Int32) := if (K.1 ah = 7 ∨ K.1 ah = 8 ∨ K.1 ah = 9) ∧ ah < K.2.2 then Option.bind (cr ah 0) (fun r2 => if K.1 r2 = 21 ∧ (r2 < K.2.2 ∨ 1000000 ≤ r2) then jpb (fJ6_length n r2 K ci cj cr) (fun r5 ci6 cj7 cr8 => if r5 ≤ a0 then fX7_signAt_28 n  (nI 0) K ci6 cj7 cr8 else Option.bind (cr8 ah 0) (fun r12 => if K.1 r12 = 21 ∧ (r12 < K.2.2 ∨ 1000000 ≤ r12) then jpb (fJ6_charAt n r12 a0 K ci6 cj7 cr8) (fun r15 ci16 cj17 cr18 => fX7_signAt_28 n  ((r15 - (nI 97)) + (nI 1)) K ci16 cj17 cr18) else none)) else none) else none
theorem metX7_signAt {g : jG} {d : Nat} {c sl : Nat} {Qr : jQ} {Qx : jX} (n : Nat) (ah : Nat) (a0 : Int32) (K : jK) (ci : jI) (cj : jJ) (cr : jR) {q} (hC : jCW K cr) (h : fX7_signAt n ah a0 K ci cj cr = some q) (hq : jqp wI K q Qr) : EvM g (d + 5) mX7_signAt [.ref ah, .int a0] K ci cj cr c sl Qr Qx := by
  unfold fX7_signAt at h
  show Ev g (d + 5) mX7_signAt 0 [.ref ah, .int a0] [] K ci cj cr c sl Qr Qx
  refine ev_iload_n dX7_signAt_0 rfl ?_
  refine ev_aload_n dX7_signAt_1 rfl ?_
  by_cases z1 : (K.1 ah = 7 ∨ K.1 ah = 8 ∨ K.1 ah = 9) ∧ ah < K.2.2
  rotate_left
  · rw [if_neg z1] at h; cases h
  rw [if_pos z1] at h
  obtain ⟨r2, z3, h⟩ := Option.bind_eq_some_iff.mp h
  refine ev_getR dX7_signAt_2 (by rcases z1.1 with z | z | z <;> rw [z] <;> first | exact fX7_9_7 | exact fX7_9_8 | exact fX7_9_9) (rfl : K.1 ah = _) (Or.inl z1.2) (by rcases z1.1 with z | z | z <;> rw [z] <;> rfl) z3 ?_
  by_cases z4 : K.1 r2 = 21 ∧ (r2 < K.2.2 ∨ 1000000 ≤ r2)
  rotate_left
  · rw [if_neg z4] at h; cases h
  rw [if_pos z4] at h
  obtain ⟨r5, ci6, cj7, cr8, z9, h⟩ := jpb_inv h
  refine ev_zV0 dX7_signAt_5 vX7_31_21 z4.1 z4.2 (Nat.le_of_ble_eq_true rfl) (Nat.le_of_ble_eq_true rfl) rfl (metJ6_length n _ _ _ _ _ hC z9 (fun hC10 => ?_))
  show Ev g _ _ 8 _ [.int r5, .int a0] K ci6 cj7 cr8 _ _ Qr Qx
  refine ev_icmp_ge 27 dX7_signAt_8 rfl (fun z11 => ?_) (fun z11 => ?_)
  · rw [if_pos z11] at h
    refine ev_iconst (v := (nI 0)) dX7_signAt_27 jc0 ?_
    exact ev_mask [false, false] (wX7_signAt_28 n   _ _ _ _ _ hC10 h hq)
  · rw [if_neg z11] at h
    refine ev_aload_n dX7_signAt_11 rfl ?_
    obtain ⟨r12, z13, h⟩ := Option.bind_eq_some_iff.mp h
    refine ev_getR dX7_signAt_12 (by rcases z1.1 with z | z | z <;> rw [z] <;> first | exact fX7_9_7 | exact fX7_9_8 | exact fX7_9_9) (rfl : K.1 ah = _) (Or.inl z1.2) (by rcases z1.1 with z | z | z <;> rw [z] <;> rfl) z13 ?_
    refine ev_iload_n dX7_signAt_15 rfl ?_
    by_cases z14 : K.1 r12 = 21 ∧ (r12 < K.2.2 ∨ 1000000 ≤ r12)
    rotate_left
    · rw [if_neg z14] at h; cases h
    rw [if_pos z14] at h
    obtain ⟨r15, ci16, cj17, cr18, z19, h⟩ := jpb_inv h
    refine ev_zV1 dX7_signAt_16 vX7_34_21 z14.1 z14.2 (Nat.le_of_ble_eq_true rfl) (Nat.le_of_ble_eq_true rfl) rfl (metJ6_charAt n _ _ _ _ _ _ hC10 z19 (fun hC20 => ?_))
    show Ev g _ _ 19 _ [.int r15] K ci16 cj17 cr18 _ _ Qr Qx
    refine ev_bipush (v := (nI 97)) dX7_signAt_19 jb97 ?_
    refine ev_isub dX7_signAt_21 ?_
    refine ev_iconst (v := (nI 1)) dX7_signAt_22 jc1 ?_
    refine ev_iadd dX7_signAt_23 ?_
    refine ev_goto 28 dX7_signAt_24 rfl ?_
    exact ev_mask [false, false] (wX7_signAt_28 n   _ _ _ _ _ hC20 h hq)
def fX0_letter_22 (n : Nat) (K : jK) (ci : jI) (cj : jJ) (cr : jR) : Option (jTp Int32) := some ((-1), ci, cj, cr)
theorem wX0_letter_22 {g : jG} {d : Nat} {c sl : Nat} {Qr : jQ} {Qx : jX} (n : Nat) (K : jK) (ci : jI) (cj : jJ) (cr : jR) {q} (hC : jCW K cr) (h : fX0_letter_22 n   K ci cj cr = some q) (hq : jqp wI K q Qr) : Ev g (d + 6) mX0_letter 22 [jU, jU, jU, jU, jU] [] K ci cj cr c sl Qr Qx := by
  unfold fX0_letter_22 at h
  refine ev_iconst (v := (-1)) dX0_letter_22 jcm1 ?_
  cases h
  exact ev_iret dX0_letter_23 rfl rfl (hq hC)
def fX0_letter_92 (n : Nat) (t0 : Int32) (K : jK) (ci : jI) (cj : jJ) (cr : jR) : Option (jTp Int32) := some (t0, ci, cj, cr)
theorem wX0_letter_92 {g : jG} {d : Nat} {c sl : Nat} {Qr : jQ} {Qx : jX} (n : Nat) (t0 : Int32) (K : jK) (ci : jI) (cj : jJ) (cr : jR) {q} (hC : jCW K cr) (h : fX0_letter_92 n  t0 K ci cj cr = some q) (hq : jqp wI K q Qr) : Ev g (d + 6) mX0_letter 92 [jU, jU, jU, jU, jU] [.int t0] K ci cj cr c sl Qr Qx := by
  unfold fX0_letter_92 at h
  cases h
  exact ev_iret dX0_letter_92 rfl rfl (hq hC)
def fX0_letter_60 (n : Nat) (l2 : Int32) (l3 : Int32) (t0 : Nat) (K : jK) (ci : jI) (cj : jJ) (cr : jR) : Option (jTp Int32) := if K.1 t0 = 20 ∧ t0 < K.2.2 then jpb (fJ2_size n t0 K ci cj cr) (fun r2 ci3 cj4 cr5 => if r2 ≤ l2 then fX0_letter_92 n  (-1) K ci3 cj4 cr5 else jpb (fJ2_get n t0 l2 K ci3 cj4 cr5) (fun r9 ci10 cj11 cr12 => if (K.1 r9 = 7 ∨ K.1 r9 = 8 ∨ K.1 r9 = 9) ∧ r9 < K.2.2 then jpb (fX7_signAt n r9 l3 K ci10 cj11 cr12) (fun r16 ci17 cj18 cr19 => fX0_letter_92 n  r16 K ci17 cj18 cr19) else none)) else none
theorem wX0_letter_60 {g : jG} {d : Nat} {c sl : Nat} {Qr : jQ} {Qx : jX} (n : Nat) (l2 : Int32) (l3 : Int32) (t0 : Nat) (K : jK) (ci : jI) (cj : jJ) (cr : jR) {q} (hC : jCW K cr) (h : fX0_letter_60 n  l2 l3 t0 K ci cj cr = some q) (hq : jqp wI K q Qr) : Ev g (d + 6) mX0_letter 60 [jU, jU, .int l2, .int l3, jU] [.ref t0] K ci cj cr c sl Qr Qx := by
  unfold fX0_letter_60 at h
  refine ev_astore (L' := [_, _, _, _, _]) dX0_letter_60 (by decide) rfl ?_
  refine ev_iload_n dX0_letter_62 rfl ?_
  refine ev_aload dX0_letter_63 rfl ?_
  by_cases z1 : K.1 t0 = 20 ∧ t0 < K.2.2
  rotate_left
  · rw [if_neg z1] at h; cases h
  rw [if_pos z1] at h
  obtain ⟨r2, ci3, cj4, cr5, z6, h⟩ := jpb_inv h
  refine ev_zF0 dX0_letter_65 vX0_152_20 z1.1 (Or.inl z1.2) (Nat.le_of_ble_eq_true rfl) (Nat.le_of_ble_eq_true rfl) rfl (metJ2_size n _ _ _ _ _ hC z6 (fun hC7 => ?_))
  show Ev g _ _ 70 _ [.int r2, .int l2] K ci3 cj4 cr5 _ _ Qr Qx
  refine ev_icmp_ge 91 dX0_letter_70 rfl (fun z8 => ?_) (fun z8 => ?_)
  · rw [if_pos z8] at h
    refine ev_iconst (v := (-1)) dX0_letter_91 jcm1 ?_
    exact ev_mask [false, false, false, false, false] (wX0_letter_92 n   _ _ _ _ _ hC7 h hq)
  · rw [if_neg z8] at h
    refine ev_aload dX0_letter_73 rfl ?_
    refine ev_iload_n dX0_letter_75 rfl ?_
    obtain ⟨r9, ci10, cj11, cr12, z13, h⟩ := jpb_inv h
    refine ev_zF1 dX0_letter_76 vX0_169_20 z1.1 (Or.inl z1.2) (Nat.le_of_ble_eq_true rfl) (Nat.le_of_ble_eq_true rfl) rfl (metJ2_get n _ _ _ _ _ _ hC7 z13 (fun hC14 => ?_))
    show Ev g _ _ 81 _ [.ref r9] K ci10 cj11 cr12 _ _ Qr Qx
    by_cases z15 : (K.1 r9 = 7 ∨ K.1 r9 = 8 ∨ K.1 r9 = 9) ∧ r9 < K.2.2
    rotate_left
    · rw [if_neg z15] at h; cases h
    rw [if_pos z15] at h
    refine ev_cast dX0_letter_81 kX0_199 (by rcases z15.1 with z | z | z <;> rw [z] <;> decide) (Or.inl z15.2) ?_
    refine ev_iload_n dX0_letter_84 rfl ?_
    obtain ⟨r16, ci17, cj18, cr19, z20, h⟩ := jpb_inv h
    refine ev_zU1 dX0_letter_85 (by rcases z15.1 with z | z | z <;> rw [z] <;> first | exact vX0_201_7 | exact vX0_201_8 | exact vX0_201_9) (rfl : K.1 r9 = _) (Or.inl z15.2) (Nat.le_of_ble_eq_true rfl) (Nat.le_of_ble_eq_true rfl) rfl (metX7_signAt n _ _ _ _ _ _ hC14 z20 (fun hC21 => ?_))
    show Ev g _ _ 88 _ [.int r16] K ci17 cj18 cr19 _ _ Qr Qx
    refine ev_goto 92 dX0_letter_88 rfl ?_
    exact ev_mask [false, false, false, false, false] (wX0_letter_92 n   _ _ _ _ _ hC21 h hq)
def fX0_letter (n : Nat) (a0 : Int32) (a1 : Int32) (a2 : Int32) (K : jK) (ci : jI) (cj : jJ) (cr : jR) : Option (jTp Int32) := jpb (fX0_is n a2 (nI 0) (nI 5) K ci cj cr) (fun r1 ci2 cj3 cr4 => if r1 = 0 then fX0_letter_22 n   K ci2 cj3 cr4 else jpb (fX0_is n a0 (nI 0) (nI 2) K ci2 cj3 cr4) (fun r8 ci9 cj10 cr11 => if r8 = 0 then fX0_letter_22 n   K ci9 cj10 cr11 else if 0 ≤ a1 then if a0 = 0 then Option.bind (cr11 0 0) (fun r28 => if K.1 r28 = 1 ∧ r28 < K.2.2 then Option.bind (cr11 r28 2) (fun r31 => fX0_letter_60 n  a1 a2 r31 K ci9 cj10 cr11) else none) else if a0 = (nI 1) then Option.bind (cr11 0 0) (fun r23 => if K.1 r23 = 1 ∧ r23 < K.2.2 then Option.bind (cr11 r23 3) (fun r26 => fX0_letter_60 n  a1 a2 r26 K ci9 cj10 cr11) else none) else Option.bind (cr11 0 0) (fun r18 => if K.1 r18 = 1 ∧ r18 < K.2.2 then Option.bind (cr11 r18 4) (fun r21 => fX0_letter_60 n  a1 a2 r21 K ci9 cj10 cr11) else none) else fX0_letter_22 n   K ci9 cj10 cr11))
theorem metX0_letter {g : jG} {d : Nat} {c sl : Nat} {Qr : jQ} {Qx : jX} (n : Nat) (a0 : Int32) (a1 : Int32) (a2 : Int32) (K : jK) (ci : jI) (cj : jJ) (cr : jR) {q} (hC : jCW K cr) (h : fX0_letter n a0 a1 a2 K ci cj cr = some q) (hq : jqp wI K q Qr) : EvM g (d + 6) mX0_letter [.ref 0, .int a0, .int a1, .int a2] K ci cj cr c sl Qr Qx := by
  unfold fX0_letter at h
  show Ev g (d + 6) mX0_letter 0 [.ref 0, .int a0, .int a1, .int a2, jU] [] K ci cj cr c sl Qr Qx
  refine ev_iload_n dX0_letter_0 rfl ?_
  refine ev_iconst (v := (nI 0)) dX0_letter_1 jc0 ?_
  refine ev_iconst (v := (nI 5)) dX0_letter_2 jc5 ?_
  obtain ⟨r1, ci2, cj3, cr4, z5, h⟩ := jpb_inv h
  refine ev_zS3 dX0_letter_3 sX0_195 (Nat.le_of_ble_eq_true rfl) (Nat.le_of_ble_eq_true rfl) rfl (metX0_is n _ _ _ _ _ _ _ hC z5 (fun hC6 => ?_))
  show Ev g _ _ 6 _ [.int r1] K ci2 cj3 cr4 _ _ Qr Qx
  refine ev_if_eq 22 dX0_letter_6 rfl (fun z7 => ?_) (fun z7 => ?_)
  · rw [if_pos z7] at h
    exact ev_mask [false, false, false, false, false] (wX0_letter_22 n    _ _ _ _ hC6 h hq)
  · rw [if_neg z7] at h
    refine ev_iload_n dX0_letter_9 rfl ?_
    refine ev_iconst (v := (nI 0)) dX0_letter_10 jc0 ?_
    refine ev_iconst (v := (nI 2)) dX0_letter_11 jc2 ?_
    obtain ⟨r8, ci9, cj10, cr11, z12, h⟩ := jpb_inv h
    refine ev_zS3 dX0_letter_12 sX0_195 (Nat.le_of_ble_eq_true rfl) (Nat.le_of_ble_eq_true rfl) rfl (metX0_is n _ _ _ _ _ _ _ hC6 z12 (fun hC13 => ?_))
    show Ev g _ _ 15 _ [.int r8] K ci9 cj10 cr11 _ _ Qr Qx
    refine ev_if_eq 22 dX0_letter_15 rfl (fun z14 => ?_) (fun z14 => ?_)
    · rw [if_pos z14] at h
      exact ev_mask [false, false, false, false, false] (wX0_letter_22 n    _ _ _ _ hC13 h hq)
    · rw [if_neg z14] at h
      refine ev_iload_n dX0_letter_18 rfl ?_
      refine ev_if_ge 24 dX0_letter_19 rfl (fun z15 => ?_) (fun z15 => ?_)
      · rw [if_pos z15] at h
        refine ev_iload_n dX0_letter_24 rfl ?_
        refine ev_if_ne 38 dX0_letter_25 rfl (fun z16 => ?_) (fun z16 => ?_)
        · rw [if_neg z16] at h
          refine ev_iload_n dX0_letter_38 rfl ?_
          refine ev_iconst (v := (nI 1)) dX0_letter_39 jc1 ?_
          refine ev_icmp_ne 53 dX0_letter_40 rfl (fun z17 => ?_) (fun z17 => ?_)
          · rw [if_neg z17] at h
            refine ev_aload_n dX0_letter_53 rfl ?_
            obtain ⟨r18, z19, h⟩ := Option.bind_eq_some_iff.mp h
            refine ev_getR dX0_letter_54 fX0_31_0 (ck0 hC13) (Or.inl (cl0 hC13)) rfl z19 ?_
            by_cases z20 : K.1 r18 = 1 ∧ r18 < K.2.2
            rotate_left
            · rw [if_neg z20] at h; cases h
            rw [if_pos z20] at h
            obtain ⟨r21, z22, h⟩ := Option.bind_eq_some_iff.mp h
            refine ev_getR dX0_letter_57 fX0_160_1 z20.1 (Or.inl z20.2) rfl z22 ?_
            exact ev_mask [false, false, true, true, false] (wX0_letter_60 n   _ _ _ _ _ _ _ hC13 h hq)
          · rw [if_pos z17] at h
            refine ev_aload_n dX0_letter_43 rfl ?_
            obtain ⟨r23, z24, h⟩ := Option.bind_eq_some_iff.mp h
            refine ev_getR dX0_letter_44 fX0_31_0 (ck0 hC13) (Or.inl (cl0 hC13)) rfl z24 ?_
            by_cases z25 : K.1 r23 = 1 ∧ r23 < K.2.2
            rotate_left
            · rw [if_neg z25] at h; cases h
            rw [if_pos z25] at h
            obtain ⟨r26, z27, h⟩ := Option.bind_eq_some_iff.mp h
            refine ev_getR dX0_letter_47 fX0_157_1 z25.1 (Or.inl z25.2) rfl z27 ?_
            refine ev_goto 60 dX0_letter_50 rfl ?_
            exact ev_mask [false, false, true, true, false] (wX0_letter_60 n   _ _ _ _ _ _ _ hC13 h hq)
        · rw [if_pos z16] at h
          refine ev_aload_n dX0_letter_28 rfl ?_
          obtain ⟨r28, z29, h⟩ := Option.bind_eq_some_iff.mp h
          refine ev_getR dX0_letter_29 fX0_31_0 (ck0 hC13) (Or.inl (cl0 hC13)) rfl z29 ?_
          by_cases z30 : K.1 r28 = 1 ∧ r28 < K.2.2
          rotate_left
          · rw [if_neg z30] at h; cases h
          rw [if_pos z30] at h
          obtain ⟨r31, z32, h⟩ := Option.bind_eq_some_iff.mp h
          refine ev_getR dX0_letter_32 fX0_148_1 z30.1 (Or.inl z30.2) rfl z32 ?_
          refine ev_goto 60 dX0_letter_35 rfl ?_
          exact ev_mask [false, false, true, true, false] (wX0_letter_60 n   _ _ _ _ _ _ _ hC13 h hq)
      · rw [if_neg z15] at h
        exact ev_mask [false, false, false, false, false] (wX0_letter_22 n    _ _ _ _ hC13 h hq)
def fX0_isBay_17 (n : Nat) (t0 : Int32) (K : jK) (ci : jI) (cj : jJ) (cr : jR) : Option (jTp Int32) := if t0 = 0 ∨ t0 = 1 then some (t0, ci, cj, cr) else none
theorem wX0_isBay_17 {g : jG} {d : Nat} {c sl : Nat} {Qr : jQ} {Qx : jX} (n : Nat) (t0 : Int32) (K : jK) (ci : jI) (cj : jJ) (cr : jR) {q} (hC : jCW K cr) (h : fX0_isBay_17 n  t0 K ci cj cr = some q) (hq : jqp wI K q Qr) : Ev g (d + 3) mX0_isBay 17 [jU, jU] [.int t0] K ci cj cr c sl Qr Qx := by
  unfold fX0_isBay_17 at h
  by_cases z1 : t0 = 0 ∨ t0 = 1
  rotate_left
  · rw [if_neg z1] at h; cases h
  rw [if_pos z1] at h
  cases h
  exact ev_iret dX0_isBay_17 rfl (jbool z1) (hq hC)
def fX0_isBay_16 (n : Nat) (K : jK) (ci : jI) (cj : jJ) (cr : jR) : Option (jTp Int32) := fX0_isBay_17 n  (nI 0) K ci cj cr
theorem wX0_isBay_16 {g : jG} {d : Nat} {c sl : Nat} {Qr : jQ} {Qx : jX} (n : Nat) (K : jK) (ci : jI) (cj : jJ) (cr : jR) {q} (hC : jCW K cr) (h : fX0_isBay_16 n   K ci cj cr = some q) (hq : jqp wI K q Qr) : Ev g (d + 3) mX0_isBay 16 [jU, jU] [] K ci cj cr c sl Qr Qx := by
  unfold fX0_isBay_16 at h
  refine ev_iconst (v := (nI 0)) dX0_isBay_16 jc0 ?_
  exact wX0_isBay_17 n   _ _ _ _ _ hC h hq
def fX0_isBay (n : Nat) (a0 : Int32) (K : jK) (ci : jI) (cj : jJ) (cr : jR) : Option (jTp Int32) := if a0 < 0 then fX0_isBay_16 n   K ci cj cr else jpb (fX0_bays n  K ci cj cr) (fun r2 ci3 cj4 cr5 => if r2 ≤ a0 then fX0_isBay_16 n   K ci3 cj4 cr5 else fX0_isBay_17 n  (nI 1) K ci3 cj4 cr5)
theorem metX0_isBay {g : jG} {d : Nat} {c sl : Nat} {Qr : jQ} {Qx : jX} (n : Nat) (a0 : Int32) (K : jK) (ci : jI) (cj : jJ) (cr : jR) {q} (hC : jCW K cr) (h : fX0_isBay n a0 K ci cj cr = some q) (hq : jqp wI K q Qr) : EvM g (d + 3) mX0_isBay [.ref 0, .int a0] K ci cj cr c sl Qr Qx := by
  unfold fX0_isBay at h
  show Ev g (d + 3) mX0_isBay 0 [.ref 0, .int a0] [] K ci cj cr c sl Qr Qx
  refine ev_iload_n dX0_isBay_0 rfl ?_
  refine ev_if_lt 16 dX0_isBay_1 rfl (fun z1 => ?_) (fun z1 => ?_)
  · rw [if_pos z1] at h
    exact ev_mask [false, false] (wX0_isBay_16 n    _ _ _ _ hC h hq)
  · rw [if_neg z1] at h
    refine ev_iload_n dX0_isBay_4 rfl ?_
    refine ev_aload_n dX0_isBay_5 rfl ?_
    obtain ⟨r2, ci3, cj4, cr5, z6, h⟩ := jpb_inv h
    refine ev_zV0 dX0_isBay_6 vX0_163_0 (ck0 hC) (Or.inl (cl0 hC)) (Nat.le_of_ble_eq_true rfl) (Nat.le_of_ble_eq_true rfl) rfl (metX0_bays n  _ _ _ _ hC z6 (fun hC7 => ?_))
    show Ev g _ _ 9 _ [.int r2, .int a0] K ci3 cj4 cr5 _ _ Qr Qx
    refine ev_icmp_ge 16 dX0_isBay_9 rfl (fun z8 => ?_) (fun z8 => ?_)
    · rw [if_pos z8] at h
      exact ev_mask [false, false] (wX0_isBay_16 n    _ _ _ _ hC7 h hq)
    · rw [if_neg z8] at h
      refine ev_iconst (v := (nI 1)) dX0_isBay_12 jc1 ?_
      refine ev_goto 17 dX0_isBay_13 rfl ?_
      exact ev_mask [false, false] (wX0_isBay_17 n   _ _ _ _ _ hC7 h hq)
def fX0_isPair_17 (n : Nat) (t0 : Int32) (K : jK) (ci : jI) (cj : jJ) (cr : jR) : Option (jTp Int32) := if t0 = 0 ∨ t0 = 1 then some (t0, ci, cj, cr) else none
theorem wX0_isPair_17 {g : jG} {d : Nat} {c sl : Nat} {Qr : jQ} {Qx : jX} (n : Nat) (t0 : Int32) (K : jK) (ci : jI) (cj : jJ) (cr : jR) {q} (hC : jCW K cr) (h : fX0_isPair_17 n  t0 K ci cj cr = some q) (hq : jqp wI K q Qr) : Ev g (d + 3) mX0_isPair 17 [jU, jU] [.int t0] K ci cj cr c sl Qr Qx := by
  unfold fX0_isPair_17 at h
  by_cases z1 : t0 = 0 ∨ t0 = 1
  rotate_left
  · rw [if_neg z1] at h; cases h
  rw [if_pos z1] at h
  cases h
  exact ev_iret dX0_isPair_17 rfl (jbool z1) (hq hC)
def fX0_isPair_16 (n : Nat) (K : jK) (ci : jI) (cj : jJ) (cr : jR) : Option (jTp Int32) := fX0_isPair_17 n  (nI 0) K ci cj cr
theorem wX0_isPair_16 {g : jG} {d : Nat} {c sl : Nat} {Qr : jQ} {Qx : jX} (n : Nat) (K : jK) (ci : jI) (cj : jJ) (cr : jR) {q} (hC : jCW K cr) (h : fX0_isPair_16 n   K ci cj cr = some q) (hq : jqp wI K q Qr) : Ev g (d + 3) mX0_isPair 16 [jU, jU] [] K ci cj cr c sl Qr Qx := by
  unfold fX0_isPair_16 at h
  refine ev_iconst (v := (nI 0)) dX0_isPair_16 jc0 ?_
  exact wX0_isPair_17 n   _ _ _ _ _ hC h hq
def fX0_isPair (n : Nat) (a0 : Int32) (K : jK) (ci : jI) (cj : jJ) (cr : jR) : Option (jTp Int32) := if a0 < 0 then fX0_isPair_16 n   K ci cj cr else jpb (fX0_pairs n  K ci cj cr) (fun r2 ci3 cj4 cr5 => if r2 ≤ a0 then fX0_isPair_16 n   K ci3 cj4 cr5 else fX0_isPair_17 n  (nI 1) K ci3 cj4 cr5)
theorem metX0_isPair {g : jG} {d : Nat} {c sl : Nat} {Qr : jQ} {Qx : jX} (n : Nat) (a0 : Int32) (K : jK) (ci : jI) (cj : jJ) (cr : jR) {q} (hC : jCW K cr) (h : fX0_isPair n a0 K ci cj cr = some q) (hq : jqp wI K q Qr) : EvM g (d + 3) mX0_isPair [.ref 0, .int a0] K ci cj cr c sl Qr Qx := by
  unfold fX0_isPair at h
  show Ev g (d + 3) mX0_isPair 0 [.ref 0, .int a0] [] K ci cj cr c sl Qr Qx
  refine ev_iload_n dX0_isPair_0 rfl ?_
  refine ev_if_lt 16 dX0_isPair_1 rfl (fun z1 => ?_) (fun z1 => ?_)
  · rw [if_pos z1] at h
    exact ev_mask [false, false] (wX0_isPair_16 n    _ _ _ _ hC h hq)
  · rw [if_neg z1] at h
    refine ev_iload_n dX0_isPair_4 rfl ?_
    refine ev_aload_n dX0_isPair_5 rfl ?_
    obtain ⟨r2, ci3, cj4, cr5, z6, h⟩ := jpb_inv h
    refine ev_zV0 dX0_isPair_6 vX0_165_0 (ck0 hC) (Or.inl (cl0 hC)) (Nat.le_of_ble_eq_true rfl) (Nat.le_of_ble_eq_true rfl) rfl (metX0_pairs n  _ _ _ _ hC z6 (fun hC7 => ?_))
    show Ev g _ _ 9 _ [.int r2, .int a0] K ci3 cj4 cr5 _ _ Qr Qx
    refine ev_icmp_ge 16 dX0_isPair_9 rfl (fun z8 => ?_) (fun z8 => ?_)
    · rw [if_pos z8] at h
      exact ev_mask [false, false] (wX0_isPair_16 n    _ _ _ _ hC7 h hq)
    · rw [if_neg z8] at h
      refine ev_iconst (v := (nI 1)) dX0_isPair_12 jc1 ?_
      refine ev_goto 17 dX0_isPair_13 rfl ?_
      exact ev_mask [false, false] (wX0_isPair_17 n   _ _ _ _ _ hC7 h hq)
def fX0_isShoal_17 (n : Nat) (t0 : Int32) (K : jK) (ci : jI) (cj : jJ) (cr : jR) : Option (jTp Int32) := if t0 = 0 ∨ t0 = 1 then some (t0, ci, cj, cr) else none
theorem wX0_isShoal_17 {g : jG} {d : Nat} {c sl : Nat} {Qr : jQ} {Qx : jX} (n : Nat) (t0 : Int32) (K : jK) (ci : jI) (cj : jJ) (cr : jR) {q} (hC : jCW K cr) (h : fX0_isShoal_17 n  t0 K ci cj cr = some q) (hq : jqp wI K q Qr) : Ev g (d + 3) mX0_isShoal 17 [jU, jU] [.int t0] K ci cj cr c sl Qr Qx := by
  unfold fX0_isShoal_17 at h
  by_cases z1 : t0 = 0 ∨ t0 = 1
  rotate_left
  · rw [if_neg z1] at h; cases h
  rw [if_pos z1] at h
  cases h
  exact ev_iret dX0_isShoal_17 rfl (jbool z1) (hq hC)
def fX0_isShoal_16 (n : Nat) (K : jK) (ci : jI) (cj : jJ) (cr : jR) : Option (jTp Int32) := fX0_isShoal_17 n  (nI 0) K ci cj cr
theorem wX0_isShoal_16 {g : jG} {d : Nat} {c sl : Nat} {Qr : jQ} {Qx : jX} (n : Nat) (K : jK) (ci : jI) (cj : jJ) (cr : jR) {q} (hC : jCW K cr) (h : fX0_isShoal_16 n   K ci cj cr = some q) (hq : jqp wI K q Qr) : Ev g (d + 3) mX0_isShoal 16 [jU, jU] [] K ci cj cr c sl Qr Qx := by
  unfold fX0_isShoal_16 at h
  refine ev_iconst (v := (nI 0)) dX0_isShoal_16 jc0 ?_
  exact wX0_isShoal_17 n   _ _ _ _ _ hC h hq
def fX0_isShoal (n : Nat) (a0 : Int32) (K : jK) (ci : jI) (cj : jJ) (cr : jR) : Option (jTp Int32) := if a0 < 0 then fX0_isShoal_16 n   K ci cj cr else jpb (fX0_shoals n  K ci cj cr) (fun r2 ci3 cj4 cr5 => if r2 ≤ a0 then fX0_isShoal_16 n   K ci3 cj4 cr5 else fX0_isShoal_17 n  (nI 1) K ci3 cj4 cr5)
theorem metX0_isShoal {g : jG} {d : Nat} {c sl : Nat} {Qr : jQ} {Qx : jX} (n : Nat) (a0 : Int32) (K : jK) (ci : jI) (cj : jJ) (cr : jR) {q} (hC : jCW K cr) (h : fX0_isShoal n a0 K ci cj cr = some q) (hq : jqp wI K q Qr) : EvM g (d + 3) mX0_isShoal [.ref 0, .int a0] K ci cj cr c sl Qr Qx := by
  unfold fX0_isShoal at h
  show Ev g (d + 3) mX0_isShoal 0 [.ref 0, .int a0] [] K ci cj cr c sl Qr Qx
  refine ev_iload_n dX0_isShoal_0 rfl ?_
  refine ev_if_lt 16 dX0_isShoal_1 rfl (fun z1 => ?_) (fun z1 => ?_)
  · rw [if_pos z1] at h
    exact ev_mask [false, false] (wX0_isShoal_16 n    _ _ _ _ hC h hq)
  · rw [if_neg z1] at h
    refine ev_iload_n dX0_isShoal_4 rfl ?_
    refine ev_aload_n dX0_isShoal_5 rfl ?_
    obtain ⟨r2, ci3, cj4, cr5, z6, h⟩ := jpb_inv h
    refine ev_zV0 dX0_isShoal_6 vX0_167_0 (ck0 hC) (Or.inl (cl0 hC)) (Nat.le_of_ble_eq_true rfl) (Nat.le_of_ble_eq_true rfl) rfl (metX0_shoals n  _ _ _ _ hC z6 (fun hC7 => ?_))
    show Ev g _ _ 9 _ [.int r2, .int a0] K ci3 cj4 cr5 _ _ Qr Qx
    refine ev_icmp_ge 16 dX0_isShoal_9 rfl (fun z8 => ?_) (fun z8 => ?_)
    · rw [if_pos z8] at h
      exact ev_mask [false, false] (wX0_isShoal_16 n    _ _ _ _ hC7 h hq)
    · rw [if_neg z8] at h
      refine ev_iconst (v := (nI 1)) dX0_isShoal_12 jc1 ?_
      refine ev_goto 17 dX0_isShoal_13 rfl ?_
      exact ev_mask [false, false] (wX0_isShoal_17 n   _ _ _ _ _ hC7 h hq)
def fX0_shoal_62 (n : Nat) (t0 : Int32) (K : jK) (ci : jI) (cj : jJ) (cr : jR) : Option (jTp Int32) := some (t0, ci, cj, cr)
theorem wX0_shoal_62 {g : jG} {d : Nat} {c sl : Nat} {Qr : jQ} {Qx : jX} (n : Nat) (t0 : Int32) (K : jK) (ci : jI) (cj : jJ) (cr : jR) {q} (hC : jCW K cr) (h : fX0_shoal_62 n  t0 K ci cj cr = some q) (hq : jqp wI K q Qr) : Ev g (d + 5) mX0_shoal 62 [jU, jU, jU] [.int t0] K ci cj cr c sl Qr Qx := by
  unfold fX0_shoal_62 at h
  cases h
  exact ev_iret dX0_shoal_62 rfl rfl (hq hC)
def fX0_shoal (n : Nat) (a0 : Int32) (a1 : Int32) (K : jK) (ci : jI) (cj : jJ) (cr : jR) : Option (jTp Int32) := jpb (fX0_isShoal n a0 K ci cj cr) (fun r1 ci2 cj3 cr4 => if r1 = 0 then fX0_shoal_62 n  (-1) K ci2 cj3 cr4 else if a1 = 0 then if jok a0 3 then fX0_shoal_62 n  (ci2 (16 + 1) (a0).toNatClampNeg) K ci2 cj3 cr4 else none else if a1 = (nI 1) then jpb (fX0_shoalOf n a0 K ci2 cj3 cr4) (fun r12 ci13 cj14 cr15 => if K.1 r12 = 9 ∧ r12 < K.2.2 then fX0_shoal_62 n  (ci13 r12 2) K ci13 cj14 cr15 else none) else if a1 = (nI 2) then if jok a0 3 then fX0_shoal_62 n  (ci2 (16 + 2) (a0).toNatClampNeg) K ci2 cj3 cr4 else none else fX0_shoal_62 n  (-1) K ci2 cj3 cr4)
theorem metX0_shoal {g : jG} {d : Nat} {c sl : Nat} {Qr : jQ} {Qx : jX} (n : Nat) (a0 : Int32) (a1 : Int32) (K : jK) (ci : jI) (cj : jJ) (cr : jR) {q} (hC : jCW K cr) (h : fX0_shoal n a0 a1 K ci cj cr = some q) (hq : jqp wI K q Qr) : EvM g (d + 5) mX0_shoal [.ref 0, .int a0, .int a1] K ci cj cr c sl Qr Qx := by
  unfold fX0_shoal at h
  show Ev g (d + 5) mX0_shoal 0 [.ref 0, .int a0, .int a1] [] K ci cj cr c sl Qr Qx
  refine ev_aload_n dX0_shoal_0 rfl ?_
  refine ev_iload_n dX0_shoal_1 rfl ?_
  obtain ⟨r1, ci2, cj3, cr4, z5, h⟩ := jpb_inv h
  refine ev_zV1 dX0_shoal_2 vX0_242_0 (ck0 hC) (Or.inl (cl0 hC)) (Nat.le_of_ble_eq_true rfl) (Nat.le_of_ble_eq_true rfl) rfl (metX0_isShoal n _ _ _ _ _ hC z5 (fun hC6 => ?_))
  show Ev g _ _ 5 _ [.int r1] K ci2 cj3 cr4 _ _ Qr Qx
  refine ev_if_ne 12 dX0_shoal_5 rfl (fun z7 => ?_) (fun z7 => ?_)
  · rw [if_neg z7] at h
    refine ev_iload_n dX0_shoal_12 rfl ?_
    refine ev_if_ne 28 dX0_shoal_13 rfl (fun z8 => ?_) (fun z8 => ?_)
    · rw [if_neg z8] at h
      refine ev_iload_n dX0_shoal_28 rfl ?_
      refine ev_iconst (v := (nI 1)) dX0_shoal_29 jc1 ?_
      refine ev_icmp_ne 44 dX0_shoal_30 rfl (fun z9 => ?_) (fun z9 => ?_)
      · rw [if_neg z9] at h
        refine ev_iload_n dX0_shoal_44 rfl ?_
        refine ev_iconst (v := (nI 2)) dX0_shoal_45 jc2 ?_
        refine ev_icmp_ne 61 dX0_shoal_46 rfl (fun z10 => ?_) (fun z10 => ?_)
        · rw [if_neg z10] at h
          refine ev_iconst (v := (-1)) dX0_shoal_61 jcm1 ?_
          exact ev_mask [false, false, false] (wX0_shoal_62 n   _ _ _ _ _ hC6 h hq)
        · rw [if_pos z10] at h
          refine ev_aload_n dX0_shoal_49 rfl ?_
          refine ev_getR dX0_shoal_50 fX0_69_0 (ck0 hC6) (Or.inl (cl0 hC6)) rfl (cq0_9 hC6) ?_
          refine ev_getR dX0_shoal_53 fX0_186_5 (sk0 hC6 is16) (Or.inl (sl0 hC6 is16)) rfl (sr2 hC6 is16) ?_
          refine ev_iload_n dX0_shoal_56 rfl ?_
          by_cases z11 : jok a0 3
          rotate_left
          · rw [if_neg z11] at h; cases h
          rw [if_pos z11] at h
          refine ev_iaload dX0_shoal_57 (sk2 hC6 is16) (Or.inl (sl2 hC6 is16)) (jok.ix z11 (sn2 hC6 is16)) ?_
          refine ev_goto 62 dX0_shoal_58 rfl ?_
          exact ev_mask [false, false, false] (wX0_shoal_62 n   _ _ _ _ _ hC6 h hq)
      · rw [if_pos z9] at h
        refine ev_aload_n dX0_shoal_33 rfl ?_
        refine ev_iload_n dX0_shoal_34 rfl ?_
        obtain ⟨r12, ci13, cj14, cr15, z16, h⟩ := jpb_inv h
        refine ev_zV1 dX0_shoal_35 vX0_247_0 (ck0 hC6) (Or.inl (cl0 hC6)) (Nat.le_of_ble_eq_true rfl) (Nat.le_of_ble_eq_true rfl) rfl (metX0_shoalOf n _ _ _ _ _ hC6 z16 (fun hC17 => ?_))
        show Ev g _ _ 38 _ [.ref r12] K ci13 cj14 cr15 _ _ Qr Qx
        by_cases z18 : K.1 r12 = 9 ∧ r12 < K.2.2
        rotate_left
        · rw [if_neg z18] at h; cases h
        rw [if_pos z18] at h
        refine ev_getI dX0_shoal_38 fX0_251_9 z18.1 (Or.inl z18.2) rfl ?_
        refine ev_goto 62 dX0_shoal_41 rfl ?_
        exact ev_mask [false, false, false] (wX0_shoal_62 n   _ _ _ _ _ hC17 h hq)
    · rw [if_pos z8] at h
      refine ev_aload_n dX0_shoal_16 rfl ?_
      refine ev_getR dX0_shoal_17 fX0_69_0 (ck0 hC6) (Or.inl (cl0 hC6)) rfl (cq0_9 hC6) ?_
      refine ev_getR dX0_shoal_20 fX0_245_5 (sk0 hC6 is16) (Or.inl (sl0 hC6 is16)) rfl (sr1 hC6 is16) ?_
      refine ev_iload_n dX0_shoal_23 rfl ?_
      by_cases z19 : jok a0 3
      rotate_left
      · rw [if_neg z19] at h; cases h
      rw [if_pos z19] at h
      refine ev_iaload dX0_shoal_24 (sk1 hC6 is16) (Or.inl (sl1 hC6 is16)) (jok.ix z19 (sn1 hC6 is16)) ?_
      refine ev_goto 62 dX0_shoal_25 rfl ?_
      exact ev_mask [false, false, false] (wX0_shoal_62 n   _ _ _ _ _ hC6 h hq)
  · rw [if_pos z7] at h
    refine ev_iconst (v := (-1)) dX0_shoal_8 jcm1 ?_
    refine ev_goto 62 dX0_shoal_9 rfl ?_
    exact ev_mask [false, false, false] (wX0_shoal_62 n   _ _ _ _ _ hC6 h hq)
def fX0_kept_41 (n : Nat) (t0 : Int32) (K : jK) (ci : jI) (cj : jJ) (cr : jR) : Option (jTp Int32) := some (t0, ci, cj, cr)
theorem wX0_kept_41 {g : jG} {d : Nat} {c sl : Nat} {Qr : jQ} {Qx : jX} (n : Nat) (t0 : Int32) (K : jK) (ci : jI) (cj : jJ) (cr : jR) {q} (hC : jCW K cr) (h : fX0_kept_41 n  t0 K ci cj cr = some q) (hq : jqp wI K q Qr) : Ev g (d + 2) mX0_kept 41 [jU, jU, jU] [.int t0] K ci cj cr c sl Qr Qx := by
  unfold fX0_kept_41 at h
  cases h
  exact ev_iret dX0_kept_41 rfl rfl (hq hC)
def fX0_kept_40 (n : Nat) (K : jK) (ci : jI) (cj : jJ) (cr : jR) : Option (jTp Int32) := fX0_kept_41 n  (-1) K ci cj cr
theorem wX0_kept_40 {g : jG} {d : Nat} {c sl : Nat} {Qr : jQ} {Qx : jX} (n : Nat) (K : jK) (ci : jI) (cj : jJ) (cr : jR) {q} (hC : jCW K cr) (h : fX0_kept_40 n   K ci cj cr = some q) (hq : jqp wI K q Qr) : Ev g (d + 2) mX0_kept 40 [jU, jU, jU] [] K ci cj cr c sl Qr Qx := by
  unfold fX0_kept_40 at h
  refine ev_iconst (v := (-1)) dX0_kept_40 jcm1 ?_
  exact wX0_kept_41 n   _ _ _ _ _ hC h hq
def fX0_kept (n : Nat) (a0 : Int32) (a1 : Int32) (K : jK) (ci : jI) (cj : jJ) (cr : jR) : Option (jTp Int32) := jpb (fX0_is n a0 (nI 0) ((ci 16 1) - (nI 1)) K ci cj cr) (fun r1 ci2 cj3 cr4 => if r1 = 0 then fX0_kept_40 n   K ci2 cj3 cr4 else jpb (fX0_is n a1 (nI 0) (nI 2) K ci2 cj3 cr4) (fun r8 ci9 cj10 cr11 => if r8 = 0 then fX0_kept_40 n   K ci9 cj10 cr11 else if jok a0 40 then Option.bind (cr11 (16 + 11) (a0).toNatClampNeg) (fun r16 => if K.1 r16 = 100 ∧ r16 < K.2.2 then if jok a1 (K.2.1 r16) then fX0_kept_41 n  (ci9 r16 (a1).toNatClampNeg) K ci9 cj10 cr11 else none else none) else none))
theorem metX0_kept {g : jG} {d : Nat} {c sl : Nat} {Qr : jQ} {Qx : jX} (n : Nat) (a0 : Int32) (a1 : Int32) (K : jK) (ci : jI) (cj : jJ) (cr : jR) {q} (hC : jCW K cr) (h : fX0_kept n a0 a1 K ci cj cr = some q) (hq : jqp wI K q Qr) : EvM g (d + 2) mX0_kept [.ref 0, .int a0, .int a1] K ci cj cr c sl Qr Qx := by
  unfold fX0_kept at h
  show Ev g (d + 2) mX0_kept 0 [.ref 0, .int a0, .int a1] [] K ci cj cr c sl Qr Qx
  refine ev_iload_n dX0_kept_0 rfl ?_
  refine ev_iconst (v := (nI 0)) dX0_kept_1 jc0 ?_
  refine ev_aload_n dX0_kept_2 rfl ?_
  refine ev_getR dX0_kept_3 fX0_69_0 (ck0 hC) (Or.inl (cl0 hC)) rfl (cq0_9 hC) ?_
  refine ev_getI dX0_kept_6 fX0_192_5 (sk0 hC is16) (Or.inl (sl0 hC is16)) rfl ?_
  refine ev_iconst (v := (nI 1)) dX0_kept_9 jc1 ?_
  refine ev_isub dX0_kept_10 ?_
  obtain ⟨r1, ci2, cj3, cr4, z5, h⟩ := jpb_inv h
  refine ev_zS3 dX0_kept_11 sX0_195 (Nat.le_of_ble_eq_true rfl) (Nat.le_of_ble_eq_true rfl) rfl (metX0_is n _ _ _ _ _ _ _ hC z5 (fun hC6 => ?_))
  show Ev g _ _ 14 _ [.int r1] K ci2 cj3 cr4 _ _ Qr Qx
  refine ev_if_eq 40 dX0_kept_14 rfl (fun z7 => ?_) (fun z7 => ?_)
  · rw [if_pos z7] at h
    exact ev_mask [false, false, false] (wX0_kept_40 n    _ _ _ _ hC6 h hq)
  · rw [if_neg z7] at h
    refine ev_iload_n dX0_kept_17 rfl ?_
    refine ev_iconst (v := (nI 0)) dX0_kept_18 jc0 ?_
    refine ev_iconst (v := (nI 2)) dX0_kept_19 jc2 ?_
    obtain ⟨r8, ci9, cj10, cr11, z12, h⟩ := jpb_inv h
    refine ev_zS3 dX0_kept_20 sX0_195 (Nat.le_of_ble_eq_true rfl) (Nat.le_of_ble_eq_true rfl) rfl (metX0_is n _ _ _ _ _ _ _ hC6 z12 (fun hC13 => ?_))
    show Ev g _ _ 23 _ [.int r8] K ci9 cj10 cr11 _ _ Qr Qx
    refine ev_if_eq 40 dX0_kept_23 rfl (fun z14 => ?_) (fun z14 => ?_)
    · rw [if_pos z14] at h
      exact ev_mask [false, false, false] (wX0_kept_40 n    _ _ _ _ hC13 h hq)
    · rw [if_neg z14] at h
      refine ev_aload_n dX0_kept_26 rfl ?_
      refine ev_getR dX0_kept_27 fX0_69_0 (ck0 hC13) (Or.inl (cl0 hC13)) rfl (cq0_9 hC13) ?_
      refine ev_getR dX0_kept_30 fX0_259_5 (sk0 hC13 is16) (Or.inl (sl0 hC13 is16)) rfl (sr11 hC13 is16) ?_
      refine ev_iload_n dX0_kept_33 rfl ?_
      by_cases z15 : jok a0 40
      rotate_left
      · rw [if_neg z15] at h; cases h
      rw [if_pos z15] at h
      obtain ⟨r16, z17, h⟩ := Option.bind_eq_some_iff.mp h
      refine ev_aaload (t := 6) dX0_kept_34 (sk11 hC13 is16) (by decide) (by decide) (Or.inl (sl11 hC13 is16)) (jok.ix z15 (sn11 hC13 is16)) z17 ?_
      refine ev_iload_n dX0_kept_35 rfl ?_
      by_cases z18 : K.1 r16 = 100 ∧ r16 < K.2.2
      rotate_left
      · rw [if_neg z18] at h; cases h
      rw [if_pos z18] at h
      by_cases z19 : jok a1 (K.2.1 r16)
      rotate_left
      · rw [if_neg z19] at h; cases h
      rw [if_pos z19] at h
      refine ev_iaload dX0_kept_36 z18.1 (Or.inl z18.2) (jok.ix z19 rfl) ?_
      refine ev_goto 41 dX0_kept_37 rfl ?_
      exact ev_mask [false, false, false] (wX0_kept_41 n   _ _ _ _ _ hC13 h hq)
def fX0_isAhead_29 (n : Nat) (t0 : Int32) (K : jK) (ci : jI) (cj : jJ) (cr : jR) : Option (jTp Int32) := if t0 = 0 ∨ t0 = 1 then some (t0, ci, cj, cr) else none
theorem wX0_isAhead_29 {g : jG} {d : Nat} {c sl : Nat} {Qr : jQ} {Qx : jX} (n : Nat) (t0 : Int32) (K : jK) (ci : jI) (cj : jJ) (cr : jR) {q} (hC : jCW K cr) (h : fX0_isAhead_29 n  t0 K ci cj cr = some q) (hq : jqp wI K q Qr) : Ev g (d + 2) mX0_isAhead 29 [jU, jU, jU, jU] [.int t0] K ci cj cr c sl Qr Qx := by
  unfold fX0_isAhead_29 at h
  by_cases z1 : t0 = 0 ∨ t0 = 1
  rotate_left
  · rw [if_neg z1] at h; cases h
  rw [if_pos z1] at h
  cases h
  exact ev_iret dX0_isAhead_29 rfl (jbool z1) (hq hC)
def fX0_isAhead_28 (n : Nat) (K : jK) (ci : jI) (cj : jJ) (cr : jR) : Option (jTp Int32) := fX0_isAhead_29 n  (nI 0) K ci cj cr
theorem wX0_isAhead_28 {g : jG} {d : Nat} {c sl : Nat} {Qr : jQ} {Qx : jX} (n : Nat) (K : jK) (ci : jI) (cj : jJ) (cr : jR) {q} (hC : jCW K cr) (h : fX0_isAhead_28 n   K ci cj cr = some q) (hq : jqp wI K q Qr) : Ev g (d + 2) mX0_isAhead 28 [jU, jU, jU, jU] [] K ci cj cr c sl Qr Qx := by
  unfold fX0_isAhead_28 at h
  refine ev_iconst (v := (nI 0)) dX0_isAhead_28 jc0 ?_
  exact wX0_isAhead_29 n   _ _ _ _ _ hC h hq
def fX0_isAhead (n : Nat) (a0 : Int32) (a1 : Int32) (a2 : Int32) (K : jK) (ci : jI) (cj : jJ) (cr : jR) : Option (jTp Int32) := jpb (fX0_is n a0 a1 a2 K ci cj cr) (fun r1 ci2 cj3 cr4 => if r1 = 0 then fX0_isAhead_28 n   K ci2 cj3 cr4 else if (nI 999) < ((ci2 16 0) + a0) then fX0_isAhead_28 n   K ci2 cj3 cr4 else fX0_isAhead_29 n  (nI 1) K ci2 cj3 cr4)
theorem metX0_isAhead {g : jG} {d : Nat} {c sl : Nat} {Qr : jQ} {Qx : jX} (n : Nat) (a0 : Int32) (a1 : Int32) (a2 : Int32) (K : jK) (ci : jI) (cj : jJ) (cr : jR) {q} (hC : jCW K cr) (h : fX0_isAhead n a0 a1 a2 K ci cj cr = some q) (hq : jqp wI K q Qr) : EvM g (d + 2) mX0_isAhead [.ref 0, .int a0, .int a1, .int a2] K ci cj cr c sl Qr Qx := by
  unfold fX0_isAhead at h
  show Ev g (d + 2) mX0_isAhead 0 [.ref 0, .int a0, .int a1, .int a2] [] K ci cj cr c sl Qr Qx
  refine ev_iload_n dX0_isAhead_0 rfl ?_
  refine ev_iload_n dX0_isAhead_1 rfl ?_
  refine ev_iload_n dX0_isAhead_2 rfl ?_
  obtain ⟨r1, ci2, cj3, cr4, z5, h⟩ := jpb_inv h
  refine ev_zS3 dX0_isAhead_3 sX0_195 (Nat.le_of_ble_eq_true rfl) (Nat.le_of_ble_eq_true rfl) rfl (metX0_is n _ _ _ _ _ _ _ hC z5 (fun hC6 => ?_))
  show Ev g _ _ 6 _ [.int r1] K ci2 cj3 cr4 _ _ Qr Qx
  refine ev_if_eq 28 dX0_isAhead_6 rfl (fun z7 => ?_) (fun z7 => ?_)
  · rw [if_pos z7] at h
    exact ev_mask [false, false, false, false] (wX0_isAhead_28 n    _ _ _ _ hC6 h hq)
  · rw [if_neg z7] at h
    refine ev_aload_n dX0_isAhead_9 rfl ?_
    refine ev_getR dX0_isAhead_10 fX0_69_0 (ck0 hC6) (Or.inl (cl0 hC6)) rfl (cq0_9 hC6) ?_
    refine ev_getI dX0_isAhead_13 fX0_179_5 (sk0 hC6 is16) (Or.inl (sl0 hC6 is16)) rfl ?_
    refine ev_iload_n dX0_isAhead_16 rfl ?_
    refine ev_iadd dX0_isAhead_17 ?_
    refine ev_sipush (v := (nI 999)) dX0_isAhead_18 js999 ?_
    refine ev_icmp_gt 28 dX0_isAhead_21 rfl (fun z8 => ?_) (fun z8 => ?_)
    · rw [if_pos z8] at h
      exact ev_mask [false, false, false, false] (wX0_isAhead_28 n    _ _ _ _ hC6 h hq)
    · rw [if_neg z8] at h
      refine ev_iconst (v := (nI 1)) dX0_isAhead_24 jc1 ?_
      refine ev_goto 29 dX0_isAhead_25 rfl ?_
      exact ev_mask [false, false, false, false] (wX0_isAhead_29 n   _ _ _ _ _ hC6 h hq)
def fX5_copy_153 (n : Nat) (ah : Nat) (a0 : Nat) (rec143 : Int32 → jK → jI → jJ → jR → Option (jTp Nat)) : Nat → Int32 → Int32 → jK → jI → jJ → jR → Option (jTp Nat)
  | 0, _, _, _, _, _, _ => none
  | k + 1, l2, l3, K, ci, cj, cr => if (nI 3) ≤ l3 then rec143 (l2 + (nI 1)) K ci cj cr else if jok l2 40 then Option.bind (cr (ah + 11) (l2).toNatClampNeg) (fun r3 => if jok l2 40 then Option.bind (cr (a0 + 11) (l2).toNatClampNeg) (fun r6 => if K.1 r6 = 100 ∧ r6 < K.2.2 then if jok l3 (K.2.1 r6) then if K.1 r3 = 100 ∧ r3 < K.2.2 then if jok l3 (K.2.1 r3) then fX5_copy_153 n ah a0 rec143 k l2 (l3 + (nI 1)) K (ju ci r3 (l3).toNatClampNeg (ci r6 (l3).toNatClampNeg)) cj cr else none else none else none else none) else none) else none
theorem wX5_copy_153 {g : jG} {d : Nat} {c sl : Nat} {Qr : jQ} {Qx : jX} (n : Nat) (ah : Nat) (a0 : Nat) (hs_ah : isSt ah) (hs_a0 : isSt a0) (rec143 : Int32 → jK → jI → jJ → jR → Option (jTp Nat)) (hrec143 : (∀ (l2 : Int32) (K : jK) (ci : jI) (cj : jJ) (cr : jR) {q}, jCW K cr → rec143 l2 K ci cj cr = some q → jqp wR K q Qr → Ev g (d + 1) mX5_copy 143 [.ref ah, .ref a0, .int l2, jU] [] K ci cj cr c sl Qr Qx)) : ∀ (k : Nat) (l2 : Int32) (l3 : Int32) (K : jK) (ci : jI) (cj : jJ) (cr : jR) {q}, jCW K cr → fX5_copy_153 n ah a0 rec143 k l2 l3 K ci cj cr = some q → jqp wR K q Qr → Ev g (d + 1) mX5_copy 153 [.ref ah, .ref a0, .int l2, .int l3] [] K ci cj cr c sl Qr Qx := by
  intro k
  induction k with
  | zero =>
    intro l2 l3 K ci cj cr q hC h hq
    rw [fX5_copy_153.eq_1] at h; cases h
  | succ k ih =>
    intro l2 l3 K ci cj cr q hC h hq
    rw [fX5_copy_153.eq_2] at h
    refine ev_iload_n dX5_copy_153 rfl ?_
    refine ev_iconst (v := (nI 3)) dX5_copy_154 jc3 ?_
    refine ev_icmp_ge 180 dX5_copy_155 rfl (fun z1 => ?_) (fun z1 => ?_)
    · rw [if_pos z1] at h
      refine ev_iinc (v := (l2 + (nI 1))) (L' := [_, _, _, _]) dX5_copy_180 rfl (by rw [ji_1]) (by decide) rfl ?_
      refine ev_goto 143 dX5_copy_183 rfl ?_
      exact ev_mask [true, true, true, false] (hrec143 _ _ _ _ _ hC h hq)
    · rw [if_neg z1] at h
      refine ev_aload_n dX5_copy_158 rfl ?_
      refine ev_getR dX5_copy_159 fX5_48_5 (sk0 hC hs_ah) (Or.inl (sl0 hC hs_ah)) rfl (sr11 hC hs_ah) ?_
      refine ev_iload_n dX5_copy_162 rfl ?_
      by_cases z2 : jok l2 40
      rotate_left
      · rw [if_neg z2] at h; cases h
      rw [if_pos z2] at h
      obtain ⟨r3, z4, h⟩ := Option.bind_eq_some_iff.mp h
      refine ev_aaload (t := 6) dX5_copy_163 (sk11 hC hs_ah) (by decide) (by decide) (Or.inl (sl11 hC hs_ah)) (jok.ix z2 (sn11 hC hs_ah)) z4 ?_
      refine ev_iload_n dX5_copy_164 rfl ?_
      refine ev_aload_n dX5_copy_165 rfl ?_
      refine ev_getR dX5_copy_166 fX5_48_5 (sk0 hC hs_a0) (Or.inl (sl0 hC hs_a0)) rfl (sr11 hC hs_a0) ?_
      refine ev_iload_n dX5_copy_169 rfl ?_
      by_cases z5 : jok l2 40
      rotate_left
      · rw [if_neg z5] at h; cases h
      rw [if_pos z5] at h
      obtain ⟨r6, z7, h⟩ := Option.bind_eq_some_iff.mp h
      refine ev_aaload (t := 6) dX5_copy_170 (sk11 hC hs_a0) (by decide) (by decide) (Or.inl (sl11 hC hs_a0)) (jok.ix z5 (sn11 hC hs_a0)) z7 ?_
      refine ev_iload_n dX5_copy_171 rfl ?_
      by_cases z8 : K.1 r6 = 100 ∧ r6 < K.2.2
      rotate_left
      · rw [if_neg z8] at h; cases h
      rw [if_pos z8] at h
      by_cases z9 : jok l3 (K.2.1 r6)
      rotate_left
      · rw [if_neg z9] at h; cases h
      rw [if_pos z9] at h
      refine ev_iaload dX5_copy_172 z8.1 (Or.inl z8.2) (jok.ix z9 rfl) ?_
      by_cases z10 : K.1 r3 = 100 ∧ r3 < K.2.2
      rotate_left
      · rw [if_neg z10] at h; cases h
      rw [if_pos z10] at h
      by_cases z11 : jok l3 (K.2.1 r3)
      rotate_left
      · rw [if_neg z11] at h; cases h
      rw [if_pos z11] at h
      refine ev_iastore dX5_copy_173 z10.1 z10.2 (jok.ix z11 rfl) ?_
      refine ev_iinc (v := (l3 + (nI 1))) (L' := [_, _, _, _]) dX5_copy_174 rfl (by rw [ji_1]) (by decide) rfl ?_
      refine ev_goto 153 dX5_copy_177 rfl ?_
      exact ih _ _ _ _ _ _ hC h hq
def fX5_copy_143 (n : Nat) (ah : Nat) (a0 : Nat) : Nat → Int32 → jK → jI → jJ → jR → Option (jTp Nat)
  | 0, _, _, _, _, _ => none
  | k + 1, l2, K, ci, cj, cr => if (ci ah 1) ≤ l2 then some (ah, ci, cj, cr) else fX5_copy_153 n ah a0 (fX5_copy_143 n ah a0  k) n l2 (nI 0) K ci cj cr
theorem wX5_copy_143 {g : jG} {d : Nat} {c sl : Nat} {Qr : jQ} {Qx : jX} (n : Nat) (ah : Nat) (a0 : Nat) (hs_ah : isSt ah) (hs_a0 : isSt a0) : ∀ (k : Nat) (l2 : Int32) (K : jK) (ci : jI) (cj : jJ) (cr : jR) {q}, jCW K cr → fX5_copy_143 n ah a0  k l2 K ci cj cr = some q → jqp wR K q Qr → Ev g (d + 1) mX5_copy 143 [.ref ah, .ref a0, .int l2, jU] [] K ci cj cr c sl Qr Qx := by
  intro k
  induction k with
  | zero =>
    intro l2 K ci cj cr q hC h hq
    rw [fX5_copy_143.eq_1] at h; cases h
  | succ k ih =>
    intro l2 K ci cj cr q hC h hq
    rw [fX5_copy_143.eq_2] at h
    refine ev_iload_n dX5_copy_143 rfl ?_
    refine ev_aload_n dX5_copy_144 rfl ?_
    refine ev_getI dX5_copy_145 fX5_55_5 (sk0 hC hs_ah) (Or.inl (sl0 hC hs_ah)) rfl ?_
    refine ev_icmp_ge 186 dX5_copy_148 rfl (fun z1 => ?_) (fun z1 => ?_)
    · rw [if_pos z1] at h
      refine ev_aload_n dX5_copy_186 rfl ?_
      cases h
      exact ev_aret dX5_copy_187 rfl rfl (hq hC)
    · rw [if_neg z1] at h
      refine ev_iconst (v := (nI 0)) dX5_copy_151 jc0 ?_
      refine ev_istore_n (L' := [_, _, _, _]) dX5_copy_152 (by decide) rfl ?_
      exact wX5_copy_153 n _ _ hs_ah hs_a0 _ (ih) n _ _ _ _ _ _ hC h hq
def fX5_copy_105 (n : Nat) (ah : Nat) (a0 : Nat) : Nat → Int32 → jK → jI → jJ → jR → Option (jTp Nat)
  | 0, _, _, _, _, _ => none
  | k + 1, l2, K, ci, cj, cr => if (nI 10) ≤ l2 then fX5_copy_143 n ah a0  n (nI 0) K ci cj cr else if jok l2 10 then if jok l2 10 then if jok l2 10 then if jok l2 10 then fX5_copy_105 n ah a0  k (l2 + (nI 1)) K (ju (ju ci (ah + 8) (l2).toNatClampNeg (ci (a0 + 8) (l2).toNatClampNeg)) (ah + 10) (l2).toNatClampNeg ((ju ci (ah + 8) (l2).toNatClampNeg (ci (a0 + 8) (l2).toNatClampNeg)) (a0 + 10) (l2).toNatClampNeg)) cj cr else none else none else none else none
theorem wX5_copy_105 {g : jG} {d : Nat} {c sl : Nat} {Qr : jQ} {Qx : jX} (n : Nat) (ah : Nat) (a0 : Nat) (hs_ah : isSt ah) (hs_a0 : isSt a0) : ∀ (k : Nat) (l2 : Int32) (K : jK) (ci : jI) (cj : jJ) (cr : jR) {q}, jCW K cr → fX5_copy_105 n ah a0  k l2 K ci cj cr = some q → jqp wR K q Qr → Ev g (d + 1) mX5_copy 105 [.ref ah, .ref a0, .int l2, jU] [] K ci cj cr c sl Qr Qx := by
  intro k
  induction k with
  | zero =>
    intro l2 K ci cj cr q hC h hq
    rw [fX5_copy_105.eq_1] at h; cases h
  | succ k ih =>
    intro l2 K ci cj cr q hC h hq
    rw [fX5_copy_105.eq_2] at h
    refine ev_iload_n dX5_copy_105 rfl ?_
    refine ev_bipush (v := (nI 10)) dX5_copy_106 jb10 ?_
    refine ev_icmp_ge 141 dX5_copy_108 rfl (fun z1 => ?_) (fun z1 => ?_)
    · rw [if_pos z1] at h
      refine ev_iconst (v := (nI 0)) dX5_copy_141 jc0 ?_
      refine ev_istore_n (L' := [_, _, _, _]) dX5_copy_142 (by decide) rfl ?_
      exact wX5_copy_143 n _ _ hs_ah hs_a0   n _ _ _ _ _ hC h hq
    · rw [if_neg z1] at h
      refine ev_aload_n dX5_copy_111 rfl ?_
      refine ev_getR dX5_copy_112 fX5_37_5 (sk0 hC hs_ah) (Or.inl (sl0 hC hs_ah)) rfl (sr8 hC hs_ah) ?_
      refine ev_iload_n dX5_copy_115 rfl ?_
      refine ev_aload_n dX5_copy_116 rfl ?_
      refine ev_getR dX5_copy_117 fX5_37_5 (sk0 hC hs_a0) (Or.inl (sl0 hC hs_a0)) rfl (sr8 hC hs_a0) ?_
      refine ev_iload_n dX5_copy_120 rfl ?_
      by_cases z2 : jok l2 10
      rotate_left
      · rw [if_neg z2] at h; cases h
      rw [if_pos z2] at h
      refine ev_iaload dX5_copy_121 (sk8 hC hs_a0) (Or.inl (sl8 hC hs_a0)) (jok.ix z2 (sn8 hC hs_a0)) ?_
      by_cases z3 : jok l2 10
      rotate_left
      · rw [if_neg z3] at h; cases h
      rw [if_pos z3] at h
      refine ev_iastore dX5_copy_122 (sk8 hC hs_ah) (sl8 hC hs_ah) (jok.ix z3 (sn8 hC hs_ah)) ?_
      refine ev_aload_n dX5_copy_123 rfl ?_
      refine ev_getR dX5_copy_124 fX5_43_5 (sk0 hC hs_ah) (Or.inl (sl0 hC hs_ah)) rfl (sr10 hC hs_ah) ?_
      refine ev_iload_n dX5_copy_127 rfl ?_
      refine ev_aload_n dX5_copy_128 rfl ?_
      refine ev_getR dX5_copy_129 fX5_43_5 (sk0 hC hs_a0) (Or.inl (sl0 hC hs_a0)) rfl (sr10 hC hs_a0) ?_
      refine ev_iload_n dX5_copy_132 rfl ?_
      by_cases z4 : jok l2 10
      rotate_left
      · rw [if_neg z4] at h; cases h
      rw [if_pos z4] at h
      refine ev_iaload dX5_copy_133 (sk10 hC hs_a0) (Or.inl (sl10 hC hs_a0)) (jok.ix z4 (sn10 hC hs_a0)) ?_
      by_cases z5 : jok l2 10
      rotate_left
      · rw [if_neg z5] at h; cases h
      rw [if_pos z5] at h
      refine ev_iastore dX5_copy_134 (sk10 hC hs_ah) (sl10 hC hs_ah) (jok.ix z5 (sn10 hC hs_ah)) ?_
      refine ev_iinc (v := (l2 + (nI 1))) (L' := [_, _, _, _]) dX5_copy_135 rfl (by rw [ji_1]) (by decide) rfl ?_
      refine ev_goto 105 dX5_copy_138 rfl ?_
      exact ih _ _ _ _ _ hC h hq
def fX5_copy_55 (n : Nat) (ah : Nat) (a0 : Nat) : Nat → Int32 → jK → jI → jJ → jR → Option (jTp Nat)
  | 0, _, _, _, _, _ => none
  | k + 1, l2, K, ci, cj, cr => if (nI 6) ≤ l2 then fX5_copy_105 n ah a0  n (nI 0) K ci cj cr else if jok l2 6 then if jok l2 6 then if jok l2 6 then if jok l2 6 then if jok l2 6 then if jok l2 6 then fX5_copy_55 n ah a0  k (l2 + (nI 1)) K (ju (ju (ju ci (ah + 4) (l2).toNatClampNeg (ci (a0 + 4) (l2).toNatClampNeg)) (ah + 5) (l2).toNatClampNeg ((ju ci (ah + 4) (l2).toNatClampNeg (ci (a0 + 4) (l2).toNatClampNeg)) (a0 + 5) (l2).toNatClampNeg)) (ah + 6) (l2).toNatClampNeg ((ju (ju ci (ah + 4) (l2).toNatClampNeg (ci (a0 + 4) (l2).toNatClampNeg)) (ah + 5) (l2).toNatClampNeg ((ju ci (ah + 4) (l2).toNatClampNeg (ci (a0 + 4) (l2).toNatClampNeg)) (a0 + 5) (l2).toNatClampNeg)) (a0 + 6) (l2).toNatClampNeg)) cj cr else none else none else none else none else none else none
theorem wX5_copy_55 {g : jG} {d : Nat} {c sl : Nat} {Qr : jQ} {Qx : jX} (n : Nat) (ah : Nat) (a0 : Nat) (hs_ah : isSt ah) (hs_a0 : isSt a0) : ∀ (k : Nat) (l2 : Int32) (K : jK) (ci : jI) (cj : jJ) (cr : jR) {q}, jCW K cr → fX5_copy_55 n ah a0  k l2 K ci cj cr = some q → jqp wR K q Qr → Ev g (d + 1) mX5_copy 55 [.ref ah, .ref a0, .int l2, jU] [] K ci cj cr c sl Qr Qx := by
  intro k
  induction k with
  | zero =>
    intro l2 K ci cj cr q hC h hq
    rw [fX5_copy_55.eq_1] at h; cases h
  | succ k ih =>
    intro l2 K ci cj cr q hC h hq
    rw [fX5_copy_55.eq_2] at h
    refine ev_iload_n dX5_copy_55 rfl ?_
    refine ev_bipush (v := (nI 6)) dX5_copy_56 jb6 ?_
    refine ev_icmp_ge 103 dX5_copy_58 rfl (fun z1 => ?_) (fun z1 => ?_)
    · rw [if_pos z1] at h
      refine ev_iconst (v := (nI 0)) dX5_copy_103 jc0 ?_
      refine ev_istore_n (L' := [_, _, _, _]) dX5_copy_104 (by decide) rfl ?_
      exact wX5_copy_105 n _ _ hs_ah hs_a0   n _ _ _ _ _ hC h hq
    · rw [if_neg z1] at h
      refine ev_aload_n dX5_copy_61 rfl ?_
      refine ev_getR dX5_copy_62 fX5_25_5 (sk0 hC hs_ah) (Or.inl (sl0 hC hs_ah)) rfl (sr4 hC hs_ah) ?_
      refine ev_iload_n dX5_copy_65 rfl ?_
      refine ev_aload_n dX5_copy_66 rfl ?_
      refine ev_getR dX5_copy_67 fX5_25_5 (sk0 hC hs_a0) (Or.inl (sl0 hC hs_a0)) rfl (sr4 hC hs_a0) ?_
      refine ev_iload_n dX5_copy_70 rfl ?_
      by_cases z2 : jok l2 6
      rotate_left
      · rw [if_neg z2] at h; cases h
      rw [if_pos z2] at h
      refine ev_iaload dX5_copy_71 (sk4 hC hs_a0) (Or.inl (sl4 hC hs_a0)) (jok.ix z2 (sn4 hC hs_a0)) ?_
      by_cases z3 : jok l2 6
      rotate_left
      · rw [if_neg z3] at h; cases h
      rw [if_pos z3] at h
      refine ev_iastore dX5_copy_72 (sk4 hC hs_ah) (sl4 hC hs_ah) (jok.ix z3 (sn4 hC hs_ah)) ?_
      refine ev_aload_n dX5_copy_73 rfl ?_
      refine ev_getR dX5_copy_74 fX5_28_5 (sk0 hC hs_ah) (Or.inl (sl0 hC hs_ah)) rfl (sr5 hC hs_ah) ?_
      refine ev_iload_n dX5_copy_77 rfl ?_
      refine ev_aload_n dX5_copy_78 rfl ?_
      refine ev_getR dX5_copy_79 fX5_28_5 (sk0 hC hs_a0) (Or.inl (sl0 hC hs_a0)) rfl (sr5 hC hs_a0) ?_
      refine ev_iload_n dX5_copy_82 rfl ?_
      by_cases z4 : jok l2 6
      rotate_left
      · rw [if_neg z4] at h; cases h
      rw [if_pos z4] at h
      refine ev_iaload dX5_copy_83 (sk5 hC hs_a0) (Or.inl (sl5 hC hs_a0)) (jok.ix z4 (sn5 hC hs_a0)) ?_
      by_cases z5 : jok l2 6
      rotate_left
      · rw [if_neg z5] at h; cases h
      rw [if_pos z5] at h
      refine ev_iastore dX5_copy_84 (sk5 hC hs_ah) (sl5 hC hs_ah) (jok.ix z5 (sn5 hC hs_ah)) ?_
      refine ev_aload_n dX5_copy_85 rfl ?_
      refine ev_getR dX5_copy_86 fX5_31_5 (sk0 hC hs_ah) (Or.inl (sl0 hC hs_ah)) rfl (sr6 hC hs_ah) ?_
      refine ev_iload_n dX5_copy_89 rfl ?_
      refine ev_aload_n dX5_copy_90 rfl ?_
      refine ev_getR dX5_copy_91 fX5_31_5 (sk0 hC hs_a0) (Or.inl (sl0 hC hs_a0)) rfl (sr6 hC hs_a0) ?_
      refine ev_iload_n dX5_copy_94 rfl ?_
      by_cases z6 : jok l2 6
      rotate_left
      · rw [if_neg z6] at h; cases h
      rw [if_pos z6] at h
      refine ev_iaload dX5_copy_95 (sk6 hC hs_a0) (Or.inl (sl6 hC hs_a0)) (jok.ix z6 (sn6 hC hs_a0)) ?_
      by_cases z7 : jok l2 6
      rotate_left
      · rw [if_neg z7] at h; cases h
      rw [if_pos z7] at h
      refine ev_iastore dX5_copy_96 (sk6 hC hs_ah) (sl6 hC hs_ah) (jok.ix z7 (sn6 hC hs_ah)) ?_
      refine ev_iinc (v := (l2 + (nI 1))) (L' := [_, _, _, _]) dX5_copy_97 rfl (by rw [ji_1]) (by decide) rfl ?_
      refine ev_goto 55 dX5_copy_100 rfl ?_
      exact ih _ _ _ _ _ hC h hq
def fX5_copy_18 (n : Nat) (ah : Nat) (a0 : Nat) : Nat → Int32 → jK → jI → jJ → jR → Option (jTp Nat)
  | 0, _, _, _, _, _ => none
  | k + 1, l2, K, ci, cj, cr => if (nI 3) ≤ l2 then fX5_copy_55 n ah a0  n (nI 0) K ci cj cr else if jok l2 3 then if jok l2 3 then if jok l2 3 then if jok l2 3 then fX5_copy_18 n ah a0  k (l2 + (nI 1)) K (ju (ju ci (ah + 1) (l2).toNatClampNeg (ci (a0 + 1) (l2).toNatClampNeg)) (ah + 2) (l2).toNatClampNeg ((ju ci (ah + 1) (l2).toNatClampNeg (ci (a0 + 1) (l2).toNatClampNeg)) (a0 + 2) (l2).toNatClampNeg)) cj cr else none else none else none else none
theorem wX5_copy_18 {g : jG} {d : Nat} {c sl : Nat} {Qr : jQ} {Qx : jX} (n : Nat) (ah : Nat) (a0 : Nat) (hs_ah : isSt ah) (hs_a0 : isSt a0) : ∀ (k : Nat) (l2 : Int32) (K : jK) (ci : jI) (cj : jJ) (cr : jR) {q}, jCW K cr → fX5_copy_18 n ah a0  k l2 K ci cj cr = some q → jqp wR K q Qr → Ev g (d + 1) mX5_copy 18 [.ref ah, .ref a0, .int l2, jU] [] K ci cj cr c sl Qr Qx := by
  intro k
  induction k with
  | zero =>
    intro l2 K ci cj cr q hC h hq
    rw [fX5_copy_18.eq_1] at h; cases h
  | succ k ih =>
    intro l2 K ci cj cr q hC h hq
    rw [fX5_copy_18.eq_2] at h
    refine ev_iload_n dX5_copy_18 rfl ?_
    refine ev_iconst (v := (nI 3)) dX5_copy_19 jc3 ?_
    refine ev_icmp_ge 53 dX5_copy_20 rfl (fun z1 => ?_) (fun z1 => ?_)
    · rw [if_pos z1] at h
      refine ev_iconst (v := (nI 0)) dX5_copy_53 jc0 ?_
      refine ev_istore_n (L' := [_, _, _, _]) dX5_copy_54 (by decide) rfl ?_
      exact wX5_copy_55 n _ _ hs_ah hs_a0   n _ _ _ _ _ hC h hq
    · rw [if_neg z1] at h
      refine ev_aload_n dX5_copy_23 rfl ?_
      refine ev_getR dX5_copy_24 fX5_15_5 (sk0 hC hs_ah) (Or.inl (sl0 hC hs_ah)) rfl (sr1 hC hs_ah) ?_
      refine ev_iload_n dX5_copy_27 rfl ?_
      refine ev_aload_n dX5_copy_28 rfl ?_
      refine ev_getR dX5_copy_29 fX5_15_5 (sk0 hC hs_a0) (Or.inl (sl0 hC hs_a0)) rfl (sr1 hC hs_a0) ?_
      refine ev_iload_n dX5_copy_32 rfl ?_
      by_cases z2 : jok l2 3
      rotate_left
      · rw [if_neg z2] at h; cases h
      rw [if_pos z2] at h
      refine ev_iaload dX5_copy_33 (sk1 hC hs_a0) (Or.inl (sl1 hC hs_a0)) (jok.ix z2 (sn1 hC hs_a0)) ?_
      by_cases z3 : jok l2 3
      rotate_left
      · rw [if_neg z3] at h; cases h
      rw [if_pos z3] at h
      refine ev_iastore dX5_copy_34 (sk1 hC hs_ah) (sl1 hC hs_ah) (jok.ix z3 (sn1 hC hs_ah)) ?_
      refine ev_aload_n dX5_copy_35 rfl ?_
      refine ev_getR dX5_copy_36 fX5_19_5 (sk0 hC hs_ah) (Or.inl (sl0 hC hs_ah)) rfl (sr2 hC hs_ah) ?_
      refine ev_iload_n dX5_copy_39 rfl ?_
      refine ev_aload_n dX5_copy_40 rfl ?_
      refine ev_getR dX5_copy_41 fX5_19_5 (sk0 hC hs_a0) (Or.inl (sl0 hC hs_a0)) rfl (sr2 hC hs_a0) ?_
      refine ev_iload_n dX5_copy_44 rfl ?_
      by_cases z4 : jok l2 3
      rotate_left
      · rw [if_neg z4] at h; cases h
      rw [if_pos z4] at h
      refine ev_iaload dX5_copy_45 (sk2 hC hs_a0) (Or.inl (sl2 hC hs_a0)) (jok.ix z4 (sn2 hC hs_a0)) ?_
      by_cases z5 : jok l2 3
      rotate_left
      · rw [if_neg z5] at h; cases h
      rw [if_pos z5] at h
      refine ev_iastore dX5_copy_46 (sk2 hC hs_ah) (sl2 hC hs_ah) (jok.ix z5 (sn2 hC hs_ah)) ?_
      refine ev_iinc (v := (l2 + (nI 1))) (L' := [_, _, _, _]) dX5_copy_47 rfl (by rw [ji_1]) (by decide) rfl ?_
      refine ev_goto 18 dX5_copy_50 rfl ?_
      exact ih _ _ _ _ _ hC h hq
def fX5_copy (n : Nat) (ah : Nat) (a0 : Nat) (K : jK) (ci : jI) (cj : jJ) (cr : jR) : Option (jTp Nat) := if isSt ah then if isSt a0 then fX5_copy_18 n ah a0  n (nI 0) K (ju (ju ci ah 0 (ci a0 0)) ah 1 ((ju ci ah 0 (ci a0 0)) a0 1)) cj cr else none else none
theorem metX5_copy {g : jG} {d : Nat} {c sl : Nat} {Qr : jQ} {Qx : jX} (n : Nat) (ah : Nat) (a0 : Nat) (K : jK) (ci : jI) (cj : jJ) (cr : jR) {q} (hC : jCW K cr) (h : fX5_copy n ah a0 K ci cj cr = some q) (hq : jqp wR K q Qr) : EvM g (d + 1) mX5_copy [.ref ah, .ref a0] K ci cj cr c sl Qr Qx := by
  unfold fX5_copy at h
  show Ev g (d + 1) mX5_copy 0 [.ref ah, .ref a0, jU, jU] [] K ci cj cr c sl Qr Qx
  by_cases hs_ah : isSt ah
  rotate_left
  · rw [if_neg hs_ah] at h; cases h
  rw [if_pos hs_ah] at h
  by_cases hs_a0 : isSt a0
  rotate_left
  · rw [if_neg hs_a0] at h; cases h
  rw [if_pos hs_a0] at h
  refine ev_aload_n dX5_copy_0 rfl ?_
  refine ev_aload_n dX5_copy_1 rfl ?_
  refine ev_getI dX5_copy_2 fX5_51_5 (sk0 hC hs_a0) (Or.inl (sl0 hC hs_a0)) rfl ?_
  refine ev_putI dX5_copy_5 (pX5_51_5 _) (sk0 hC hs_ah) (sl0 hC hs_ah) rfl rfl rfl ?_
  refine ev_aload_n dX5_copy_8 rfl ?_
  refine ev_aload_n dX5_copy_9 rfl ?_
  refine ev_getI dX5_copy_10 fX5_55_5 (sk0 hC hs_a0) (Or.inl (sl0 hC hs_a0)) rfl ?_
  refine ev_putI dX5_copy_13 (pX5_55_5 _) (sk0 hC hs_ah) (sl0 hC hs_ah) rfl rfl rfl ?_
  refine ev_iconst (v := (nI 0)) dX5_copy_16 jc0 ?_
  refine ev_istore_n (L' := [_, _, _, _]) dX5_copy_17 (by decide) rfl ?_
  exact wX5_copy_18 n _ _ hs_ah hs_a0   n _ _ _ _ _ hC h hq
def fX5_tellsOf_66 (n : Nat) (ah : Nat) (l1 : Int32) (l2 : Int32) (K : jK) (ci : jI) (cj : jJ) (cr : jR) : Option (jTp Unit) := if jok (ci ah 1) 40 then Option.bind (cr (ah + 11) ((ci ah 1)).toNatClampNeg) (fun r2 => if K.1 r2 = 100 ∧ r2 < K.2.2 then if jok (nI 0) (K.2.1 r2) then if jok ((ju ci r2 ((nI 0)).toNatClampNeg (ci ah 0)) ah 1) 40 then Option.bind (cr (ah + 11) (((ju ci r2 ((nI 0)).toNatClampNeg (ci ah 0)) ah 1)).toNatClampNeg) (fun r7 => if K.1 r7 = 100 ∧ r7 < K.2.2 then if jok (nI 1) (K.2.1 r7) then if jok ((ju (ju ci r2 ((nI 0)).toNatClampNeg (ci ah 0)) r7 ((nI 1)).toNatClampNeg l1) ah 1) 40 then Option.bind (cr (ah + 11) (((ju (ju ci r2 ((nI 0)).toNatClampNeg (ci ah 0)) r7 ((nI 1)).toNatClampNeg l1) ah 1)).toNatClampNeg) (fun r12 => if K.1 r12 = 100 ∧ r12 < K.2.2 then if jok (nI 2) (K.2.1 r12) then some ((), (ju (ju (ju (ju ci r2 ((nI 0)).toNatClampNeg (ci ah 0)) r7 ((nI 1)).toNatClampNeg l1) r12 ((nI 2)).toNatClampNeg l2) ah 1 (((ju (ju (ju ci r2 ((nI 0)).toNatClampNeg (ci ah 0)) r7 ((nI 1)).toNatClampNeg l1) r12 ((nI 2)).toNatClampNeg l2) ah 1) + (nI 1))), cj, cr) else none else none) else none else none else none) else none else none else none) else none
theorem wX5_tellsOf_66 {g : jG} {d : Nat} {c sl : Nat} {Qr : jQ} {Qx : jX} (n : Nat) (ah : Nat) (hs_ah : isSt ah) (l1 : Int32) (l2 : Int32) (K : jK) (ci : jI) (cj : jJ) (cr : jR) {q} (hC : jCW K cr) (h : fX5_tellsOf_66 n ah  l1 l2 K ci cj cr = some q) (hq : jqp wV K q Qr) : Ev g (d + 1) mX5_tellsOf 66 [.ref ah, .int l1, .int l2, jU, jU] [] K ci cj cr c sl Qr Qx := by
  unfold fX5_tellsOf_66 at h
  refine ev_aload_n dX5_tellsOf_66 rfl ?_
  refine ev_getR dX5_tellsOf_67 fX5_48_5 (sk0 hC hs_ah) (Or.inl (sl0 hC hs_ah)) rfl (sr11 hC hs_ah) ?_
  refine ev_aload_n dX5_tellsOf_70 rfl ?_
  refine ev_getI dX5_tellsOf_71 fX5_55_5 (sk0 hC hs_ah) (Or.inl (sl0 hC hs_ah)) rfl ?_
  by_cases z1 : jok (ci ah 1) 40
  rotate_left
  · rw [if_neg z1] at h; cases h
  rw [if_pos z1] at h
  obtain ⟨r2, z3, h⟩ := Option.bind_eq_some_iff.mp h
  refine ev_aaload (t := 6) dX5_tellsOf_74 (sk11 hC hs_ah) (by decide) (by decide) (Or.inl (sl11 hC hs_ah)) (jok.ix z1 (sn11 hC hs_ah)) z3 ?_
  refine ev_iconst (v := (nI 0)) dX5_tellsOf_75 jc0 ?_
  refine ev_aload_n dX5_tellsOf_76 rfl ?_
  refine ev_getI dX5_tellsOf_77 fX5_51_5 (sk0 hC hs_ah) (Or.inl (sl0 hC hs_ah)) rfl ?_
  by_cases z4 : K.1 r2 = 100 ∧ r2 < K.2.2
  rotate_left
  · rw [if_neg z4] at h; cases h
  rw [if_pos z4] at h
  by_cases z5 : jok (nI 0) (K.2.1 r2)
  rotate_left
  · rw [if_neg z5] at h; cases h
  rw [if_pos z5] at h
  refine ev_iastore dX5_tellsOf_80 z4.1 z4.2 (jok.ix z5 rfl) ?_
  refine ev_aload_n dX5_tellsOf_81 rfl ?_
  refine ev_getR dX5_tellsOf_82 fX5_48_5 (sk0 hC hs_ah) (Or.inl (sl0 hC hs_ah)) rfl (sr11 hC hs_ah) ?_
  refine ev_aload_n dX5_tellsOf_85 rfl ?_
  refine ev_getI dX5_tellsOf_86 fX5_55_5 (sk0 hC hs_ah) (Or.inl (sl0 hC hs_ah)) rfl ?_
  by_cases z6 : jok ((ju ci r2 ((nI 0)).toNatClampNeg (ci ah 0)) ah 1) 40
  rotate_left
  · rw [if_neg z6] at h; cases h
  rw [if_pos z6] at h
  obtain ⟨r7, z8, h⟩ := Option.bind_eq_some_iff.mp h
  refine ev_aaload (t := 6) dX5_tellsOf_89 (sk11 hC hs_ah) (by decide) (by decide) (Or.inl (sl11 hC hs_ah)) (jok.ix z6 (sn11 hC hs_ah)) z8 ?_
  refine ev_iconst (v := (nI 1)) dX5_tellsOf_90 jc1 ?_
  refine ev_iload_n dX5_tellsOf_91 rfl ?_
  by_cases z9 : K.1 r7 = 100 ∧ r7 < K.2.2
  rotate_left
  · rw [if_neg z9] at h; cases h
  rw [if_pos z9] at h
  by_cases z10 : jok (nI 1) (K.2.1 r7)
  rotate_left
  · rw [if_neg z10] at h; cases h
  rw [if_pos z10] at h
  refine ev_iastore dX5_tellsOf_92 z9.1 z9.2 (jok.ix z10 rfl) ?_
  refine ev_aload_n dX5_tellsOf_93 rfl ?_
  refine ev_getR dX5_tellsOf_94 fX5_48_5 (sk0 hC hs_ah) (Or.inl (sl0 hC hs_ah)) rfl (sr11 hC hs_ah) ?_
  refine ev_aload_n dX5_tellsOf_97 rfl ?_
  refine ev_getI dX5_tellsOf_98 fX5_55_5 (sk0 hC hs_ah) (Or.inl (sl0 hC hs_ah)) rfl ?_
  by_cases z11 : jok ((ju (ju ci r2 ((nI 0)).toNatClampNeg (ci ah 0)) r7 ((nI 1)).toNatClampNeg l1) ah 1) 40
  rotate_left
  · rw [if_neg z11] at h; cases h
  rw [if_pos z11] at h
  obtain ⟨r12, z13, h⟩ := Option.bind_eq_some_iff.mp h
  refine ev_aaload (t := 6) dX5_tellsOf_101 (sk11 hC hs_ah) (by decide) (by decide) (Or.inl (sl11 hC hs_ah)) (jok.ix z11 (sn11 hC hs_ah)) z13 ?_
  refine ev_iconst (v := (nI 2)) dX5_tellsOf_102 jc2 ?_
  refine ev_iload_n dX5_tellsOf_103 rfl ?_
  by_cases z14 : K.1 r12 = 100 ∧ r12 < K.2.2
  rotate_left
  · rw [if_neg z14] at h; cases h
  rw [if_pos z14] at h
  by_cases z15 : jok (nI 2) (K.2.1 r12)
  rotate_left
  · rw [if_neg z15] at h; cases h
  rw [if_pos z15] at h
  refine ev_iastore dX5_tellsOf_104 z14.1 z14.2 (jok.ix z15 rfl) ?_
  refine ev_aload_n dX5_tellsOf_105 rfl ?_
  refine ev_dup dX5_tellsOf_106 rfl ?_
  refine ev_getI dX5_tellsOf_107 fX5_55_5 (sk0 hC hs_ah) (Or.inl (sl0 hC hs_ah)) rfl ?_
  refine ev_iconst (v := (nI 1)) dX5_tellsOf_110 jc1 ?_
  refine ev_iadd dX5_tellsOf_111 ?_
  refine ev_putI dX5_tellsOf_112 (pX5_55_5 _) (sk0 hC hs_ah) (sl0 hC hs_ah) rfl rfl rfl ?_
  cases h
  exact ev_ret dX5_tellsOf_115 rfl (hq hC)
def fX5_tellsOf_19 (n : Nat) (ah : Nat) : Nat → Int32 → Int32 → Nat → Int32 → jK → jI → jJ → jR → Option (jTp Unit)
  | 0, _, _, _, _, _, _, _, _ => none
  | k + 1, l1, l2, l3, l4, K, ci, cj, cr => if (nI 40) ≤ l4 then if jok (nI 39) 40 then if K.1 l3 = 100 ∧ l3 < K.2.2 then fX5_tellsOf_66 n ah  l1 l2 K (ju ci ah 1 ((ci ah 1) - (nI 1))) cj (ju cr (ah + 11) ((nI 39)).toNatClampNeg (some l3)) else none else none else if jok l4 40 then Option.bind (cr (ah + 11) (l4).toNatClampNeg) (fun r6 => if jok (l4 - (nI 1)) 40 then if K.1 r6 = 100 ∧ r6 < K.2.2 then fX5_tellsOf_19 n ah  k l1 l2 l3 (l4 + (nI 1)) K ci cj (ju cr (ah + 11) ((l4 - (nI 1))).toNatClampNeg (some r6)) else none else none) else none
theorem wX5_tellsOf_19 {g : jG} {d : Nat} {c sl : Nat} {Qr : jQ} {Qx : jX} (n : Nat) (ah : Nat) (hs_ah : isSt ah) : ∀ (k : Nat) (l1 : Int32) (l2 : Int32) (l3 : Nat) (l4 : Int32) (K : jK) (ci : jI) (cj : jJ) (cr : jR) {q}, jCW K cr → fX5_tellsOf_19 n ah  k l1 l2 l3 l4 K ci cj cr = some q → jqp wV K q Qr → Ev g (d + 1) mX5_tellsOf 19 [.ref ah, .int l1, .int l2, .ref l3, .int l4] [] K ci cj cr c sl Qr Qx := by
  intro k
  induction k with
  | zero =>
    intro l1 l2 l3 l4 K ci cj cr q hC h hq
    rw [fX5_tellsOf_19.eq_1] at h; cases h
  | succ k ih =>
    intro l1 l2 l3 l4 K ci cj cr q hC h hq
    rw [fX5_tellsOf_19.eq_2] at h
    refine ev_iload dX5_tellsOf_19 rfl ?_
    refine ev_bipush (v := (nI 40)) dX5_tellsOf_21 jb40 ?_
    refine ev_icmp_ge 48 dX5_tellsOf_23 rfl (fun z1 => ?_) (fun z1 => ?_)
    · rw [if_pos z1] at h
      refine ev_aload_n dX5_tellsOf_48 rfl ?_
      refine ev_getR dX5_tellsOf_49 fX5_48_5 (sk0 hC hs_ah) (Or.inl (sl0 hC hs_ah)) rfl (sr11 hC hs_ah) ?_
      refine ev_bipush (v := (nI 39)) dX5_tellsOf_52 jb39 ?_
      refine ev_aload_n dX5_tellsOf_54 rfl ?_
      by_cases z2 : jok (nI 39) 40
      rotate_left
      · rw [if_neg z2] at h; cases h
      rw [if_pos z2] at h
      by_cases z3 : K.1 l3 = 100 ∧ l3 < K.2.2
      rotate_left
      · rw [if_neg z3] at h; cases h
      rw [if_pos z3] at h
      refine ev_aastI dX5_tellsOf_55 (sk11 hC hs_ah) (sl11 hC hs_ah) (jok.ix z2 (sn11 hC hs_ah)) z3.1 z3.2 ?_
      have hC4 := jCW.upd hC (k := ((nI 39)).toNatClampNeg) (v := some l3) (sk11 hC hs_ah) (by decide)
      refine ev_aload_n dX5_tellsOf_56 rfl ?_
      refine ev_dup dX5_tellsOf_57 rfl ?_
      refine ev_getI dX5_tellsOf_58 fX5_55_5 (sk0 hC4 hs_ah) (Or.inl (sl0 hC4 hs_ah)) rfl ?_
      refine ev_iconst (v := (nI 1)) dX5_tellsOf_61 jc1 ?_
      refine ev_isub dX5_tellsOf_62 ?_
      refine ev_putI dX5_tellsOf_63 (pX5_55_5 _) (sk0 hC4 hs_ah) (sl0 hC4 hs_ah) rfl rfl rfl ?_
      exact ev_mask [true, true, true, false, false] (wX5_tellsOf_66 n _ hs_ah   _ _ _ _ _ _ hC4 h hq)
    · rw [if_neg z1] at h
      refine ev_aload_n dX5_tellsOf_26 rfl ?_
      refine ev_getR dX5_tellsOf_27 fX5_48_5 (sk0 hC hs_ah) (Or.inl (sl0 hC hs_ah)) rfl (sr11 hC hs_ah) ?_
      refine ev_iload dX5_tellsOf_30 rfl ?_
      refine ev_iconst (v := (nI 1)) dX5_tellsOf_32 jc1 ?_
      refine ev_isub dX5_tellsOf_33 ?_
      refine ev_aload_n dX5_tellsOf_34 rfl ?_
      refine ev_getR dX5_tellsOf_35 fX5_48_5 (sk0 hC hs_ah) (Or.inl (sl0 hC hs_ah)) rfl (sr11 hC hs_ah) ?_
      refine ev_iload dX5_tellsOf_38 rfl ?_
      by_cases z5 : jok l4 40
      rotate_left
      · rw [if_neg z5] at h; cases h
      rw [if_pos z5] at h
      obtain ⟨r6, z7, h⟩ := Option.bind_eq_some_iff.mp h
      refine ev_aaload (t := 6) dX5_tellsOf_40 (sk11 hC hs_ah) (by decide) (by decide) (Or.inl (sl11 hC hs_ah)) (jok.ix z5 (sn11 hC hs_ah)) z7 ?_
      by_cases z8 : jok (l4 - (nI 1)) 40
      rotate_left
      · rw [if_neg z8] at h; cases h
      rw [if_pos z8] at h
      by_cases z9 : K.1 r6 = 100 ∧ r6 < K.2.2
      rotate_left
      · rw [if_neg z9] at h; cases h
      rw [if_pos z9] at h
      refine ev_aastI dX5_tellsOf_41 (sk11 hC hs_ah) (sl11 hC hs_ah) (jok.ix z8 (sn11 hC hs_ah)) z9.1 z9.2 ?_
      have hC10 := jCW.upd hC (k := ((l4 - (nI 1))).toNatClampNeg) (v := some r6) (sk11 hC hs_ah) (by decide)
      refine ev_iinc (v := (l4 + (nI 1))) (L' := [_, _, _, _, _]) dX5_tellsOf_42 rfl (by rw [ji_1]) (by decide) rfl ?_
      refine ev_goto 19 dX5_tellsOf_45 rfl ?_
      exact ih _ _ _ _ _ _ _ _ hC10 h hq
def fX5_tellsOf (n : Nat) (ah : Nat) (a0 : Int32) (a1 : Int32) (K : jK) (ci : jI) (cj : jJ) (cr : jR) : Option (jTp Unit) := if isSt ah then if (ci ah 1) = (nI 40) then if jok (nI 0) 40 then Option.bind (cr (ah + 11) ((nI 0)).toNatClampNeg) (fun r3 => fX5_tellsOf_19 n ah  n a0 a1 r3 (nI 1) K ci cj cr) else none else fX5_tellsOf_66 n ah  a0 a1 K ci cj cr else none
theorem metX5_tellsOf {g : jG} {d : Nat} {c sl : Nat} {Qr : jQ} {Qx : jX} (n : Nat) (ah : Nat) (a0 : Int32) (a1 : Int32) (K : jK) (ci : jI) (cj : jJ) (cr : jR) {q} (hC : jCW K cr) (h : fX5_tellsOf n ah a0 a1 K ci cj cr = some q) (hq : jqp wV K q Qr) : EvM g (d + 1) mX5_tellsOf [.ref ah, .int a0, .int a1] K ci cj cr c sl Qr Qx := by
  unfold fX5_tellsOf at h
  show Ev g (d + 1) mX5_tellsOf 0 [.ref ah, .int a0, .int a1, jU, jU] [] K ci cj cr c sl Qr Qx
  by_cases hs_ah : isSt ah
  rotate_left
  · rw [if_neg hs_ah] at h; cases h
  rw [if_pos hs_ah] at h
  refine ev_aload_n dX5_tellsOf_0 rfl ?_
  refine ev_getI dX5_tellsOf_1 fX5_55_5 (sk0 hC hs_ah) (Or.inl (sl0 hC hs_ah)) rfl ?_
  refine ev_bipush (v := (nI 40)) dX5_tellsOf_4 jb40 ?_
  refine ev_icmp_ne 66 dX5_tellsOf_6 rfl (fun z1 => ?_) (fun z1 => ?_)
  · rw [if_neg z1] at h
    exact wX5_tellsOf_66 n _ hs_ah   _ _ _ _ _ _ hC h hq
  · rw [if_pos z1] at h
    refine ev_aload_n dX5_tellsOf_9 rfl ?_
    refine ev_getR dX5_tellsOf_10 fX5_48_5 (sk0 hC hs_ah) (Or.inl (sl0 hC hs_ah)) rfl (sr11 hC hs_ah) ?_
    refine ev_iconst (v := (nI 0)) dX5_tellsOf_13 jc0 ?_
    by_cases z2 : jok (nI 0) 40
    rotate_left
    · rw [if_neg z2] at h; cases h
    rw [if_pos z2] at h
    obtain ⟨r3, z4, h⟩ := Option.bind_eq_some_iff.mp h
    refine ev_aaload (t := 6) dX5_tellsOf_14 (sk11 hC hs_ah) (by decide) (by decide) (Or.inl (sl11 hC hs_ah)) (jok.ix z2 (sn11 hC hs_ah)) z4 ?_
    refine ev_astore_n (L' := [_, _, _, _, _]) dX5_tellsOf_15 (by decide) rfl ?_
    refine ev_iconst (v := (nI 1)) dX5_tellsOf_16 jc1 ?_
    refine ev_istore (L' := [_, _, _, _, _]) dX5_tellsOf_17 (by decide) rfl ?_
    exact wX5_tellsOf_19 n _ hs_ah   n _ _ _ _ _ _ _ _ hC h hq
def fX5_come_127 (n : Nat) (ah : Nat) (rec30 : Int32 → Int32 → jK → jI → jJ → jR → Option (jTp Int32)) (l1 : Int32) (l2 : Int32) (K : jK) (ci : jI) (cj : jJ) (cr : jR) : Option (jTp Int32) := rec30 l1 (l2 + (nI 1)) K ci cj cr
theorem wX5_come_127 {g : jG} {d : Nat} {c sl : Nat} {Qr : jQ} {Qx : jX} (n : Nat) (ah : Nat) (hs_ah : isSt ah) (rec30 : Int32 → Int32 → jK → jI → jJ → jR → Option (jTp Int32)) (hrec30 : (∀ (l1 : Int32) (l2 : Int32) (K : jK) (ci : jI) (cj : jJ) (cr : jR) {q}, jCW K cr → rec30 l1 l2 K ci cj cr = some q → jqp wI K q Qr → Ev g (d + 5) mX5_come 30 [.ref ah, .int l1, .int l2] [] K ci cj cr c sl Qr Qx)) (l1 : Int32) (l2 : Int32) (K : jK) (ci : jI) (cj : jJ) (cr : jR) {q} (hC : jCW K cr) (h : fX5_come_127 n ah rec30 l1 l2 K ci cj cr = some q) (hq : jqp wI K q Qr) : Ev g (d + 5) mX5_come 127 [.ref ah, .int l1, .int l2] [] K ci cj cr c sl Qr Qx := by
  unfold fX5_come_127 at h
  refine ev_iinc (v := (l2 + (nI 1))) (L' := [_, _, _]) dX5_come_127 rfl (by rw [ji_1]) (by decide) rfl ?_
  refine ev_goto 30 dX5_come_130 rfl ?_
  exact hrec30 _ _ _ _ _ _ hC h hq
def fX5_come_30 (n : Nat) (ah : Nat) : Nat → Int32 → Int32 → jK → jI → jJ → jR → Option (jTp Int32)
  | 0, _, _, _, _, _, _ => none
  | k + 1, l1, l2, K, ci, cj, cr => jpb (fX0_shoals n  K ci cj cr) (fun r1 ci2 cj3 cr4 => if r1 ≤ l2 then some (l1, ci2, cj3, cr4) else if jok l2 3 then if jok l2 3 then if jok l2 3 then if ((ju ci2 (ah + 2) (l2).toNatClampNeg (ci2 (ah + 3) (l2).toNatClampNeg)) (ah + 3) (l2).toNatClampNeg) = (-1) then fX5_come_127 n ah (fX5_come_30 n ah  k) l1 l2 K (ju ci2 (ah + 2) (l2).toNatClampNeg (ci2 (ah + 3) (l2).toNatClampNeg)) cj3 cr4 else if jok l2 3 then jpb (fX0_bayOf n ((ju ci2 (ah + 2) (l2).toNatClampNeg (ci2 (ah + 3) (l2).toNatClampNeg)) (ah + 3) (l2).toNatClampNeg) K (ju ci2 (ah + 2) (l2).toNatClampNeg (ci2 (ah + 3) (l2).toNatClampNeg)) cj3 cr4) (fun r13 ci14 cj15 cr16 => if K.1 r13 = 7 ∧ r13 < K.2.2 then if jok l2 3 then if jok l2 3 then if jok ((ju ci14 (ah + 1) (l2).toNatClampNeg (ci14 r13 1)) (ah + 3) (l2).toNatClampNeg) 6 then jpb (fX0_shoalOf n l2 K (ju ci14 (ah + 1) (l2).toNatClampNeg (ci14 r13 1)) cj15 cr16) (fun r23 ci24 cj25 cr26 => if K.1 r23 = 9 ∧ r23 < K.2.2 then if jok ((ju ci14 (ah + 1) (l2).toNatClampNeg (ci14 r13 1)) (ah + 3) (l2).toNatClampNeg) 6 then if jok l2 3 then jpb (fX5_tellsOf n ah l2 ((ju ci24 (ah + 5) (((ju ci14 (ah + 1) (l2).toNatClampNeg (ci14 r13 1)) (ah + 3) (l2).toNatClampNeg)).toNatClampNeg (((ju ci14 (ah + 1) (l2).toNatClampNeg (ci14 r13 1)) (ah + 5) (((ju ci14 (ah + 1) (l2).toNatClampNeg (ci14 r13 1)) (ah + 3) (l2).toNatClampNeg)).toNatClampNeg) + (ci24 r23 2))) (ah + 3) (l2).toNatClampNeg) K (ju ci24 (ah + 5) (((ju ci14 (ah + 1) (l2).toNatClampNeg (ci14 r13 1)) (ah + 3) (l2).toNatClampNeg)).toNatClampNeg (((ju ci14 (ah + 1) (l2).toNatClampNeg (ci14 r13 1)) (ah + 5) (((ju ci14 (ah + 1) (l2).toNatClampNeg (ci14 r13 1)) (ah + 3) (l2).toNatClampNeg)).toNatClampNeg) + (ci24 r23 2))) cj25 cr26) (fun r32 ci33 cj34 cr35 => fX5_come_127 n ah (fX5_come_30 n ah  k) (l1 + (nI 1)) l2 K ci33 cj34 cr35) else none else none else none) else none else none else none else none) else none else none else none else none)
theorem wX5_come_30 {g : jG} {d : Nat} {c sl : Nat} {Qr : jQ} {Qx : jX} (n : Nat) (ah : Nat) (hs_ah : isSt ah) : ∀ (k : Nat) (l1 : Int32) (l2 : Int32) (K : jK) (ci : jI) (cj : jJ) (cr : jR) {q}, jCW K cr → fX5_come_30 n ah  k l1 l2 K ci cj cr = some q → jqp wI K q Qr → Ev g (d + 5) mX5_come 30 [.ref ah, .int l1, .int l2] [] K ci cj cr c sl Qr Qx := by
  intro k
  induction k with
  | zero =>
    intro l1 l2 K ci cj cr q hC h hq
    rw [fX5_come_30.eq_1] at h; cases h
  | succ k ih =>
    intro l1 l2 K ci cj cr q hC h hq
    rw [fX5_come_30.eq_2] at h
    refine ev_iload_n dX5_come_30 rfl ?_
    refine ev_aload_n dX5_come_31 rfl ?_
    refine ev_getR dX5_come_32 fX5_3_5 (sk0 hC hs_ah) (Or.inl (sl0 hC hs_ah)) rfl (sr12 hC hs_ah) ?_
    obtain ⟨r1, ci2, cj3, cr4, z5, h⟩ := jpb_inv h
    refine ev_zV0 dX5_come_35 vX5_58_0 (ck0 hC) (Or.inl (cl0 hC)) (Nat.le_of_ble_eq_true rfl) (Nat.le_of_ble_eq_true rfl) rfl (metX0_shoals n  _ _ _ _ hC z5 (fun hC6 => ?_))
    show Ev g _ _ 38 _ [.int r1, .int l2] K ci2 cj3 cr4 _ _ Qr Qx
    refine ev_icmp_ge 133 dX5_come_38 rfl (fun z7 => ?_) (fun z7 => ?_)
    · rw [if_pos z7] at h
      refine ev_iload_n dX5_come_133 rfl ?_
      cases h
      exact ev_iret dX5_come_134 rfl rfl (hq hC6)
    · rw [if_neg z7] at h
      refine ev_aload_n dX5_come_41 rfl ?_
      refine ev_getR dX5_come_42 fX5_19_5 (sk0 hC6 hs_ah) (Or.inl (sl0 hC6 hs_ah)) rfl (sr2 hC6 hs_ah) ?_
      refine ev_iload_n dX5_come_45 rfl ?_
      refine ev_aload_n dX5_come_46 rfl ?_
      refine ev_getR dX5_come_47 fX5_22_5 (sk0 hC6 hs_ah) (Or.inl (sl0 hC6 hs_ah)) rfl (sr3 hC6 hs_ah) ?_
      refine ev_iload_n dX5_come_50 rfl ?_
      by_cases z8 : jok l2 3
      rotate_left
      · rw [if_neg z8] at h; cases h
      rw [if_pos z8] at h
      refine ev_iaload dX5_come_51 (sk3 hC6 hs_ah) (Or.inl (sl3 hC6 hs_ah)) (jok.ix z8 (sn3 hC6 hs_ah)) ?_
      by_cases z9 : jok l2 3
      rotate_left
      · rw [if_neg z9] at h; cases h
      rw [if_pos z9] at h
      refine ev_iastore dX5_come_52 (sk2 hC6 hs_ah) (sl2 hC6 hs_ah) (jok.ix z9 (sn2 hC6 hs_ah)) ?_
      refine ev_aload_n dX5_come_53 rfl ?_
      refine ev_getR dX5_come_54 fX5_22_5 (sk0 hC6 hs_ah) (Or.inl (sl0 hC6 hs_ah)) rfl (sr3 hC6 hs_ah) ?_
      refine ev_iload_n dX5_come_57 rfl ?_
      by_cases z10 : jok l2 3
      rotate_left
      · rw [if_neg z10] at h; cases h
      rw [if_pos z10] at h
      refine ev_iaload dX5_come_58 (sk3 hC6 hs_ah) (Or.inl (sl3 hC6 hs_ah)) (jok.ix z10 (sn3 hC6 hs_ah)) ?_
      refine ev_iconst (v := (-1)) dX5_come_59 jcm1 ?_
      refine ev_icmp_ne 66 dX5_come_60 rfl (fun z11 => ?_) (fun z11 => ?_)
      · rw [if_neg z11] at h
        refine ev_aload_n dX5_come_66 rfl ?_
        refine ev_getR dX5_come_67 fX5_15_5 (sk0 hC6 hs_ah) (Or.inl (sl0 hC6 hs_ah)) rfl (sr1 hC6 hs_ah) ?_
        refine ev_iload_n dX5_come_70 rfl ?_
        refine ev_aload_n dX5_come_71 rfl ?_
        refine ev_getR dX5_come_72 fX5_3_5 (sk0 hC6 hs_ah) (Or.inl (sl0 hC6 hs_ah)) rfl (sr12 hC6 hs_ah) ?_
        refine ev_aload_n dX5_come_75 rfl ?_
        refine ev_getR dX5_come_76 fX5_22_5 (sk0 hC6 hs_ah) (Or.inl (sl0 hC6 hs_ah)) rfl (sr3 hC6 hs_ah) ?_
        refine ev_iload_n dX5_come_79 rfl ?_
        by_cases z12 : jok l2 3
        rotate_left
        · rw [if_neg z12] at h; cases h
        rw [if_pos z12] at h
        refine ev_iaload dX5_come_80 (sk3 hC6 hs_ah) (Or.inl (sl3 hC6 hs_ah)) (jok.ix z12 (sn3 hC6 hs_ah)) ?_
        obtain ⟨r13, ci14, cj15, cr16, z17, h⟩ := jpb_inv h
        refine ev_zV1 dX5_come_81 vX5_73_0 (ck0 hC6) (Or.inl (cl0 hC6)) (Nat.le_of_ble_eq_true rfl) (Nat.le_of_ble_eq_true rfl) rfl (metX0_bayOf n _ _ _ _ _ hC6 z17 (fun hC18 => ?_))
        show Ev g _ _ 84 _ [.ref r13, .int l2, .ref (ah + 1)] K ci14 cj15 cr16 _ _ Qr Qx
        by_cases z19 : K.1 r13 = 7 ∧ r13 < K.2.2
        rotate_left
        · rw [if_neg z19] at h; cases h
        rw [if_pos z19] at h
        refine ev_getI dX5_come_84 fX5_133_7 z19.1 (Or.inl z19.2) rfl ?_
        by_cases z20 : jok l2 3
        rotate_left
        · rw [if_neg z20] at h; cases h
        rw [if_pos z20] at h
        refine ev_iastore dX5_come_87 (sk1 hC18 hs_ah) (sl1 hC18 hs_ah) (jok.ix z20 (sn1 hC18 hs_ah)) ?_
        refine ev_aload_n dX5_come_88 rfl ?_
        refine ev_getR dX5_come_89 fX5_28_5 (sk0 hC18 hs_ah) (Or.inl (sl0 hC18 hs_ah)) rfl (sr5 hC18 hs_ah) ?_
        refine ev_aload_n dX5_come_92 rfl ?_
        refine ev_getR dX5_come_93 fX5_22_5 (sk0 hC18 hs_ah) (Or.inl (sl0 hC18 hs_ah)) rfl (sr3 hC18 hs_ah) ?_
        refine ev_iload_n dX5_come_96 rfl ?_
        by_cases z21 : jok l2 3
        rotate_left
        · rw [if_neg z21] at h; cases h
        rw [if_pos z21] at h
        refine ev_iaload dX5_come_97 (sk3 hC18 hs_ah) (Or.inl (sl3 hC18 hs_ah)) (jok.ix z21 (sn3 hC18 hs_ah)) ?_
        refine ev_dup2 dX5_come_98 rfl rfl ?_
        by_cases z22 : jok ((ju ci14 (ah + 1) (l2).toNatClampNeg (ci14 r13 1)) (ah + 3) (l2).toNatClampNeg) 6
        rotate_left
        · rw [if_neg z22] at h; cases h
        rw [if_pos z22] at h
        refine ev_iaload dX5_come_99 (sk5 hC18 hs_ah) (Or.inl (sl5 hC18 hs_ah)) (jok.ix z22 (sn5 hC18 hs_ah)) ?_
        refine ev_aload_n dX5_come_100 rfl ?_
        refine ev_getR dX5_come_101 fX5_3_5 (sk0 hC18 hs_ah) (Or.inl (sl0 hC18 hs_ah)) rfl (sr12 hC18 hs_ah) ?_
        refine ev_iload_n dX5_come_104 rfl ?_
        obtain ⟨r23, ci24, cj25, cr26, z27, h⟩ := jpb_inv h
        refine ev_zV1 dX5_come_105 vX5_62_0 (ck0 hC18) (Or.inl (cl0 hC18)) (Nat.le_of_ble_eq_true rfl) (Nat.le_of_ble_eq_true rfl) rfl (metX0_shoalOf n _ _ _ _ _ hC18 z27 (fun hC28 => ?_))
        show Ev g _ _ 108 _ [.ref r23, .int ((ju ci14 (ah + 1) (l2).toNatClampNeg (ci14 r13 1)) (ah + 5) (((ju ci14 (ah + 1) (l2).toNatClampNeg (ci14 r13 1)) (ah + 3) (l2).toNatClampNeg)).toNatClampNeg), .int ((ju ci14 (ah + 1) (l2).toNatClampNeg (ci14 r13 1)) (ah + 3) (l2).toNatClampNeg), .ref (ah + 5)] K ci24 cj25 cr26 _ _ Qr Qx
        by_cases z29 : K.1 r23 = 9 ∧ r23 < K.2.2
        rotate_left
        · rw [if_neg z29] at h; cases h
        rw [if_pos z29] at h
        refine ev_getI dX5_come_108 fX5_139_9 z29.1 (Or.inl z29.2) rfl ?_
        refine ev_iadd dX5_come_111 ?_
        by_cases z30 : jok ((ju ci14 (ah + 1) (l2).toNatClampNeg (ci14 r13 1)) (ah + 3) (l2).toNatClampNeg) 6
        rotate_left
        · rw [if_neg z30] at h; cases h
        rw [if_pos z30] at h
        refine ev_iastore dX5_come_112 (sk5 hC28 hs_ah) (sl5 hC28 hs_ah) (jok.ix z30 (sn5 hC28 hs_ah)) ?_
        refine ev_aload_n dX5_come_113 rfl ?_
        refine ev_iload_n dX5_come_114 rfl ?_
        refine ev_aload_n dX5_come_115 rfl ?_
        refine ev_getR dX5_come_116 fX5_22_5 (sk0 hC28 hs_ah) (Or.inl (sl0 hC28 hs_ah)) rfl (sr3 hC28 hs_ah) ?_
        refine ev_iload_n dX5_come_119 rfl ?_
        by_cases z31 : jok l2 3
        rotate_left
        · rw [if_neg z31] at h; cases h
        rw [if_pos z31] at h
        refine ev_iaload dX5_come_120 (sk3 hC28 hs_ah) (Or.inl (sl3 hC28 hs_ah)) (jok.ix z31 (sn3 hC28 hs_ah)) ?_
        obtain ⟨r32, ci33, cj34, cr35, z36, h⟩ := jpb_inv h
        refine ev_zV2 dX5_come_121 vX5_164_5 (sk0 hC28 hs_ah) (Or.inl (sl0 hC28 hs_ah)) (Nat.le_of_ble_eq_true rfl) (Nat.le_of_ble_eq_true rfl) rfl (metX5_tellsOf n _ _ _ _ _ _ _ hC28 z36 (fun hC37 => ?_))
        show Ev g _ _ 124 _ [] K ci33 cj34 cr35 _ _ Qr Qx
        refine ev_iinc (v := (l1 + (nI 1))) (L' := [_, _, _]) dX5_come_124 rfl (by rw [ji_1]) (by decide) rfl ?_
        exact wX5_come_127 n _ hs_ah _ (ih) _ _ _ _ _ _ hC37 h hq
      · rw [if_pos z11] at h
        refine ev_goto 127 dX5_come_63 rfl ?_
        exact wX5_come_127 n _ hs_ah _ (ih) _ _ _ _ _ _ hC6 h hq
def fX5_come_4 (n : Nat) (ah : Nat) : Nat → Int32 → Int32 → jK → jI → jJ → jR → Option (jTp Int32)
  | 0, _, _, _, _, _, _ => none
  | k + 1, l1, l2, K, ci, cj, cr => jpb (fX0_bays n  K ci cj cr) (fun r1 ci2 cj3 cr4 => if r1 ≤ l2 then fX5_come_30 n ah  n l1 (nI 0) K ci2 cj3 cr4 else if jok l2 6 then fX5_come_4 n ah  k l1 (l2 + (nI 1)) K (ju ci2 (ah + 5) (l2).toNatClampNeg (nI 0)) cj3 cr4 else none)
theorem wX5_come_4 {g : jG} {d : Nat} {c sl : Nat} {Qr : jQ} {Qx : jX} (n : Nat) (ah : Nat) (hs_ah : isSt ah) : ∀ (k : Nat) (l1 : Int32) (l2 : Int32) (K : jK) (ci : jI) (cj : jJ) (cr : jR) {q}, jCW K cr → fX5_come_4 n ah  k l1 l2 K ci cj cr = some q → jqp wI K q Qr → Ev g (d + 5) mX5_come 4 [.ref ah, .int l1, .int l2] [] K ci cj cr c sl Qr Qx := by
  intro k
  induction k with
  | zero =>
    intro l1 l2 K ci cj cr q hC h hq
    rw [fX5_come_4.eq_1] at h; cases h
  | succ k ih =>
    intro l1 l2 K ci cj cr q hC h hq
    rw [fX5_come_4.eq_2] at h
    refine ev_iload_n dX5_come_4 rfl ?_
    refine ev_aload_n dX5_come_5 rfl ?_
    refine ev_getR dX5_come_6 fX5_3_5 (sk0 hC hs_ah) (Or.inl (sl0 hC hs_ah)) rfl (sr12 hC hs_ah) ?_
    obtain ⟨r1, ci2, cj3, cr4, z5, h⟩ := jpb_inv h
    refine ev_zV0 dX5_come_9 vX5_70_0 (ck0 hC) (Or.inl (cl0 hC)) (Nat.le_of_ble_eq_true rfl) (Nat.le_of_ble_eq_true rfl) rfl (metX0_bays n  _ _ _ _ hC z5 (fun hC6 => ?_))
    show Ev g _ _ 12 _ [.int r1, .int l2] K ci2 cj3 cr4 _ _ Qr Qx
    refine ev_icmp_ge 28 dX5_come_12 rfl (fun z7 => ?_) (fun z7 => ?_)
    · rw [if_pos z7] at h
      refine ev_iconst (v := (nI 0)) dX5_come_28 jc0 ?_
      refine ev_istore_n (L' := [_, _, _]) dX5_come_29 (by decide) rfl ?_
      exact wX5_come_30 n _ hs_ah   n _ _ _ _ _ _ hC6 h hq
    · rw [if_neg z7] at h
      refine ev_aload_n dX5_come_15 rfl ?_
      refine ev_getR dX5_come_16 fX5_28_5 (sk0 hC6 hs_ah) (Or.inl (sl0 hC6 hs_ah)) rfl (sr5 hC6 hs_ah) ?_
      refine ev_iload_n dX5_come_19 rfl ?_
      refine ev_iconst (v := (nI 0)) dX5_come_20 jc0 ?_
      by_cases z8 : jok l2 6
      rotate_left
      · rw [if_neg z8] at h; cases h
      rw [if_pos z8] at h
      refine ev_iastore dX5_come_21 (sk5 hC6 hs_ah) (sl5 hC6 hs_ah) (jok.ix z8 (sn5 hC6 hs_ah)) ?_
      refine ev_iinc (v := (l2 + (nI 1))) (L' := [_, _, _]) dX5_come_22 rfl (by rw [ji_1]) (by decide) rfl ?_
      refine ev_goto 4 dX5_come_25 rfl ?_
      exact ih _ _ _ _ _ _ hC6 h hq
def fX5_come (n : Nat) (ah : Nat) (K : jK) (ci : jI) (cj : jJ) (cr : jR) : Option (jTp Int32) := if isSt ah then fX5_come_4 n ah  n (nI 0) (nI 0) K ci cj cr else none
theorem metX5_come {g : jG} {d : Nat} {c sl : Nat} {Qr : jQ} {Qx : jX} (n : Nat) (ah : Nat) (K : jK) (ci : jI) (cj : jJ) (cr : jR) {q} (hC : jCW K cr) (h : fX5_come n ah K ci cj cr = some q) (hq : jqp wI K q Qr) : EvM g (d + 5) mX5_come [.ref ah] K ci cj cr c sl Qr Qx := by
  unfold fX5_come at h
  show Ev g (d + 5) mX5_come 0 [.ref ah, jU, jU] [] K ci cj cr c sl Qr Qx
  by_cases hs_ah : isSt ah
  rotate_left
  · rw [if_neg hs_ah] at h; cases h
  rw [if_pos hs_ah] at h
  refine ev_iconst (v := (nI 0)) dX5_come_0 jc0 ?_
  refine ev_istore_n (L' := [_, _, _]) dX5_come_1 (by decide) rfl ?_
  refine ev_iconst (v := (nI 0)) dX5_come_2 jc0 ?_
  refine ev_istore_n (L' := [_, _, _]) dX5_come_3 (by decide) rfl ?_
  exact wX5_come_4 n _ hs_ah   n _ _ _ _ _ _ hC h hq
def fX0_within (n : Nat) (a0 : Int64) (a1 : Int32) (K : jK) (ci : jI) (cj : jJ) (cr : jR) : Option (jTp Int32) := jpb (fJ12_min_2 n ((a1).toInt64) a0 K ci cj cr) (fun r1 ci2 cj3 cr4 => jpb (fJ12_max_2 n (lN 0) r1 K ci2 cj3 cr4) (fun r7 ci8 cj9 cr10 => some ((r7).toInt32, ci8, cj9, cr10)))
theorem metX0_within {g : jG} {d : Nat} {c sl : Nat} {Qr : jQ} {Qx : jX} (n : Nat) (a0 : Int64) (a1 : Int32) (K : jK) (ci : jI) (cj : jJ) (cr : jR) {q} (hC : jCW K cr) (h : fX0_within n a0 a1 K ci cj cr = some q) (hq : jqp wI K q Qr) : EvM g (d + 2) mX0_within [.long a0, .int a1] K ci cj cr c sl Qr Qx := by
  unfold fX0_within at h
  show Ev g (d + 2) mX0_within 0 [.long a0, jU, .int a1] [] K ci cj cr c sl Qr Qx
  refine ev_lconst (v := lN 0) dX0_within_0 rfl ?_
  refine ev_iload_n dX0_within_1 rfl ?_
  refine ev_i2l dX0_within_2 ?_
  refine ev_lload_n dX0_within_3 rfl ?_
  obtain ⟨r1, ci2, cj3, cr4, z5, h⟩ := jpb_inv h
  refine ev_zS2 dX0_within_4 sX0_7 (Nat.le_of_ble_eq_true rfl) (Nat.le_of_ble_eq_true rfl) rfl (metJ12_min_2 n _ _ _ _ _ _ hC z5 (fun hC6 => ?_))
  show Ev g _ _ 7 _ [.long r1, .long (lN 0)] K ci2 cj3 cr4 _ _ Qr Qx
  obtain ⟨r7, ci8, cj9, cr10, z11, h⟩ := jpb_inv h
  refine ev_zS2 dX0_within_7 sX0_13 (Nat.le_of_ble_eq_true rfl) (Nat.le_of_ble_eq_true rfl) rfl (metJ12_max_2 n _ _ _ _ _ _ hC6 z11 (fun hC12 => ?_))
  show Ev g _ _ 10 _ [.long r7] K ci8 cj9 cr10 _ _ Qr Qx
  refine ev_l2i dX0_within_10 ?_
  cases h
  exact ev_iret dX0_within_11 rfl rfl (hq hC12)
def fX0_isSteadyFrom_13 (n : Nat) (rec4 : Int32 → Int32 → jK → jI → jJ → jR → Option (jTp Int32)) : Nat → Int32 → Int32 → Int32 → jK → jI → jJ → jR → Option (jTp Int32)
  | 0, _, _, _, _, _, _, _ => none
  | k + 1, l1, l2, l3, K, ci, cj, cr => jpb (fX0_shoals n  K ci cj cr) (fun r1 ci2 cj3 cr4 => if r1 ≤ l3 then rec4 l1 (l2 + (nI 1)) K ci2 cj3 cr4 else if jok l2 60 then Option.bind (cr4 120 (l2).toNatClampNeg) (fun r9 => if K.1 r9 = 100 ∧ r9 < K.2.2 then if jok l3 (K.2.1 r9) then if jok l1 60 then Option.bind (cr4 120 (l1).toNatClampNeg) (fun r14 => if K.1 r14 = 100 ∧ r14 < K.2.2 then if jok l3 (K.2.1 r14) then if (ci2 r9 (l3).toNatClampNeg) = (ci2 r14 (l3).toNatClampNeg) then fX0_isSteadyFrom_13 n rec4 k l1 l2 (l3 + (nI 1)) K ci2 cj3 cr4 else some ((nI 0), ci2, cj3, cr4) else none else none) else none else none else none) else none)
theorem wX0_isSteadyFrom_13 {g : jG} {d : Nat} {c sl : Nat} {Qr : jQ} {Qx : jX} (n : Nat) (rec4 : Int32 → Int32 → jK → jI → jJ → jR → Option (jTp Int32)) (hrec4 : (∀ (l1 : Int32) (l2 : Int32) (K : jK) (ci : jI) (cj : jJ) (cr : jR) {q}, jCW K cr → rec4 l1 l2 K ci cj cr = some q → jqp wI K q Qr → Ev g (d + 3) mX0_isSteadyFrom 4 [.ref 0, .int l1, .int l2, jU] [] K ci cj cr c sl Qr Qx)) : ∀ (k : Nat) (l1 : Int32) (l2 : Int32) (l3 : Int32) (K : jK) (ci : jI) (cj : jJ) (cr : jR) {q}, jCW K cr → fX0_isSteadyFrom_13 n rec4 k l1 l2 l3 K ci cj cr = some q → jqp wI K q Qr → Ev g (d + 3) mX0_isSteadyFrom 13 [.ref 0, .int l1, .int l2, .int l3] [] K ci cj cr c sl Qr Qx := by
  intro k
  induction k with
  | zero =>
    intro l1 l2 l3 K ci cj cr q hC h hq
    rw [fX0_isSteadyFrom_13.eq_1] at h; cases h
  | succ k ih =>
    intro l1 l2 l3 K ci cj cr q hC h hq
    rw [fX0_isSteadyFrom_13.eq_2] at h
    refine ev_iload_n dX0_isSteadyFrom_13 rfl ?_
    refine ev_aload_n dX0_isSteadyFrom_14 rfl ?_
    obtain ⟨r1, ci2, cj3, cr4, z5, h⟩ := jpb_inv h
    refine ev_zV0 dX0_isSteadyFrom_15 vX0_167_0 (ck0 hC) (Or.inl (cl0 hC)) (Nat.le_of_ble_eq_true rfl) (Nat.le_of_ble_eq_true rfl) rfl (metX0_shoals n  _ _ _ _ hC z5 (fun hC6 => ?_))
    show Ev g _ _ 18 _ [.int r1, .int l3] K ci2 cj3 cr4 _ _ Qr Qx
    refine ev_icmp_ge 48 dX0_isSteadyFrom_18 rfl (fun z7 => ?_) (fun z7 => ?_)
    · rw [if_pos z7] at h
      refine ev_iinc (v := (l2 + (nI 1))) (L' := [_, _, _, _]) dX0_isSteadyFrom_48 rfl (by rw [ji_1]) (by decide) rfl ?_
      refine ev_goto 4 dX0_isSteadyFrom_51 rfl ?_
      exact ev_mask [true, true, true, false] (hrec4 _ _ _ _ _ _ hC6 h hq)
    · rw [if_neg z7] at h
      refine ev_aload_n dX0_isSteadyFrom_21 rfl ?_
      refine ev_getR dX0_isSteadyFrom_22 fX0_78_0 (ck0 hC6) (Or.inl (cl0 hC6)) rfl (cq0_11 hC6) ?_
      refine ev_iload_n dX0_isSteadyFrom_25 rfl ?_
      by_cases z8 : jok l2 60
      rotate_left
      · rw [if_neg z8] at h; cases h
      rw [if_pos z8] at h
      obtain ⟨r9, z10, h⟩ := Option.bind_eq_some_iff.mp h
      refine ev_aaload (t := 6) dX0_isSteadyFrom_26 (ck120 hC6) (by decide) (by decide) (Or.inl (cl120 hC6)) (jok.ix z8 (cn120 hC6)) z10 ?_
      refine ev_iload_n dX0_isSteadyFrom_27 rfl ?_
      by_cases z11 : K.1 r9 = 100 ∧ r9 < K.2.2
      rotate_left
      · rw [if_neg z11] at h; cases h
      rw [if_pos z11] at h
      by_cases z12 : jok l3 (K.2.1 r9)
      rotate_left
      · rw [if_neg z12] at h; cases h
      rw [if_pos z12] at h
      refine ev_iaload dX0_isSteadyFrom_28 z11.1 (Or.inl z11.2) (jok.ix z12 rfl) ?_
      refine ev_aload_n dX0_isSteadyFrom_29 rfl ?_
      refine ev_getR dX0_isSteadyFrom_30 fX0_78_0 (ck0 hC6) (Or.inl (cl0 hC6)) rfl (cq0_11 hC6) ?_
      refine ev_iload_n dX0_isSteadyFrom_33 rfl ?_
      by_cases z13 : jok l1 60
      rotate_left
      · rw [if_neg z13] at h; cases h
      rw [if_pos z13] at h
      obtain ⟨r14, z15, h⟩ := Option.bind_eq_some_iff.mp h
      refine ev_aaload (t := 6) dX0_isSteadyFrom_34 (ck120 hC6) (by decide) (by decide) (Or.inl (cl120 hC6)) (jok.ix z13 (cn120 hC6)) z15 ?_
      refine ev_iload_n dX0_isSteadyFrom_35 rfl ?_
      by_cases z16 : K.1 r14 = 100 ∧ r14 < K.2.2
      rotate_left
      · rw [if_neg z16] at h; cases h
      rw [if_pos z16] at h
      by_cases z17 : jok l3 (K.2.1 r14)
      rotate_left
      · rw [if_neg z17] at h; cases h
      rw [if_pos z17] at h
      refine ev_iaload dX0_isSteadyFrom_36 z16.1 (Or.inl z16.2) (jok.ix z17 rfl) ?_
      refine ev_icmp_eq 42 dX0_isSteadyFrom_37 rfl (fun z18 => ?_) (fun z18 => ?_)
      · rw [if_pos z18] at h
        refine ev_iinc (v := (l3 + (nI 1))) (L' := [_, _, _, _]) dX0_isSteadyFrom_42 rfl (by rw [ji_1]) (by decide) rfl ?_
        refine ev_goto 13 dX0_isSteadyFrom_45 rfl ?_
        exact ih _ _ _ _ _ _ _ hC6 h hq
      · rw [if_neg z18] at h
        refine ev_iconst (v := (nI 0)) dX0_isSteadyFrom_40 jc0 ?_
        cases h
        exact ev_iret dX0_isSteadyFrom_41 rfl (by decide) (hq hC6)
def fX0_isSteadyFrom_4 (n : Nat) : Nat → Int32 → Int32 → jK → jI → jJ → jR → Option (jTp Int32)
  | 0, _, _, _, _, _, _ => none
  | k + 1, l1, l2, K, ci, cj, cr => if (l1 + (nI 5)) ≤ l2 then some ((nI 1), ci, cj, cr) else fX0_isSteadyFrom_13 n (fX0_isSteadyFrom_4 n  k) n l1 l2 (nI 0) K ci cj cr
theorem wX0_isSteadyFrom_4 {g : jG} {d : Nat} {c sl : Nat} {Qr : jQ} {Qx : jX} (n : Nat) : ∀ (k : Nat) (l1 : Int32) (l2 : Int32) (K : jK) (ci : jI) (cj : jJ) (cr : jR) {q}, jCW K cr → fX0_isSteadyFrom_4 n  k l1 l2 K ci cj cr = some q → jqp wI K q Qr → Ev g (d + 3) mX0_isSteadyFrom 4 [.ref 0, .int l1, .int l2, jU] [] K ci cj cr c sl Qr Qx := by
  intro k
  induction k with
  | zero =>
    intro l1 l2 K ci cj cr q hC h hq
    rw [fX0_isSteadyFrom_4.eq_1] at h; cases h
  | succ k ih =>
    intro l1 l2 K ci cj cr q hC h hq
    rw [fX0_isSteadyFrom_4.eq_2] at h
    refine ev_iload_n dX0_isSteadyFrom_4 rfl ?_
    refine ev_iload_n dX0_isSteadyFrom_5 rfl ?_
    refine ev_iconst (v := (nI 5)) dX0_isSteadyFrom_6 jc5 ?_
    refine ev_iadd dX0_isSteadyFrom_7 ?_
    refine ev_icmp_ge 54 dX0_isSteadyFrom_8 rfl (fun z1 => ?_) (fun z1 => ?_)
    · rw [if_pos z1] at h
      refine ev_iconst (v := (nI 1)) dX0_isSteadyFrom_54 jc1 ?_
      cases h
      exact ev_iret dX0_isSteadyFrom_55 rfl (by decide) (hq hC)
    · rw [if_neg z1] at h
      refine ev_iconst (v := (nI 0)) dX0_isSteadyFrom_11 jc0 ?_
      refine ev_istore_n (L' := [_, _, _, _]) dX0_isSteadyFrom_12 (by decide) rfl ?_
      exact wX0_isSteadyFrom_13 n _ (ih) n _ _ _ _ _ _ _ hC h hq
def fX0_isSteadyFrom (n : Nat) (a0 : Int32) (K : jK) (ci : jI) (cj : jJ) (cr : jR) : Option (jTp Int32) := fX0_isSteadyFrom_4 n  n a0 (a0 + (nI 1)) K ci cj cr
theorem metX0_isSteadyFrom {g : jG} {d : Nat} {c sl : Nat} {Qr : jQ} {Qx : jX} (n : Nat) (a0 : Int32) (K : jK) (ci : jI) (cj : jJ) (cr : jR) {q} (hC : jCW K cr) (h : fX0_isSteadyFrom n a0 K ci cj cr = some q) (hq : jqp wI K q Qr) : EvM g (d + 3) mX0_isSteadyFrom [.ref 0, .int a0] K ci cj cr c sl Qr Qx := by
  unfold fX0_isSteadyFrom at h
  show Ev g (d + 3) mX0_isSteadyFrom 0 [.ref 0, .int a0, jU, jU] [] K ci cj cr c sl Qr Qx
  refine ev_iload_n dX0_isSteadyFrom_0 rfl ?_
  refine ev_iconst (v := (nI 1)) dX0_isSteadyFrom_1 jc1 ?_
  refine ev_iadd dX0_isSteadyFrom_2 ?_
  refine ev_istore_n (L' := [_, _, _, _]) dX0_isSteadyFrom_3 (by decide) rfl ?_
  exact wX0_isSteadyFrom_4 n   n _ _ _ _ _ _ hC h hq
def fX0_drives (n : Nat) (a0 : Nat) (a1 : Int32) (a2 : Int32) (K : jK) (ci : jI) (cj : jJ) (cr : jR) : Option (jTp Unit) := if isSt a0 then if jok a1 3 then if jok a1 3 then some ((), (ju (ju ci (a0 + 1) (a1).toNatClampNeg a2) (a0 + 2) (a1).toNatClampNeg (-1)), cj, cr) else none else none else none
theorem metX0_drives {g : jG} {d : Nat} {c sl : Nat} {Qr : jQ} {Qx : jX} (n : Nat) (a0 : Nat) (a1 : Int32) (a2 : Int32) (K : jK) (ci : jI) (cj : jJ) (cr : jR) {q} (hC : jCW K cr) (h : fX0_drives n a0 a1 a2 K ci cj cr = some q) (hq : jqp wV K q Qr) : EvM g (d + 1) mX0_drives [.ref 0, .ref a0, .int a1, .int a2] K ci cj cr c sl Qr Qx := by
  unfold fX0_drives at h
  show Ev g (d + 1) mX0_drives 0 [.ref 0, .ref a0, .int a1, .int a2] [] K ci cj cr c sl Qr Qx
  by_cases hs_a0 : isSt a0
  rotate_left
  · rw [if_neg hs_a0] at h; cases h
  rw [if_pos hs_a0] at h
  refine ev_aload_n dX0_drives_0 rfl ?_
  refine ev_getR dX0_drives_1 fX0_245_5 (sk0 hC hs_a0) (Or.inl (sl0 hC hs_a0)) rfl (sr1 hC hs_a0) ?_
  refine ev_iload_n dX0_drives_4 rfl ?_
  refine ev_iload_n dX0_drives_5 rfl ?_
  by_cases z1 : jok a1 3
  rotate_left
  · rw [if_neg z1] at h; cases h
  rw [if_pos z1] at h
  refine ev_iastore dX0_drives_6 (sk1 hC hs_a0) (sl1 hC hs_a0) (jok.ix z1 (sn1 hC hs_a0)) ?_
  refine ev_aload_n dX0_drives_7 rfl ?_
  refine ev_getR dX0_drives_8 fX0_186_5 (sk0 hC hs_a0) (Or.inl (sl0 hC hs_a0)) rfl (sr2 hC hs_a0) ?_
  refine ev_iload_n dX0_drives_11 rfl ?_
  refine ev_iconst (v := (-1)) dX0_drives_12 jcm1 ?_
  by_cases z2 : jok a1 3
  rotate_left
  · rw [if_neg z2] at h; cases h
  rw [if_pos z2] at h
  refine ev_iastore dX0_drives_13 (sk2 hC hs_a0) (sl2 hC hs_a0) (jok.ix z2 (sn2 hC hs_a0)) ?_
  cases h
  exact ev_ret dX0_drives_14 rfl (hq hC)
def fX0_byteAt (n : Nat) (a0 : Int32) (K : jK) (ci : jI) (cj : jJ) (cr : jR) : Option (jTp Int32) := if jok a0 1600 then some (((ci 8 (a0).toNatClampNeg) &&& (nI 255)), ci, cj, cr) else none
theorem metX0_byteAt {g : jG} {d : Nat} {c sl : Nat} {Qr : jQ} {Qx : jX} (n : Nat) (a0 : Int32) (K : jK) (ci : jI) (cj : jJ) (cr : jR) {q} (hC : jCW K cr) (h : fX0_byteAt n a0 K ci cj cr = some q) (hq : jqp wI K q Qr) : EvM g (d + 1) mX0_byteAt [.ref 0, .int a0] K ci cj cr c sl Qr Qx := by
  unfold fX0_byteAt at h
  show Ev g (d + 1) mX0_byteAt 0 [.ref 0, .int a0] [] K ci cj cr c sl Qr Qx
  refine ev_aload_n dX0_byteAt_0 rfl ?_
  refine ev_getR dX0_byteAt_1 fX0_35_0 (ck0 hC) (Or.inl (cl0 hC)) rfl (cq0_1 hC) ?_
  refine ev_iload_n dX0_byteAt_4 rfl ?_
  by_cases z1 : jok a0 1600
  rotate_left
  · rw [if_neg z1] at h; cases h
  rw [if_pos z1] at h
  refine ev_baload dX0_byteAt_5 (ck8 hC) (Or.inl (cl8 hC)) (jok.ix z1 (cn8 hC)) ?_
  refine ev_sipush (v := (nI 255)) dX0_byteAt_6 js255 ?_
  refine ev_iand dX0_byteAt_9 ?_
  cases h
  exact ev_iret dX0_byteAt_10 rfl rfl (hq hC)
def fX0_see_189 (n : Nat) (rec120 : Int32 → jK → jI → jJ → jR → Option (jTp Int32)) (l3 : Int32) (t0 : Int32) (t1 : Int32) (K : jK) (ci : jI) (cj : jJ) (cr : jR) : Option (jTp Int32) := if jok t1 16 then rec120 (l3 + (nI 1)) K (ju ci 183 (t1).toNatClampNeg t0) cj cr else none
theorem wX0_see_189 {g : jG} {d : Nat} {c sl : Nat} {Qr : jQ} {Qx : jX} (n : Nat) (rec120 : Int32 → jK → jI → jJ → jR → Option (jTp Int32)) (hrec120 : (∀ (l3 : Int32) (K : jK) (ci : jI) (cj : jJ) (cr : jR) {q}, jCW K cr → rec120 l3 K ci cj cr = some q → jqp wI K q Qr → Ev g (d + 4) mX0_see 120 [.ref 0, jU, jU, .int l3] [] K ci cj cr c sl Qr Qx)) (l3 : Int32) (t0 : Int32) (t1 : Int32) (K : jK) (ci : jI) (cj : jJ) (cr : jR) {q} (hC : jCW K cr) (h : fX0_see_189 n rec120 l3 t0 t1 K ci cj cr = some q) (hq : jqp wI K q Qr) : Ev g (d + 4) mX0_see 189 [.ref 0, jU, jU, .int l3] [.int t0, .int t1, .ref 183] K ci cj cr c sl Qr Qx := by
  unfold fX0_see_189 at h
  by_cases z1 : jok t1 16
  rotate_left
  · rw [if_neg z1] at h; cases h
  rw [if_pos z1] at h
  refine ev_iastore dX0_see_189 (ck183 hC) (cl183 hC) (jok.ix z1 (cn183 hC)) ?_
  refine ev_iinc (v := (l3 + (nI 1))) (L' := [_, _, _, _]) dX0_see_190 rfl (by rw [ji_1]) (by decide) rfl ?_
  refine ev_goto 120 dX0_see_193 rfl ?_
  exact hrec120 _ _ _ _ _ hC h hq
def fX0_see_120 (n : Nat) : Nat → Int32 → jK → jI → jJ → jR → Option (jTp Int32)
  | 0, _, _, _, _, _ => none
  | k + 1, l3, K, ci, cj, cr => if (ci 0 15) ≤ l3 then some ((ci 0 15), ci, cj, cr) else jpb (fX0_byteAt n ((nI 3) * l3) K ci cj cr) (fun r2 ci3 cj4 cr5 => if jok l3 16 then jpb (fX0_byteAt n (((nI 3) * l3) + (nI 1)) K (ju ci3 181 (l3).toNatClampNeg r2) cj4 cr5) (fun r9 ci10 cj11 cr12 => if jok l3 16 then jpb (fX0_byteAt n (((nI 3) * l3) + (nI 2)) K (ju ci10 182 (l3).toNatClampNeg r9) cj11 cr12) (fun r16 ci17 cj18 cr19 => if r16 = (nI 255) then fX0_see_189 n (fX0_see_120 n  k) l3 (-1) l3 K ci17 cj18 cr19 else jpb (fX0_byteAt n (((nI 3) * l3) + (nI 2)) K ci17 cj18 cr19) (fun r23 ci24 cj25 cr26 => fX0_see_189 n (fX0_see_120 n  k) l3 r23 l3 K ci24 cj25 cr26)) else none) else none)
theorem wX0_see_120 {g : jG} {d : Nat} {c sl : Nat} {Qr : jQ} {Qx : jX} (n : Nat) : ∀ (k : Nat) (l3 : Int32) (K : jK) (ci : jI) (cj : jJ) (cr : jR) {q}, jCW K cr → fX0_see_120 n  k l3 K ci cj cr = some q → jqp wI K q Qr → Ev g (d + 4) mX0_see 120 [.ref 0, jU, jU, .int l3] [] K ci cj cr c sl Qr Qx := by
  intro k
  induction k with
  | zero =>
    intro l3 K ci cj cr q hC h hq
    rw [fX0_see_120.eq_1] at h; cases h
  | succ k ih =>
    intro l3 K ci cj cr q hC h hq
    rw [fX0_see_120.eq_2] at h
    refine ev_iload_n dX0_see_120 rfl ?_
    refine ev_aload_n dX0_see_121 rfl ?_
    refine ev_getI dX0_see_122 fX0_142_0 (ck0 hC) (Or.inl (cl0 hC)) rfl ?_
    refine ev_icmp_ge 196 dX0_see_125 rfl (fun z1 => ?_) (fun z1 => ?_)
    · rw [if_pos z1] at h
      refine ev_aload_n dX0_see_196 rfl ?_
      refine ev_getI dX0_see_197 fX0_142_0 (ck0 hC) (Or.inl (cl0 hC)) rfl ?_
      cases h
      exact ev_iret dX0_see_200 rfl rfl (hq hC)
    · rw [if_neg z1] at h
      refine ev_aload_n dX0_see_128 rfl ?_
      refine ev_getR dX0_see_129 fX0_81_0 (ck0 hC) (Or.inl (cl0 hC)) rfl (cq0_12 hC) ?_
      refine ev_iload_n dX0_see_132 rfl ?_
      refine ev_aload_n dX0_see_133 rfl ?_
      refine ev_iconst (v := (nI 3)) dX0_see_134 jc3 ?_
      refine ev_iload_n dX0_see_135 rfl ?_
      refine ev_imul dX0_see_136 ?_
      obtain ⟨r2, ci3, cj4, cr5, z6, h⟩ := jpb_inv h
      refine ev_zV1 dX0_see_137 vX0_299_0 (ck0 hC) (Or.inl (cl0 hC)) (Nat.le_of_ble_eq_true rfl) (Nat.le_of_ble_eq_true rfl) rfl (metX0_byteAt n _ _ _ _ _ hC z6 (fun hC7 => ?_))
      show Ev g _ _ 140 _ [.int r2, .int l3, .ref 181] K ci3 cj4 cr5 _ _ Qr Qx
      by_cases z8 : jok l3 16
      rotate_left
      · rw [if_neg z8] at h; cases h
      rw [if_pos z8] at h
      refine ev_iastore dX0_see_140 (ck181 hC7) (cl181 hC7) (jok.ix z8 (cn181 hC7)) ?_
      refine ev_aload_n dX0_see_141 rfl ?_
      refine ev_getR dX0_see_142 fX0_84_0 (ck0 hC7) (Or.inl (cl0 hC7)) rfl (cq0_13 hC7) ?_
      refine ev_iload_n dX0_see_145 rfl ?_
      refine ev_aload_n dX0_see_146 rfl ?_
      refine ev_iconst (v := (nI 3)) dX0_see_147 jc3 ?_
      refine ev_iload_n dX0_see_148 rfl ?_
      refine ev_imul dX0_see_149 ?_
      refine ev_iconst (v := (nI 1)) dX0_see_150 jc1 ?_
      refine ev_iadd dX0_see_151 ?_
      obtain ⟨r9, ci10, cj11, cr12, z13, h⟩ := jpb_inv h
      refine ev_zV1 dX0_see_152 vX0_299_0 (ck0 hC7) (Or.inl (cl0 hC7)) (Nat.le_of_ble_eq_true rfl) (Nat.le_of_ble_eq_true rfl) rfl (metX0_byteAt n _ _ _ _ _ hC7 z13 (fun hC14 => ?_))
      show Ev g _ _ 155 _ [.int r9, .int l3, .ref 182] K ci10 cj11 cr12 _ _ Qr Qx
      by_cases z15 : jok l3 16
      rotate_left
      · rw [if_neg z15] at h; cases h
      rw [if_pos z15] at h
      refine ev_iastore dX0_see_155 (ck182 hC14) (cl182 hC14) (jok.ix z15 (cn182 hC14)) ?_
      refine ev_aload_n dX0_see_156 rfl ?_
      refine ev_getR dX0_see_157 fX0_87_0 (ck0 hC14) (Or.inl (cl0 hC14)) rfl (cq0_14 hC14) ?_
      refine ev_iload_n dX0_see_160 rfl ?_
      refine ev_aload_n dX0_see_161 rfl ?_
      refine ev_iconst (v := (nI 3)) dX0_see_162 jc3 ?_
      refine ev_iload_n dX0_see_163 rfl ?_
      refine ev_imul dX0_see_164 ?_
      refine ev_iconst (v := (nI 2)) dX0_see_165 jc2 ?_
      refine ev_iadd dX0_see_166 ?_
      obtain ⟨r16, ci17, cj18, cr19, z20, h⟩ := jpb_inv h
      refine ev_zV1 dX0_see_167 vX0_299_0 (ck0 hC14) (Or.inl (cl0 hC14)) (Nat.le_of_ble_eq_true rfl) (Nat.le_of_ble_eq_true rfl) rfl (metX0_byteAt n _ _ _ _ _ hC14 z20 (fun hC21 => ?_))
      show Ev g _ _ 170 _ [.int r16, .int l3, .ref 183] K ci17 cj18 cr19 _ _ Qr Qx
      refine ev_sipush (v := (nI 255)) dX0_see_170 js255 ?_
      refine ev_icmp_ne 180 dX0_see_173 rfl (fun z22 => ?_) (fun z22 => ?_)
      · rw [if_neg z22] at h
        refine ev_aload_n dX0_see_180 rfl ?_
        refine ev_iconst (v := (nI 3)) dX0_see_181 jc3 ?_
        refine ev_iload_n dX0_see_182 rfl ?_
        refine ev_imul dX0_see_183 ?_
        refine ev_iconst (v := (nI 2)) dX0_see_184 jc2 ?_
        refine ev_iadd dX0_see_185 ?_
        obtain ⟨r23, ci24, cj25, cr26, z27, h⟩ := jpb_inv h
        refine ev_zV1 dX0_see_186 vX0_299_0 (ck0 hC21) (Or.inl (cl0 hC21)) (Nat.le_of_ble_eq_true rfl) (Nat.le_of_ble_eq_true rfl) rfl (metX0_byteAt n _ _ _ _ _ hC21 z27 (fun hC28 => ?_))
        show Ev g _ _ 189 _ [.int r23, .int l3, .ref 183] K ci24 cj25 cr26 _ _ Qr Qx
        exact wX0_see_189 n _ (ih) _ _ _ _ _ _ _ hC28 h hq
      · rw [if_pos z22] at h
        refine ev_iconst (v := (-1)) dX0_see_176 jcm1 ?_
        refine ev_goto 189 dX0_see_177 rfl ?_
        exact wX0_see_189 n _ (ih) _ _ _ _ _ _ _ hC21 h hq
def fX0_see_101 (n : Nat) (l1 : Int32) (l2 : Int32) (K : jK) (ci : jI) (cj : jJ) (cr : jR) : Option (jTp Int32) := if l2 = 0 then jpb (fX0_refuses n (nI 1) K ci cj cr) (fun r2 ci3 cj4 cr5 => some (r2, ci3, cj4, cr5)) else fX0_see_120 n  n (nI 0) K (ju ci 0 15 (l1 / (nI 3))) cj cr
theorem wX0_see_101 {g : jG} {d : Nat} {c sl : Nat} {Qr : jQ} {Qx : jX} (n : Nat) (l1 : Int32) (l2 : Int32) (K : jK) (ci : jI) (cj : jJ) (cr : jR) {q} (hC : jCW K cr) (h : fX0_see_101 n  l1 l2 K ci cj cr = some q) (hq : jqp wI K q Qr) : Ev g (d + 4) mX0_see 101 [.ref 0, .int l1, .int l2, jU] [] K ci cj cr c sl Qr Qx := by
  unfold fX0_see_101 at h
  refine ev_iload_n dX0_see_101 rfl ?_
  refine ev_if_ne 111 dX0_see_102 rfl (fun z1 => ?_) (fun z1 => ?_)
  · rw [if_neg z1] at h
    refine ev_aload_n dX0_see_111 rfl ?_
    refine ev_iload_n dX0_see_112 rfl ?_
    refine ev_iconst (v := (nI 3)) dX0_see_113 jc3 ?_
    refine ev_idiv dX0_see_114 (by decide) ?_
    refine ev_putI dX0_see_115 (pX0_142_0 _) (ck0 hC) (cl0 hC) rfl rfl rfl ?_
    refine ev_iconst (v := (nI 0)) dX0_see_118 jc0 ?_
    refine ev_istore_n (L' := [_, _, _, _]) dX0_see_119 (by decide) rfl ?_
    exact ev_mask [true, false, false, true] (wX0_see_120 n   n _ _ _ _ _ hC h hq)
  · rw [if_pos z1] at h
    refine ev_aload_n dX0_see_105 rfl ?_
    refine ev_iconst (v := (nI 1)) dX0_see_106 jc1 ?_
    obtain ⟨r2, ci3, cj4, cr5, z6, h⟩ := jpb_inv h
    refine ev_zV1 dX0_see_107 vX0_109_0 (ck0 hC) (Or.inl (cl0 hC)) (Nat.le_of_ble_eq_true rfl) (Nat.le_of_ble_eq_true rfl) rfl (metX0_refuses n _ _ _ _ _ hC z6 (fun hC7 => ?_))
    show Ev g _ _ 110 _ [.int r2] K ci3 cj4 cr5 _ _ Qr Qx
    cases h
    exact ev_iret dX0_see_110 rfl rfl (hq hC7)
def fX0_see_94 (n : Nat) (rec29 : Int32 → Int32 → Int32 → jK → jI → jJ → jR → Option (jTp Int32)) (l1 : Int32) (l3 : Int32) (t0 : Int32) (K : jK) (ci : jI) (cj : jJ) (cr : jR) : Option (jTp Int32) := rec29 l1 t0 (l3 + (nI 3)) K ci cj cr
theorem wX0_see_94 {g : jG} {d : Nat} {c sl : Nat} {Qr : jQ} {Qx : jX} (n : Nat) (rec29 : Int32 → Int32 → Int32 → jK → jI → jJ → jR → Option (jTp Int32)) (hrec29 : (∀ (l1 : Int32) (l2 : Int32) (l3 : Int32) (K : jK) (ci : jI) (cj : jJ) (cr : jR) {q}, jCW K cr → rec29 l1 l2 l3 K ci cj cr = some q → jqp wI K q Qr → Ev g (d + 4) mX0_see 29 [.ref 0, .int l1, .int l2, .int l3] [] K ci cj cr c sl Qr Qx)) (l1 : Int32) (l3 : Int32) (t0 : Int32) (K : jK) (ci : jI) (cj : jJ) (cr : jR) {q} (hC : jCW K cr) (h : fX0_see_94 n rec29 l1 l3 t0 K ci cj cr = some q) (hq : jqp wI K q Qr) : Ev g (d + 4) mX0_see 94 [.ref 0, .int l1, jU, .int l3] [.int t0] K ci cj cr c sl Qr Qx := by
  unfold fX0_see_94 at h
  refine ev_istore_n (L' := [_, _, _, _]) dX0_see_94 (by decide) rfl ?_
  refine ev_iinc (v := (l3 + (nI 3))) (L' := [_, _, _, _]) dX0_see_95 rfl (by rw [ji_3]) (by decide) rfl ?_
  refine ev_goto 29 dX0_see_98 rfl ?_
  exact hrec29 _ _ _ _ _ _ _ hC h hq
def fX0_see_93 (n : Nat) (rec29 : Int32 → Int32 → Int32 → jK → jI → jJ → jR → Option (jTp Int32)) (l1 : Int32) (l3 : Int32) (K : jK) (ci : jI) (cj : jJ) (cr : jR) : Option (jTp Int32) := fX0_see_94 n rec29 l1 l3 (nI 0) K ci cj cr
theorem wX0_see_93 {g : jG} {d : Nat} {c sl : Nat} {Qr : jQ} {Qx : jX} (n : Nat) (rec29 : Int32 → Int32 → Int32 → jK → jI → jJ → jR → Option (jTp Int32)) (hrec29 : (∀ (l1 : Int32) (l2 : Int32) (l3 : Int32) (K : jK) (ci : jI) (cj : jJ) (cr : jR) {q}, jCW K cr → rec29 l1 l2 l3 K ci cj cr = some q → jqp wI K q Qr → Ev g (d + 4) mX0_see 29 [.ref 0, .int l1, .int l2, .int l3] [] K ci cj cr c sl Qr Qx)) (l1 : Int32) (l3 : Int32) (K : jK) (ci : jI) (cj : jJ) (cr : jR) {q} (hC : jCW K cr) (h : fX0_see_93 n rec29 l1 l3 K ci cj cr = some q) (hq : jqp wI K q Qr) : Ev g (d + 4) mX0_see 93 [.ref 0, .int l1, jU, .int l3] [] K ci cj cr c sl Qr Qx := by
  unfold fX0_see_93 at h
  refine ev_iconst (v := (nI 0)) dX0_see_93 jc0 ?_
  exact wX0_see_94 n _ (hrec29) _ _ _ _ _ _ _ hC h hq
def fX0_see_89 (n : Nat) (rec29 : Int32 → Int32 → Int32 → jK → jI → jJ → jR → Option (jTp Int32)) (l1 : Int32) (l3 : Int32) (K : jK) (ci : jI) (cj : jJ) (cr : jR) : Option (jTp Int32) := fX0_see_94 n rec29 l1 l3 (nI 1) K ci cj cr
theorem wX0_see_89 {g : jG} {d : Nat} {c sl : Nat} {Qr : jQ} {Qx : jX} (n : Nat) (rec29 : Int32 → Int32 → Int32 → jK → jI → jJ → jR → Option (jTp Int32)) (hrec29 : (∀ (l1 : Int32) (l2 : Int32) (l3 : Int32) (K : jK) (ci : jI) (cj : jJ) (cr : jR) {q}, jCW K cr → rec29 l1 l2 l3 K ci cj cr = some q → jqp wI K q Qr → Ev g (d + 4) mX0_see 29 [.ref 0, .int l1, .int l2, .int l3] [] K ci cj cr c sl Qr Qx)) (l1 : Int32) (l3 : Int32) (K : jK) (ci : jI) (cj : jJ) (cr : jR) {q} (hC : jCW K cr) (h : fX0_see_89 n rec29 l1 l3 K ci cj cr = some q) (hq : jqp wI K q Qr) : Ev g (d + 4) mX0_see 89 [.ref 0, .int l1, jU, .int l3] [] K ci cj cr c sl Qr Qx := by
  unfold fX0_see_89 at h
  refine ev_iconst (v := (nI 1)) dX0_see_89 jc1 ?_
  refine ev_goto 94 dX0_see_90 rfl ?_
  exact wX0_see_94 n _ (hrec29) _ _ _ _ _ _ _ hC h hq
def fX0_see_29 (n : Nat) : Nat → Int32 → Int32 → Int32 → jK → jI → jJ → jR → Option (jTp Int32)
  | 0, _, _, _, _, _, _, _ => none
  | k + 1, l1, l2, l3, K, ci, cj, cr => if l1 ≤ l3 then fX0_see_101 n  l1 l2 K ci cj cr else if l2 = 0 then fX0_see_101 n  l1 l2 K ci cj cr else jpb (fX0_byteAt n l3 K ci cj cr) (fun r3 ci4 cj5 cr6 => if (nI 30) < r3 then fX0_see_93 n (fX0_see_29 n  k) l1 l3 K ci4 cj5 cr6 else jpb (fX0_byteAt n (l3 + (nI 1)) K ci4 cj5 cr6) (fun r10 ci11 cj12 cr13 => jpb (fX0_isShoal n r10 K ci11 cj12 cr13) (fun r16 ci17 cj18 cr19 => if r16 = 0 then fX0_see_93 n (fX0_see_29 n  k) l1 l3 K ci17 cj18 cr19 else jpb (fX0_byteAt n (l3 + (nI 2)) K ci17 cj18 cr19) (fun r23 ci24 cj25 cr26 => jpb (fX0_isBay n r23 K ci24 cj25 cr26) (fun r29 ci30 cj31 cr32 => if r29 = 0 then jpb (fX0_byteAt n (l3 + (nI 2)) K ci30 cj31 cr32) (fun r36 ci37 cj38 cr39 => if r36 = (nI 255) then fX0_see_89 n (fX0_see_29 n  k) l1 l3 K ci37 cj38 cr39 else fX0_see_93 n (fX0_see_29 n  k) l1 l3 K ci37 cj38 cr39) else fX0_see_89 n (fX0_see_29 n  k) l1 l3 K ci30 cj31 cr32)))))
theorem wX0_see_29 {g : jG} {d : Nat} {c sl : Nat} {Qr : jQ} {Qx : jX} (n : Nat) : ∀ (k : Nat) (l1 : Int32) (l2 : Int32) (l3 : Int32) (K : jK) (ci : jI) (cj : jJ) (cr : jR) {q}, jCW K cr → fX0_see_29 n  k l1 l2 l3 K ci cj cr = some q → jqp wI K q Qr → Ev g (d + 4) mX0_see 29 [.ref 0, .int l1, .int l2, .int l3] [] K ci cj cr c sl Qr Qx := by
  intro k
  induction k with
  | zero =>
    intro l1 l2 l3 K ci cj cr q hC h hq
    rw [fX0_see_29.eq_1] at h; cases h
  | succ k ih =>
    intro l1 l2 l3 K ci cj cr q hC h hq
    rw [fX0_see_29.eq_2] at h
    refine ev_iload_n dX0_see_29 rfl ?_
    refine ev_iload_n dX0_see_30 rfl ?_
    refine ev_icmp_ge 101 dX0_see_31 rfl (fun z1 => ?_) (fun z1 => ?_)
    · rw [if_pos z1] at h
      exact ev_mask [true, true, true, false] (wX0_see_101 n   _ _ _ _ _ _ hC h hq)
    · rw [if_neg z1] at h
      refine ev_iload_n dX0_see_34 rfl ?_
      refine ev_if_eq 101 dX0_see_35 rfl (fun z2 => ?_) (fun z2 => ?_)
      · rw [if_pos z2] at h
        exact ev_mask [true, true, true, false] (wX0_see_101 n   _ _ _ _ _ _ hC h hq)
      · rw [if_neg z2] at h
        refine ev_aload_n dX0_see_38 rfl ?_
        refine ev_iload_n dX0_see_39 rfl ?_
        obtain ⟨r3, ci4, cj5, cr6, z7, h⟩ := jpb_inv h
        refine ev_zV1 dX0_see_40 vX0_299_0 (ck0 hC) (Or.inl (cl0 hC)) (Nat.le_of_ble_eq_true rfl) (Nat.le_of_ble_eq_true rfl) rfl (metX0_byteAt n _ _ _ _ _ hC z7 (fun hC8 => ?_))
        show Ev g _ _ 43 _ [.int r3] K ci4 cj5 cr6 _ _ Qr Qx
        refine ev_bipush (v := (nI 30)) dX0_see_43 jb30 ?_
        refine ev_icmp_gt 93 dX0_see_45 rfl (fun z9 => ?_) (fun z9 => ?_)
        · rw [if_pos z9] at h
          exact ev_mask [true, true, false, true] (wX0_see_93 n _ (ih) _ _ _ _ _ _ hC8 h hq)
        · rw [if_neg z9] at h
          refine ev_aload_n dX0_see_48 rfl ?_
          refine ev_aload_n dX0_see_49 rfl ?_
          refine ev_iload_n dX0_see_50 rfl ?_
          refine ev_iconst (v := (nI 1)) dX0_see_51 jc1 ?_
          refine ev_iadd dX0_see_52 ?_
          obtain ⟨r10, ci11, cj12, cr13, z14, h⟩ := jpb_inv h
          refine ev_zV1 dX0_see_53 vX0_299_0 (ck0 hC8) (Or.inl (cl0 hC8)) (Nat.le_of_ble_eq_true rfl) (Nat.le_of_ble_eq_true rfl) rfl (metX0_byteAt n _ _ _ _ _ hC8 z14 (fun hC15 => ?_))
          show Ev g _ _ 56 _ [.int r10, .ref 0] K ci11 cj12 cr13 _ _ Qr Qx
          obtain ⟨r16, ci17, cj18, cr19, z20, h⟩ := jpb_inv h
          refine ev_zV1 dX0_see_56 vX0_242_0 (ck0 hC15) (Or.inl (cl0 hC15)) (Nat.le_of_ble_eq_true rfl) (Nat.le_of_ble_eq_true rfl) rfl (metX0_isShoal n _ _ _ _ _ hC15 z20 (fun hC21 => ?_))
          show Ev g _ _ 59 _ [.int r16] K ci17 cj18 cr19 _ _ Qr Qx
          refine ev_if_eq 93 dX0_see_59 rfl (fun z22 => ?_) (fun z22 => ?_)
          · rw [if_pos z22] at h
            exact ev_mask [true, true, false, true] (wX0_see_93 n _ (ih) _ _ _ _ _ _ hC21 h hq)
          · rw [if_neg z22] at h
            refine ev_aload_n dX0_see_62 rfl ?_
            refine ev_aload_n dX0_see_63 rfl ?_
            refine ev_iload_n dX0_see_64 rfl ?_
            refine ev_iconst (v := (nI 2)) dX0_see_65 jc2 ?_
            refine ev_iadd dX0_see_66 ?_
            obtain ⟨r23, ci24, cj25, cr26, z27, h⟩ := jpb_inv h
            refine ev_zV1 dX0_see_67 vX0_299_0 (ck0 hC21) (Or.inl (cl0 hC21)) (Nat.le_of_ble_eq_true rfl) (Nat.le_of_ble_eq_true rfl) rfl (metX0_byteAt n _ _ _ _ _ hC21 z27 (fun hC28 => ?_))
            show Ev g _ _ 70 _ [.int r23, .ref 0] K ci24 cj25 cr26 _ _ Qr Qx
            obtain ⟨r29, ci30, cj31, cr32, z33, h⟩ := jpb_inv h
            refine ev_zV1 dX0_see_70 vX0_204_0 (ck0 hC28) (Or.inl (cl0 hC28)) (Nat.le_of_ble_eq_true rfl) (Nat.le_of_ble_eq_true rfl) rfl (metX0_isBay n _ _ _ _ _ hC28 z33 (fun hC34 => ?_))
            show Ev g _ _ 73 _ [.int r29] K ci30 cj31 cr32 _ _ Qr Qx
            refine ev_if_ne 89 dX0_see_73 rfl (fun z35 => ?_) (fun z35 => ?_)
            · rw [if_neg z35] at h
              exact ev_mask [true, true, false, true] (wX0_see_89 n _ (ih) _ _ _ _ _ _ hC34 h hq)
            · rw [if_pos z35] at h
              refine ev_aload_n dX0_see_76 rfl ?_
              refine ev_iload_n dX0_see_77 rfl ?_
              refine ev_iconst (v := (nI 2)) dX0_see_78 jc2 ?_
              refine ev_iadd dX0_see_79 ?_
              obtain ⟨r36, ci37, cj38, cr39, z40, h⟩ := jpb_inv h
              refine ev_zV1 dX0_see_80 vX0_299_0 (ck0 hC34) (Or.inl (cl0 hC34)) (Nat.le_of_ble_eq_true rfl) (Nat.le_of_ble_eq_true rfl) rfl (metX0_byteAt n _ _ _ _ _ hC34 z40 (fun hC41 => ?_))
              show Ev g _ _ 83 _ [.int r36] K ci37 cj38 cr39 _ _ Qr Qx
              refine ev_sipush (v := (nI 255)) dX0_see_83 js255 ?_
              refine ev_icmp_ne 93 dX0_see_86 rfl (fun z42 => ?_) (fun z42 => ?_)
              · rw [if_neg z42] at h
                exact ev_mask [true, true, false, true] (wX0_see_93 n _ (ih) _ _ _ _ _ _ hC41 h hq)
              · rw [if_pos z42] at h
                exact ev_mask [true, true, false, true] (wX0_see_89 n _ (ih) _ _ _ _ _ _ hC41 h hq)
def fX0_see_26 (n : Nat) (l1 : Int32) (t0 : Int32) (K : jK) (ci : jI) (cj : jJ) (cr : jR) : Option (jTp Int32) := fX0_see_29 n  n l1 t0 (nI 0) K ci cj cr
theorem wX0_see_26 {g : jG} {d : Nat} {c sl : Nat} {Qr : jQ} {Qx : jX} (n : Nat) (l1 : Int32) (t0 : Int32) (K : jK) (ci : jI) (cj : jJ) (cr : jR) {q} (hC : jCW K cr) (h : fX0_see_26 n  l1 t0 K ci cj cr = some q) (hq : jqp wI K q Qr) : Ev g (d + 4) mX0_see 26 [.ref 0, .int l1, jU, jU] [.int t0] K ci cj cr c sl Qr Qx := by
  unfold fX0_see_26 at h
  refine ev_istore_n (L' := [_, _, _, _]) dX0_see_26 (by decide) rfl ?_
  refine ev_iconst (v := (nI 0)) dX0_see_27 jc0 ?_
  refine ev_istore_n (L' := [_, _, _, _]) dX0_see_28 (by decide) rfl ?_
  exact wX0_see_29 n   n _ _ _ _ _ _ _ hC h hq
def fX0_see_25 (n : Nat) (l1 : Int32) (K : jK) (ci : jI) (cj : jJ) (cr : jR) : Option (jTp Int32) := fX0_see_26 n  l1 (nI 0) K ci cj cr
theorem wX0_see_25 {g : jG} {d : Nat} {c sl : Nat} {Qr : jQ} {Qx : jX} (n : Nat) (l1 : Int32) (K : jK) (ci : jI) (cj : jJ) (cr : jR) {q} (hC : jCW K cr) (h : fX0_see_25 n  l1 K ci cj cr = some q) (hq : jqp wI K q Qr) : Ev g (d + 4) mX0_see 25 [.ref 0, .int l1, jU, jU] [] K ci cj cr c sl Qr Qx := by
  unfold fX0_see_25 at h
  refine ev_iconst (v := (nI 0)) dX0_see_25 jc0 ?_
  exact wX0_see_26 n   _ _ _ _ _ _ hC h hq
def fX0_see (n : Nat) (K : jK) (ci : jI) (cj : jJ) (cr : jR) : Option (jTp Int32) := jpb (fX0_tapeTaken n  K ci cj cr) (fun r1 ci2 cj3 cr4 => if r1 ≤ 0 then fX0_see_25 n  r1 K ci2 cj3 cr4 else if (r1 - r1 / (nI 3) * (nI 3)) = 0 then if (nI 48) < r1 then fX0_see_25 n  r1 K ci2 cj3 cr4 else fX0_see_26 n  r1 (nI 1) K ci2 cj3 cr4 else fX0_see_25 n  r1 K ci2 cj3 cr4)
theorem metX0_see {g : jG} {d : Nat} {c sl : Nat} {Qr : jQ} {Qx : jX} (n : Nat) (K : jK) (ci : jI) (cj : jJ) (cr : jR) {q} (hC : jCW K cr) (h : fX0_see n  K ci cj cr = some q) (hq : jqp wI K q Qr) : EvM g (d + 4) mX0_see [.ref 0] K ci cj cr c sl Qr Qx := by
  unfold fX0_see at h
  show Ev g (d + 4) mX0_see 0 [.ref 0, jU, jU, jU] [] K ci cj cr c sl Qr Qx
  refine ev_aload_n dX0_see_0 rfl ?_
  obtain ⟨r1, ci2, cj3, cr4, z5, h⟩ := jpb_inv h
  refine ev_zV0 dX0_see_1 vX0_120_0 (ck0 hC) (Or.inl (cl0 hC)) (Nat.le_of_ble_eq_true rfl) (Nat.le_of_ble_eq_true rfl) rfl (metX0_tapeTaken n  _ _ _ _ hC z5 (fun hC6 => ?_))
  show Ev g _ _ 4 _ [.int r1] K ci2 cj3 cr4 _ _ Qr Qx
  refine ev_istore_n (L' := [_, _, _, _]) dX0_see_4 (by decide) rfl ?_
  refine ev_iload_n dX0_see_5 rfl ?_
  refine ev_if_le 25 dX0_see_6 rfl (fun z7 => ?_) (fun z7 => ?_)
  · rw [if_pos z7] at h
    exact wX0_see_25 n   _ _ _ _ _ hC6 h hq
  · rw [if_neg z7] at h
    refine ev_iload_n dX0_see_9 rfl ?_
    refine ev_iconst (v := (nI 3)) dX0_see_10 jc3 ?_
    refine ev_irem dX0_see_11 (by decide) ?_
    refine ev_if_ne 25 dX0_see_12 rfl (fun z8 => ?_) (fun z8 => ?_)
    · rw [if_neg z8] at h
      exact wX0_see_25 n   _ _ _ _ _ hC6 h hq
    · rw [if_pos z8] at h
      refine ev_iload_n dX0_see_15 rfl ?_
      refine ev_bipush (v := (nI 48)) dX0_see_16 jb48 ?_
      refine ev_icmp_gt 25 dX0_see_18 rfl (fun z9 => ?_) (fun z9 => ?_)
      · rw [if_pos z9] at h
        exact wX0_see_25 n   _ _ _ _ _ hC6 h hq
      · rw [if_neg z9] at h
        refine ev_iconst (v := (nI 1)) dX0_see_21 jc1 ?_
        refine ev_goto 26 dX0_see_22 rfl ?_
        exact wX0_see_26 n   _ _ _ _ _ _ hC6 h hq
