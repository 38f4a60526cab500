/-! STAGE A OF THE COMPONENT (printed by gen/comp.py) -/
set_option maxRecDepth 100000
def fX5_starving (n : Nat) (ah : Nat) (a0 : Int32) (K : jK) (ci : jI) (cj : jJ) (cr : jR) : Option (jTp Int32) := if isSt ah then Option.bind (cr 0 0) (fun r1 => if K.1 r1 = 1 ∧ r1 < K.2.2 then if (cr r1 7) = none then if jok a0 6 then if jok a0 6 then jpb (fX0_within n (((((ci (ah + 4) (a0).toNatClampNeg) + (nI 9)) - (ci (ah + 5) (a0).toNatClampNeg))).toInt64) (nI 99) K ci cj cr) (fun r31 ci32 cj33 cr34 => some (r31, ci32, cj33, cr34)) else none else none else if jok a0 6 then if jok (nI 0) 11 then if jok a0 6 then if jok (nI 1) 11 then if jok (nI 4) 11 then if jok a0 6 then if jok (nI 7) 11 then Option.bind (cr 0 0) (fun r12 => if K.1 r12 = 1 ∧ r12 < K.2.2 then Option.bind (cr r12 7) (fun r15 => jpb (fat n r15 11 K ci (ju (ju (ju (ju cj 12 ((nI 0)).toNatClampNeg (((ci (ah + 7) (a0).toNatClampNeg)).toInt64)) 12 ((nI 1)).toNatClampNeg (((ci (ah + 4) (a0).toNatClampNeg)).toInt64)) 12 ((nI 4)).toNatClampNeg (((ci ah 0)).toInt64)) 12 ((nI 7)).toNatClampNeg (((ci (ah + 5) (a0).toNatClampNeg)).toInt64)) cr) (fun r17 ci18 cj19 cr20 => jpb (fX0_within n r17 (nI 99) K ci18 cj19 cr20) (fun r23 ci24 cj25 cr26 => some (r23, ci24, cj25, cr26)))) else none) else none else none else none else none else none else none else none else none) else none
theorem metX5_starving {g : jG} {d : Nat} {c sl : Nat} {Qr : jQ} {Qx : jX} (n : Nat) (ah : Nat) (a0 : Int32) (K : jK) (ci : jI) (cj : jJ) (cr : jR) {q} (hC : jCW K cr) (h : fX5_starving n ah a0 K ci cj cr = some q) (hq : jqp wI K q Qr) : EvM g (d + 541) mX5_starving [.ref ah, .int a0] K ci cj cr c sl Qr Qx := by
  unfold fX5_starving at h
  show Ev g (d + 541) mX5_starving 0 [.ref ah, .int a0] [] K ci cj cr c sl Qr Qx
  by_cases hs_ah : isSt ah
  rotate_left
  · rw [if_neg hs_ah] at h; cases h
  rw [if_pos hs_ah] at h
  refine ev_aload_n dX5_starving_0 rfl ?_
  refine ev_getR dX5_starving_1 fX5_3_5 (sk0 hC hs_ah) (Or.inl (sl0 hC hs_ah)) rfl (sr12 hC hs_ah) ?_
  obtain ⟨r1, z2, h⟩ := Option.bind_eq_some_iff.mp h
  refine ev_getR dX5_starving_4 fX5_92_0 (ck0 hC) (Or.inl (cl0 hC)) rfl z2 ?_
  by_cases z3 : K.1 r1 = 1 ∧ r1 < K.2.2
  rotate_left
  · rw [if_neg z3] at h; cases h
  rw [if_pos z3] at h
  refine ev_getQ dX5_starving_7 fX5_161_1 z3.1 (Or.inl z3.2) rfl ?_
  refine ev_ifnonnullQ 36 dX5_starving_10 rfl (fun z4 => ?_) (fun z4 => ?_)
  · rw [if_neg z4] at h
    refine ev_aload_n dX5_starving_36 rfl ?_
    refine ev_getR dX5_starving_37 fX5_3_5 (sk0 hC hs_ah) (Or.inl (sl0 hC hs_ah)) rfl (sr12 hC hs_ah) ?_
    refine ev_getR dX5_starving_40 fX5_102_0 (ck0 hC) (Or.inl (cl0 hC)) rfl (cq0_6 hC) ?_
    refine ev_getR dX5_starving_43 fX5_106_4 (ck11 hC) (Or.inl (cl11 hC)) rfl (cq11_0 hC) ?_
    refine ev_iconst (v := (nI 0)) dX5_starving_46 jc0 ?_
    refine ev_aload_n dX5_starving_47 rfl ?_
    refine ev_getR dX5_starving_48 fX5_34_5 (sk0 hC hs_ah) (Or.inl (sl0 hC hs_ah)) rfl (sr7 hC hs_ah) ?_
    refine ev_iload_n dX5_starving_51 rfl ?_
    by_cases z5 : jok a0 6
    rotate_left
    · rw [if_neg z5] at h; cases h
    rw [if_pos z5] at h
    refine ev_iaload dX5_starving_52 (sk7 hC hs_ah) (Or.inl (sl7 hC hs_ah)) (jok.ix z5 (sn7 hC hs_ah)) ?_
    refine ev_i2l dX5_starving_53 ?_
    by_cases z6 : jok (nI 0) 11
    rotate_left
    · rw [if_neg z6] at h; cases h
    rw [if_pos z6] at h
    refine ev_lastore dX5_starving_54 (ck12 hC) (cl12 hC) (jok.ix z6 (cn12 hC)) ?_
    refine ev_aload_n dX5_starving_55 rfl ?_
    refine ev_getR dX5_starving_56 fX5_3_5 (sk0 hC hs_ah) (Or.inl (sl0 hC hs_ah)) rfl (sr12 hC hs_ah) ?_
    refine ev_getR dX5_starving_59 fX5_102_0 (ck0 hC) (Or.inl (cl0 hC)) rfl (cq0_6 hC) ?_
    refine ev_getR dX5_starving_62 fX5_106_4 (ck11 hC) (Or.inl (cl11 hC)) rfl (cq11_0 hC) ?_
    refine ev_iconst (v := (nI 1)) dX5_starving_65 jc1 ?_
    refine ev_aload_n dX5_starving_66 rfl ?_
    refine ev_getR dX5_starving_67 fX5_25_5 (sk0 hC hs_ah) (Or.inl (sl0 hC hs_ah)) rfl (sr4 hC hs_ah) ?_
    refine ev_iload_n dX5_starving_70 rfl ?_
    by_cases z7 : jok a0 6
    rotate_left
    · rw [if_neg z7] at h; cases h
    rw [if_pos z7] at h
    refine ev_iaload dX5_starving_71 (sk4 hC hs_ah) (Or.inl (sl4 hC hs_ah)) (jok.ix z7 (sn4 hC hs_ah)) ?_
    refine ev_i2l dX5_starving_72 ?_
    by_cases z8 : jok (nI 1) 11
    rotate_left
    · rw [if_neg z8] at h; cases h
    rw [if_pos z8] at h
    refine ev_lastore dX5_starving_73 (ck12 hC) (cl12 hC) (jok.ix z8 (cn12 hC)) ?_
    refine ev_aload_n dX5_starving_74 rfl ?_
    refine ev_getR dX5_starving_75 fX5_3_5 (sk0 hC hs_ah) (Or.inl (sl0 hC hs_ah)) rfl (sr12 hC hs_ah) ?_
    refine ev_getR dX5_starving_78 fX5_102_0 (ck0 hC) (Or.inl (cl0 hC)) rfl (cq0_6 hC) ?_
    refine ev_getR dX5_starving_81 fX5_106_4 (ck11 hC) (Or.inl (cl11 hC)) rfl (cq11_0 hC) ?_
    refine ev_iconst (v := (nI 4)) dX5_starving_84 jc4 ?_
    refine ev_aload_n dX5_starving_85 rfl ?_
    refine ev_getI dX5_starving_86 fX5_51_5 (sk0 hC hs_ah) (Or.inl (sl0 hC hs_ah)) rfl ?_
    refine ev_i2l dX5_starving_89 ?_
    by_cases z9 : jok (nI 4) 11
    rotate_left
    · rw [if_neg z9] at h; cases h
    rw [if_pos z9] at h
    refine ev_lastore dX5_starving_90 (ck12 hC) (cl12 hC) (jok.ix z9 (cn12 hC)) ?_
    refine ev_aload_n dX5_starving_91 rfl ?_
    refine ev_getR dX5_starving_92 fX5_3_5 (sk0 hC hs_ah) (Or.inl (sl0 hC hs_ah)) rfl (sr12 hC hs_ah) ?_
    refine ev_getR dX5_starving_95 fX5_102_0 (ck0 hC) (Or.inl (cl0 hC)) rfl (cq0_6 hC) ?_
    refine ev_getR dX5_starving_98 fX5_106_4 (ck11 hC) (Or.inl (cl11 hC)) rfl (cq11_0 hC) ?_
    refine ev_bipush (v := (nI 7)) dX5_starving_101 jb7 ?_
    refine ev_aload_n dX5_starving_103 rfl ?_
    refine ev_getR dX5_starving_104 fX5_28_5 (sk0 hC hs_ah) (Or.inl (sl0 hC hs_ah)) rfl (sr5 hC hs_ah) ?_
    refine ev_iload_n dX5_starving_107 rfl ?_
    by_cases z10 : jok a0 6
    rotate_left
    · rw [if_neg z10] at h; cases h
    rw [if_pos z10] at h
    refine ev_iaload dX5_starving_108 (sk5 hC hs_ah) (Or.inl (sl5 hC hs_ah)) (jok.ix z10 (sn5 hC hs_ah)) ?_
    refine ev_i2l dX5_starving_109 ?_
    by_cases z11 : jok (nI 7) 11
    rotate_left
    · rw [if_neg z11] at h; cases h
    rw [if_pos z11] at h
    refine ev_lastore dX5_starving_110 (ck12 hC) (cl12 hC) (jok.ix z11 (cn12 hC)) ?_
    refine ev_aload_n dX5_starving_111 rfl ?_
    refine ev_getR dX5_starving_112 fX5_3_5 (sk0 hC hs_ah) (Or.inl (sl0 hC hs_ah)) rfl (sr12 hC hs_ah) ?_
    obtain ⟨r12, z13, h⟩ := Option.bind_eq_some_iff.mp h
    refine ev_getR dX5_starving_115 fX5_92_0 (ck0 hC) (Or.inl (cl0 hC)) rfl z13 ?_
    by_cases z14 : K.1 r12 = 1 ∧ r12 < K.2.2
    rotate_left
    · rw [if_neg z14] at h; cases h
    rw [if_pos z14] at h
    obtain ⟨r15, z16, h⟩ := Option.bind_eq_some_iff.mp h
    refine ev_getR dX5_starving_118 fX5_161_1 z14.1 (Or.inl z14.2) rfl z16 ?_
    refine ev_aload_n dX5_starving_121 rfl ?_
    refine ev_getR dX5_starving_122 fX5_3_5 (sk0 hC hs_ah) (Or.inl (sl0 hC hs_ah)) rfl (sr12 hC hs_ah) ?_
    refine ev_getR dX5_starving_125 fX5_102_0 (ck0 hC) (Or.inl (cl0 hC)) rfl (cq0_6 hC) ?_
    obtain ⟨r17, ci18, cj19, cr20, z21, h⟩ := jpb_inv h
    refine ev_vcall dX5_starving_128 yaX5_142 vatL tvat hC z21 (Nat.le_of_ble_eq_true rfl) rfl (fun hC22 => ?_)
    show Ev g _ _ 131 _ [.long r17] K ci18 cj19 cr20 _ _ Qr Qx
    refine ev_bipush (v := (nI 99)) dX5_starving_131 jb99 ?_
    obtain ⟨r23, ci24, cj25, cr26, z27, h⟩ := jpb_inv h
    refine ev_zS2 dX5_starving_133 sX5_157 (Nat.le_of_ble_eq_true rfl) (Nat.le_of_ble_eq_true rfl) rfl (metX0_within n _ _ _ _ _ _ hC22 z27 (fun hC28 => ?_))
    show Ev g _ _ 136 _ [.int r23] K ci24 cj25 cr26 _ _ Qr Qx
    cases h
    exact ev_iret dX5_starving_136 rfl rfl (hq hC28)
  · rw [if_pos z4] at h
    refine ev_aload_n dX5_starving_13 rfl ?_
    refine ev_getR dX5_starving_14 fX5_25_5 (sk0 hC hs_ah) (Or.inl (sl0 hC hs_ah)) rfl (sr4 hC hs_ah) ?_
    refine ev_iload_n dX5_starving_17 rfl ?_
    by_cases z29 : jok a0 6
    rotate_left
    · rw [if_neg z29] at h; cases h
    rw [if_pos z29] at h
    refine ev_iaload dX5_starving_18 (sk4 hC hs_ah) (Or.inl (sl4 hC hs_ah)) (jok.ix z29 (sn4 hC hs_ah)) ?_
    refine ev_bipush (v := (nI 9)) dX5_starving_19 jb9 ?_
    refine ev_iadd dX5_starving_21 ?_
    refine ev_aload_n dX5_starving_22 rfl ?_
    refine ev_getR dX5_starving_23 fX5_28_5 (sk0 hC hs_ah) (Or.inl (sl0 hC hs_ah)) rfl (sr5 hC hs_ah) ?_
    refine ev_iload_n dX5_starving_26 rfl ?_
    by_cases z30 : jok a0 6
    rotate_left
    · rw [if_neg z30] at h; cases h
    rw [if_pos z30] at h
    refine ev_iaload dX5_starving_27 (sk5 hC hs_ah) (Or.inl (sl5 hC hs_ah)) (jok.ix z30 (sn5 hC hs_ah)) ?_
    refine ev_isub dX5_starving_28 ?_
    refine ev_i2l dX5_starving_29 ?_
    refine ev_bipush (v := (nI 99)) dX5_starving_30 jb99 ?_
    obtain ⟨r31, ci32, cj33, cr34, z35, h⟩ := jpb_inv h
    refine ev_zS2 dX5_starving_32 sX5_157 (Nat.le_of_ble_eq_true rfl) (Nat.le_of_ble_eq_true rfl) rfl (metX0_within n _ _ _ _ _ _ hC z35 (fun hC36 => ?_))
    show Ev g _ _ 35 _ [.int r31] K ci32 cj33 cr34 _ _ Qr Qx
    cases h
    exact ev_iret dX5_starving_35 rfl rfl (hq hC36)
def fX5_goes_121 (n : Nat) (ah : Nat) : Nat → Int32 → Int32 → jK → jI → jJ → jR → Option (jTp Int32)
  | 0, _, _, _, _, _, _ => none
  | k + 1, l1, l2, K, ci, cj, cr => jpb (fX0_bays n  K ci cj cr) (fun r1 ci2 cj3 cr4 => if r1 ≤ l2 then some (l1, (ju ci2 ah 0 ((ci2 ah 0) + (nI 1))), cj3, cr4) else jpb (fX5_starving n ah l2 K ci2 cj3 cr4) (fun r8 ci9 cj10 cr11 => if jok l2 6 then if jok l2 6 then if jok l2 6 then fX5_goes_121 n ah  k l1 (l2 + (nI 1)) K (ju (ju ci9 (ah + 4) (l2).toNatClampNeg r8) (ah + 6) (l2).toNatClampNeg ((ju ci9 (ah + 4) (l2).toNatClampNeg r8) (ah + 7) (l2).toNatClampNeg)) cj10 cr11 else none else none else none))
theorem wX5_goes_121 {g : jG} {d : Nat} {c sl : Nat} {Qr : jQ} {Qx : jX} (n : Nat) (ah : Nat) (hs_ah : isSt ah) : ∀ (k : Nat) (l1 : Int32) (l2 : Int32) (K : jK) (ci : jI) (cj : jJ) (cr : jR) {q}, jCW K cr → fX5_goes_121 n ah  k l1 l2 K ci cj cr = some q → jqp wI K q Qr → Ev g (d + 548) mX5_goes 121 [.ref ah, .int l1, .int l2] [] K ci cj cr c sl Qr Qx := by
  intro k
  induction k with
  | zero =>
    intro l1 l2 K ci cj cr q hC h hq
    rw [fX5_goes_121.eq_1] at h; cases h
  | succ k ih =>
    intro l1 l2 K ci cj cr q hC h hq
    rw [fX5_goes_121.eq_2] at h
    refine ev_iload_n dX5_goes_121 rfl ?_
    refine ev_aload_n dX5_goes_122 rfl ?_
    refine ev_getR dX5_goes_123 fX5_3_5 (sk0 hC hs_ah) (Or.inl (sl0 hC hs_ah)) rfl (sr12 hC hs_ah) ?_
    obtain ⟨r1, ci2, cj3, cr4, z5, h⟩ := jpb_inv h
    refine ev_zV0 dX5_goes_126 vX5_70_0 (ck0 hC) (Or.inl (cl0 hC)) (Nat.le_of_ble_eq_true rfl) (Nat.le_of_ble_eq_true rfl) rfl (metX0_bays n  _ _ _ _ hC z5 (fun hC6 => ?_))
    show Ev g _ _ 129 _ [.int r1, .int l2] K ci2 cj3 cr4 _ _ Qr Qx
    refine ev_icmp_ge 161 dX5_goes_129 rfl (fun z7 => ?_) (fun z7 => ?_)
    · rw [if_pos z7] at h
      refine ev_aload_n dX5_goes_161 rfl ?_
      refine ev_dup dX5_goes_162 rfl ?_
      refine ev_getI dX5_goes_163 fX5_51_5 (sk0 hC6 hs_ah) (Or.inl (sl0 hC6 hs_ah)) rfl ?_
      refine ev_iconst (v := (nI 1)) dX5_goes_166 jc1 ?_
      refine ev_iadd dX5_goes_167 ?_
      refine ev_putI dX5_goes_168 (pX5_51_5 _) (sk0 hC6 hs_ah) (sl0 hC6 hs_ah) rfl rfl rfl ?_
      refine ev_iload_n dX5_goes_171 rfl ?_
      cases h
      exact ev_iret dX5_goes_172 rfl rfl (hq hC6)
    · rw [if_neg z7] at h
      refine ev_aload_n dX5_goes_132 rfl ?_
      refine ev_getR dX5_goes_133 fX5_25_5 (sk0 hC6 hs_ah) (Or.inl (sl0 hC6 hs_ah)) rfl (sr4 hC6 hs_ah) ?_
      refine ev_iload_n dX5_goes_136 rfl ?_
      refine ev_aload_n dX5_goes_137 rfl ?_
      refine ev_iload_n dX5_goes_138 rfl ?_
      obtain ⟨r8, ci9, cj10, cr11, z12, h⟩ := jpb_inv h
      refine ev_zV1 dX5_goes_139 vX5_181_5 (sk0 hC6 hs_ah) (Or.inl (sl0 hC6 hs_ah)) (Nat.le_of_ble_eq_true rfl) (Nat.le_of_ble_eq_true rfl) rfl (metX5_starving n _ _ _ _ _ _ hC6 z12 (fun hC13 => ?_))
      show Ev g _ _ 142 _ [.int r8, .int l2, .ref (ah + 4)] K ci9 cj10 cr11 _ _ Qr Qx
      by_cases z14 : jok l2 6
      rotate_left
      · rw [if_neg z14] at h; cases h
      rw [if_pos z14] at h
      refine ev_iastore dX5_goes_142 (sk4 hC13 hs_ah) (sl4 hC13 hs_ah) (jok.ix z14 (sn4 hC13 hs_ah)) ?_
      refine ev_aload_n dX5_goes_143 rfl ?_
      refine ev_getR dX5_goes_144 fX5_31_5 (sk0 hC13 hs_ah) (Or.inl (sl0 hC13 hs_ah)) rfl (sr6 hC13 hs_ah) ?_
      refine ev_iload_n dX5_goes_147 rfl ?_
      refine ev_aload_n dX5_goes_148 rfl ?_
      refine ev_getR dX5_goes_149 fX5_34_5 (sk0 hC13 hs_ah) (Or.inl (sl0 hC13 hs_ah)) rfl (sr7 hC13 hs_ah) ?_
      refine ev_iload_n dX5_goes_152 rfl ?_
      by_cases z15 : jok l2 6
      rotate_left
      · rw [if_neg z15] at h; cases h
      rw [if_pos z15] at h
      refine ev_iaload dX5_goes_153 (sk7 hC13 hs_ah) (Or.inl (sl7 hC13 hs_ah)) (jok.ix z15 (sn7 hC13 hs_ah)) ?_
      by_cases z16 : jok l2 6
      rotate_left
      · rw [if_neg z16] at h; cases h
      rw [if_pos z16] at h
      refine ev_iastore dX5_goes_154 (sk6 hC13 hs_ah) (sl6 hC13 hs_ah) (jok.ix z16 (sn6 hC13 hs_ah)) ?_
      refine ev_iinc (v := (l2 + (nI 1))) (L' := [_, _, _]) dX5_goes_155 rfl (by rw [ji_1]) (by decide) rfl ?_
      refine ev_goto 121 dX5_goes_158 rfl ?_
      exact ih _ _ _ _ _ _ hC13 h hq
def fX5_goes_71 (n : Nat) (ah : Nat) : Nat → Int32 → Int32 → jK → jI → jJ → jR → Option (jTp Int32)
  | 0, _, _, _, _, _, _ => none
  | k + 1, l1, l2, K, ci, cj, cr => jpb (fX0_pairs n  K ci cj cr) (fun r1 ci2 cj3 cr4 => if r1 ≤ l2 then fX5_goes_121 n ah  n l1 (nI 0) K ci2 cj3 cr4 else if jok l2 10 then if jok l2 10 then if jok l2 10 then jpb (fJ12_min n (nI 99) (((ju ci2 (ah + 8) (l2).toNatClampNeg (ci2 (ah + 9) (l2).toNatClampNeg)) (ah + 10) (l2).toNatClampNeg) + (nI 1)) K (ju ci2 (ah + 8) (l2).toNatClampNeg (ci2 (ah + 9) (l2).toNatClampNeg)) cj3 cr4) (fun r11 ci12 cj13 cr14 => if jok l2 10 then fX5_goes_71 n ah  k l1 (l2 + (nI 1)) K (ju ci12 (ah + 10) (l2).toNatClampNeg r11) cj13 cr14 else none) else none else none else none)
theorem wX5_goes_71 {g : jG} {d : Nat} {c sl : Nat} {Qr : jQ} {Qx : jX} (n : Nat) (ah : Nat) (hs_ah : isSt ah) : ∀ (k : Nat) (l1 : Int32) (l2 : Int32) (K : jK) (ci : jI) (cj : jJ) (cr : jR) {q}, jCW K cr → fX5_goes_71 n ah  k l1 l2 K ci cj cr = some q → jqp wI K q Qr → Ev g (d + 548) mX5_goes 71 [.ref ah, .int l1, .int l2] [] K ci cj cr c sl Qr Qx := by
  intro k
  induction k with
  | zero =>
    intro l1 l2 K ci cj cr q hC h hq
    rw [fX5_goes_71.eq_1] at h; cases h
  | succ k ih =>
    intro l1 l2 K ci cj cr q hC h hq
    rw [fX5_goes_71.eq_2] at h
    refine ev_iload_n dX5_goes_71 rfl ?_
    refine ev_aload_n dX5_goes_72 rfl ?_
    refine ev_getR dX5_goes_73 fX5_3_5 (sk0 hC hs_ah) (Or.inl (sl0 hC hs_ah)) rfl (sr12 hC hs_ah) ?_
    obtain ⟨r1, ci2, cj3, cr4, z5, h⟩ := jpb_inv h
    refine ev_zV0 dX5_goes_76 vX5_81_0 (ck0 hC) (Or.inl (cl0 hC)) (Nat.le_of_ble_eq_true rfl) (Nat.le_of_ble_eq_true rfl) rfl (metX0_pairs n  _ _ _ _ hC z5 (fun hC6 => ?_))
    show Ev g _ _ 79 _ [.int r1, .int l2] K ci2 cj3 cr4 _ _ Qr Qx
    refine ev_icmp_ge 119 dX5_goes_79 rfl (fun z7 => ?_) (fun z7 => ?_)
    · rw [if_pos z7] at h
      refine ev_iconst (v := (nI 0)) dX5_goes_119 jc0 ?_
      refine ev_istore_n (L' := [_, _, _]) dX5_goes_120 (by decide) rfl ?_
      exact wX5_goes_121 n _ hs_ah   n _ _ _ _ _ _ hC6 h hq
    · rw [if_neg z7] at h
      refine ev_aload_n dX5_goes_82 rfl ?_
      refine ev_getR dX5_goes_83 fX5_37_5 (sk0 hC6 hs_ah) (Or.inl (sl0 hC6 hs_ah)) rfl (sr8 hC6 hs_ah) ?_
      refine ev_iload_n dX5_goes_86 rfl ?_
      refine ev_aload_n dX5_goes_87 rfl ?_
      refine ev_getR dX5_goes_88 fX5_40_5 (sk0 hC6 hs_ah) (Or.inl (sl0 hC6 hs_ah)) rfl (sr9 hC6 hs_ah) ?_
      refine ev_iload_n dX5_goes_91 rfl ?_
      by_cases z8 : jok l2 10
      rotate_left
      · rw [if_neg z8] at h; cases h
      rw [if_pos z8] at h
      refine ev_iaload dX5_goes_92 (sk9 hC6 hs_ah) (Or.inl (sl9 hC6 hs_ah)) (jok.ix z8 (sn9 hC6 hs_ah)) ?_
      by_cases z9 : jok l2 10
      rotate_left
      · rw [if_neg z9] at h; cases h
      rw [if_pos z9] at h
      refine ev_iastore dX5_goes_93 (sk8 hC6 hs_ah) (sl8 hC6 hs_ah) (jok.ix z9 (sn8 hC6 hs_ah)) ?_
      refine ev_aload_n dX5_goes_94 rfl ?_
      refine ev_getR dX5_goes_95 fX5_43_5 (sk0 hC6 hs_ah) (Or.inl (sl0 hC6 hs_ah)) rfl (sr10 hC6 hs_ah) ?_
      refine ev_iload_n dX5_goes_98 rfl ?_
      refine ev_bipush (v := (nI 99)) dX5_goes_99 jb99 ?_
      refine ev_aload_n dX5_goes_101 rfl ?_
      refine ev_getR dX5_goes_102 fX5_43_5 (sk0 hC6 hs_ah) (Or.inl (sl0 hC6 hs_ah)) rfl (sr10 hC6 hs_ah) ?_
      refine ev_iload_n dX5_goes_105 rfl ?_
      by_cases z10 : jok l2 10
      rotate_left
      · rw [if_neg z10] at h; cases h
      rw [if_pos z10] at h
      refine ev_iaload dX5_goes_106 (sk10 hC6 hs_ah) (Or.inl (sl10 hC6 hs_ah)) (jok.ix z10 (sn10 hC6 hs_ah)) ?_
      refine ev_iconst (v := (nI 1)) dX5_goes_107 jc1 ?_
      refine ev_iadd dX5_goes_108 ?_
      obtain ⟨r11, ci12, cj13, cr14, z15, h⟩ := jpb_inv h
      refine ev_zS2 dX5_goes_109 sX5_177 (Nat.le_of_ble_eq_true rfl) (Nat.le_of_ble_eq_true rfl) rfl (metJ12_min n _ _ _ _ _ _ hC6 z15 (fun hC16 => ?_))
      show Ev g _ _ 112 _ [.int r11, .int l2, .ref (ah + 10)] K ci12 cj13 cr14 _ _ Qr Qx
      by_cases z17 : jok l2 10
      rotate_left
      · rw [if_neg z17] at h; cases h
      rw [if_pos z17] at h
      refine ev_iastore dX5_goes_112 (sk10 hC16 hs_ah) (sl10 hC16 hs_ah) (jok.ix z17 (sn10 hC16 hs_ah)) ?_
      refine ev_iinc (v := (l2 + (nI 1))) (L' := [_, _, _]) dX5_goes_113 rfl (by rw [ji_1]) (by decide) rfl ?_
      refine ev_goto 71 dX5_goes_116 rfl ?_
      exact ih _ _ _ _ _ _ hC16 h hq
def fX5_goes_41 (n : Nat) (ah : Nat) : Nat → Int32 → Int32 → jK → jI → jJ → jR → Option (jTp Int32)
  | 0, _, _, _, _, _, _ => none
  | k + 1, l1, l2, K, ci, cj, cr => jpb (fX0_pairs n  K ci cj cr) (fun r1 ci2 cj3 cr4 => if r1 ≤ l2 then fX5_goes_71 n ah  n l1 (nI 0) K ci2 cj3 cr4 else jpb (fX5_mending n ah l2 K ci2 cj3 cr4) (fun r8 ci9 cj10 cr11 => if jok l2 10 then fX5_goes_41 n ah  k l1 (l2 + (nI 1)) K (ju ci9 (ah + 9) (l2).toNatClampNeg r8) cj10 cr11 else none))
theorem wX5_goes_41 {g : jG} {d : Nat} {c sl : Nat} {Qr : jQ} {Qx : jX} (n : Nat) (ah : Nat) (hs_ah : isSt ah) : ∀ (k : Nat) (l1 : Int32) (l2 : Int32) (K : jK) (ci : jI) (cj : jJ) (cr : jR) {q}, jCW K cr → fX5_goes_41 n ah  k l1 l2 K ci cj cr = some q → jqp wI K q Qr → Ev g (d + 548) mX5_goes 41 [.ref ah, .int l1, .int l2] [] K ci cj cr c sl Qr Qx := by
  intro k
  induction k with
  | zero =>
    intro l1 l2 K ci cj cr q hC h hq
    rw [fX5_goes_41.eq_1] at h; cases h
  | succ k ih =>
    intro l1 l2 K ci cj cr q hC h hq
    rw [fX5_goes_41.eq_2] at h
    refine ev_iload_n dX5_goes_41 rfl ?_
    refine ev_aload_n dX5_goes_42 rfl ?_
    refine ev_getR dX5_goes_43 fX5_3_5 (sk0 hC hs_ah) (Or.inl (sl0 hC hs_ah)) rfl (sr12 hC hs_ah) ?_
    obtain ⟨r1, ci2, cj3, cr4, z5, h⟩ := jpb_inv h
    refine ev_zV0 dX5_goes_46 vX5_81_0 (ck0 hC) (Or.inl (cl0 hC)) (Nat.le_of_ble_eq_true rfl) (Nat.le_of_ble_eq_true rfl) rfl (metX0_pairs n  _ _ _ _ hC z5 (fun hC6 => ?_))
    show Ev g _ _ 49 _ [.int r1, .int l2] K ci2 cj3 cr4 _ _ Qr Qx
    refine ev_icmp_ge 69 dX5_goes_49 rfl (fun z7 => ?_) (fun z7 => ?_)
    · rw [if_pos z7] at h
      refine ev_iconst (v := (nI 0)) dX5_goes_69 jc0 ?_
      refine ev_istore_n (L' := [_, _, _]) dX5_goes_70 (by decide) rfl ?_
      exact wX5_goes_71 n _ hs_ah   n _ _ _ _ _ _ hC6 h hq
    · rw [if_neg z7] at h
      refine ev_aload_n dX5_goes_52 rfl ?_
      refine ev_getR dX5_goes_53 fX5_40_5 (sk0 hC6 hs_ah) (Or.inl (sl0 hC6 hs_ah)) rfl (sr9 hC6 hs_ah) ?_
      refine ev_iload_n dX5_goes_56 rfl ?_
      refine ev_aload_n dX5_goes_57 rfl ?_
      refine ev_iload_n dX5_goes_58 rfl ?_
      obtain ⟨r8, ci9, cj10, cr11, z12, h⟩ := jpb_inv h
      refine ev_zV1 dX5_goes_59 vX5_174_5 (sk0 hC6 hs_ah) (Or.inl (sl0 hC6 hs_ah)) (Nat.le_of_ble_eq_true rfl) (Nat.le_of_ble_eq_true rfl) rfl (metX5_mending n _ _ _ _ _ _ hC6 z12 (fun hC13 => ?_))
      show Ev g _ _ 62 _ [.int r8, .int l2, .ref (ah + 9)] K ci9 cj10 cr11 _ _ Qr Qx
      by_cases z14 : jok l2 10
      rotate_left
      · rw [if_neg z14] at h; cases h
      rw [if_pos z14] at h
      refine ev_iastore dX5_goes_62 (sk9 hC13 hs_ah) (sl9 hC13 hs_ah) (jok.ix z14 (sn9 hC13 hs_ah)) ?_
      refine ev_iinc (v := (l2 + (nI 1))) (L' := [_, _, _]) dX5_goes_63 rfl (by rw [ji_1]) (by decide) rfl ?_
      refine ev_goto 41 dX5_goes_66 rfl ?_
      exact ih _ _ _ _ _ _ hC13 h hq
def fX5_goes_6 (n : Nat) (ah : Nat) : Nat → Int32 → jK → jI → jJ → jR → Option (jTp Int32)
  | 0, _, _, _, _, _ => none
  | k + 1, l1, K, ci, cj, cr => jpb (fX0_shoals n  K ci cj cr) (fun r1 ci2 cj3 cr4 => if r1 ≤ l1 then jpb (fX5_come n ah K ci2 cj3 cr4) (fun r8 ci9 cj10 cr11 => fX5_goes_41 n ah  n r8 (nI 0) K ci9 cj10 cr11) else jpb (fX5_choice n ah l1 K ci2 cj3 cr4) (fun r14 ci15 cj16 cr17 => if jok l1 3 then fX5_goes_6 n ah  k (l1 + (nI 1)) K (ju ci15 (ah + 3) (l1).toNatClampNeg r14) cj16 cr17 else none))
theorem wX5_goes_6 {g : jG} {d : Nat} {c sl : Nat} {Qr : jQ} {Qx : jX} (n : Nat) (ah : Nat) (hs_ah : isSt ah) : ∀ (k : Nat) (l1 : Int32) (K : jK) (ci : jI) (cj : jJ) (cr : jR) {q}, jCW K cr → fX5_goes_6 n ah  k l1 K ci cj cr = some q → jqp wI K q Qr → Ev g (d + 548) mX5_goes 6 [.ref ah, .int l1, jU] [] K ci cj cr c sl Qr Qx := by
  intro k
  induction k with
  | zero =>
    intro l1 K ci cj cr q hC h hq
    rw [fX5_goes_6.eq_1] at h; cases h
  | succ k ih =>
    intro l1 K ci cj cr q hC h hq
    rw [fX5_goes_6.eq_2] at h
    refine ev_iload_n dX5_goes_6 rfl ?_
    refine ev_aload_n dX5_goes_7 rfl ?_
    refine ev_getR dX5_goes_8 fX5_3_5 (sk0 hC hs_ah) (Or.inl (sl0 hC hs_ah)) rfl (sr12 hC hs_ah) ?_
    obtain ⟨r1, ci2, cj3, cr4, z5, h⟩ := jpb_inv h
    refine ev_zV0 dX5_goes_11 vX5_58_0 (ck0 hC) (Or.inl (cl0 hC)) (Nat.le_of_ble_eq_true rfl) (Nat.le_of_ble_eq_true rfl) rfl (metX0_shoals n  _ _ _ _ hC z5 (fun hC6 => ?_))
    show Ev g _ _ 14 _ [.int r1, .int l1] K ci2 cj3 cr4 _ _ Qr Qx
    refine ev_icmp_ge 34 dX5_goes_14 rfl (fun z7 => ?_) (fun z7 => ?_)
    · rw [if_pos z7] at h
      refine ev_aload_n dX5_goes_34 rfl ?_
      obtain ⟨r8, ci9, cj10, cr11, z12, h⟩ := jpb_inv h
      refine ev_zV0 dX5_goes_35 vX5_171_5 (sk0 hC6 hs_ah) (Or.inl (sl0 hC6 hs_ah)) (Nat.le_of_ble_eq_true rfl) (Nat.le_of_ble_eq_true rfl) rfl (metX5_come n _ _ _ _ _ hC6 z12 (fun hC13 => ?_))
      show Ev g _ _ 38 _ [.int r8] K ci9 cj10 cr11 _ _ Qr Qx
      refine ev_istore_n (L' := [_, _, _]) dX5_goes_38 (by decide) rfl ?_
      refine ev_iconst (v := (nI 0)) dX5_goes_39 jc0 ?_
      refine ev_istore_n (L' := [_, _, _]) dX5_goes_40 (by decide) rfl ?_
      exact wX5_goes_41 n _ hs_ah   n _ _ _ _ _ _ hC13 h hq
    · rw [if_neg z7] at h
      refine ev_aload_n dX5_goes_17 rfl ?_
      refine ev_getR dX5_goes_18 fX5_22_5 (sk0 hC6 hs_ah) (Or.inl (sl0 hC6 hs_ah)) rfl (sr3 hC6 hs_ah) ?_
      refine ev_iload_n dX5_goes_21 rfl ?_
      refine ev_aload_n dX5_goes_22 rfl ?_
      refine ev_iload_n dX5_goes_23 rfl ?_
      obtain ⟨r14, ci15, cj16, cr17, z18, h⟩ := jpb_inv h
      refine ev_zV1 dX5_goes_24 vX5_168_5 (sk0 hC6 hs_ah) (Or.inl (sl0 hC6 hs_ah)) (Nat.le_of_ble_eq_true rfl) (Nat.le_of_ble_eq_true rfl) rfl (metX5_choice n _ _ _ _ _ _ hC6 z18 (fun hC19 => ?_))
      show Ev g _ _ 27 _ [.int r14, .int l1, .ref (ah + 3)] K ci15 cj16 cr17 _ _ Qr Qx
      by_cases z20 : jok l1 3
      rotate_left
      · rw [if_neg z20] at h; cases h
      rw [if_pos z20] at h
      refine ev_iastore dX5_goes_27 (sk3 hC19 hs_ah) (sl3 hC19 hs_ah) (jok.ix z20 (sn3 hC19 hs_ah)) ?_
      refine ev_iinc (v := (l1 + (nI 1))) (L' := [_, _, _]) dX5_goes_28 rfl (by rw [ji_1]) (by decide) rfl ?_
      refine ev_goto 6 dX5_goes_31 rfl ?_
      exact ih _ _ _ _ _ hC19 h hq
def fX5_goes (n : Nat) (ah : Nat) (K : jK) (ci : jI) (cj : jJ) (cr : jR) : Option (jTp Int32) := if isSt ah then jpb (fX5_vows n ah K ci cj cr) (fun r1 ci2 cj3 cr4 => fX5_goes_6 n ah  n (nI 0) K ci2 cj3 cr4) else none
theorem metX5_goes {g : jG} {d : Nat} {c sl : Nat} {Qr : jQ} {Qx : jX} (n : Nat) (ah : Nat) (K : jK) (ci : jI) (cj : jJ) (cr : jR) {q} (hC : jCW K cr) (h : fX5_goes n ah K ci cj cr = some q) (hq : jqp wI K q Qr) : EvM g (d + 548) mX5_goes [.ref ah] K ci cj cr c sl Qr Qx := by
  unfold fX5_goes at h
  show Ev g (d + 548) mX5_goes 0 [.ref ah, jU, jU] [] K ci cj cr c sl Qr Qx
  by_cases hs_ah : isSt ah
  rotate_left
  · rw [if_neg hs_ah] at h; cases h
  rw [if_pos hs_ah] at h
  refine ev_aload_n dX5_goes_0 rfl ?_
  obtain ⟨r1, ci2, cj3, cr4, z5, h⟩ := jpb_inv h
  refine ev_zV0 dX5_goes_1 vX5_147_5 (sk0 hC hs_ah) (Or.inl (sl0 hC hs_ah)) (Nat.le_of_ble_eq_true rfl) (Nat.le_of_ble_eq_true rfl) rfl (metX5_vows n _ _ _ _ _ hC z5 (fun hC6 => ?_))
  show Ev g _ _ 4 _ [] K ci2 cj3 cr4 _ _ Qr Qx
  refine ev_iconst (v := (nI 0)) dX5_goes_4 jc0 ?_
  refine ev_istore_n (L' := [_, _, _]) dX5_goes_5 (by decide) rfl ?_
  exact wX5_goes_6 n _ hs_ah   n _ _ _ _ _ hC6 h hq
def fX5_goesBy_2 (n : Nat) (ah : Nat) : Nat → Int32 → Int32 → jK → jI → jJ → jR → Option (jTp Nat)
  | 0, _, _, _, _, _, _ => none
  | k + 1, l1, l2, K, ci, cj, cr => if l1 ≤ l2 then some (ah, ci, cj, cr) else jpb (fX5_goes n ah K ci cj cr) (fun r2 ci3 cj4 cr5 => fX5_goesBy_2 n ah  k l1 (l2 + (nI 1)) K ci3 cj4 cr5)
theorem wX5_goesBy_2 {g : jG} {d : Nat} {c sl : Nat} {Qr : jQ} {Qx : jX} (n : Nat) (ah : Nat) (hs_ah : isSt ah) : ∀ (k : Nat) (l1 : Int32) (l2 : Int32) (K : jK) (ci : jI) (cj : jJ) (cr : jR) {q}, jCW K cr → fX5_goesBy_2 n ah  k l1 l2 K ci cj cr = some q → jqp wR K q Qr → Ev g (d + 549) mX5_goesBy 2 [.ref ah, .int l1, .int l2] [] K ci cj cr c sl Qr Qx := by
  intro k
  induction k with
  | zero =>
    intro l1 l2 K ci cj cr q hC h hq
    rw [fX5_goesBy_2.eq_1] at h; cases h
  | succ k ih =>
    intro l1 l2 K ci cj cr q hC h hq
    rw [fX5_goesBy_2.eq_2] at h
    refine ev_iload_n dX5_goesBy_2 rfl ?_
    refine ev_iload_n dX5_goesBy_3 rfl ?_
    refine ev_icmp_ge 18 dX5_goesBy_4 rfl (fun z1 => ?_) (fun z1 => ?_)
    · rw [if_pos z1] at h
      refine ev_aload_n dX5_goesBy_18 rfl ?_
      cases h
      exact ev_aret dX5_goesBy_19 rfl rfl (hq hC)
    · rw [if_neg z1] at h
      refine ev_aload_n dX5_goesBy_7 rfl ?_
      obtain ⟨r2, ci3, cj4, cr5, z6, h⟩ := jpb_inv h
      refine ev_zV0 dX5_goesBy_8 vX5_184_5 (sk0 hC hs_ah) (Or.inl (sl0 hC hs_ah)) (Nat.le_of_ble_eq_true rfl) (Nat.le_of_ble_eq_true rfl) rfl (metX5_goes n _ _ _ _ _ hC z6 (fun hC7 => ?_))
      show Ev g _ _ 11 _ [.int r2] K ci3 cj4 cr5 _ _ Qr Qx
      refine ev_pop dX5_goesBy_11 rfl ?_
      refine ev_iinc (v := (l2 + (nI 1))) (L' := [_, _, _]) dX5_goesBy_12 rfl (by rw [ji_1]) (by decide) rfl ?_
      refine ev_goto 2 dX5_goesBy_15 rfl ?_
      exact ih _ _ _ _ _ _ hC7 h hq
def fX5_goesBy (n : Nat) (ah : Nat) (a0 : Int32) (K : jK) (ci : jI) (cj : jJ) (cr : jR) : Option (jTp Nat) := if isSt ah then fX5_goesBy_2 n ah  n a0 (nI 0) K ci cj cr else none
theorem metX5_goesBy {g : jG} {d : Nat} {c sl : Nat} {Qr : jQ} {Qx : jX} (n : Nat) (ah : Nat) (a0 : Int32) (K : jK) (ci : jI) (cj : jJ) (cr : jR) {q} (hC : jCW K cr) (h : fX5_goesBy n ah a0 K ci cj cr = some q) (hq : jqp wR K q Qr) : EvM g (d + 549) mX5_goesBy [.ref ah, .int a0] K ci cj cr c sl Qr Qx := by
  unfold fX5_goesBy at h
  show Ev g (d + 549) mX5_goesBy 0 [.ref ah, .int a0, jU] [] K ci cj cr c sl Qr Qx
  by_cases hs_ah : isSt ah
  rotate_left
  · rw [if_neg hs_ah] at h; cases h
  rw [if_pos hs_ah] at h
  refine ev_iconst (v := (nI 0)) dX5_goesBy_0 jc0 ?_
  refine ev_istore_n (L' := [_, _, _]) dX5_goesBy_1 (by decide) rfl ?_
  exact wX5_goesBy_2 n _ hs_ah   n _ _ _ _ _ _ hC h hq
def fX0_later_43 (n : Nat) (t0 : Int32) (K : jK) (ci : jI) (cj : jJ) (cr : jR) : Option (jTp Int32) := some (t0, ci, cj, cr)
theorem wX0_later_43 {g : jG} {d : Nat} {c sl : Nat} {Qr : jQ} {Qx : jX} (n : Nat) (t0 : Int32) (K : jK) (ci : jI) (cj : jJ) (cr : jR) {q} (hC : jCW K cr) (h : fX0_later_43 n  t0 K ci cj cr = some q) (hq : jqp wI K q Qr) : Ev g (d + 550) mX0_later 43 [jU, jU, jU] [.int t0] K ci cj cr c sl Qr Qx := by
  unfold fX0_later_43 at h
  cases h
  exact ev_iret dX0_later_43 rfl rfl (hq hC)
def fX0_later_42 (n : Nat) (K : jK) (ci : jI) (cj : jJ) (cr : jR) : Option (jTp Int32) := fX0_later_43 n  (-1) K ci cj cr
theorem wX0_later_42 {g : jG} {d : Nat} {c sl : Nat} {Qr : jQ} {Qx : jX} (n : Nat) (K : jK) (ci : jI) (cj : jJ) (cr : jR) {q} (hC : jCW K cr) (h : fX0_later_42 n   K ci cj cr = some q) (hq : jqp wI K q Qr) : Ev g (d + 550) mX0_later 42 [jU, jU, jU] [] K ci cj cr c sl Qr Qx := by
  unfold fX0_later_42 at h
  refine ev_iconst (v := (-1)) dX0_later_42 jcm1 ?_
  exact wX0_later_43 n   _ _ _ _ _ hC h hq
def fX0_later (n : Nat) (a0 : Int32) (a1 : Int32) (K : jK) (ci : jI) (cj : jJ) (cr : jR) : Option (jTp Int32) := jpb (fX0_isShoal n a0 K ci cj cr) (fun r1 ci2 cj3 cr4 => if r1 = 0 then fX0_later_42 n   K ci2 cj3 cr4 else jpb (fX0_isAhead n a1 (nI 0) (nI 60) K ci2 cj3 cr4) (fun r8 ci9 cj10 cr11 => if r8 = 0 then fX0_later_42 n   K ci9 cj10 cr11 else jpb (fX5_copy n 68 16 K ci9 cj10 cr11) (fun r15 ci16 cj17 cr18 => if isSt r15 then jpb (fX5_goesBy n r15 a1 K ci16 cj17 cr18) (fun r22 ci23 cj24 cr25 => if K.1 r22 = 5 ∧ r22 < K.2.2 then Option.bind (cr25 r22 3) (fun r29 => if K.1 r29 = 100 ∧ r29 < K.2.2 then if jok a0 (K.2.1 r29) then fX0_later_43 n  (ci23 r29 (a0).toNatClampNeg) K ci23 cj24 cr25 else none else none) else none) else none)))
theorem metX0_later {g : jG} {d : Nat} {c sl : Nat} {Qr : jQ} {Qx : jX} (n : Nat) (a0 : Int32) (a1 : Int32) (K : jK) (ci : jI) (cj : jJ) (cr : jR) {q} (hC : jCW K cr) (h : fX0_later n a0 a1 K ci cj cr = some q) (hq : jqp wI K q Qr) : EvM g (d + 550) mX0_later [.ref 0, .int a0, .int a1] K ci cj cr c sl Qr Qx := by
  unfold fX0_later at h
  show Ev g (d + 550) mX0_later 0 [.ref 0, .int a0, .int a1] [] K ci cj cr c sl Qr Qx
  refine ev_aload_n dX0_later_0 rfl ?_
  refine ev_iload_n dX0_later_1 rfl ?_
  obtain ⟨r1, ci2, cj3, cr4, z5, h⟩ := jpb_inv h
  refine ev_zV1 dX0_later_2 vX0_242_0 (ck0 hC) (Or.inl (cl0 hC)) (Nat.le_of_ble_eq_true rfl) (Nat.le_of_ble_eq_true rfl) rfl (metX0_isShoal n _ _ _ _ _ hC z5 (fun hC6 => ?_))
  show Ev g _ _ 5 _ [.int r1] K ci2 cj3 cr4 _ _ Qr Qx
  refine ev_if_eq 42 dX0_later_5 rfl (fun z7 => ?_) (fun z7 => ?_)
  · rw [if_pos z7] at h
    exact ev_mask [false, false, false] (wX0_later_42 n    _ _ _ _ hC6 h hq)
  · rw [if_neg z7] at h
    refine ev_aload_n dX0_later_8 rfl ?_
    refine ev_iload_n dX0_later_9 rfl ?_
    refine ev_iconst (v := (nI 0)) dX0_later_10 jc0 ?_
    refine ev_bipush (v := (nI 60)) dX0_later_11 jb60 ?_
    obtain ⟨r8, ci9, cj10, cr11, z12, h⟩ := jpb_inv h
    refine ev_zV3 dX0_later_13 vX0_261_0 (ck0 hC6) (Or.inl (cl0 hC6)) (Nat.le_of_ble_eq_true rfl) (Nat.le_of_ble_eq_true rfl) rfl (metX0_isAhead n _ _ _ _ _ _ _ hC6 z12 (fun hC13 => ?_))
    show Ev g _ _ 16 _ [.int r8] K ci9 cj10 cr11 _ _ Qr Qx
    refine ev_if_eq 42 dX0_later_16 rfl (fun z14 => ?_) (fun z14 => ?_)
    · rw [if_pos z14] at h
      exact ev_mask [false, false, false] (wX0_later_42 n    _ _ _ _ hC13 h hq)
    · rw [if_neg z14] at h
      refine ev_aload_n dX0_later_19 rfl ?_
      refine ev_getR dX0_later_20 fX0_73_0 (ck0 hC13) (Or.inl (cl0 hC13)) rfl (cq0_10 hC13) ?_
      refine ev_aload_n dX0_later_23 rfl ?_
      refine ev_getR dX0_later_24 fX0_69_0 (ck0 hC13) (Or.inl (cl0 hC13)) rfl (cq0_9 hC13) ?_
      obtain ⟨r15, ci16, cj17, cr18, z19, h⟩ := jpb_inv h
      refine ev_zV1 dX0_later_27 vX0_264_5 (sk0 hC13 is68) (Or.inl (sl0 hC13 is68)) (Nat.le_of_ble_eq_true rfl) (Nat.le_of_ble_eq_true rfl) rfl (metX5_copy n _ _ _ _ _ _ hC13 z19 (fun hC20 => ?_))
      show Ev g _ _ 30 _ [.ref r15] K ci16 cj17 cr18 _ _ Qr Qx
      refine ev_iload_n dX0_later_30 rfl ?_
      by_cases z21 : isSt r15
      rotate_left
      · rw [if_neg z21] at h; cases h
      rw [if_pos z21] at h
      obtain ⟨r22, ci23, cj24, cr25, z26, h⟩ := jpb_inv h
      refine ev_zV1 dX0_later_31 vX0_268_5 (sk0 hC20 z21) (Or.inl (sl0 hC20 z21)) (Nat.le_of_ble_eq_true rfl) (Nat.le_of_ble_eq_true rfl) rfl (metX5_goesBy n _ _ _ _ _ _ hC20 z26 (fun hC27 => ?_))
      show Ev g _ _ 34 _ [.ref r22] K ci23 cj24 cr25 _ _ Qr Qx
      by_cases z28 : K.1 r22 = 5 ∧ r22 < K.2.2
      rotate_left
      · rw [if_neg z28] at h; cases h
      rw [if_pos z28] at h
      obtain ⟨r29, z30, h⟩ := Option.bind_eq_some_iff.mp h
      refine ev_getR dX0_later_34 fX0_186_5 z28.1 (Or.inl z28.2) rfl z30 ?_
      refine ev_iload_n dX0_later_37 rfl ?_
      by_cases z31 : K.1 r29 = 100 ∧ r29 < K.2.2
      rotate_left
      · rw [if_neg z31] at h; cases h
      rw [if_pos z31] at h
      by_cases z32 : jok a0 (K.2.1 r29)
      rotate_left
      · rw [if_neg z32] at h; cases h
      rw [if_pos z32] at h
      refine ev_iaload dX0_later_38 z31.1 (Or.inl z31.2) (jok.ix z32 rfl) ?_
      refine ev_goto 43 dX0_later_39 rfl ?_
      exact ev_mask [false, false, false] (wX0_later_43 n   _ _ _ _ _ hC27 h hq)
def fX0_caught_19 (n : Nat) (K : jK) (ci : jI) (cj : jJ) (cr : jR) : Option (jTp Int32) := some ((-1), ci, cj, cr)
theorem wX0_caught_19 {g : jG} {d : Nat} {c sl : Nat} {Qr : jQ} {Qx : jX} (n : Nat) (K : jK) (ci : jI) (cj : jJ) (cr : jR) {q} (hC : jCW K cr) (h : fX0_caught_19 n   K ci cj cr = some q) (hq : jqp wI K q Qr) : Ev g (d + 549) mX0_caught 19 [jU, jU, jU, jU, jU] [] K ci cj cr c sl Qr Qx := by
  unfold fX0_caught_19 at h
  refine ev_iconst (v := (-1)) dX0_caught_19 jcm1 ?_
  cases h
  exact ev_iret dX0_caught_20 rfl rfl (hq hC)
def fX0_caught_38 (n : Nat) : Nat → Int32 → Int32 → Int32 → Int32 → jK → jI → jJ → jR → Option (jTp Int32)
  | 0, _, _, _, _, _, _, _, _ => none
  | k + 1, l1, l2, l3, l4, K, ci, cj, cr => if l2 ≤ l4 then some (l3, ci, cj, cr) else jpb (fX5_goes n 68 K ci cj cr) (fun r2 ci3 cj4 cr5 => if jok l1 6 then fX0_caught_38 n  k l1 l2 (l3 + (ci3 (68 + 5) (l1).toNatClampNeg)) (l4 + (nI 1)) K ci3 cj4 cr5 else none)
theorem wX0_caught_38 {g : jG} {d : Nat} {c sl : Nat} {Qr : jQ} {Qx : jX} (n : Nat) : ∀ (k : Nat) (l1 : Int32) (l2 : Int32) (l3 : Int32) (l4 : Int32) (K : jK) (ci : jI) (cj : jJ) (cr : jR) {q}, jCW K cr → fX0_caught_38 n  k l1 l2 l3 l4 K ci cj cr = some q → jqp wI K q Qr → Ev g (d + 549) mX0_caught 38 [.ref 0, .int l1, .int l2, .int l3, .int l4] [] K ci cj cr c sl Qr Qx := by
  intro k
  induction k with
  | zero =>
    intro l1 l2 l3 l4 K ci cj cr q hC h hq
    rw [fX0_caught_38.eq_1] at h; cases h
  | succ k ih =>
    intro l1 l2 l3 l4 K ci cj cr q hC h hq
    rw [fX0_caught_38.eq_2] at h
    refine ev_iload dX0_caught_38 rfl ?_
    refine ev_iload_n dX0_caught_40 rfl ?_
    refine ev_icmp_ge 70 dX0_caught_41 rfl (fun z1 => ?_) (fun z1 => ?_)
    · rw [if_pos z1] at h
      refine ev_iload_n dX0_caught_70 rfl ?_
      cases h
      exact ev_iret dX0_caught_71 rfl rfl (hq hC)
    · rw [if_neg z1] at h
      refine ev_aload_n dX0_caught_44 rfl ?_
      refine ev_getR dX0_caught_45 fX0_73_0 (ck0 hC) (Or.inl (cl0 hC)) rfl (cq0_10 hC) ?_
      obtain ⟨r2, ci3, cj4, cr5, z6, h⟩ := jpb_inv h
      refine ev_zV0 dX0_caught_48 vX0_272_5 (sk0 hC is68) (Or.inl (sl0 hC is68)) (Nat.le_of_ble_eq_true rfl) (Nat.le_of_ble_eq_true rfl) rfl (metX5_goes n _ _ _ _ _ hC z6 (fun hC7 => ?_))
      show Ev g _ _ 51 _ [.int r2] K ci3 cj4 cr5 _ _ Qr Qx
      refine ev_pop dX0_caught_51 rfl ?_
      refine ev_iload_n dX0_caught_52 rfl ?_
      refine ev_aload_n dX0_caught_53 rfl ?_
      refine ev_getR dX0_caught_54 fX0_73_0 (ck0 hC7) (Or.inl (cl0 hC7)) rfl (cq0_10 hC7) ?_
      refine ev_getR dX0_caught_57 fX0_223_5 (sk0 hC7 is68) (Or.inl (sl0 hC7 is68)) rfl (sr5 hC7 is68) ?_
      refine ev_iload_n dX0_caught_60 rfl ?_
      by_cases z8 : jok l1 6
      rotate_left
      · rw [if_neg z8] at h; cases h
      rw [if_pos z8] at h
      refine ev_iaload dX0_caught_61 (sk5 hC7 is68) (Or.inl (sl5 hC7 is68)) (jok.ix z8 (sn5 hC7 is68)) ?_
      refine ev_iadd dX0_caught_62 ?_
      refine ev_istore_n (L' := [_, _, _, _, _]) dX0_caught_63 (by decide) rfl ?_
      refine ev_iinc (v := (l4 + (nI 1))) (L' := [_, _, _, _, _]) dX0_caught_64 rfl (by rw [ji_1]) (by decide) rfl ?_
      refine ev_goto 38 dX0_caught_67 rfl ?_
      exact ih _ _ _ _ _ _ _ _ hC7 h hq
def fX0_caught (n : Nat) (a0 : Int32) (a1 : Int32) (K : jK) (ci : jI) (cj : jJ) (cr : jR) : Option (jTp Int32) := jpb (fX0_isBay n a0 K ci cj cr) (fun r1 ci2 cj3 cr4 => if r1 = 0 then fX0_caught_19 n   K ci2 cj3 cr4 else jpb (fX0_isAhead n a1 (nI 0) (nI 60) K ci2 cj3 cr4) (fun r8 ci9 cj10 cr11 => if r8 = 0 then fX0_caught_19 n   K ci9 cj10 cr11 else jpb (fX5_copy n 68 16 K ci9 cj10 cr11) (fun r15 ci16 cj17 cr18 => fX0_caught_38 n  n a0 a1 (nI 0) (nI 0) K ci16 cj17 cr18)))
theorem metX0_caught {g : jG} {d : Nat} {c sl : Nat} {Qr : jQ} {Qx : jX} (n : Nat) (a0 : Int32) (a1 : Int32) (K : jK) (ci : jI) (cj : jJ) (cr : jR) {q} (hC : jCW K cr) (h : fX0_caught n a0 a1 K ci cj cr = some q) (hq : jqp wI K q Qr) : EvM g (d + 549) mX0_caught [.ref 0, .int a0, .int a1] K ci cj cr c sl Qr Qx := by
  unfold fX0_caught at h
  show Ev g (d + 549) mX0_caught 0 [.ref 0, .int a0, .int a1, jU, jU] [] K ci cj cr c sl Qr Qx
  refine ev_aload_n dX0_caught_0 rfl ?_
  refine ev_iload_n dX0_caught_1 rfl ?_
  obtain ⟨r1, ci2, cj3, cr4, z5, h⟩ := jpb_inv h
  refine ev_zV1 dX0_caught_2 vX0_204_0 (ck0 hC) (Or.inl (cl0 hC)) (Nat.le_of_ble_eq_true rfl) (Nat.le_of_ble_eq_true rfl) rfl (metX0_isBay n _ _ _ _ _ hC z5 (fun hC6 => ?_))
  show Ev g _ _ 5 _ [.int r1] K ci2 cj3 cr4 _ _ Qr Qx
  refine ev_if_eq 19 dX0_caught_5 rfl (fun z7 => ?_) (fun z7 => ?_)
  · rw [if_pos z7] at h
    exact ev_mask [false, false, false, false, false] (wX0_caught_19 n    _ _ _ _ hC6 h hq)
  · rw [if_neg z7] at h
    refine ev_aload_n dX0_caught_8 rfl ?_
    refine ev_iload_n dX0_caught_9 rfl ?_
    refine ev_iconst (v := (nI 0)) dX0_caught_10 jc0 ?_
    refine ev_bipush (v := (nI 60)) dX0_caught_11 jb60 ?_
    obtain ⟨r8, ci9, cj10, cr11, z12, h⟩ := jpb_inv h
    refine ev_zV3 dX0_caught_13 vX0_261_0 (ck0 hC6) (Or.inl (cl0 hC6)) (Nat.le_of_ble_eq_true rfl) (Nat.le_of_ble_eq_true rfl) rfl (metX0_isAhead n _ _ _ _ _ _ _ hC6 z12 (fun hC13 => ?_))
    show Ev g _ _ 16 _ [.int r8] K ci9 cj10 cr11 _ _ Qr Qx
    refine ev_if_ne 21 dX0_caught_16 rfl (fun z14 => ?_) (fun z14 => ?_)
    · rw [if_neg z14] at h
      refine ev_aload_n dX0_caught_21 rfl ?_
      refine ev_getR dX0_caught_22 fX0_73_0 (ck0 hC13) (Or.inl (cl0 hC13)) rfl (cq0_10 hC13) ?_
      refine ev_aload_n dX0_caught_25 rfl ?_
      refine ev_getR dX0_caught_26 fX0_69_0 (ck0 hC13) (Or.inl (cl0 hC13)) rfl (cq0_9 hC13) ?_
      obtain ⟨r15, ci16, cj17, cr18, z19, h⟩ := jpb_inv h
      refine ev_zV1 dX0_caught_29 vX0_264_5 (sk0 hC13 is68) (Or.inl (sl0 hC13 is68)) (Nat.le_of_ble_eq_true rfl) (Nat.le_of_ble_eq_true rfl) rfl (metX5_copy n _ _ _ _ _ _ hC13 z19 (fun hC20 => ?_))
      show Ev g _ _ 32 _ [.ref r15] K ci16 cj17 cr18 _ _ Qr Qx
      refine ev_pop dX0_caught_32 rfl ?_
      refine ev_iconst (v := (nI 0)) dX0_caught_33 jc0 ?_
      refine ev_istore_n (L' := [_, _, _, _, _]) dX0_caught_34 (by decide) rfl ?_
      refine ev_iconst (v := (nI 0)) dX0_caught_35 jc0 ?_
      refine ev_istore (L' := [_, _, _, _, _]) dX0_caught_36 (by decide) rfl ?_
      exact wX0_caught_38 n   n _ _ _ _ _ _ _ _ hC20 h hq
    · rw [if_pos z14] at h
      exact ev_mask [false, false, false, false, false] (wX0_caught_19 n    _ _ _ _ hC13 h hq)
def fX0_hungry_43 (n : Nat) (t0 : Int32) (K : jK) (ci : jI) (cj : jJ) (cr : jR) : Option (jTp Int32) := some (t0, ci, cj, cr)
theorem wX0_hungry_43 {g : jG} {d : Nat} {c sl : Nat} {Qr : jQ} {Qx : jX} (n : Nat) (t0 : Int32) (K : jK) (ci : jI) (cj : jJ) (cr : jR) {q} (hC : jCW K cr) (h : fX0_hungry_43 n  t0 K ci cj cr = some q) (hq : jqp wI K q Qr) : Ev g (d + 550) mX0_hungry 43 [jU, jU, jU] [.int t0] K ci cj cr c sl Qr Qx := by
  unfold fX0_hungry_43 at h
  cases h
  exact ev_iret dX0_hungry_43 rfl rfl (hq hC)
def fX0_hungry_42 (n : Nat) (K : jK) (ci : jI) (cj : jJ) (cr : jR) : Option (jTp Int32) := fX0_hungry_43 n  (-1) K ci cj cr
theorem wX0_hungry_42 {g : jG} {d : Nat} {c sl : Nat} {Qr : jQ} {Qx : jX} (n : Nat) (K : jK) (ci : jI) (cj : jJ) (cr : jR) {q} (hC : jCW K cr) (h : fX0_hungry_42 n   K ci cj cr = some q) (hq : jqp wI K q Qr) : Ev g (d + 550) mX0_hungry 42 [jU, jU, jU] [] K ci cj cr c sl Qr Qx := by
  unfold fX0_hungry_42 at h
  refine ev_iconst (v := (-1)) dX0_hungry_42 jcm1 ?_
  exact wX0_hungry_43 n   _ _ _ _ _ hC h hq
def fX0_hungry (n : Nat) (a0 : Int32) (a1 : Int32) (K : jK) (ci : jI) (cj : jJ) (cr : jR) : Option (jTp Int32) := jpb (fX0_isBay n a0 K ci cj cr) (fun r1 ci2 cj3 cr4 => if r1 = 0 then fX0_hungry_42 n   K ci2 cj3 cr4 else jpb (fX0_isAhead n a1 (nI 0) (nI 60) K ci2 cj3 cr4) (fun r8 ci9 cj10 cr11 => if r8 = 0 then fX0_hungry_42 n   K ci9 cj10 cr11 else jpb (fX5_copy n 68 16 K ci9 cj10 cr11) (fun r15 ci16 cj17 cr18 => if isSt r15 then jpb (fX5_goesBy n r15 a1 K ci16 cj17 cr18) (fun r22 ci23 cj24 cr25 => if K.1 r22 = 5 ∧ r22 < K.2.2 then Option.bind (cr25 r22 5) (fun r29 => if K.1 r29 = 100 ∧ r29 < K.2.2 then if jok a0 (K.2.1 r29) then fX0_hungry_43 n  (ci23 r29 (a0).toNatClampNeg) K ci23 cj24 cr25 else none else none) else none) else none)))
theorem metX0_hungry {g : jG} {d : Nat} {c sl : Nat} {Qr : jQ} {Qx : jX} (n : Nat) (a0 : Int32) (a1 : Int32) (K : jK) (ci : jI) (cj : jJ) (cr : jR) {q} (hC : jCW K cr) (h : fX0_hungry n a0 a1 K ci cj cr = some q) (hq : jqp wI K q Qr) : EvM g (d + 550) mX0_hungry [.ref 0, .int a0, .int a1] K ci cj cr c sl Qr Qx := by
  unfold fX0_hungry at h
  show Ev g (d + 550) mX0_hungry 0 [.ref 0, .int a0, .int a1] [] K ci cj cr c sl Qr Qx
  refine ev_aload_n dX0_hungry_0 rfl ?_
  refine ev_iload_n dX0_hungry_1 rfl ?_
  obtain ⟨r1, ci2, cj3, cr4, z5, h⟩ := jpb_inv h
  refine ev_zV1 dX0_hungry_2 vX0_204_0 (ck0 hC) (Or.inl (cl0 hC)) (Nat.le_of_ble_eq_true rfl) (Nat.le_of_ble_eq_true rfl) rfl (metX0_isBay n _ _ _ _ _ hC z5 (fun hC6 => ?_))
  show Ev g _ _ 5 _ [.int r1] K ci2 cj3 cr4 _ _ Qr Qx
  refine ev_if_eq 42 dX0_hungry_5 rfl (fun z7 => ?_) (fun z7 => ?_)
  · rw [if_pos z7] at h
    exact ev_mask [false, false, false] (wX0_hungry_42 n    _ _ _ _ hC6 h hq)
  · rw [if_neg z7] at h
    refine ev_aload_n dX0_hungry_8 rfl ?_
    refine ev_iload_n dX0_hungry_9 rfl ?_
    refine ev_iconst (v := (nI 0)) dX0_hungry_10 jc0 ?_
    refine ev_bipush (v := (nI 60)) dX0_hungry_11 jb60 ?_
    obtain ⟨r8, ci9, cj10, cr11, z12, h⟩ := jpb_inv h
    refine ev_zV3 dX0_hungry_13 vX0_261_0 (ck0 hC6) (Or.inl (cl0 hC6)) (Nat.le_of_ble_eq_true rfl) (Nat.le_of_ble_eq_true rfl) rfl (metX0_isAhead n _ _ _ _ _ _ _ hC6 z12 (fun hC13 => ?_))
    show Ev g _ _ 16 _ [.int r8] K ci9 cj10 cr11 _ _ Qr Qx
    refine ev_if_eq 42 dX0_hungry_16 rfl (fun z14 => ?_) (fun z14 => ?_)
    · rw [if_pos z14] at h
      exact ev_mask [false, false, false] (wX0_hungry_42 n    _ _ _ _ hC13 h hq)
    · rw [if_neg z14] at h
      refine ev_aload_n dX0_hungry_19 rfl ?_
      refine ev_getR dX0_hungry_20 fX0_73_0 (ck0 hC13) (Or.inl (cl0 hC13)) rfl (cq0_10 hC13) ?_
      refine ev_aload_n dX0_hungry_23 rfl ?_
      refine ev_getR dX0_hungry_24 fX0_69_0 (ck0 hC13) (Or.inl (cl0 hC13)) rfl (cq0_9 hC13) ?_
      obtain ⟨r15, ci16, cj17, cr18, z19, h⟩ := jpb_inv h
      refine ev_zV1 dX0_hungry_27 vX0_264_5 (sk0 hC13 is68) (Or.inl (sl0 hC13 is68)) (Nat.le_of_ble_eq_true rfl) (Nat.le_of_ble_eq_true rfl) rfl (metX5_copy n _ _ _ _ _ _ hC13 z19 (fun hC20 => ?_))
      show Ev g _ _ 30 _ [.ref r15] K ci16 cj17 cr18 _ _ Qr Qx
      refine ev_iload_n dX0_hungry_30 rfl ?_
      by_cases z21 : isSt r15
      rotate_left
      · rw [if_neg z21] at h; cases h
      rw [if_pos z21] at h
      obtain ⟨r22, ci23, cj24, cr25, z26, h⟩ := jpb_inv h
      refine ev_zV1 dX0_hungry_31 vX0_268_5 (sk0 hC20 z21) (Or.inl (sl0 hC20 z21)) (Nat.le_of_ble_eq_true rfl) (Nat.le_of_ble_eq_true rfl) rfl (metX5_goesBy n _ _ _ _ _ _ hC20 z26 (fun hC27 => ?_))
      show Ev g _ _ 34 _ [.ref r22] K ci23 cj24 cr25 _ _ Qr Qx
      by_cases z28 : K.1 r22 = 5 ∧ r22 < K.2.2
      rotate_left
      · rw [if_neg z28] at h; cases h
      rw [if_pos z28] at h
      obtain ⟨r29, z30, h⟩ := Option.bind_eq_some_iff.mp h
      refine ev_getR dX0_hungry_34 fX0_214_5 z28.1 (Or.inl z28.2) rfl z30 ?_
      refine ev_iload_n dX0_hungry_37 rfl ?_
      by_cases z31 : K.1 r29 = 100 ∧ r29 < K.2.2
      rotate_left
      · rw [if_neg z31] at h; cases h
      rw [if_pos z31] at h
      by_cases z32 : jok a0 (K.2.1 r29)
      rotate_left
      · rw [if_neg z32] at h; cases h
      rw [if_pos z32] at h
      refine ev_iaload dX0_hungry_38 z31.1 (Or.inl z31.2) (jok.ix z32 rfl) ?_
      refine ev_goto 43 dX0_hungry_39 rfl ?_
      exact ev_mask [false, false, false] (wX0_hungry_43 n   _ _ _ _ _ hC27 h hq)
def fX0_steady_93 (n : Nat) (rec14 : Int32 → jK → jI → jJ → jR → Option (jTp Int32)) (l1 : Int32) (K : jK) (ci : jI) (cj : jJ) (cr : jR) : Option (jTp Int32) := rec14 (l1 + (nI 1)) K ci cj cr
theorem wX0_steady_93 {g : jG} {d : Nat} {c sl : Nat} {Qr : jQ} {Qx : jX} (n : Nat) (rec14 : Int32 → jK → jI → jJ → jR → Option (jTp Int32)) (hrec14 : (∀ (l1 : Int32) (K : jK) (ci : jI) (cj : jJ) (cr : jR) {q}, jCW K cr → rec14 l1 K ci cj cr = some q → jqp wI K q Qr → Ev g (d + 549) mX0_steady 14 [.ref 0, .int l1, jU] [] K ci cj cr c sl Qr Qx)) (l1 : Int32) (K : jK) (ci : jI) (cj : jJ) (cr : jR) {q} (hC : jCW K cr) (h : fX0_steady_93 n rec14 l1 K ci cj cr = some q) (hq : jqp wI K q Qr) : Ev g (d + 549) mX0_steady 93 [.ref 0, .int l1, jU] [] K ci cj cr c sl Qr Qx := by
  unfold fX0_steady_93 at h
  refine ev_iinc (v := (l1 + (nI 1))) (L' := [_, _, _]) dX0_steady_93 rfl (by rw [ji_1]) (by decide) rfl ?_
  refine ev_goto 14 dX0_steady_96 rfl ?_
  exact hrec14 _ _ _ _ _ hC h hq
def fX0_steady_37 (n : Nat) (rec14 : Int32 → jK → jI → jJ → jR → Option (jTp Int32)) : Nat → Int32 → Int32 → jK → jI → jJ → jR → Option (jTp Int32)
  | 0, _, _, _, _, _, _ => none
  | k + 1, l1, l2, K, ci, cj, cr => jpb (fX0_shoals n  K ci cj cr) (fun r1 ci2 cj3 cr4 => if r1 ≤ l2 then if (l1 + (nI 1)) < (nI 5) then fX0_steady_93 n rec14 l1 K ci2 cj3 cr4 else jpb (fX0_isSteadyFrom n ((l1 + (nI 1)) - (nI 5)) K ci2 cj3 cr4) (fun r9 ci10 cj11 cr12 => if r9 = 0 then fX0_steady_93 n rec14 l1 K ci10 cj11 cr12 else some (((l1 + (nI 1)) - (nI 5)), ci10, cj11, cr12)) else if jok l1 60 then Option.bind (cr4 120 (l1).toNatClampNeg) (fun r17 => if jok l2 3 then if K.1 r17 = 100 ∧ r17 < K.2.2 then if jok l2 (K.2.1 r17) then fX0_steady_37 n rec14 k l1 (l2 + (nI 1)) K (ju ci2 r17 (l2).toNatClampNeg (ci2 (68 + 2) (l2).toNatClampNeg)) cj3 cr4 else none else none else none) else none)
theorem wX0_steady_37 {g : jG} {d : Nat} {c sl : Nat} {Qr : jQ} {Qx : jX} (n : Nat) (rec14 : Int32 → jK → jI → jJ → jR → Option (jTp Int32)) (hrec14 : (∀ (l1 : Int32) (K : jK) (ci : jI) (cj : jJ) (cr : jR) {q}, jCW K cr → rec14 l1 K ci cj cr = some q → jqp wI K q Qr → Ev g (d + 549) mX0_steady 14 [.ref 0, .int l1, jU] [] K ci cj cr c sl Qr Qx)) : ∀ (k : Nat) (l1 : Int32) (l2 : Int32) (K : jK) (ci : jI) (cj : jJ) (cr : jR) {q}, jCW K cr → fX0_steady_37 n rec14 k l1 l2 K ci cj cr = some q → jqp wI K q Qr → Ev g (d + 549) mX0_steady 37 [.ref 0, .int l1, .int l2] [] K ci cj cr c sl Qr Qx := by
  intro k
  induction k with
  | zero =>
    intro l1 l2 K ci cj cr q hC h hq
    rw [fX0_steady_37.eq_1] at h; cases h
  | succ k ih =>
    intro l1 l2 K ci cj cr q hC h hq
    rw [fX0_steady_37.eq_2] at h
    refine ev_iload_n dX0_steady_37 rfl ?_
    refine ev_aload_n dX0_steady_38 rfl ?_
    obtain ⟨r1, ci2, cj3, cr4, z5, h⟩ := jpb_inv h
    refine ev_zV0 dX0_steady_39 vX0_167_0 (ck0 hC) (Or.inl (cl0 hC)) (Nat.le_of_ble_eq_true rfl) (Nat.le_of_ble_eq_true rfl) rfl (metX0_shoals n  _ _ _ _ hC z5 (fun hC6 => ?_))
    show Ev g _ _ 42 _ [.int r1, .int l2] K ci2 cj3 cr4 _ _ Qr Qx
    refine ev_icmp_ge 68 dX0_steady_42 rfl (fun z7 => ?_) (fun z7 => ?_)
    · rw [if_pos z7] at h
      refine ev_iload_n dX0_steady_68 rfl ?_
      refine ev_iconst (v := (nI 1)) dX0_steady_69 jc1 ?_
      refine ev_iadd dX0_steady_70 ?_
      refine ev_iconst (v := (nI 5)) dX0_steady_71 jc5 ?_
      refine ev_icmp_lt 93 dX0_steady_72 rfl (fun z8 => ?_) (fun z8 => ?_)
      · rw [if_pos z8] at h
        exact ev_mask [true, true, false] (wX0_steady_93 n _ (hrec14) _ _ _ _ _ hC6 h hq)
      · rw [if_neg z8] at h
        refine ev_aload_n dX0_steady_75 rfl ?_
        refine ev_iload_n dX0_steady_76 rfl ?_
        refine ev_iconst (v := (nI 1)) dX0_steady_77 jc1 ?_
        refine ev_iadd dX0_steady_78 ?_
        refine ev_iconst (v := (nI 5)) dX0_steady_79 jc5 ?_
        refine ev_isub dX0_steady_80 ?_
        obtain ⟨r9, ci10, cj11, cr12, z13, h⟩ := jpb_inv h
        refine ev_zV1 dX0_steady_81 vX0_275_0 (ck0 hC6) (Or.inl (cl0 hC6)) (Nat.le_of_ble_eq_true rfl) (Nat.le_of_ble_eq_true rfl) rfl (metX0_isSteadyFrom n _ _ _ _ _ hC6 z13 (fun hC14 => ?_))
        show Ev g _ _ 84 _ [.int r9] K ci10 cj11 cr12 _ _ Qr Qx
        refine ev_if_eq 93 dX0_steady_84 rfl (fun z15 => ?_) (fun z15 => ?_)
        · rw [if_pos z15] at h
          exact ev_mask [true, true, false] (wX0_steady_93 n _ (hrec14) _ _ _ _ _ hC14 h hq)
        · rw [if_neg z15] at h
          refine ev_iload_n dX0_steady_87 rfl ?_
          refine ev_iconst (v := (nI 1)) dX0_steady_88 jc1 ?_
          refine ev_iadd dX0_steady_89 ?_
          refine ev_iconst (v := (nI 5)) dX0_steady_90 jc5 ?_
          refine ev_isub dX0_steady_91 ?_
          cases h
          exact ev_iret dX0_steady_92 rfl rfl (hq hC14)
    · rw [if_neg z7] at h
      refine ev_aload_n dX0_steady_45 rfl ?_
      refine ev_getR dX0_steady_46 fX0_78_0 (ck0 hC6) (Or.inl (cl0 hC6)) rfl (cq0_11 hC6) ?_
      refine ev_iload_n dX0_steady_49 rfl ?_
      by_cases z16 : jok l1 60
      rotate_left
      · rw [if_neg z16] at h; cases h
      rw [if_pos z16] at h
      obtain ⟨r17, z18, h⟩ := Option.bind_eq_some_iff.mp h
      refine ev_aaload (t := 6) dX0_steady_50 (ck120 hC6) (by decide) (by decide) (Or.inl (cl120 hC6)) (jok.ix z16 (cn120 hC6)) z18 ?_
      refine ev_iload_n dX0_steady_51 rfl ?_
      refine ev_aload_n dX0_steady_52 rfl ?_
      refine ev_getR dX0_steady_53 fX0_73_0 (ck0 hC6) (Or.inl (cl0 hC6)) rfl (cq0_10 hC6) ?_
      refine ev_getR dX0_steady_56 fX0_186_5 (sk0 hC6 is68) (Or.inl (sl0 hC6 is68)) rfl (sr2 hC6 is68) ?_
      refine ev_iload_n dX0_steady_59 rfl ?_
      by_cases z19 : jok l2 3
      rotate_left
      · rw [if_neg z19] at h; cases h
      rw [if_pos z19] at h
      refine ev_iaload dX0_steady_60 (sk2 hC6 is68) (Or.inl (sl2 hC6 is68)) (jok.ix z19 (sn2 hC6 is68)) ?_
      by_cases z20 : K.1 r17 = 100 ∧ r17 < K.2.2
      rotate_left
      · rw [if_neg z20] at h; cases h
      rw [if_pos z20] at h
      by_cases z21 : jok l2 (K.2.1 r17)
      rotate_left
      · rw [if_neg z21] at h; cases h
      rw [if_pos z21] at h
      refine ev_iastore dX0_steady_61 z20.1 z20.2 (jok.ix z21 rfl) ?_
      refine ev_iinc (v := (l2 + (nI 1))) (L' := [_, _, _]) dX0_steady_62 rfl (by rw [ji_1]) (by decide) rfl ?_
      refine ev_goto 37 dX0_steady_65 rfl ?_
      exact ih _ _ _ _ _ _ hC6 h hq
def fX0_steady_14 (n : Nat) : Nat → Int32 → jK → jI → jJ → jR → Option (jTp Int32)
  | 0, _, _, _, _, _ => none
  | k + 1, l1, K, ci, cj, cr => jpb (fX0_isAhead n (l1 + (nI 1)) (nI 1) (nI 60) K ci cj cr) (fun r1 ci2 cj3 cr4 => if r1 = 0 then some ((-1), ci2, cj3, cr4) else jpb (fX5_goes n 68 K ci2 cj3 cr4) (fun r8 ci9 cj10 cr11 => fX0_steady_37 n (fX0_steady_14 n  k) n l1 (nI 0) K ci9 cj10 cr11))
theorem wX0_steady_14 {g : jG} {d : Nat} {c sl : Nat} {Qr : jQ} {Qx : jX} (n : Nat) : ∀ (k : Nat) (l1 : Int32) (K : jK) (ci : jI) (cj : jJ) (cr : jR) {q}, jCW K cr → fX0_steady_14 n  k l1 K ci cj cr = some q → jqp wI K q Qr → Ev g (d + 549) mX0_steady 14 [.ref 0, .int l1, jU] [] K ci cj cr c sl Qr Qx := by
  intro k
  induction k with
  | zero =>
    intro l1 K ci cj cr q hC h hq
    rw [fX0_steady_14.eq_1] at h; cases h
  | succ k ih =>
    intro l1 K ci cj cr q hC h hq
    rw [fX0_steady_14.eq_2] at h
    refine ev_aload_n dX0_steady_14 rfl ?_
    refine ev_iload_n dX0_steady_15 rfl ?_
    refine ev_iconst (v := (nI 1)) dX0_steady_16 jc1 ?_
    refine ev_iadd dX0_steady_17 ?_
    refine ev_iconst (v := (nI 1)) dX0_steady_18 jc1 ?_
    refine ev_bipush (v := (nI 60)) dX0_steady_19 jb60 ?_
    obtain ⟨r1, ci2, cj3, cr4, z5, h⟩ := jpb_inv h
    refine ev_zV3 dX0_steady_21 vX0_261_0 (ck0 hC) (Or.inl (cl0 hC)) (Nat.le_of_ble_eq_true rfl) (Nat.le_of_ble_eq_true rfl) rfl (metX0_isAhead n _ _ _ _ _ _ _ hC z5 (fun hC6 => ?_))
    show Ev g _ _ 24 _ [.int r1] K ci2 cj3 cr4 _ _ Qr Qx
    refine ev_if_eq 99 dX0_steady_24 rfl (fun z7 => ?_) (fun z7 => ?_)
    · rw [if_pos z7] at h
      refine ev_iconst (v := (-1)) dX0_steady_99 jcm1 ?_
      cases h
      exact ev_iret dX0_steady_100 rfl rfl (hq hC6)
    · rw [if_neg z7] at h
      refine ev_aload_n dX0_steady_27 rfl ?_
      refine ev_getR dX0_steady_28 fX0_73_0 (ck0 hC6) (Or.inl (cl0 hC6)) rfl (cq0_10 hC6) ?_
      obtain ⟨r8, ci9, cj10, cr11, z12, h⟩ := jpb_inv h
      refine ev_zV0 dX0_steady_31 vX0_272_5 (sk0 hC6 is68) (Or.inl (sl0 hC6 is68)) (Nat.le_of_ble_eq_true rfl) (Nat.le_of_ble_eq_true rfl) rfl (metX5_goes n _ _ _ _ _ hC6 z12 (fun hC13 => ?_))
      show Ev g _ _ 34 _ [.int r8] K ci9 cj10 cr11 _ _ Qr Qx
      refine ev_pop dX0_steady_34 rfl ?_
      refine ev_iconst (v := (nI 0)) dX0_steady_35 jc0 ?_
      refine ev_istore_n (L' := [_, _, _]) dX0_steady_36 (by decide) rfl ?_
      exact wX0_steady_37 n _ (ih) n _ _ _ _ _ _ hC13 h hq
def fX0_steady (n : Nat) (K : jK) (ci : jI) (cj : jJ) (cr : jR) : Option (jTp Int32) := jpb (fX5_copy n 68 16 K ci cj cr) (fun r1 ci2 cj3 cr4 => fX0_steady_14 n  n (nI 0) K ci2 cj3 cr4)
theorem metX0_steady {g : jG} {d : Nat} {c sl : Nat} {Qr : jQ} {Qx : jX} (n : Nat) (K : jK) (ci : jI) (cj : jJ) (cr : jR) {q} (hC : jCW K cr) (h : fX0_steady n  K ci cj cr = some q) (hq : jqp wI K q Qr) : EvM g (d + 549) mX0_steady [.ref 0] K ci cj cr c sl Qr Qx := by
  unfold fX0_steady at h
  show Ev g (d + 549) mX0_steady 0 [.ref 0, jU, jU] [] K ci cj cr c sl Qr Qx
  refine ev_aload_n dX0_steady_0 rfl ?_
  refine ev_getR dX0_steady_1 fX0_73_0 (ck0 hC) (Or.inl (cl0 hC)) rfl (cq0_10 hC) ?_
  refine ev_aload_n dX0_steady_4 rfl ?_
  refine ev_getR dX0_steady_5 fX0_69_0 (ck0 hC) (Or.inl (cl0 hC)) rfl (cq0_9 hC) ?_
  obtain ⟨r1, ci2, cj3, cr4, z5, h⟩ := jpb_inv h
  refine ev_zV1 dX0_steady_8 vX0_264_5 (sk0 hC is68) (Or.inl (sl0 hC is68)) (Nat.le_of_ble_eq_true rfl) (Nat.le_of_ble_eq_true rfl) rfl (metX5_copy n _ _ _ _ _ _ hC z5 (fun hC6 => ?_))
  show Ev g _ _ 11 _ [.ref r1] K ci2 cj3 cr4 _ _ Qr Qx
  refine ev_pop dX0_steady_11 rfl ?_
  refine ev_iconst (v := (nI 0)) dX0_steady_12 jc0 ?_
  refine ev_istore_n (L' := [_, _, _]) dX0_steady_13 (by decide) rfl ?_
  exact wX0_steady_14 n   n _ _ _ _ _ hC6 h hq
def fX0_comesBy_68 (n : Nat) : Nat → Int32 → Int32 → Int32 → Int32 → jK → jI → jJ → jR → Option (jTp Int32)
  | 0, _, _, _, _, _, _, _, _ => none
  | k + 1, l2, l3, l4, l5, K, ci, cj, cr => if l4 ≤ l5 then some ((nI 0), ci, cj, cr) else jpb (fX5_goes n 68 K ci cj cr) (fun r2 ci3 cj4 cr5 => if jok l3 3 then if (ci3 (68 + 2) (l3).toNatClampNeg) = l2 then some ((nI 1), ci3, cj4, cr5) else fX0_comesBy_68 n  k l2 l3 l4 (l5 + (nI 1)) K ci3 cj4 cr5 else none)
theorem wX0_comesBy_68 {g : jG} {d : Nat} {c sl : Nat} {Qr : jQ} {Qx : jX} (n : Nat) : ∀ (k : Nat) (l2 : Int32) (l3 : Int32) (l4 : Int32) (l5 : Int32) (K : jK) (ci : jI) (cj : jJ) (cr : jR) {q}, jCW K cr → fX0_comesBy_68 n  k l2 l3 l4 l5 K ci cj cr = some q → jqp wI K q Qr → Ev g (d + 549) mX0_comesBy 68 [.ref 0, jU, .int l2, .int l3, .int l4, .int l5] [] K ci cj cr c sl Qr Qx := by
  intro k
  induction k with
  | zero =>
    intro l2 l3 l4 l5 K ci cj cr q hC h hq
    rw [fX0_comesBy_68.eq_1] at h; cases h
  | succ k ih =>
    intro l2 l3 l4 l5 K ci cj cr q hC h hq
    rw [fX0_comesBy_68.eq_2] at h
    refine ev_iload dX0_comesBy_68 rfl ?_
    refine ev_iload dX0_comesBy_70 rfl ?_
    refine ev_icmp_ge 104 dX0_comesBy_72 rfl (fun z1 => ?_) (fun z1 => ?_)
    · rw [if_pos z1] at h
      refine ev_iconst (v := (nI 0)) dX0_comesBy_104 jc0 ?_
      cases h
      exact ev_iret dX0_comesBy_105 rfl (by decide) (hq hC)
    · rw [if_neg z1] at h
      refine ev_aload_n dX0_comesBy_75 rfl ?_
      refine ev_getR dX0_comesBy_76 fX0_73_0 (ck0 hC) (Or.inl (cl0 hC)) rfl (cq0_10 hC) ?_
      obtain ⟨r2, ci3, cj4, cr5, z6, h⟩ := jpb_inv h
      refine ev_zV0 dX0_comesBy_79 vX0_272_5 (sk0 hC is68) (Or.inl (sl0 hC is68)) (Nat.le_of_ble_eq_true rfl) (Nat.le_of_ble_eq_true rfl) rfl (metX5_goes n _ _ _ _ _ hC z6 (fun hC7 => ?_))
      show Ev g _ _ 82 _ [.int r2] K ci3 cj4 cr5 _ _ Qr Qx
      refine ev_pop dX0_comesBy_82 rfl ?_
      refine ev_aload_n dX0_comesBy_83 rfl ?_
      refine ev_getR dX0_comesBy_84 fX0_73_0 (ck0 hC7) (Or.inl (cl0 hC7)) rfl (cq0_10 hC7) ?_
      refine ev_getR dX0_comesBy_87 fX0_186_5 (sk0 hC7 is68) (Or.inl (sl0 hC7 is68)) rfl (sr2 hC7 is68) ?_
      refine ev_iload_n dX0_comesBy_90 rfl ?_
      by_cases z8 : jok l3 3
      rotate_left
      · rw [if_neg z8] at h; cases h
      rw [if_pos z8] at h
      refine ev_iaload dX0_comesBy_91 (sk2 hC7 is68) (Or.inl (sl2 hC7 is68)) (jok.ix z8 (sn2 hC7 is68)) ?_
      refine ev_iload_n dX0_comesBy_92 rfl ?_
      refine ev_icmp_ne 98 dX0_comesBy_93 rfl (fun z9 => ?_) (fun z9 => ?_)
      · rw [if_neg z9] at h
        refine ev_iinc (v := (l5 + (nI 1))) (L' := [_, _, _, _, _, _]) dX0_comesBy_98 rfl (by rw [ji_1]) (by decide) rfl ?_
        refine ev_goto 68 dX0_comesBy_101 rfl ?_
        exact ih _ _ _ _ _ _ _ _ hC7 h hq
      · rw [if_pos z9] at h
        refine ev_iconst (v := (nI 1)) dX0_comesBy_96 jc1 ?_
        cases h
        exact ev_iret dX0_comesBy_97 rfl (by decide) (hq hC7)
def fX0_comesBy_59 (n : Nat) (rec15 : Int32 → Int32 → Int32 → Int32 → Int32 → jK → jI → jJ → jR → Option (jTp Int32)) (l1 : Int32) (l2 : Int32) (l3 : Int32) (l4 : Int32) (l5 : Int32) (K : jK) (ci : jI) (cj : jJ) (cr : jR) : Option (jTp Int32) := rec15 l1 l2 l3 l4 (l5 + (nI 1)) K ci cj cr
theorem wX0_comesBy_59 {g : jG} {d : Nat} {c sl : Nat} {Qr : jQ} {Qx : jX} (n : Nat) (rec15 : Int32 → Int32 → Int32 → Int32 → Int32 → jK → jI → jJ → jR → Option (jTp Int32)) (hrec15 : (∀ (l1 : Int32) (l2 : Int32) (l3 : Int32) (l4 : Int32) (l5 : Int32) (K : jK) (ci : jI) (cj : jJ) (cr : jR) {q}, jCW K cr → rec15 l1 l2 l3 l4 l5 K ci cj cr = some q → jqp wI K q Qr → Ev g (d + 549) mX0_comesBy 15 [.ref 0, .int l1, .int l2, .int l3, .int l4, .int l5] [] K ci cj cr c sl Qr Qx)) (l1 : Int32) (l2 : Int32) (l3 : Int32) (l4 : Int32) (l5 : Int32) (K : jK) (ci : jI) (cj : jJ) (cr : jR) {q} (hC : jCW K cr) (h : fX0_comesBy_59 n rec15 l1 l2 l3 l4 l5 K ci cj cr = some q) (hq : jqp wI K q Qr) : Ev g (d + 549) mX0_comesBy 59 [.ref 0, .int l1, .int l2, .int l3, .int l4, .int l5] [] K ci cj cr c sl Qr Qx := by
  unfold fX0_comesBy_59 at h
  refine ev_iinc (v := (l5 + (nI 1))) (L' := [_, _, _, _, _, _]) dX0_comesBy_59 rfl (by rw [ji_1]) (by decide) rfl ?_
  refine ev_goto 15 dX0_comesBy_62 rfl ?_
  exact hrec15 _ _ _ _ _ _ _ _ _ hC h hq
def fX0_comesBy_15 (n : Nat) : Nat → Int32 → Int32 → Int32 → Int32 → Int32 → jK → jI → jJ → jR → Option (jTp Int32)
  | 0, _, _, _, _, _, _, _, _, _ => none
  | k + 1, l1, l2, l3, l4, l5, K, ci, cj, cr => jpb (fX0_pairs n  K ci cj cr) (fun r1 ci2 cj3 cr4 => if r1 ≤ l5 then fX0_comesBy_68 n  n l2 l3 l4 (nI 0) K ci2 cj3 cr4 else jpb (fX0_has n l1 l5 K ci2 cj3 cr4) (fun r8 ci9 cj10 cr11 => if r8 = 0 then fX0_comesBy_59 n (fX0_comesBy_15 n  k) l1 l2 l3 l4 l5 K ci9 cj10 cr11 else if jok l5 10 then if jok l5 10 then fX0_comesBy_59 n (fX0_comesBy_15 n  k) l1 l2 l3 l4 l5 K (ju (ju ci9 (68 + 8) (l5).toNatClampNeg (nI 9)) (68 + 10) (l5).toNatClampNeg (nI 0)) cj10 cr11 else none else none))
theorem wX0_comesBy_15 {g : jG} {d : Nat} {c sl : Nat} {Qr : jQ} {Qx : jX} (n : Nat) : ∀ (k : Nat) (l1 : Int32) (l2 : Int32) (l3 : Int32) (l4 : Int32) (l5 : Int32) (K : jK) (ci : jI) (cj : jJ) (cr : jR) {q}, jCW K cr → fX0_comesBy_15 n  k l1 l2 l3 l4 l5 K ci cj cr = some q → jqp wI K q Qr → Ev g (d + 549) mX0_comesBy 15 [.ref 0, .int l1, .int l2, .int l3, .int l4, .int l5] [] K ci cj cr c sl Qr Qx := by
  intro k
  induction k with
  | zero =>
    intro l1 l2 l3 l4 l5 K ci cj cr q hC h hq
    rw [fX0_comesBy_15.eq_1] at h; cases h
  | succ k ih =>
    intro l1 l2 l3 l4 l5 K ci cj cr q hC h hq
    rw [fX0_comesBy_15.eq_2] at h
    refine ev_iload dX0_comesBy_15 rfl ?_
    refine ev_aload_n dX0_comesBy_17 rfl ?_
    obtain ⟨r1, ci2, cj3, cr4, z5, h⟩ := jpb_inv h
    refine ev_zV0 dX0_comesBy_18 vX0_165_0 (ck0 hC) (Or.inl (cl0 hC)) (Nat.le_of_ble_eq_true rfl) (Nat.le_of_ble_eq_true rfl) rfl (metX0_pairs n  _ _ _ _ hC z5 (fun hC6 => ?_))
    show Ev g _ _ 21 _ [.int r1, .int l5] K ci2 cj3 cr4 _ _ Qr Qx
    refine ev_icmp_ge 65 dX0_comesBy_21 rfl (fun z7 => ?_) (fun z7 => ?_)
    · rw [if_pos z7] at h
      refine ev_iconst (v := (nI 0)) dX0_comesBy_65 jc0 ?_
      refine ev_istore (L' := [_, _, _, _, _, _]) dX0_comesBy_66 (by decide) rfl ?_
      exact ev_mask [true, false, true, true, true, true] (wX0_comesBy_68 n   n _ _ _ _ _ _ _ _ hC6 h hq)
    · rw [if_neg z7] at h
      refine ev_iload_n dX0_comesBy_24 rfl ?_
      refine ev_iload dX0_comesBy_25 rfl ?_
      obtain ⟨r8, ci9, cj10, cr11, z12, h⟩ := jpb_inv h
      refine ev_zS2 dX0_comesBy_27 sX0_278 (Nat.le_of_ble_eq_true rfl) (Nat.le_of_ble_eq_true rfl) rfl (metX0_has n _ _ _ _ _ _ hC6 z12 (fun hC13 => ?_))
      show Ev g _ _ 30 _ [.int r8] K ci9 cj10 cr11 _ _ Qr Qx
      refine ev_if_ne 36 dX0_comesBy_30 rfl (fun z14 => ?_) (fun z14 => ?_)
      · rw [if_neg z14] at h
        refine ev_aload_n dX0_comesBy_36 rfl ?_
        refine ev_getR dX0_comesBy_37 fX0_73_0 (ck0 hC13) (Or.inl (cl0 hC13)) rfl (cq0_10 hC13) ?_
        refine ev_getR dX0_comesBy_40 fX0_236_5 (sk0 hC13 is68) (Or.inl (sl0 hC13 is68)) rfl (sr8 hC13 is68) ?_
        refine ev_iload dX0_comesBy_43 rfl ?_
        refine ev_bipush (v := (nI 9)) dX0_comesBy_45 jb9 ?_
        by_cases z15 : jok l5 10
        rotate_left
        · rw [if_neg z15] at h; cases h
        rw [if_pos z15] at h
        refine ev_iastore dX0_comesBy_47 (sk8 hC13 is68) (sl8 hC13 is68) (jok.ix z15 (sn8 hC13 is68)) ?_
        refine ev_aload_n dX0_comesBy_48 rfl ?_
        refine ev_getR dX0_comesBy_49 fX0_73_0 (ck0 hC13) (Or.inl (cl0 hC13)) rfl (cq0_10 hC13) ?_
        refine ev_getR dX0_comesBy_52 fX0_239_5 (sk0 hC13 is68) (Or.inl (sl0 hC13 is68)) rfl (sr10 hC13 is68) ?_
        refine ev_iload dX0_comesBy_55 rfl ?_
        refine ev_iconst (v := (nI 0)) dX0_comesBy_57 jc0 ?_
        by_cases z16 : jok l5 10
        rotate_left
        · rw [if_neg z16] at h; cases h
        rw [if_pos z16] at h
        refine ev_iastore dX0_comesBy_58 (sk10 hC13 is68) (sl10 hC13 is68) (jok.ix z16 (sn10 hC13 is68)) ?_
        exact wX0_comesBy_59 n _ (ih) _ _ _ _ _ _ _ _ _ hC13 h hq
      · rw [if_pos z14] at h
        refine ev_goto 59 dX0_comesBy_33 rfl ?_
        exact wX0_comesBy_59 n _ (ih) _ _ _ _ _ _ _ _ _ hC13 h hq
def fX0_comesBy (n : Nat) (a0 : Int32) (a1 : Int32) (a2 : Int32) (a3 : Int32) (K : jK) (ci : jI) (cj : jJ) (cr : jR) : Option (jTp Int32) := jpb (fX5_copy n 68 16 K ci cj cr) (fun r1 ci2 cj3 cr4 => fX0_comesBy_15 n  n a0 a1 a2 a3 (nI 0) K ci2 cj3 cr4)
theorem metX0_comesBy {g : jG} {d : Nat} {c sl : Nat} {Qr : jQ} {Qx : jX} (n : Nat) (a0 : Int32) (a1 : Int32) (a2 : Int32) (a3 : Int32) (K : jK) (ci : jI) (cj : jJ) (cr : jR) {q} (hC : jCW K cr) (h : fX0_comesBy n a0 a1 a2 a3 K ci cj cr = some q) (hq : jqp wI K q Qr) : EvM g (d + 549) mX0_comesBy [.ref 0, .int a0, .int a1, .int a2, .int a3] K ci cj cr c sl Qr Qx := by
  unfold fX0_comesBy at h
  show Ev g (d + 549) mX0_comesBy 0 [.ref 0, .int a0, .int a1, .int a2, .int a3, jU] [] K ci cj cr c sl Qr Qx
  refine ev_aload_n dX0_comesBy_0 rfl ?_
  refine ev_getR dX0_comesBy_1 fX0_73_0 (ck0 hC) (Or.inl (cl0 hC)) rfl (cq0_10 hC) ?_
  refine ev_aload_n dX0_comesBy_4 rfl ?_
  refine ev_getR dX0_comesBy_5 fX0_69_0 (ck0 hC) (Or.inl (cl0 hC)) rfl (cq0_9 hC) ?_
  obtain ⟨r1, ci2, cj3, cr4, z5, h⟩ := jpb_inv h
  refine ev_zV1 dX0_comesBy_8 vX0_264_5 (sk0 hC is68) (Or.inl (sl0 hC is68)) (Nat.le_of_ble_eq_true rfl) (Nat.le_of_ble_eq_true rfl) rfl (metX5_copy n _ _ _ _ _ _ hC z5 (fun hC6 => ?_))
  show Ev g _ _ 11 _ [.ref r1] K ci2 cj3 cr4 _ _ Qr Qx
  refine ev_pop dX0_comesBy_11 rfl ?_
  refine ev_iconst (v := (nI 0)) dX0_comesBy_12 jc0 ?_
  refine ev_istore (L' := [_, _, _, _, _, _]) dX0_comesBy_13 (by decide) rfl ?_
  exact wX0_comesBy_15 n   n _ _ _ _ _ _ _ _ _ hC6 h hq
def fX0_reconcile_27 (n : Nat) (K : jK) (ci : jI) (cj : jJ) (cr : jR) : Option (jTp Int32) := some ((-1), ci, cj, cr)
theorem wX0_reconcile_27 {g : jG} {d : Nat} {c sl : Nat} {Qr : jQ} {Qx : jX} (n : Nat) (K : jK) (ci : jI) (cj : jJ) (cr : jR) {q} (hC : jCW K cr) (h : fX0_reconcile_27 n   K ci cj cr = some q) (hq : jqp wI K q Qr) : Ev g (d + 550) mX0_reconcile 27 [jU, jU, jU, jU, jU, jU, jU] [] K ci cj cr c sl Qr Qx := by
  unfold fX0_reconcile_27 at h
  refine ev_iconst (v := (-1)) dX0_reconcile_27 jcm1 ?_
  cases h
  exact ev_iret dX0_reconcile_28 rfl rfl (hq hC)
def fX0_reconcile_141 (n : Nat) (rec82 : Int32 → Int32 → Int32 → Int32 → Int32 → Int32 → jK → jI → jJ → jR → Option (jTp Int32)) (l1 : Int32) (l2 : Int32) (l3 : Int32) (l4 : Int32) (l5 : Int32) (l6 : Int32) (K : jK) (ci : jI) (cj : jJ) (cr : jR) : Option (jTp Int32) := rec82 l1 l2 l3 l4 l5 (l6 + (nI 1)) K ci cj cr
theorem wX0_reconcile_141 {g : jG} {d : Nat} {c sl : Nat} {Qr : jQ} {Qx : jX} (n : Nat) (rec82 : Int32 → Int32 → Int32 → Int32 → Int32 → Int32 → jK → jI → jJ → jR → Option (jTp Int32)) (hrec82 : (∀ (l1 : Int32) (l2 : Int32) (l3 : Int32) (l4 : Int32) (l5 : Int32) (l6 : Int32) (K : jK) (ci : jI) (cj : jJ) (cr : jR) {q}, jCW K cr → rec82 l1 l2 l3 l4 l5 l6 K ci cj cr = some q → jqp wI K q Qr → Ev g (d + 550) mX0_reconcile 82 [.ref 0, .int l1, .int l2, .int l3, .int l4, .int l5, .int l6] [] K ci cj cr c sl Qr Qx)) (l1 : Int32) (l2 : Int32) (l3 : Int32) (l4 : Int32) (l5 : Int32) (l6 : Int32) (K : jK) (ci : jI) (cj : jJ) (cr : jR) {q} (hC : jCW K cr) (h : fX0_reconcile_141 n rec82 l1 l2 l3 l4 l5 l6 K ci cj cr = some q) (hq : jqp wI K q Qr) : Ev g (d + 550) mX0_reconcile 141 [.ref 0, .int l1, .int l2, .int l3, .int l4, .int l5, .int l6] [] K ci cj cr c sl Qr Qx := by
  unfold fX0_reconcile_141 at h
  refine ev_iinc (v := (l6 + (nI 1))) (L' := [_, _, _, _, _, _, _]) dX0_reconcile_141 rfl (by rw [ji_1]) (by decide) rfl ?_
  refine ev_goto 82 dX0_reconcile_144 rfl ?_
  exact hrec82 _ _ _ _ _ _ _ _ _ _ hC h hq
def fX0_reconcile_125 (n : Nat) (rec82 : Int32 → Int32 → Int32 → Int32 → Int32 → Int32 → jK → jI → jJ → jR → Option (jTp Int32)) (l1 : Int32) (l2 : Int32) (l3 : Int32) (l4 : Int32) (l5 : Int32) (l6 : Int32) (K : jK) (ci : jI) (cj : jJ) (cr : jR) : Option (jTp Int32) := jpb (fX0_comesBy n l6 l1 l2 l3 K ci cj cr) (fun r1 ci2 cj3 cr4 => if r1 = 0 then fX0_reconcile_141 n rec82 l1 l2 l3 l4 l5 l6 K ci2 cj3 cr4 else fX0_reconcile_141 n rec82 l1 l2 l3 l4 l6 l6 K ci2 cj3 cr4)
theorem wX0_reconcile_125 {g : jG} {d : Nat} {c sl : Nat} {Qr : jQ} {Qx : jX} (n : Nat) (rec82 : Int32 → Int32 → Int32 → Int32 → Int32 → Int32 → jK → jI → jJ → jR → Option (jTp Int32)) (hrec82 : (∀ (l1 : Int32) (l2 : Int32) (l3 : Int32) (l4 : Int32) (l5 : Int32) (l6 : Int32) (K : jK) (ci : jI) (cj : jJ) (cr : jR) {q}, jCW K cr → rec82 l1 l2 l3 l4 l5 l6 K ci cj cr = some q → jqp wI K q Qr → Ev g (d + 550) mX0_reconcile 82 [.ref 0, .int l1, .int l2, .int l3, .int l4, .int l5, .int l6] [] K ci cj cr c sl Qr Qx)) (l1 : Int32) (l2 : Int32) (l3 : Int32) (l4 : Int32) (l5 : Int32) (l6 : Int32) (K : jK) (ci : jI) (cj : jJ) (cr : jR) {q} (hC : jCW K cr) (h : fX0_reconcile_125 n rec82 l1 l2 l3 l4 l5 l6 K ci cj cr = some q) (hq : jqp wI K q Qr) : Ev g (d + 550) mX0_reconcile 125 [.ref 0, .int l1, .int l2, .int l3, .int l4, .int l5, .int l6] [] K ci cj cr c sl Qr Qx := by
  unfold fX0_reconcile_125 at h
  refine ev_aload_n dX0_reconcile_125 rfl ?_
  refine ev_iload dX0_reconcile_126 rfl ?_
  refine ev_iload_n dX0_reconcile_128 rfl ?_
  refine ev_iload_n dX0_reconcile_129 rfl ?_
  refine ev_iload_n dX0_reconcile_130 rfl ?_
  obtain ⟨r1, ci2, cj3, cr4, z5, h⟩ := jpb_inv h
  refine ev_zV4 dX0_reconcile_131 vX0_287_0 (ck0 hC) (Or.inl (cl0 hC)) (Nat.le_of_ble_eq_true rfl) (Nat.le_of_ble_eq_true rfl) rfl (metX0_comesBy n _ _ _ _ _ _ _ _ hC z5 (fun hC6 => ?_))
  show Ev g _ _ 134 _ [.int r1] K ci2 cj3 cr4 _ _ Qr Qx
  refine ev_if_eq 141 dX0_reconcile_134 rfl (fun z7 => ?_) (fun z7 => ?_)
  · rw [if_pos z7] at h
    exact wX0_reconcile_141 n _ (hrec82) _ _ _ _ _ _ _ _ _ _ hC6 h hq
  · rw [if_neg z7] at h
    refine ev_iload dX0_reconcile_137 rfl ?_
    refine ev_istore (L' := [_, _, _, _, _, _, _]) dX0_reconcile_139 (by decide) rfl ?_
    exact wX0_reconcile_141 n _ (hrec82) _ _ _ _ _ _ _ _ _ _ hC6 h hq
def fX0_reconcile_82 (n : Nat) : Nat → Int32 → Int32 → Int32 → Int32 → Int32 → Int32 → jK → jI → jJ → jR → Option (jTp Int32)
  | 0, _, _, _, _, _, _, _, _, _, _ => none
  | k + 1, l1, l2, l3, l4, l5, l6, K, ci, cj, cr => jpb (fX0_pairs n  K ci cj cr) (fun r1 ci2 cj3 cr4 => if ((nI 1) <<< (r1 &&& 31)) ≤ l6 then some (l5, ci2, cj3, cr4) else if (l6 &&& (l4 ^^^ (-1))) = 0 then if l5 = (-1) then fX0_reconcile_125 n (fX0_reconcile_82 n  k) l1 l2 l3 l4 l5 l6 K ci2 cj3 cr4 else jpb (fJ16_bitCount n l6 K ci2 cj3 cr4) (fun r10 ci11 cj12 cr13 => jpb (fJ16_bitCount n l5 K ci11 cj12 cr13) (fun r16 ci17 cj18 cr19 => if r10 < r16 then fX0_reconcile_125 n (fX0_reconcile_82 n  k) l1 l2 l3 l4 l5 l6 K ci17 cj18 cr19 else fX0_reconcile_141 n (fX0_reconcile_82 n  k) l1 l2 l3 l4 l5 l6 K ci17 cj18 cr19)) else fX0_reconcile_141 n (fX0_reconcile_82 n  k) l1 l2 l3 l4 l5 l6 K ci2 cj3 cr4)
theorem wX0_reconcile_82 {g : jG} {d : Nat} {c sl : Nat} {Qr : jQ} {Qx : jX} (n : Nat) : ∀ (k : Nat) (l1 : Int32) (l2 : Int32) (l3 : Int32) (l4 : Int32) (l5 : Int32) (l6 : Int32) (K : jK) (ci : jI) (cj : jJ) (cr : jR) {q}, jCW K cr → fX0_reconcile_82 n  k l1 l2 l3 l4 l5 l6 K ci cj cr = some q → jqp wI K q Qr → Ev g (d + 550) mX0_reconcile 82 [.ref 0, .int l1, .int l2, .int l3, .int l4, .int l5, .int l6] [] K ci cj cr c sl Qr Qx := by
  intro k
  induction k with
  | zero =>
    intro l1 l2 l3 l4 l5 l6 K ci cj cr q hC h hq
    rw [fX0_reconcile_82.eq_1] at h; cases h
  | succ k ih =>
    intro l1 l2 l3 l4 l5 l6 K ci cj cr q hC h hq
    rw [fX0_reconcile_82.eq_2] at h
    refine ev_iload dX0_reconcile_82 rfl ?_
    refine ev_iconst (v := (nI 1)) dX0_reconcile_84 jc1 ?_
    refine ev_aload_n dX0_reconcile_85 rfl ?_
    obtain ⟨r1, ci2, cj3, cr4, z5, h⟩ := jpb_inv h
    refine ev_zV0 dX0_reconcile_86 vX0_165_0 (ck0 hC) (Or.inl (cl0 hC)) (Nat.le_of_ble_eq_true rfl) (Nat.le_of_ble_eq_true rfl) rfl (metX0_pairs n  _ _ _ _ hC z5 (fun hC6 => ?_))
    show Ev g _ _ 89 _ [.int r1, .int (nI 1), .int l6] K ci2 cj3 cr4 _ _ Qr Qx
    refine ev_ishl dX0_reconcile_89 ?_
    refine ev_icmp_ge 147 dX0_reconcile_90 rfl (fun z7 => ?_) (fun z7 => ?_)
    · rw [if_pos z7] at h
      refine ev_iload dX0_reconcile_147 rfl ?_
      cases h
      exact ev_iret dX0_reconcile_149 rfl rfl (hq hC6)
    · rw [if_neg z7] at h
      refine ev_iload dX0_reconcile_93 rfl ?_
      refine ev_iload dX0_reconcile_95 rfl ?_
      refine ev_iconst (v := (-1)) dX0_reconcile_97 jcm1 ?_
      refine ev_ixor dX0_reconcile_98 ?_
      refine ev_iand dX0_reconcile_99 ?_
      refine ev_if_ne 141 dX0_reconcile_100 rfl (fun z8 => ?_) (fun z8 => ?_)
      · rw [if_neg z8] at h
        exact wX0_reconcile_141 n _ (ih) _ _ _ _ _ _ _ _ _ _ hC6 h hq
      · rw [if_pos z8] at h
        refine ev_iload dX0_reconcile_103 rfl ?_
        refine ev_iconst (v := (-1)) dX0_reconcile_105 jcm1 ?_
        refine ev_icmp_eq 125 dX0_reconcile_106 rfl (fun z9 => ?_) (fun z9 => ?_)
        · rw [if_pos z9] at h
          exact wX0_reconcile_125 n _ (ih) _ _ _ _ _ _ _ _ _ _ hC6 h hq
        · rw [if_neg z9] at h
          refine ev_iload dX0_reconcile_109 rfl ?_
          obtain ⟨r10, ci11, cj12, cr13, z14, h⟩ := jpb_inv h
          refine ev_zS1 dX0_reconcile_111 sX0_282 (Nat.le_of_ble_eq_true rfl) (Nat.le_of_ble_eq_true rfl) rfl (metJ16_bitCount n _ _ _ _ _ hC6 z14 (fun hC15 => ?_))
          show Ev g _ _ 114 _ [.int r10] K ci11 cj12 cr13 _ _ Qr Qx
          refine ev_iload dX0_reconcile_114 rfl ?_
          obtain ⟨r16, ci17, cj18, cr19, z20, h⟩ := jpb_inv h
          refine ev_zS1 dX0_reconcile_116 sX0_282 (Nat.le_of_ble_eq_true rfl) (Nat.le_of_ble_eq_true rfl) rfl (metJ16_bitCount n _ _ _ _ _ hC15 z20 (fun hC21 => ?_))
          show Ev g _ _ 119 _ [.int r16, .int r10] K ci17 cj18 cr19 _ _ Qr Qx
          refine ev_icmp_lt 125 dX0_reconcile_119 rfl (fun z22 => ?_) (fun z22 => ?_)
          · rw [if_pos z22] at h
            exact wX0_reconcile_125 n _ (ih) _ _ _ _ _ _ _ _ _ _ hC21 h hq
          · rw [if_neg z22] at h
            refine ev_goto 141 dX0_reconcile_122 rfl ?_
            exact wX0_reconcile_141 n _ (ih) _ _ _ _ _ _ _ _ _ _ hC21 h hq
def fX0_reconcile_67 (n : Nat) (rec35 : Int32 → Int32 → Int32 → Int32 → Int32 → jK → jI → jJ → jR → Option (jTp Int32)) (l1 : Int32) (l2 : Int32) (l3 : Int32) (l5 : Int32) (t0 : Int32) (t1 : Int32) (K : jK) (ci : jI) (cj : jJ) (cr : jR) : Option (jTp Int32) := rec35 l1 l2 l3 (t1 ||| t0) (l5 + (nI 1)) K ci cj cr
theorem wX0_reconcile_67 {g : jG} {d : Nat} {c sl : Nat} {Qr : jQ} {Qx : jX} (n : Nat) (rec35 : Int32 → Int32 → Int32 → Int32 → Int32 → jK → jI → jJ → jR → Option (jTp Int32)) (hrec35 : (∀ (l1 : Int32) (l2 : Int32) (l3 : Int32) (l4 : Int32) (l5 : Int32) (K : jK) (ci : jI) (cj : jJ) (cr : jR) {q}, jCW K cr → rec35 l1 l2 l3 l4 l5 K ci cj cr = some q → jqp wI K q Qr → Ev g (d + 550) mX0_reconcile 35 [.ref 0, .int l1, .int l2, .int l3, .int l4, .int l5, jU] [] K ci cj cr c sl Qr Qx)) (l1 : Int32) (l2 : Int32) (l3 : Int32) (l5 : Int32) (t0 : Int32) (t1 : Int32) (K : jK) (ci : jI) (cj : jJ) (cr : jR) {q} (hC : jCW K cr) (h : fX0_reconcile_67 n rec35 l1 l2 l3 l5 t0 t1 K ci cj cr = some q) (hq : jqp wI K q Qr) : Ev g (d + 550) mX0_reconcile 67 [.ref 0, .int l1, .int l2, .int l3, jU, .int l5, jU] [.int t0, .int t1] K ci cj cr c sl Qr Qx := by
  unfold fX0_reconcile_67 at h
  refine ev_ior dX0_reconcile_67 ?_
  refine ev_istore (L' := [_, _, _, _, _, _, _]) dX0_reconcile_68 (by decide) rfl ?_
  refine ev_iinc (v := (l5 + (nI 1))) (L' := [_, _, _, _, _, _, _]) dX0_reconcile_70 rfl (by rw [ji_1]) (by decide) rfl ?_
  refine ev_goto 35 dX0_reconcile_73 rfl ?_
  exact hrec35 _ _ _ _ _ _ _ _ _ hC h hq
def fX0_reconcile_35 (n : Nat) : Nat → Int32 → Int32 → Int32 → Int32 → Int32 → jK → jI → jJ → jR → Option (jTp Int32)
  | 0, _, _, _, _, _, _, _, _, _ => none
  | k + 1, l1, l2, l3, l4, l5, K, ci, cj, cr => jpb (fX0_pairs n  K ci cj cr) (fun r1 ci2 cj3 cr4 => if r1 ≤ l5 then fX0_reconcile_82 n  n l1 l2 l3 l4 (-1) (nI 0) K ci2 cj3 cr4 else jpb (fX0_pairOf n l5 K ci2 cj3 cr4) (fun r8 ci9 cj10 cr11 => if K.1 r8 = 8 ∧ r8 < K.2.2 then if (ci9 r8 1) = l1 then fX0_reconcile_67 n (fX0_reconcile_35 n  k) l1 l2 l3 l5 ((nI 1) <<< (l5 &&& 31)) l4 K ci9 cj10 cr11 else fX0_reconcile_67 n (fX0_reconcile_35 n  k) l1 l2 l3 l5 (nI 0) l4 K ci9 cj10 cr11 else none))
theorem wX0_reconcile_35 {g : jG} {d : Nat} {c sl : Nat} {Qr : jQ} {Qx : jX} (n : Nat) : ∀ (k : Nat) (l1 : Int32) (l2 : Int32) (l3 : Int32) (l4 : Int32) (l5 : Int32) (K : jK) (ci : jI) (cj : jJ) (cr : jR) {q}, jCW K cr → fX0_reconcile_35 n  k l1 l2 l3 l4 l5 K ci cj cr = some q → jqp wI K q Qr → Ev g (d + 550) mX0_reconcile 35 [.ref 0, .int l1, .int l2, .int l3, .int l4, .int l5, jU] [] K ci cj cr c sl Qr Qx := by
  intro k
  induction k with
  | zero =>
    intro l1 l2 l3 l4 l5 K ci cj cr q hC h hq
    rw [fX0_reconcile_35.eq_1] at h; cases h
  | succ k ih =>
    intro l1 l2 l3 l4 l5 K ci cj cr q hC h hq
    rw [fX0_reconcile_35.eq_2] at h
    refine ev_iload dX0_reconcile_35 rfl ?_
    refine ev_aload_n dX0_reconcile_37 rfl ?_
    obtain ⟨r1, ci2, cj3, cr4, z5, h⟩ := jpb_inv h
    refine ev_zV0 dX0_reconcile_38 vX0_165_0 (ck0 hC) (Or.inl (cl0 hC)) (Nat.le_of_ble_eq_true rfl) (Nat.le_of_ble_eq_true rfl) rfl (metX0_pairs n  _ _ _ _ hC z5 (fun hC6 => ?_))
    show Ev g _ _ 41 _ [.int r1, .int l5] K ci2 cj3 cr4 _ _ Qr Qx
    refine ev_icmp_ge 76 dX0_reconcile_41 rfl (fun z7 => ?_) (fun z7 => ?_)
    · rw [if_pos z7] at h
      refine ev_iconst (v := (-1)) dX0_reconcile_76 jcm1 ?_
      refine ev_istore (L' := [_, _, _, _, _, _, _]) dX0_reconcile_77 (by decide) rfl ?_
      refine ev_iconst (v := (nI 0)) dX0_reconcile_79 jc0 ?_
      refine ev_istore (L' := [_, _, _, _, _, _, _]) dX0_reconcile_80 (by decide) rfl ?_
      exact wX0_reconcile_82 n   n _ _ _ _ _ _ _ _ _ _ hC6 h hq
    · rw [if_neg z7] at h
      refine ev_iload dX0_reconcile_44 rfl ?_
      refine ev_aload_n dX0_reconcile_46 rfl ?_
      refine ev_iload dX0_reconcile_47 rfl ?_
      obtain ⟨r8, ci9, cj10, cr11, z12, h⟩ := jpb_inv h
      refine ev_zV1 dX0_reconcile_49 vX0_229_0 (ck0 hC6) (Or.inl (cl0 hC6)) (Nat.le_of_ble_eq_true rfl) (Nat.le_of_ble_eq_true rfl) rfl (metX0_pairOf n _ _ _ _ _ hC6 z12 (fun hC13 => ?_))
      show Ev g _ _ 52 _ [.ref r8, .int l4] K ci9 cj10 cr11 _ _ Qr Qx
      by_cases z14 : K.1 r8 = 8 ∧ r8 < K.2.2
      rotate_left
      · rw [if_neg z14] at h; cases h
      rw [if_pos z14] at h
      refine ev_getI dX0_reconcile_52 fX0_233_8 z14.1 (Or.inl z14.2) rfl ?_
      refine ev_iload_n dX0_reconcile_55 rfl ?_
      refine ev_icmp_ne 66 dX0_reconcile_56 rfl (fun z15 => ?_) (fun z15 => ?_)
      · rw [if_neg z15] at h
        refine ev_iconst (v := (nI 0)) dX0_reconcile_66 jc0 ?_
        exact ev_mask [true, true, true, true, false, true, false] (wX0_reconcile_67 n _ (ih) _ _ _ _ _ _ _ _ _ _ hC13 h hq)
      · rw [if_pos z15] at h
        refine ev_iconst (v := (nI 1)) dX0_reconcile_59 jc1 ?_
        refine ev_iload dX0_reconcile_60 rfl ?_
        refine ev_ishl dX0_reconcile_62 ?_
        refine ev_goto 67 dX0_reconcile_63 rfl ?_
        exact ev_mask [true, true, true, true, false, true, false] (wX0_reconcile_67 n _ (ih) _ _ _ _ _ _ _ _ _ _ hC13 h hq)
def fX0_reconcile (n : Nat) (a0 : Int32) (a1 : Int32) (a2 : Int32) (K : jK) (ci : jI) (cj : jJ) (cr : jR) : Option (jTp Int32) := jpb (fX0_isBay n a0 K ci cj cr) (fun r1 ci2 cj3 cr4 => if r1 = 0 then fX0_reconcile_27 n   K ci2 cj3 cr4 else jpb (fX0_isShoal n a1 K ci2 cj3 cr4) (fun r8 ci9 cj10 cr11 => if r8 = 0 then fX0_reconcile_27 n   K ci9 cj10 cr11 else jpb (fX0_isAhead n a2 (nI 1) (nI 20) K ci9 cj10 cr11) (fun r15 ci16 cj17 cr18 => if r15 = 0 then fX0_reconcile_27 n   K ci16 cj17 cr18 else fX0_reconcile_35 n  n a0 a1 a2 (nI 0) (nI 0) K ci16 cj17 cr18)))
theorem metX0_reconcile {g : jG} {d : Nat} {c sl : Nat} {Qr : jQ} {Qx : jX} (n : Nat) (a0 : Int32) (a1 : Int32) (a2 : Int32) (K : jK) (ci : jI) (cj : jJ) (cr : jR) {q} (hC : jCW K cr) (h : fX0_reconcile n a0 a1 a2 K ci cj cr = some q) (hq : jqp wI K q Qr) : EvM g (d + 550) mX0_reconcile [.ref 0, .int a0, .int a1, .int a2] K ci cj cr c sl Qr Qx := by
  unfold fX0_reconcile at h
  show Ev g (d + 550) mX0_reconcile 0 [.ref 0, .int a0, .int a1, .int a2, jU, jU, jU] [] K ci cj cr c sl Qr Qx
  refine ev_aload_n dX0_reconcile_0 rfl ?_
  refine ev_iload_n dX0_reconcile_1 rfl ?_
  obtain ⟨r1, ci2, cj3, cr4, z5, h⟩ := jpb_inv h
  refine ev_zV1 dX0_reconcile_2 vX0_204_0 (ck0 hC) (Or.inl (cl0 hC)) (Nat.le_of_ble_eq_true rfl) (Nat.le_of_ble_eq_true rfl) rfl (metX0_isBay n _ _ _ _ _ hC z5 (fun hC6 => ?_))
  show Ev g _ _ 5 _ [.int r1] K ci2 cj3 cr4 _ _ Qr Qx
  refine ev_if_eq 27 dX0_reconcile_5 rfl (fun z7 => ?_) (fun z7 => ?_)
  · rw [if_pos z7] at h
    exact ev_mask [false, false, false, false, false, false, false] (wX0_reconcile_27 n    _ _ _ _ hC6 h hq)
  · rw [if_neg z7] at h
    refine ev_aload_n dX0_reconcile_8 rfl ?_
    refine ev_iload_n dX0_reconcile_9 rfl ?_
    obtain ⟨r8, ci9, cj10, cr11, z12, h⟩ := jpb_inv h
    refine ev_zV1 dX0_reconcile_10 vX0_242_0 (ck0 hC6) (Or.inl (cl0 hC6)) (Nat.le_of_ble_eq_true rfl) (Nat.le_of_ble_eq_true rfl) rfl (metX0_isShoal n _ _ _ _ _ hC6 z12 (fun hC13 => ?_))
    show Ev g _ _ 13 _ [.int r8] K ci9 cj10 cr11 _ _ Qr Qx
    refine ev_if_eq 27 dX0_reconcile_13 rfl (fun z14 => ?_) (fun z14 => ?_)
    · rw [if_pos z14] at h
      exact ev_mask [false, false, false, false, false, false, false] (wX0_reconcile_27 n    _ _ _ _ hC13 h hq)
    · rw [if_neg z14] at h
      refine ev_aload_n dX0_reconcile_16 rfl ?_
      refine ev_iload_n dX0_reconcile_17 rfl ?_
      refine ev_iconst (v := (nI 1)) dX0_reconcile_18 jc1 ?_
      refine ev_bipush (v := (nI 20)) dX0_reconcile_19 jb20 ?_
      obtain ⟨r15, ci16, cj17, cr18, z19, h⟩ := jpb_inv h
      refine ev_zV3 dX0_reconcile_21 vX0_261_0 (ck0 hC13) (Or.inl (cl0 hC13)) (Nat.le_of_ble_eq_true rfl) (Nat.le_of_ble_eq_true rfl) rfl (metX0_isAhead n _ _ _ _ _ _ _ hC13 z19 (fun hC20 => ?_))
      show Ev g _ _ 24 _ [.int r15] K ci16 cj17 cr18 _ _ Qr Qx
      refine ev_if_ne 29 dX0_reconcile_24 rfl (fun z21 => ?_) (fun z21 => ?_)
      · rw [if_neg z21] at h
        refine ev_iconst (v := (nI 0)) dX0_reconcile_29 jc0 ?_
        refine ev_istore (L' := [_, _, _, _, _, _, _]) dX0_reconcile_30 (by decide) rfl ?_
        refine ev_iconst (v := (nI 0)) dX0_reconcile_32 jc0 ?_
        refine ev_istore (L' := [_, _, _, _, _, _, _]) dX0_reconcile_33 (by decide) rfl ?_
        exact wX0_reconcile_35 n   n _ _ _ _ _ _ _ _ _ hC20 h hq
      · rw [if_pos z21] at h
        exact ev_mask [false, false, false, false, false, false, false] (wX0_reconcile_27 n    _ _ _ _ hC20 h hq)
def fX0_hinge_20 (n : Nat) (K : jK) (ci : jI) (cj : jJ) (cr : jR) : Option (jTp Int32) := some ((-1), ci, cj, cr)
theorem wX0_hinge_20 {g : jG} {d : Nat} {c sl : Nat} {Qr : jQ} {Qx : jX} (n : Nat) (K : jK) (ci : jI) (cj : jJ) (cr : jR) {q} (hC : jCW K cr) (h : fX0_hinge_20 n   K ci cj cr = some q) (hq : jqp wI K q Qr) : Ev g (d + 549) mX0_hinge 20 [jU, jU, jU, jU, jU, jU, jU, jU] [] K ci cj cr c sl Qr Qx := by
  unfold fX0_hinge_20 at h
  refine ev_iconst (v := (-1)) dX0_hinge_20 jcm1 ?_
  cases h
  exact ev_iret dX0_hinge_21 rfl rfl (hq hC)
def fX0_hinge_151 (n : Nat) (t0 : Int32) (K : jK) (ci : jI) (cj : jJ) (cr : jR) : Option (jTp Int32) := some (t0, ci, cj, cr)
theorem wX0_hinge_151 {g : jG} {d : Nat} {c sl : Nat} {Qr : jQ} {Qx : jX} (n : Nat) (t0 : Int32) (K : jK) (ci : jI) (cj : jJ) (cr : jR) {q} (hC : jCW K cr) (h : fX0_hinge_151 n  t0 K ci cj cr = some q) (hq : jqp wI K q Qr) : Ev g (d + 549) mX0_hinge 151 [jU, jU, jU, jU, jU, jU, jU, jU] [.int t0] K ci cj cr c sl Qr Qx := by
  unfold fX0_hinge_151 at h
  cases h
  exact ev_iret dX0_hinge_151 rfl rfl (hq hC)
def fX0_hinge_145 (n : Nat) (l3 : Int32) (K : jK) (ci : jI) (cj : jJ) (cr : jR) : Option (jTp Int32) := fX0_hinge_151 n  l3 K ci cj cr
theorem wX0_hinge_145 {g : jG} {d : Nat} {c sl : Nat} {Qr : jQ} {Qx : jX} (n : Nat) (l3 : Int32) (K : jK) (ci : jI) (cj : jJ) (cr : jR) {q} (hC : jCW K cr) (h : fX0_hinge_145 n  l3 K ci cj cr = some q) (hq : jqp wI K q Qr) : Ev g (d + 549) mX0_hinge 145 [jU, jU, jU, .int l3, jU, jU, jU, jU] [] K ci cj cr c sl Qr Qx := by
  unfold fX0_hinge_145 at h
  refine ev_iload_n dX0_hinge_145 rfl ?_
  refine ev_goto 151 dX0_hinge_146 rfl ?_
  exact ev_mask [false, false, false, false, false, false, false, false] (wX0_hinge_151 n   _ _ _ _ _ hC h hq)
def fX0_hinge_130 (n : Nat) (rec32 : Int32 → Int32 → Int32 → Int32 → Int32 → jK → jI → jJ → jR → Option (jTp Int32)) (l1 : Int32) (l2 : Int32) (l3 : Int32) (l4 : Int32) (l5 : Int32) (K : jK) (ci : jI) (cj : jJ) (cr : jR) : Option (jTp Int32) := rec32 l1 l2 l3 l4 (l5 + (nI 1)) K ci cj cr
theorem wX0_hinge_130 {g : jG} {d : Nat} {c sl : Nat} {Qr : jQ} {Qx : jX} (n : Nat) (rec32 : Int32 → Int32 → Int32 → Int32 → Int32 → jK → jI → jJ → jR → Option (jTp Int32)) (hrec32 : (∀ (l1 : Int32) (l2 : Int32) (l3 : Int32) (l4 : Int32) (l5 : Int32) (K : jK) (ci : jI) (cj : jJ) (cr : jR) {q}, jCW K cr → rec32 l1 l2 l3 l4 l5 K ci cj cr = some q → jqp wI K q Qr → Ev g (d + 549) mX0_hinge 32 [.ref 0, .int l1, .int l2, .int l3, .int l4, .int l5, jU, jU] [] K ci cj cr c sl Qr Qx)) (l1 : Int32) (l2 : Int32) (l3 : Int32) (l4 : Int32) (l5 : Int32) (K : jK) (ci : jI) (cj : jJ) (cr : jR) {q} (hC : jCW K cr) (h : fX0_hinge_130 n rec32 l1 l2 l3 l4 l5 K ci cj cr = some q) (hq : jqp wI K q Qr) : Ev g (d + 549) mX0_hinge 130 [.ref 0, .int l1, .int l2, .int l3, .int l4, .int l5, jU, jU] [] K ci cj cr c sl Qr Qx := by
  unfold fX0_hinge_130 at h
  refine ev_iinc (v := (l5 + (nI 1))) (L' := [_, _, _, _, _, _, _, _]) dX0_hinge_130 rfl (by rw [ji_1]) (by decide) rfl ?_
  refine ev_goto 32 dX0_hinge_133 rfl ?_
  exact hrec32 _ _ _ _ _ _ _ _ _ hC h hq
def fX0_hinge_81 (n : Nat) (rec32 : Int32 → Int32 → Int32 → Int32 → Int32 → jK → jI → jJ → jR → Option (jTp Int32)) : Nat → Int32 → Int32 → Int32 → Int32 → Int32 → Int32 → Int32 → jK → jI → jJ → jR → Option (jTp Int32)
  | 0, _, _, _, _, _, _, _, _, _, _, _ => none
  | k + 1, l1, l2, l3, l4, l5, l6, l7, K, ci, cj, cr => if l1 ≤ l7 then if l6 < l4 then fX0_hinge_130 n rec32 l1 l2 l5 l6 l5 K ci cj cr else fX0_hinge_130 n rec32 l1 l2 l3 l4 l5 K ci cj cr else jpb (fX5_goes n 68 K ci cj cr) (fun r3 ci4 cj5 cr6 => jpb (fX5_tookAll n 68 K ci4 cj5 cr6) (fun r9 ci10 cj11 cr12 => fX0_hinge_81 n rec32 k l1 l2 l3 l4 l5 (l6 + r9) (l7 + (nI 1)) K ci10 cj11 cr12))
theorem wX0_hinge_81 {g : jG} {d : Nat} {c sl : Nat} {Qr : jQ} {Qx : jX} (n : Nat) (rec32 : Int32 → Int32 → Int32 → Int32 → Int32 → jK → jI → jJ → jR → Option (jTp Int32)) (hrec32 : (∀ (l1 : Int32) (l2 : Int32) (l3 : Int32) (l4 : Int32) (l5 : Int32) (K : jK) (ci : jI) (cj : jJ) (cr : jR) {q}, jCW K cr → rec32 l1 l2 l3 l4 l5 K ci cj cr = some q → jqp wI K q Qr → Ev g (d + 549) mX0_hinge 32 [.ref 0, .int l1, .int l2, .int l3, .int l4, .int l5, jU, jU] [] K ci cj cr c sl Qr Qx)) : ∀ (k : Nat) (l1 : Int32) (l2 : Int32) (l3 : Int32) (l4 : Int32) (l5 : Int32) (l6 : Int32) (l7 : Int32) (K : jK) (ci : jI) (cj : jJ) (cr : jR) {q}, jCW K cr → fX0_hinge_81 n rec32 k l1 l2 l3 l4 l5 l6 l7 K ci cj cr = some q → jqp wI K q Qr → Ev g (d + 549) mX0_hinge 81 [.ref 0, .int l1, .int l2, .int l3, .int l4, .int l5, .int l6, .int l7] [] K ci cj cr c sl Qr Qx := by
  intro k
  induction k with
  | zero =>
    intro l1 l2 l3 l4 l5 l6 l7 K ci cj cr q hC h hq
    rw [fX0_hinge_81.eq_1] at h; cases h
  | succ k ih =>
    intro l1 l2 l3 l4 l5 l6 l7 K ci cj cr q hC h hq
    rw [fX0_hinge_81.eq_2] at h
    refine ev_iload dX0_hinge_81 rfl ?_
    refine ev_iload_n dX0_hinge_83 rfl ?_
    refine ev_icmp_ge 113 dX0_hinge_84 rfl (fun z1 => ?_) (fun z1 => ?_)
    · rw [if_pos z1] at h
      refine ev_iload dX0_hinge_113 rfl ?_
      refine ev_iload dX0_hinge_115 rfl ?_
      refine ev_icmp_lt 123 dX0_hinge_117 rfl (fun z2 => ?_) (fun z2 => ?_)
      · rw [if_pos z2] at h
        refine ev_iload dX0_hinge_123 rfl ?_
        refine ev_istore (L' := [_, _, _, _, _, _, _, _]) dX0_hinge_125 (by decide) rfl ?_
        refine ev_iload dX0_hinge_127 rfl ?_
        refine ev_istore_n (L' := [_, _, _, _, _, _, _, _]) dX0_hinge_129 (by decide) rfl ?_
        exact ev_mask [true, true, true, true, true, true, false, false] (wX0_hinge_130 n _ (hrec32) _ _ _ _ _ _ _ _ _ hC h hq)
      · rw [if_neg z2] at h
        refine ev_goto 130 dX0_hinge_120 rfl ?_
        exact ev_mask [true, true, true, true, true, true, false, false] (wX0_hinge_130 n _ (hrec32) _ _ _ _ _ _ _ _ _ hC h hq)
    · rw [if_neg z1] at h
      refine ev_aload_n dX0_hinge_87 rfl ?_
      refine ev_getR dX0_hinge_88 fX0_73_0 (ck0 hC) (Or.inl (cl0 hC)) rfl (cq0_10 hC) ?_
      obtain ⟨r3, ci4, cj5, cr6, z7, h⟩ := jpb_inv h
      refine ev_zV0 dX0_hinge_91 vX0_272_5 (sk0 hC is68) (Or.inl (sl0 hC is68)) (Nat.le_of_ble_eq_true rfl) (Nat.le_of_ble_eq_true rfl) rfl (metX5_goes n _ _ _ _ _ hC z7 (fun hC8 => ?_))
      show Ev g _ _ 94 _ [.int r3] K ci4 cj5 cr6 _ _ Qr Qx
      refine ev_pop dX0_hinge_94 rfl ?_
      refine ev_iload dX0_hinge_95 rfl ?_
      refine ev_aload_n dX0_hinge_97 rfl ?_
      refine ev_getR dX0_hinge_98 fX0_73_0 (ck0 hC8) (Or.inl (cl0 hC8)) rfl (cq0_10 hC8) ?_
      obtain ⟨r9, ci10, cj11, cr12, z13, h⟩ := jpb_inv h
      refine ev_zV0 dX0_hinge_101 vX0_189_5 (sk0 hC8 is68) (Or.inl (sl0 hC8 is68)) (Nat.le_of_ble_eq_true rfl) (Nat.le_of_ble_eq_true rfl) rfl (metX5_tookAll n _ _ _ _ _ hC8 z13 (fun hC14 => ?_))
      show Ev g _ _ 104 _ [.int r9, .int l6] K ci10 cj11 cr12 _ _ Qr Qx
      refine ev_iadd dX0_hinge_104 ?_
      refine ev_istore (L' := [_, _, _, _, _, _, _, _]) dX0_hinge_105 (by decide) rfl ?_
      refine ev_iinc (v := (l7 + (nI 1))) (L' := [_, _, _, _, _, _, _, _]) dX0_hinge_107 rfl (by rw [ji_1]) (by decide) rfl ?_
      refine ev_goto 81 dX0_hinge_110 rfl ?_
      exact ih _ _ _ _ _ _ _ _ _ _ _ hC14 h hq
def fX0_hinge_32 (n : Nat) : Nat → Int32 → Int32 → Int32 → Int32 → Int32 → jK → jI → jJ → jR → Option (jTp Int32)
  | 0, _, _, _, _, _, _, _, _, _ => none
  | k + 1, l1, l2, l3, l4, l5, K, ci, cj, cr => jpb (fX0_pairs n  K ci cj cr) (fun r1 ci2 cj3 cr4 => if r1 ≤ l5 then if l3 = (-1) then fX0_hinge_145 n  l3 K ci2 cj3 cr4 else if l2 = 0 then fX0_hinge_145 n  l3 K ci2 cj3 cr4 else fX0_hinge_151 n  l4 K ci2 cj3 cr4 else if jok l5 10 then if (ci2 (16 + 8) (l5).toNatClampNeg) = 0 then fX0_hinge_130 n (fX0_hinge_32 n  k) l1 l2 l3 l4 l5 K ci2 cj3 cr4 else jpb (fX5_copy n 68 16 K ci2 cj3 cr4) (fun r12 ci13 cj14 cr15 => if K.1 r12 = 5 ∧ r12 < K.2.2 then Option.bind (cr15 r12 9) (fun r19 => if K.1 r19 = 100 ∧ r19 < K.2.2 then if jok l5 (K.2.1 r19) then fX0_hinge_81 n (fX0_hinge_32 n  k) n l1 l2 l3 l4 l5 (nI 0) (nI 0) K (ju ci13 r19 (l5).toNatClampNeg (nI 0)) cj14 cr15 else none else none) else none) else none)
theorem wX0_hinge_32 {g : jG} {d : Nat} {c sl : Nat} {Qr : jQ} {Qx : jX} (n : Nat) : ∀ (k : Nat) (l1 : Int32) (l2 : Int32) (l3 : Int32) (l4 : Int32) (l5 : Int32) (K : jK) (ci : jI) (cj : jJ) (cr : jR) {q}, jCW K cr → fX0_hinge_32 n  k l1 l2 l3 l4 l5 K ci cj cr = some q → jqp wI K q Qr → Ev g (d + 549) mX0_hinge 32 [.ref 0, .int l1, .int l2, .int l3, .int l4, .int l5, jU, jU] [] K ci cj cr c sl Qr Qx := by
  intro k
  induction k with
  | zero =>
    intro l1 l2 l3 l4 l5 K ci cj cr q hC h hq
    rw [fX0_hinge_32.eq_1] at h; cases h
  | succ k ih =>
    intro l1 l2 l3 l4 l5 K ci cj cr q hC h hq
    rw [fX0_hinge_32.eq_2] at h
    refine ev_iload dX0_hinge_32 rfl ?_
    refine ev_aload_n dX0_hinge_34 rfl ?_
    obtain ⟨r1, ci2, cj3, cr4, z5, h⟩ := jpb_inv h
    refine ev_zV0 dX0_hinge_35 vX0_165_0 (ck0 hC) (Or.inl (cl0 hC)) (Nat.le_of_ble_eq_true rfl) (Nat.le_of_ble_eq_true rfl) rfl (metX0_pairs n  _ _ _ _ hC z5 (fun hC6 => ?_))
    show Ev g _ _ 38 _ [.int r1, .int l5] K ci2 cj3 cr4 _ _ Qr Qx
    refine ev_icmp_ge 136 dX0_hinge_38 rfl (fun z7 => ?_) (fun z7 => ?_)
    · rw [if_pos z7] at h
      refine ev_iload_n dX0_hinge_136 rfl ?_
      refine ev_iconst (v := (-1)) dX0_hinge_137 jcm1 ?_
      refine ev_icmp_eq 145 dX0_hinge_138 rfl (fun z8 => ?_) (fun z8 => ?_)
      · rw [if_pos z8] at h
        exact ev_mask [false, false, false, true, false, false, false, false] (wX0_hinge_145 n   _ _ _ _ _ hC6 h hq)
      · rw [if_neg z8] at h
        refine ev_iload_n dX0_hinge_141 rfl ?_
        refine ev_if_ne 149 dX0_hinge_142 rfl (fun z9 => ?_) (fun z9 => ?_)
        · rw [if_neg z9] at h
          refine ev_iload dX0_hinge_149 rfl ?_
          exact ev_mask [false, false, false, false, false, false, false, false] (wX0_hinge_151 n   _ _ _ _ _ hC6 h hq)
        · rw [if_pos z9] at h
          exact ev_mask [false, false, false, true, false, false, false, false] (wX0_hinge_145 n   _ _ _ _ _ hC6 h hq)
    · rw [if_neg z7] at h
      refine ev_aload_n dX0_hinge_41 rfl ?_
      refine ev_getR dX0_hinge_42 fX0_69_0 (ck0 hC6) (Or.inl (cl0 hC6)) rfl (cq0_9 hC6) ?_
      refine ev_getR dX0_hinge_45 fX0_236_5 (sk0 hC6 is16) (Or.inl (sl0 hC6 is16)) rfl (sr8 hC6 is16) ?_
      refine ev_iload dX0_hinge_48 rfl ?_
      by_cases z10 : jok l5 10
      rotate_left
      · rw [if_neg z10] at h; cases h
      rw [if_pos z10] at h
      refine ev_iaload dX0_hinge_50 (sk8 hC6 is16) (Or.inl (sl8 hC6 is16)) (jok.ix z10 (sn8 hC6 is16)) ?_
      refine ev_if_ne 57 dX0_hinge_51 rfl (fun z11 => ?_) (fun z11 => ?_)
      · rw [if_neg z11] at h
        refine ev_aload_n dX0_hinge_57 rfl ?_
        refine ev_getR dX0_hinge_58 fX0_73_0 (ck0 hC6) (Or.inl (cl0 hC6)) rfl (cq0_10 hC6) ?_
        refine ev_aload_n dX0_hinge_61 rfl ?_
        refine ev_getR dX0_hinge_62 fX0_69_0 (ck0 hC6) (Or.inl (cl0 hC6)) rfl (cq0_9 hC6) ?_
        obtain ⟨r12, ci13, cj14, cr15, z16, h⟩ := jpb_inv h
        refine ev_zV1 dX0_hinge_65 vX0_264_5 (sk0 hC6 is68) (Or.inl (sl0 hC6 is68)) (Nat.le_of_ble_eq_true rfl) (Nat.le_of_ble_eq_true rfl) rfl (metX5_copy n _ _ _ _ _ _ hC6 z16 (fun hC17 => ?_))
        show Ev g _ _ 68 _ [.ref r12] K ci13 cj14 cr15 _ _ Qr Qx
        by_cases z18 : K.1 r12 = 5 ∧ r12 < K.2.2
        rotate_left
        · rw [if_neg z18] at h; cases h
        rw [if_pos z18] at h
        obtain ⟨r19, z20, h⟩ := Option.bind_eq_some_iff.mp h
        refine ev_getR dX0_hinge_68 fX0_236_5 z18.1 (Or.inl z18.2) rfl z20 ?_
        refine ev_iload dX0_hinge_71 rfl ?_
        refine ev_iconst (v := (nI 0)) dX0_hinge_73 jc0 ?_
        by_cases z21 : K.1 r19 = 100 ∧ r19 < K.2.2
        rotate_left
        · rw [if_neg z21] at h; cases h
        rw [if_pos z21] at h
        by_cases z22 : jok l5 (K.2.1 r19)
        rotate_left
        · rw [if_neg z22] at h; cases h
        rw [if_pos z22] at h
        refine ev_iastore dX0_hinge_74 z21.1 z21.2 (jok.ix z22 rfl) ?_
        refine ev_iconst (v := (nI 0)) dX0_hinge_75 jc0 ?_
        refine ev_istore (L' := [_, _, _, _, _, _, _, _]) dX0_hinge_76 (by decide) rfl ?_
        refine ev_iconst (v := (nI 0)) dX0_hinge_78 jc0 ?_
        refine ev_istore (L' := [_, _, _, _, _, _, _, _]) dX0_hinge_79 (by decide) rfl ?_
        exact wX0_hinge_81 n _ (ih) n _ _ _ _ _ _ _ _ _ _ _ hC17 h hq
      · rw [if_pos z11] at h
        refine ev_goto 130 dX0_hinge_54 rfl ?_
        exact wX0_hinge_130 n _ (ih) _ _ _ _ _ _ _ _ _ hC6 h hq
def fX0_hinge (n : Nat) (a0 : Int32) (a1 : Int32) (K : jK) (ci : jI) (cj : jJ) (cr : jR) : Option (jTp Int32) := jpb (fX0_isAhead n a0 (nI 1) (nI 40) K ci cj cr) (fun r1 ci2 cj3 cr4 => if r1 = 0 then fX0_hinge_20 n   K ci2 cj3 cr4 else jpb (fX0_is n a1 (nI 0) (nI 1) K ci2 cj3 cr4) (fun r8 ci9 cj10 cr11 => if r8 = 0 then fX0_hinge_20 n   K ci9 cj10 cr11 else fX0_hinge_32 n  n a0 a1 (-1) (100000000) (nI 0) K ci9 cj10 cr11))
theorem metX0_hinge {g : jG} {d : Nat} {c sl : Nat} {Qr : jQ} {Qx : jX} (n : Nat) (a0 : Int32) (a1 : Int32) (K : jK) (ci : jI) (cj : jJ) (cr : jR) {q} (hC : jCW K cr) (h : fX0_hinge n a0 a1 K ci cj cr = some q) (hq : jqp wI K q Qr) : EvM g (d + 549) mX0_hinge [.ref 0, .int a0, .int a1] K ci cj cr c sl Qr Qx := by
  unfold fX0_hinge at h
  show Ev g (d + 549) mX0_hinge 0 [.ref 0, .int a0, .int a1, jU, jU, jU, jU, jU] [] K ci cj cr c sl Qr Qx
  refine ev_aload_n dX0_hinge_0 rfl ?_
  refine ev_iload_n dX0_hinge_1 rfl ?_
  refine ev_iconst (v := (nI 1)) dX0_hinge_2 jc1 ?_
  refine ev_bipush (v := (nI 40)) dX0_hinge_3 jb40 ?_
  obtain ⟨r1, ci2, cj3, cr4, z5, h⟩ := jpb_inv h
  refine ev_zV3 dX0_hinge_5 vX0_261_0 (ck0 hC) (Or.inl (cl0 hC)) (Nat.le_of_ble_eq_true rfl) (Nat.le_of_ble_eq_true rfl) rfl (metX0_isAhead n _ _ _ _ _ _ _ hC z5 (fun hC6 => ?_))
  show Ev g _ _ 8 _ [.int r1] K ci2 cj3 cr4 _ _ Qr Qx
  refine ev_if_eq 20 dX0_hinge_8 rfl (fun z7 => ?_) (fun z7 => ?_)
  · rw [if_pos z7] at h
    exact ev_mask [false, false, false, false, false, false, false, false] (wX0_hinge_20 n    _ _ _ _ hC6 h hq)
  · rw [if_neg z7] at h
    refine ev_iload_n dX0_hinge_11 rfl ?_
    refine ev_iconst (v := (nI 0)) dX0_hinge_12 jc0 ?_
    refine ev_iconst (v := (nI 1)) dX0_hinge_13 jc1 ?_
    obtain ⟨r8, ci9, cj10, cr11, z12, h⟩ := jpb_inv h
    refine ev_zS3 dX0_hinge_14 sX0_195 (Nat.le_of_ble_eq_true rfl) (Nat.le_of_ble_eq_true rfl) rfl (metX0_is n _ _ _ _ _ _ _ hC6 z12 (fun hC13 => ?_))
    show Ev g _ _ 17 _ [.int r8] K ci9 cj10 cr11 _ _ Qr Qx
    refine ev_if_ne 22 dX0_hinge_17 rfl (fun z14 => ?_) (fun z14 => ?_)
    · rw [if_neg z14] at h
      refine ev_iconst (v := (-1)) dX0_hinge_22 jcm1 ?_
      refine ev_istore_n (L' := [_, _, _, _, _, _, _, _]) dX0_hinge_23 (by decide) rfl ?_
      refine ev_ldcw dX0_hinge_24 q1545 ?_
      refine ev_istore (L' := [_, _, _, _, _, _, _, _]) dX0_hinge_27 (by decide) rfl ?_
      refine ev_iconst (v := (nI 0)) dX0_hinge_29 jc0 ?_
      refine ev_istore (L' := [_, _, _, _, _, _, _, _]) dX0_hinge_30 (by decide) rfl ?_
      exact wX0_hinge_32 n   n _ _ _ _ _ _ _ _ _ hC13 h hq
    · rw [if_pos z14] at h
      exact ev_mask [false, false, false, false, false, false, false, false] (wX0_hinge_20 n    _ _ _ _ hC13 h hq)
def fX0_odds_17 (n : Nat) (K : jK) (ci : jI) (cj : jJ) (cr : jR) : Option (jTp Int32) := some ((-1), ci, cj, cr)
theorem wX0_odds_17 {g : jG} {d : Nat} {c sl : Nat} {Qr : jQ} {Qx : jX} (n : Nat) (K : jK) (ci : jI) (cj : jJ) (cr : jR) {q} (hC : jCW K cr) (h : fX0_odds_17 n   K ci cj cr = some q) (hq : jqp wI K q Qr) : Ev g (d + 550) mX0_odds 17 [jU, jU, jU, jU, jU, jU] [] K ci cj cr c sl Qr Qx := by
  unfold fX0_odds_17 at h
  refine ev_iconst (v := (-1)) dX0_odds_17 jcm1 ?_
  cases h
  exact ev_iret dX0_odds_18 rfl rfl (hq hC)
def fX0_odds_54 (n : Nat) (K : jK) (ci : jI) (cj : jJ) (cr : jR) : Option (jTp Int32) := some ((-1), ci, cj, cr)
theorem wX0_odds_54 {g : jG} {d : Nat} {c sl : Nat} {Qr : jQ} {Qx : jX} (n : Nat) (K : jK) (ci : jI) (cj : jJ) (cr : jR) {q} (hC : jCW K cr) (h : fX0_odds_54 n   K ci cj cr = some q) (hq : jqp wI K q Qr) : Ev g (d + 550) mX0_odds 54 [jU, jU, jU, jU, jU, jU] [] K ci cj cr c sl Qr Qx := by
  unfold fX0_odds_54 at h
  refine ev_iconst (v := (-1)) dX0_odds_54 jcm1 ?_
  cases h
  exact ev_iret dX0_odds_55 rfl rfl (hq hC)
def fX0_odds_173 (n : Nat) (rec106 : Int32 → Int32 → Int32 → Int32 → jK → jI → jJ → jR → Option (jTp Int32)) (rec118 : Int32 → Int32 → Int32 → Int32 → Int32 → jK → jI → jJ → jR → Option (jTp Int32)) (l1 : Int32) (l2 : Int32) (l4 : Int32) (l5 : Int32) (t0 : Int32) (t1 : Int32) (K : jK) (ci : jI) (cj : jJ) (cr : jR) : Option (jTp Int32) := rec118 l1 l2 (t1 + t0) l4 (l5 + (nI 1)) K ci cj cr
theorem wX0_odds_173 {g : jG} {d : Nat} {c sl : Nat} {Qr : jQ} {Qx : jX} (n : Nat) (rec106 : Int32 → Int32 → Int32 → Int32 → jK → jI → jJ → jR → Option (jTp Int32)) (rec118 : Int32 → Int32 → Int32 → Int32 → Int32 → jK → jI → jJ → jR → Option (jTp Int32)) (hrec106 : (∀ (l1 : Int32) (l2 : Int32) (l3 : Int32) (l4 : Int32) (K : jK) (ci : jI) (cj : jJ) (cr : jR) {q}, jCW K cr → rec106 l1 l2 l3 l4 K ci cj cr = some q → jqp wI K q Qr → Ev g (d + 550) mX0_odds 106 [.ref 0, .int l1, .int l2, .int l3, .int l4, jU] [] K ci cj cr c sl Qr Qx)) (hrec118 : (∀ (l1 : Int32) (l2 : Int32) (l3 : Int32) (l4 : Int32) (l5 : Int32) (K : jK) (ci : jI) (cj : jJ) (cr : jR) {q}, jCW K cr → rec118 l1 l2 l3 l4 l5 K ci cj cr = some q → jqp wI K q Qr → Ev g (d + 550) mX0_odds 118 [.ref 0, .int l1, .int l2, .int l3, .int l4, .int l5] [] K ci cj cr c sl Qr Qx)) (l1 : Int32) (l2 : Int32) (l4 : Int32) (l5 : Int32) (t0 : Int32) (t1 : Int32) (K : jK) (ci : jI) (cj : jJ) (cr : jR) {q} (hC : jCW K cr) (h : fX0_odds_173 n rec106 rec118 l1 l2 l4 l5 t0 t1 K ci cj cr = some q) (hq : jqp wI K q Qr) : Ev g (d + 550) mX0_odds 173 [.ref 0, .int l1, .int l2, jU, .int l4, .int l5] [.int t0, .int t1] K ci cj cr c sl Qr Qx := by
  unfold fX0_odds_173 at h
  refine ev_iadd dX0_odds_173 ?_
  refine ev_istore_n (L' := [_, _, _, _, _, _]) dX0_odds_174 (by decide) rfl ?_
  refine ev_iinc (v := (l5 + (nI 1))) (L' := [_, _, _, _, _, _]) dX0_odds_175 rfl (by rw [ji_1]) (by decide) rfl ?_
  refine ev_goto 118 dX0_odds_178 rfl ?_
  exact hrec118 _ _ _ _ _ _ _ _ _ hC h hq
def fX0_odds_118 (n : Nat) (rec106 : Int32 → Int32 → Int32 → Int32 → jK → jI → jJ → jR → Option (jTp Int32)) : Nat → Int32 → Int32 → Int32 → Int32 → Int32 → jK → jI → jJ → jR → Option (jTp Int32)
  | 0, _, _, _, _, _, _, _, _, _ => none
  | k + 1, l1, l2, l3, l4, l5, K, ci, cj, cr => if (nI 100) ≤ l5 then rec106 l1 l2 l3 (l4 + (nI 1)) K ci cj cr else jpb (fX5_copy n 68 16 K ci cj cr) (fun r2 ci3 cj4 cr5 => jpb (fX0_drives n r2 l4 l5 K ci3 cj4 cr5) (fun r8 ci9 cj10 cr11 => jpb (fX5_goesBy n 68 (nI 1) K ci9 cj10 cr11) (fun r14 ci15 cj16 cr17 => if K.1 r14 = 5 ∧ r14 < K.2.2 then Option.bind (cr17 r14 3) (fun r21 => if K.1 r21 = 100 ∧ r21 < K.2.2 then if jok l1 (K.2.1 r21) then if (ci15 r21 (l1).toNatClampNeg) = l2 then Option.bind (cr17 0 0) (fun r26 => if K.1 r26 = 1 ∧ r26 < K.2.2 then fX0_odds_173 n rec106 (fX0_odds_118 n rec106 k) l1 l2 l4 l5 (ci15 r26 1) l3 K ci15 cj16 cr17 else none) else fX0_odds_173 n rec106 (fX0_odds_118 n rec106 k) l1 l2 l4 l5 (nI 0) l3 K ci15 cj16 cr17 else none else none) else none)))
theorem wX0_odds_118 {g : jG} {d : Nat} {c sl : Nat} {Qr : jQ} {Qx : jX} (n : Nat) (rec106 : Int32 → Int32 → Int32 → Int32 → jK → jI → jJ → jR → Option (jTp Int32)) (hrec106 : (∀ (l1 : Int32) (l2 : Int32) (l3 : Int32) (l4 : Int32) (K : jK) (ci : jI) (cj : jJ) (cr : jR) {q}, jCW K cr → rec106 l1 l2 l3 l4 K ci cj cr = some q → jqp wI K q Qr → Ev g (d + 550) mX0_odds 106 [.ref 0, .int l1, .int l2, .int l3, .int l4, jU] [] K ci cj cr c sl Qr Qx)) : ∀ (k : Nat) (l1 : Int32) (l2 : Int32) (l3 : Int32) (l4 : Int32) (l5 : Int32) (K : jK) (ci : jI) (cj : jJ) (cr : jR) {q}, jCW K cr → fX0_odds_118 n rec106 k l1 l2 l3 l4 l5 K ci cj cr = some q → jqp wI K q Qr → Ev g (d + 550) mX0_odds 118 [.ref 0, .int l1, .int l2, .int l3, .int l4, .int l5] [] K ci cj cr c sl Qr Qx := by
  intro k
  induction k with
  | zero =>
    intro l1 l2 l3 l4 l5 K ci cj cr q hC h hq
    rw [fX0_odds_118.eq_1] at h; cases h
  | succ k ih =>
    intro l1 l2 l3 l4 l5 K ci cj cr q hC h hq
    rw [fX0_odds_118.eq_2] at h
    refine ev_iload dX0_odds_118 rfl ?_
    refine ev_bipush (v := (nI 100)) dX0_odds_120 jb100 ?_
    refine ev_icmp_ge 181 dX0_odds_122 rfl (fun z1 => ?_) (fun z1 => ?_)
    · rw [if_pos z1] at h
      refine ev_iinc (v := (l4 + (nI 1))) (L' := [_, _, _, _, _, _]) dX0_odds_181 rfl (by rw [ji_1]) (by decide) rfl ?_
      refine ev_goto 106 dX0_odds_184 rfl ?_
      exact ev_mask [true, true, true, true, true, false] (hrec106 _ _ _ _ _ _ _ _ hC h hq)
    · rw [if_neg z1] at h
      refine ev_aload_n dX0_odds_125 rfl ?_
      refine ev_aload_n dX0_odds_126 rfl ?_
      refine ev_getR dX0_odds_127 fX0_73_0 (ck0 hC) (Or.inl (cl0 hC)) rfl (cq0_10 hC) ?_
      refine ev_aload_n dX0_odds_130 rfl ?_
      refine ev_getR dX0_odds_131 fX0_69_0 (ck0 hC) (Or.inl (cl0 hC)) rfl (cq0_9 hC) ?_
      obtain ⟨r2, ci3, cj4, cr5, z6, h⟩ := jpb_inv h
      refine ev_zV1 dX0_odds_134 vX0_264_5 (sk0 hC is68) (Or.inl (sl0 hC is68)) (Nat.le_of_ble_eq_true rfl) (Nat.le_of_ble_eq_true rfl) rfl (metX5_copy n _ _ _ _ _ _ hC z6 (fun hC7 => ?_))
      show Ev g _ _ 137 _ [.ref r2, .ref 0] K ci3 cj4 cr5 _ _ Qr Qx
      refine ev_iload dX0_odds_137 rfl ?_
      refine ev_iload dX0_odds_139 rfl ?_
      obtain ⟨r8, ci9, cj10, cr11, z12, h⟩ := jpb_inv h
      refine ev_zV3 dX0_odds_141 vX0_295_0 (ck0 hC7) (Or.inl (cl0 hC7)) (Nat.le_of_ble_eq_true rfl) (Nat.le_of_ble_eq_true rfl) rfl (metX0_drives n _ _ _ _ _ _ _ hC7 z12 (fun hC13 => ?_))
      show Ev g _ _ 144 _ [] K ci9 cj10 cr11 _ _ Qr Qx
      refine ev_iload_n dX0_odds_144 rfl ?_
      refine ev_aload_n dX0_odds_145 rfl ?_
      refine ev_getR dX0_odds_146 fX0_73_0 (ck0 hC13) (Or.inl (cl0 hC13)) rfl (cq0_10 hC13) ?_
      refine ev_iconst (v := (nI 1)) dX0_odds_149 jc1 ?_
      obtain ⟨r14, ci15, cj16, cr17, z18, h⟩ := jpb_inv h
      refine ev_zV1 dX0_odds_150 vX0_268_5 (sk0 hC13 is68) (Or.inl (sl0 hC13 is68)) (Nat.le_of_ble_eq_true rfl) (Nat.le_of_ble_eq_true rfl) rfl (metX5_goesBy n _ _ _ _ _ _ hC13 z18 (fun hC19 => ?_))
      show Ev g _ _ 153 _ [.ref r14, .int l3] K ci15 cj16 cr17 _ _ Qr Qx
      by_cases z20 : K.1 r14 = 5 ∧ r14 < K.2.2
      rotate_left
      · rw [if_neg z20] at h; cases h
      rw [if_pos z20] at h
      obtain ⟨r21, z22, h⟩ := Option.bind_eq_some_iff.mp h
      refine ev_getR dX0_odds_153 fX0_186_5 z20.1 (Or.inl z20.2) rfl z22 ?_
      refine ev_iload_n dX0_odds_156 rfl ?_
      by_cases z23 : K.1 r21 = 100 ∧ r21 < K.2.2
      rotate_left
      · rw [if_neg z23] at h; cases h
      rw [if_pos z23] at h
      by_cases z24 : jok l1 (K.2.1 r21)
      rotate_left
      · rw [if_neg z24] at h; cases h
      rw [if_pos z24] at h
      refine ev_iaload dX0_odds_157 z23.1 (Or.inl z23.2) (jok.ix z24 rfl) ?_
      refine ev_iload_n dX0_odds_158 rfl ?_
      refine ev_icmp_ne 172 dX0_odds_159 rfl (fun z25 => ?_) (fun z25 => ?_)
      · rw [if_neg z25] at h
        refine ev_iconst (v := (nI 0)) dX0_odds_172 jc0 ?_
        exact ev_mask [true, true, true, false, true, true] (wX0_odds_173 n _ _ (hrec106) (ih) _ _ _ _ _ _ _ _ _ _ hC19 h hq)
      · rw [if_pos z25] at h
        refine ev_aload_n dX0_odds_162 rfl ?_
        obtain ⟨r26, z27, h⟩ := Option.bind_eq_some_iff.mp h
        refine ev_getR dX0_odds_163 fX0_31_0 (ck0 hC19) (Or.inl (cl0 hC19)) rfl z27 ?_
        by_cases z28 : K.1 r26 = 1 ∧ r26 < K.2.2
        rotate_left
        · rw [if_neg z28] at h; cases h
        rw [if_pos z28] at h
        refine ev_getI dX0_odds_166 fX0_292_1 z28.1 (Or.inl z28.2) rfl ?_
        refine ev_goto 173 dX0_odds_169 rfl ?_
        exact ev_mask [true, true, true, false, true, true] (wX0_odds_173 n _ _ (hrec106) (ih) _ _ _ _ _ _ _ _ _ _ hC19 h hq)
def fX0_odds_106 (n : Nat) : Nat → Int32 → Int32 → Int32 → Int32 → jK → jI → jJ → jR → Option (jTp Int32)
  | 0, _, _, _, _, _, _, _, _ => none
  | k + 1, l1, l2, l3, l4, K, ci, cj, cr => jpb (fX0_shoals n  K ci cj cr) (fun r1 ci2 cj3 cr4 => if r1 ≤ l4 then some (l3, ci2, cj3, cr4) else fX0_odds_118 n (fX0_odds_106 n  k) n l1 l2 l3 l4 (nI 0) K ci2 cj3 cr4)
theorem wX0_odds_106 {g : jG} {d : Nat} {c sl : Nat} {Qr : jQ} {Qx : jX} (n : Nat) : ∀ (k : Nat) (l1 : Int32) (l2 : Int32) (l3 : Int32) (l4 : Int32) (K : jK) (ci : jI) (cj : jJ) (cr : jR) {q}, jCW K cr → fX0_odds_106 n  k l1 l2 l3 l4 K ci cj cr = some q → jqp wI K q Qr → Ev g (d + 550) mX0_odds 106 [.ref 0, .int l1, .int l2, .int l3, .int l4, jU] [] K ci cj cr c sl Qr Qx := by
  intro k
  induction k with
  | zero =>
    intro l1 l2 l3 l4 K ci cj cr q hC h hq
    rw [fX0_odds_106.eq_1] at h; cases h
  | succ k ih =>
    intro l1 l2 l3 l4 K ci cj cr q hC h hq
    rw [fX0_odds_106.eq_2] at h
    refine ev_iload dX0_odds_106 rfl ?_
    refine ev_aload_n dX0_odds_108 rfl ?_
    obtain ⟨r1, ci2, cj3, cr4, z5, h⟩ := jpb_inv h
    refine ev_zV0 dX0_odds_109 vX0_167_0 (ck0 hC) (Or.inl (cl0 hC)) (Nat.le_of_ble_eq_true rfl) (Nat.le_of_ble_eq_true rfl) rfl (metX0_shoals n  _ _ _ _ hC z5 (fun hC6 => ?_))
    show Ev g _ _ 112 _ [.int r1, .int l4] K ci2 cj3 cr4 _ _ Qr Qx
    refine ev_icmp_ge 187 dX0_odds_112 rfl (fun z7 => ?_) (fun z7 => ?_)
    · rw [if_pos z7] at h
      refine ev_iload_n dX0_odds_187 rfl ?_
      cases h
      exact ev_iret dX0_odds_188 rfl rfl (hq hC6)
    · rw [if_neg z7] at h
      refine ev_iconst (v := (nI 0)) dX0_odds_115 jc0 ?_
      refine ev_istore (L' := [_, _, _, _, _, _]) dX0_odds_116 (by decide) rfl ?_
      exact wX0_odds_118 n _ (ih) n _ _ _ _ _ _ _ _ _ hC6 h hq
def fX0_odds_102 (n : Nat) (l1 : Int32) (l2 : Int32) (t0 : Int32) (K : jK) (ci : jI) (cj : jJ) (cr : jR) : Option (jTp Int32) := fX0_odds_106 n  n l1 l2 t0 (nI 0) K ci cj cr
theorem wX0_odds_102 {g : jG} {d : Nat} {c sl : Nat} {Qr : jQ} {Qx : jX} (n : Nat) (l1 : Int32) (l2 : Int32) (t0 : Int32) (K : jK) (ci : jI) (cj : jJ) (cr : jR) {q} (hC : jCW K cr) (h : fX0_odds_102 n  l1 l2 t0 K ci cj cr = some q) (hq : jqp wI K q Qr) : Ev g (d + 550) mX0_odds 102 [.ref 0, .int l1, .int l2, jU, jU, jU] [.int t0] K ci cj cr c sl Qr Qx := by
  unfold fX0_odds_102 at h
  refine ev_istore_n (L' := [_, _, _, _, _, _]) dX0_odds_102 (by decide) rfl ?_
  refine ev_iconst (v := (nI 0)) dX0_odds_103 jc0 ?_
  refine ev_istore (L' := [_, _, _, _, _, _]) dX0_odds_104 (by decide) rfl ?_
  exact wX0_odds_106 n   n _ _ _ _ _ _ _ _ hC h hq
def fX0_odds_38 (n : Nat) (l1 : Int32) (l2 : Int32) (K : jK) (ci : jI) (cj : jJ) (cr : jR) : Option (jTp Int32) := jpb (fX0_isShoal n l1 K ci cj cr) (fun r1 ci2 cj3 cr4 => if r1 = 0 then fX0_odds_54 n   K ci2 cj3 cr4 else jpb (fX0_isBay n l2 K ci2 cj3 cr4) (fun r8 ci9 cj10 cr11 => if r8 = 0 then fX0_odds_54 n   K ci9 cj10 cr11 else jpb (fX5_copy n 68 16 K ci9 cj10 cr11) (fun r15 ci16 cj17 cr18 => if isSt r15 then jpb (fX5_goesBy n r15 (nI 1) K ci16 cj17 cr18) (fun r22 ci23 cj24 cr25 => if K.1 r22 = 5 ∧ r22 < K.2.2 then Option.bind (cr25 r22 3) (fun r29 => if K.1 r29 = 100 ∧ r29 < K.2.2 then if jok l1 (K.2.1 r29) then if (ci23 r29 (l1).toNatClampNeg) = l2 then Option.bind (cr25 0 0) (fun r34 => if K.1 r34 = 1 ∧ r34 < K.2.2 then jpb (fX0_shoals n  K ci23 cj24 cr25) (fun r37 ci38 cj39 cr40 => fX0_odds_102 n  l1 l2 ((((nI 100) - (ci23 r34 1)) * (nI 100)) * r37) K ci38 cj39 cr40) else none) else fX0_odds_102 n  l1 l2 (nI 0) K ci23 cj24 cr25 else none else none) else none) else none)))
theorem wX0_odds_38 {g : jG} {d : Nat} {c sl : Nat} {Qr : jQ} {Qx : jX} (n : Nat) (l1 : Int32) (l2 : Int32) (K : jK) (ci : jI) (cj : jJ) (cr : jR) {q} (hC : jCW K cr) (h : fX0_odds_38 n  l1 l2 K ci cj cr = some q) (hq : jqp wI K q Qr) : Ev g (d + 550) mX0_odds 38 [.ref 0, .int l1, .int l2, jU, jU, jU] [] K ci cj cr c sl Qr Qx := by
  unfold fX0_odds_38 at h
  refine ev_aload_n dX0_odds_38 rfl ?_
  refine ev_iload_n dX0_odds_39 rfl ?_
  obtain ⟨r1, ci2, cj3, cr4, z5, h⟩ := jpb_inv h
  refine ev_zV1 dX0_odds_40 vX0_242_0 (ck0 hC) (Or.inl (cl0 hC)) (Nat.le_of_ble_eq_true rfl) (Nat.le_of_ble_eq_true rfl) rfl (metX0_isShoal n _ _ _ _ _ hC z5 (fun hC6 => ?_))
  show Ev g _ _ 43 _ [.int r1] K ci2 cj3 cr4 _ _ Qr Qx
  refine ev_if_eq 54 dX0_odds_43 rfl (fun z7 => ?_) (fun z7 => ?_)
  · rw [if_pos z7] at h
    exact ev_mask [false, false, false, false, false, false] (wX0_odds_54 n    _ _ _ _ hC6 h hq)
  · rw [if_neg z7] at h
    refine ev_aload_n dX0_odds_46 rfl ?_
    refine ev_iload_n dX0_odds_47 rfl ?_
    obtain ⟨r8, ci9, cj10, cr11, z12, h⟩ := jpb_inv h
    refine ev_zV1 dX0_odds_48 vX0_204_0 (ck0 hC6) (Or.inl (cl0 hC6)) (Nat.le_of_ble_eq_true rfl) (Nat.le_of_ble_eq_true rfl) rfl (metX0_isBay n _ _ _ _ _ hC6 z12 (fun hC13 => ?_))
    show Ev g _ _ 51 _ [.int r8] K ci9 cj10 cr11 _ _ Qr Qx
    refine ev_if_ne 56 dX0_odds_51 rfl (fun z14 => ?_) (fun z14 => ?_)
    · rw [if_neg z14] at h
      refine ev_aload_n dX0_odds_56 rfl ?_
      refine ev_getR dX0_odds_57 fX0_73_0 (ck0 hC13) (Or.inl (cl0 hC13)) rfl (cq0_10 hC13) ?_
      refine ev_aload_n dX0_odds_60 rfl ?_
      refine ev_getR dX0_odds_61 fX0_69_0 (ck0 hC13) (Or.inl (cl0 hC13)) rfl (cq0_9 hC13) ?_
      obtain ⟨r15, ci16, cj17, cr18, z19, h⟩ := jpb_inv h
      refine ev_zV1 dX0_odds_64 vX0_264_5 (sk0 hC13 is68) (Or.inl (sl0 hC13 is68)) (Nat.le_of_ble_eq_true rfl) (Nat.le_of_ble_eq_true rfl) rfl (metX5_copy n _ _ _ _ _ _ hC13 z19 (fun hC20 => ?_))
      show Ev g _ _ 67 _ [.ref r15] K ci16 cj17 cr18 _ _ Qr Qx
      refine ev_iconst (v := (nI 1)) dX0_odds_67 jc1 ?_
      by_cases z21 : isSt r15
      rotate_left
      · rw [if_neg z21] at h; cases h
      rw [if_pos z21] at h
      obtain ⟨r22, ci23, cj24, cr25, z26, h⟩ := jpb_inv h
      refine ev_zV1 dX0_odds_68 vX0_268_5 (sk0 hC20 z21) (Or.inl (sl0 hC20 z21)) (Nat.le_of_ble_eq_true rfl) (Nat.le_of_ble_eq_true rfl) rfl (metX5_goesBy n _ _ _ _ _ _ hC20 z26 (fun hC27 => ?_))
      show Ev g _ _ 71 _ [.ref r22] K ci23 cj24 cr25 _ _ Qr Qx
      by_cases z28 : K.1 r22 = 5 ∧ r22 < K.2.2
      rotate_left
      · rw [if_neg z28] at h; cases h
      rw [if_pos z28] at h
      obtain ⟨r29, z30, h⟩ := Option.bind_eq_some_iff.mp h
      refine ev_getR dX0_odds_71 fX0_186_5 z28.1 (Or.inl z28.2) rfl z30 ?_
      refine ev_iload_n dX0_odds_74 rfl ?_
      by_cases z31 : K.1 r29 = 100 ∧ r29 < K.2.2
      rotate_left
      · rw [if_neg z31] at h; cases h
      rw [if_pos z31] at h
      by_cases z32 : jok l1 (K.2.1 r29)
      rotate_left
      · rw [if_neg z32] at h; cases h
      rw [if_pos z32] at h
      refine ev_iaload dX0_odds_75 z31.1 (Or.inl z31.2) (jok.ix z32 rfl) ?_
      refine ev_iload_n dX0_odds_76 rfl ?_
      refine ev_icmp_ne 101 dX0_odds_77 rfl (fun z33 => ?_) (fun z33 => ?_)
      · rw [if_neg z33] at h
        refine ev_iconst (v := (nI 0)) dX0_odds_101 jc0 ?_
        exact wX0_odds_102 n   _ _ _ _ _ _ _ hC27 h hq
      · rw [if_pos z33] at h
        refine ev_bipush (v := (nI 100)) dX0_odds_80 jb100 ?_
        refine ev_aload_n dX0_odds_82 rfl ?_
        obtain ⟨r34, z35, h⟩ := Option.bind_eq_some_iff.mp h
        refine ev_getR dX0_odds_83 fX0_31_0 (ck0 hC27) (Or.inl (cl0 hC27)) rfl z35 ?_
        by_cases z36 : K.1 r34 = 1 ∧ r34 < K.2.2
        rotate_left
        · rw [if_neg z36] at h; cases h
        rw [if_pos z36] at h
        refine ev_getI dX0_odds_86 fX0_292_1 z36.1 (Or.inl z36.2) rfl ?_
        refine ev_isub dX0_odds_89 ?_
        refine ev_bipush (v := (nI 100)) dX0_odds_90 jb100 ?_
        refine ev_imul dX0_odds_92 ?_
        refine ev_aload_n dX0_odds_93 rfl ?_
        obtain ⟨r37, ci38, cj39, cr40, z41, h⟩ := jpb_inv h
        refine ev_zV0 dX0_odds_94 vX0_167_0 (ck0 hC27) (Or.inl (cl0 hC27)) (Nat.le_of_ble_eq_true rfl) (Nat.le_of_ble_eq_true rfl) rfl (metX0_shoals n  _ _ _ _ hC27 z41 (fun hC42 => ?_))
        show Ev g _ _ 97 _ [.int r37, .int (((nI 100) - (ci23 r34 1)) * (nI 100))] K ci38 cj39 cr40 _ _ Qr Qx
        refine ev_imul dX0_odds_97 ?_
        refine ev_goto 102 dX0_odds_98 rfl ?_
        exact wX0_odds_102 n   _ _ _ _ _ _ _ hC42 h hq
    · rw [if_pos z14] at h
      exact ev_mask [false, false, false, false, false, false] (wX0_odds_54 n    _ _ _ _ hC13 h hq)
def fX0_odds (n : Nat) (a0 : Int32) (a1 : Int32) (K : jK) (ci : jI) (cj : jJ) (cr : jR) : Option (jTp Int32) := jpb (fX0_shoals n  K ci cj cr) (fun r1 ci2 cj3 cr4 => if r1 = 0 then fX0_odds_17 n   K ci2 cj3 cr4 else jpb (fX0_isAhead n (nI 1) (nI 1) (nI 1) K ci2 cj3 cr4) (fun r8 ci9 cj10 cr11 => if r8 = 0 then fX0_odds_17 n   K ci9 cj10 cr11 else if a0 = (-1) then if a1 = (-1) then jpb (fX0_shoals n  K ci9 cj10 cr11) (fun r17 ci18 cj19 cr20 => some (((nI 10000) * r17), ci18, cj19, cr20)) else fX0_odds_38 n  a0 a1 K ci9 cj10 cr11 else fX0_odds_38 n  a0 a1 K ci9 cj10 cr11))
theorem metX0_odds {g : jG} {d : Nat} {c sl : Nat} {Qr : jQ} {Qx : jX} (n : Nat) (a0 : Int32) (a1 : Int32) (K : jK) (ci : jI) (cj : jJ) (cr : jR) {q} (hC : jCW K cr) (h : fX0_odds n a0 a1 K ci cj cr = some q) (hq : jqp wI K q Qr) : EvM g (d + 550) mX0_odds [.ref 0, .int a0, .int a1] K ci cj cr c sl Qr Qx := by
  unfold fX0_odds at h
  show Ev g (d + 550) mX0_odds 0 [.ref 0, .int a0, .int a1, jU, jU, jU] [] K ci cj cr c sl Qr Qx
  refine ev_aload_n dX0_odds_0 rfl ?_
  obtain ⟨r1, ci2, cj3, cr4, z5, h⟩ := jpb_inv h
  refine ev_zV0 dX0_odds_1 vX0_167_0 (ck0 hC) (Or.inl (cl0 hC)) (Nat.le_of_ble_eq_true rfl) (Nat.le_of_ble_eq_true rfl) rfl (metX0_shoals n  _ _ _ _ hC z5 (fun hC6 => ?_))
  show Ev g _ _ 4 _ [.int r1] K ci2 cj3 cr4 _ _ Qr Qx
  refine ev_if_eq 17 dX0_odds_4 rfl (fun z7 => ?_) (fun z7 => ?_)
  · rw [if_pos z7] at h
    exact ev_mask [false, false, false, false, false, false] (wX0_odds_17 n    _ _ _ _ hC6 h hq)
  · rw [if_neg z7] at h
    refine ev_aload_n dX0_odds_7 rfl ?_
    refine ev_iconst (v := (nI 1)) dX0_odds_8 jc1 ?_
    refine ev_iconst (v := (nI 1)) dX0_odds_9 jc1 ?_
    refine ev_iconst (v := (nI 1)) dX0_odds_10 jc1 ?_
    obtain ⟨r8, ci9, cj10, cr11, z12, h⟩ := jpb_inv h
    refine ev_zV3 dX0_odds_11 vX0_261_0 (ck0 hC6) (Or.inl (cl0 hC6)) (Nat.le_of_ble_eq_true rfl) (Nat.le_of_ble_eq_true rfl) rfl (metX0_isAhead n _ _ _ _ _ _ _ hC6 z12 (fun hC13 => ?_))
    show Ev g _ _ 14 _ [.int r8] K ci9 cj10 cr11 _ _ Qr Qx
    refine ev_if_ne 19 dX0_odds_14 rfl (fun z14 => ?_) (fun z14 => ?_)
    · rw [if_neg z14] at h
      refine ev_iload_n dX0_odds_19 rfl ?_
      refine ev_iconst (v := (-1)) dX0_odds_20 jcm1 ?_
      refine ev_icmp_ne 38 dX0_odds_21 rfl (fun z15 => ?_) (fun z15 => ?_)
      · rw [if_neg z15] at h
        exact wX0_odds_38 n   _ _ _ _ _ _ hC13 h hq
      · rw [if_pos z15] at h
        refine ev_iload_n dX0_odds_24 rfl ?_
        refine ev_iconst (v := (-1)) dX0_odds_25 jcm1 ?_
        refine ev_icmp_ne 38 dX0_odds_26 rfl (fun z16 => ?_) (fun z16 => ?_)
        · rw [if_neg z16] at h
          exact wX0_odds_38 n   _ _ _ _ _ _ hC13 h hq
        · rw [if_pos z16] at h
          refine ev_sipush (v := (nI 10000)) dX0_odds_29 js10000 ?_
          refine ev_aload_n dX0_odds_32 rfl ?_
          obtain ⟨r17, ci18, cj19, cr20, z21, h⟩ := jpb_inv h
          refine ev_zV0 dX0_odds_33 vX0_167_0 (ck0 hC13) (Or.inl (cl0 hC13)) (Nat.le_of_ble_eq_true rfl) (Nat.le_of_ble_eq_true rfl) rfl (metX0_shoals n  _ _ _ _ hC13 z21 (fun hC22 => ?_))
          show Ev g _ _ 36 _ [.int r17, .int (nI 10000)] K ci18 cj19 cr20 _ _ Qr Qx
          refine ev_imul dX0_odds_36 ?_
          cases h
          exact ev_iret dX0_odds_37 rfl rfl (hq hC22)
    · rw [if_pos z14] at h
      exact ev_mask [false, false, false, false, false, false] (wX0_odds_17 n    _ _ _ _ hC13 h hq)
def fX0_canBe_166 (n : Nat) (t0 : Int32) (K : jK) (ci : jI) (cj : jJ) (cr : jR) : Option (jTp Int32) := if t0 = 0 ∨ t0 = 1 then some (t0, ci, cj, cr) else none
theorem wX0_canBe_166 {g : jG} {d : Nat} {c sl : Nat} {Qr : jQ} {Qx : jX} (n : Nat) (t0 : Int32) (K : jK) (ci : jI) (cj : jJ) (cr : jR) {q} (hC : jCW K cr) (h : fX0_canBe_166 n  t0 K ci cj cr = some q) (hq : jqp wI K q Qr) : Ev g (d + 549) mX0_canBe 166 [jU, jU, jU, jU, jU, jU] [.int t0] K ci cj cr c sl Qr Qx := by
  unfold fX0_canBe_166 at h
  by_cases z1 : t0 = 0 ∨ t0 = 1
  rotate_left
  · rw [if_neg z1] at h; cases h
  rw [if_pos z1] at h
  cases h
  exact ev_iret dX0_canBe_166 rfl (jbool z1) (hq hC)
def fX0_canBe_139 (n : Nat) (rec22 : Int32 → Int32 → Int32 → jK → jI → jJ → jR → Option (jTp Int32)) (rec87 : Int32 → Int32 → Int32 → Int32 → jK → jI → jJ → jR → Option (jTp Int32)) (l2 : Int32) (l4 : Int32) (l5 : Int32) (t0 : Int32) (t1 : Int32) (K : jK) (ci : jI) (cj : jJ) (cr : jR) : Option (jTp Int32) := rec87 l2 (t1 + t0) l4 (l5 + (nI 1)) K ci cj cr
theorem wX0_canBe_139 {g : jG} {d : Nat} {c sl : Nat} {Qr : jQ} {Qx : jX} (n : Nat) (rec22 : Int32 → Int32 → Int32 → jK → jI → jJ → jR → Option (jTp Int32)) (rec87 : Int32 → Int32 → Int32 → Int32 → jK → jI → jJ → jR → Option (jTp Int32)) (hrec22 : (∀ (l2 : Int32) (l3 : Int32) (l4 : Int32) (K : jK) (ci : jI) (cj : jJ) (cr : jR) {q}, jCW K cr → rec22 l2 l3 l4 K ci cj cr = some q → jqp wI K q Qr → Ev g (d + 549) mX0_canBe 22 [.ref 0, jU, .int l2, .int l3, .int l4, jU] [] K ci cj cr c sl Qr Qx)) (hrec87 : (∀ (l2 : Int32) (l3 : Int32) (l4 : Int32) (l5 : Int32) (K : jK) (ci : jI) (cj : jJ) (cr : jR) {q}, jCW K cr → rec87 l2 l3 l4 l5 K ci cj cr = some q → jqp wI K q Qr → Ev g (d + 549) mX0_canBe 87 [.ref 0, jU, .int l2, .int l3, .int l4, .int l5] [] K ci cj cr c sl Qr Qx)) (l2 : Int32) (l4 : Int32) (l5 : Int32) (t0 : Int32) (t1 : Int32) (K : jK) (ci : jI) (cj : jJ) (cr : jR) {q} (hC : jCW K cr) (h : fX0_canBe_139 n rec22 rec87 l2 l4 l5 t0 t1 K ci cj cr = some q) (hq : jqp wI K q Qr) : Ev g (d + 549) mX0_canBe 139 [.ref 0, jU, .int l2, jU, .int l4, .int l5] [.int t0, .int t1] K ci cj cr c sl Qr Qx := by
  unfold fX0_canBe_139 at h
  refine ev_iadd dX0_canBe_139 ?_
  refine ev_istore_n (L' := [_, _, _, _, _, _]) dX0_canBe_140 (by decide) rfl ?_
  refine ev_iinc (v := (l5 + (nI 1))) (L' := [_, _, _, _, _, _]) dX0_canBe_141 rfl (by rw [ji_1]) (by decide) rfl ?_
  refine ev_goto 87 dX0_canBe_144 rfl ?_
  exact hrec87 _ _ _ _ _ _ _ _ hC h hq
def fX0_canBe_138 (n : Nat) (rec22 : Int32 → Int32 → Int32 → jK → jI → jJ → jR → Option (jTp Int32)) (rec87 : Int32 → Int32 → Int32 → Int32 → jK → jI → jJ → jR → Option (jTp Int32)) (l2 : Int32) (l4 : Int32) (l5 : Int32) (t0 : Int32) (K : jK) (ci : jI) (cj : jJ) (cr : jR) : Option (jTp Int32) := fX0_canBe_139 n rec22 rec87 l2 l4 l5 (nI 0) t0 K ci cj cr
theorem wX0_canBe_138 {g : jG} {d : Nat} {c sl : Nat} {Qr : jQ} {Qx : jX} (n : Nat) (rec22 : Int32 → Int32 → Int32 → jK → jI → jJ → jR → Option (jTp Int32)) (rec87 : Int32 → Int32 → Int32 → Int32 → jK → jI → jJ → jR → Option (jTp Int32)) (hrec22 : (∀ (l2 : Int32) (l3 : Int32) (l4 : Int32) (K : jK) (ci : jI) (cj : jJ) (cr : jR) {q}, jCW K cr → rec22 l2 l3 l4 K ci cj cr = some q → jqp wI K q Qr → Ev g (d + 549) mX0_canBe 22 [.ref 0, jU, .int l2, .int l3, .int l4, jU] [] K ci cj cr c sl Qr Qx)) (hrec87 : (∀ (l2 : Int32) (l3 : Int32) (l4 : Int32) (l5 : Int32) (K : jK) (ci : jI) (cj : jJ) (cr : jR) {q}, jCW K cr → rec87 l2 l3 l4 l5 K ci cj cr = some q → jqp wI K q Qr → Ev g (d + 549) mX0_canBe 87 [.ref 0, jU, .int l2, .int l3, .int l4, .int l5] [] K ci cj cr c sl Qr Qx)) (l2 : Int32) (l4 : Int32) (l5 : Int32) (t0 : Int32) (K : jK) (ci : jI) (cj : jJ) (cr : jR) {q} (hC : jCW K cr) (h : fX0_canBe_138 n rec22 rec87 l2 l4 l5 t0 K ci cj cr = some q) (hq : jqp wI K q Qr) : Ev g (d + 549) mX0_canBe 138 [.ref 0, jU, .int l2, jU, .int l4, .int l5] [.int t0] K ci cj cr c sl Qr Qx := by
  unfold fX0_canBe_138 at h
  refine ev_iconst (v := (nI 0)) dX0_canBe_138 jc0 ?_
  exact wX0_canBe_139 n _ _ (hrec22) (hrec87) _ _ _ _ _ _ _ _ _ hC h hq
def fX0_canBe_87 (n : Nat) (rec22 : Int32 → Int32 → Int32 → jK → jI → jJ → jR → Option (jTp Int32)) : Nat → Int32 → Int32 → Int32 → Int32 → jK → jI → jJ → jR → Option (jTp Int32)
  | 0, _, _, _, _, _, _, _, _ => none
  | k + 1, l2, l3, l4, l5, K, ci, cj, cr => if (ci 0 15) ≤ l5 then rec22 l2 l3 (l4 + (nI 1)) K ci cj cr else if jok l5 16 then if (ci 181 (l5).toNatClampNeg) = l4 then if jok l5 16 then if jok (ci 182 (l5).toNatClampNeg) 3 then if jok l5 16 then if (ci (68 + 2) ((ci 182 (l5).toNatClampNeg)).toNatClampNeg) = (ci 183 (l5).toNatClampNeg) then fX0_canBe_139 n rec22 (fX0_canBe_87 n rec22 k) l2 l4 l5 (nI 1) l3 K ci cj cr else fX0_canBe_138 n rec22 (fX0_canBe_87 n rec22 k) l2 l4 l5 l3 K ci cj cr else none else none else none else fX0_canBe_138 n rec22 (fX0_canBe_87 n rec22 k) l2 l4 l5 l3 K ci cj cr else none
theorem wX0_canBe_87 {g : jG} {d : Nat} {c sl : Nat} {Qr : jQ} {Qx : jX} (n : Nat) (rec22 : Int32 → Int32 → Int32 → jK → jI → jJ → jR → Option (jTp Int32)) (hrec22 : (∀ (l2 : Int32) (l3 : Int32) (l4 : Int32) (K : jK) (ci : jI) (cj : jJ) (cr : jR) {q}, jCW K cr → rec22 l2 l3 l4 K ci cj cr = some q → jqp wI K q Qr → Ev g (d + 549) mX0_canBe 22 [.ref 0, jU, .int l2, .int l3, .int l4, jU] [] K ci cj cr c sl Qr Qx)) : ∀ (k : Nat) (l2 : Int32) (l3 : Int32) (l4 : Int32) (l5 : Int32) (K : jK) (ci : jI) (cj : jJ) (cr : jR) {q}, jCW K cr → fX0_canBe_87 n rec22 k l2 l3 l4 l5 K ci cj cr = some q → jqp wI K q Qr → Ev g (d + 549) mX0_canBe 87 [.ref 0, jU, .int l2, .int l3, .int l4, .int l5] [] K ci cj cr c sl Qr Qx := by
  intro k
  induction k with
  | zero =>
    intro l2 l3 l4 l5 K ci cj cr q hC h hq
    rw [fX0_canBe_87.eq_1] at h; cases h
  | succ k ih =>
    intro l2 l3 l4 l5 K ci cj cr q hC h hq
    rw [fX0_canBe_87.eq_2] at h
    refine ev_iload dX0_canBe_87 rfl ?_
    refine ev_aload_n dX0_canBe_89 rfl ?_
    refine ev_getI dX0_canBe_90 fX0_142_0 (ck0 hC) (Or.inl (cl0 hC)) rfl ?_
    refine ev_icmp_ge 147 dX0_canBe_93 rfl (fun z1 => ?_) (fun z1 => ?_)
    · rw [if_pos z1] at h
      refine ev_iinc (v := (l4 + (nI 1))) (L' := [_, _, _, _, _, _]) dX0_canBe_147 rfl (by rw [ji_1]) (by decide) rfl ?_
      refine ev_goto 22 dX0_canBe_150 rfl ?_
      exact ev_mask [true, false, true, true, true, false] (hrec22 _ _ _ _ _ _ _ hC h hq)
    · rw [if_neg z1] at h
      refine ev_iload_n dX0_canBe_96 rfl ?_
      refine ev_aload_n dX0_canBe_97 rfl ?_
      refine ev_getR dX0_canBe_98 fX0_81_0 (ck0 hC) (Or.inl (cl0 hC)) rfl (cq0_12 hC) ?_
      refine ev_iload dX0_canBe_101 rfl ?_
      by_cases z2 : jok l5 16
      rotate_left
      · rw [if_neg z2] at h; cases h
      rw [if_pos z2] at h
      refine ev_iaload dX0_canBe_103 (ck181 hC) (Or.inl (cl181 hC)) (jok.ix z2 (cn181 hC)) ?_
      refine ev_iload dX0_canBe_104 rfl ?_
      refine ev_icmp_ne 138 dX0_canBe_106 rfl (fun z3 => ?_) (fun z3 => ?_)
      · rw [if_neg z3] at h
        exact ev_mask [true, false, true, false, true, true] (wX0_canBe_138 n _ _ (hrec22) (ih) _ _ _ _ _ _ _ _ hC h hq)
      · rw [if_pos z3] at h
        refine ev_aload_n dX0_canBe_109 rfl ?_
        refine ev_getR dX0_canBe_110 fX0_73_0 (ck0 hC) (Or.inl (cl0 hC)) rfl (cq0_10 hC) ?_
        refine ev_getR dX0_canBe_113 fX0_186_5 (sk0 hC is68) (Or.inl (sl0 hC is68)) rfl (sr2 hC is68) ?_
        refine ev_aload_n dX0_canBe_116 rfl ?_
        refine ev_getR dX0_canBe_117 fX0_84_0 (ck0 hC) (Or.inl (cl0 hC)) rfl (cq0_13 hC) ?_
        refine ev_iload dX0_canBe_120 rfl ?_
        by_cases z4 : jok l5 16
        rotate_left
        · rw [if_neg z4] at h; cases h
        rw [if_pos z4] at h
        refine ev_iaload dX0_canBe_122 (ck182 hC) (Or.inl (cl182 hC)) (jok.ix z4 (cn182 hC)) ?_
        by_cases z5 : jok (ci 182 (l5).toNatClampNeg) 3
        rotate_left
        · rw [if_neg z5] at h; cases h
        rw [if_pos z5] at h
        refine ev_iaload dX0_canBe_123 (sk2 hC is68) (Or.inl (sl2 hC is68)) (jok.ix z5 (sn2 hC is68)) ?_
        refine ev_aload_n dX0_canBe_124 rfl ?_
        refine ev_getR dX0_canBe_125 fX0_87_0 (ck0 hC) (Or.inl (cl0 hC)) rfl (cq0_14 hC) ?_
        refine ev_iload dX0_canBe_128 rfl ?_
        by_cases z6 : jok l5 16
        rotate_left
        · rw [if_neg z6] at h; cases h
        rw [if_pos z6] at h
        refine ev_iaload dX0_canBe_130 (ck183 hC) (Or.inl (cl183 hC)) (jok.ix z6 (cn183 hC)) ?_
        refine ev_icmp_ne 138 dX0_canBe_131 rfl (fun z7 => ?_) (fun z7 => ?_)
        · rw [if_neg z7] at h
          exact ev_mask [true, false, true, false, true, true] (wX0_canBe_138 n _ _ (hrec22) (ih) _ _ _ _ _ _ _ _ hC h hq)
        · rw [if_pos z7] at h
          refine ev_iconst (v := (nI 1)) dX0_canBe_134 jc1 ?_
          refine ev_goto 139 dX0_canBe_135 rfl ?_
          exact ev_mask [true, false, true, false, true, true] (wX0_canBe_139 n _ _ (hrec22) (ih) _ _ _ _ _ _ _ _ _ hC h hq)
def fX0_canBe_47 (n : Nat) (rec22 : Int32 → Int32 → Int32 → jK → jI → jJ → jR → Option (jTp Int32)) : Nat → Int32 → Int32 → Int32 → Int32 → jK → jI → jJ → jR → Option (jTp Int32)
  | 0, _, _, _, _, _, _, _, _ => none
  | k + 1, l2, l3, l4, l5, K, ci, cj, cr => jpb (fX0_shoals n  K ci cj cr) (fun r1 ci2 cj3 cr4 => if r1 ≤ l5 then fX0_canBe_87 n rec22 n l2 l3 l4 (nI 0) K ci2 cj3 cr4 else if jok l2 10 then Option.bind (cr4 184 (l2).toNatClampNeg) (fun r9 => if K.1 r9 = 106 ∧ r9 < K.2.2 then if jok l4 (K.2.1 r9) then Option.bind (cr4 r9 (l4).toNatClampNeg) (fun r13 => if jok l5 3 then if K.1 r13 = 100 ∧ r13 < K.2.2 then if jok l5 (K.2.1 r13) then fX0_canBe_47 n rec22 k l2 l3 l4 (l5 + (nI 1)) K (ju ci2 r13 (l5).toNatClampNeg (ci2 (68 + 2) (l5).toNatClampNeg)) cj3 cr4 else none else none else none) else none else none) else none)
theorem wX0_canBe_47 {g : jG} {d : Nat} {c sl : Nat} {Qr : jQ} {Qx : jX} (n : Nat) (rec22 : Int32 → Int32 → Int32 → jK → jI → jJ → jR → Option (jTp Int32)) (hrec22 : (∀ (l2 : Int32) (l3 : Int32) (l4 : Int32) (K : jK) (ci : jI) (cj : jJ) (cr : jR) {q}, jCW K cr → rec22 l2 l3 l4 K ci cj cr = some q → jqp wI K q Qr → Ev g (d + 549) mX0_canBe 22 [.ref 0, jU, .int l2, .int l3, .int l4, jU] [] K ci cj cr c sl Qr Qx)) : ∀ (k : Nat) (l2 : Int32) (l3 : Int32) (l4 : Int32) (l5 : Int32) (K : jK) (ci : jI) (cj : jJ) (cr : jR) {q}, jCW K cr → fX0_canBe_47 n rec22 k l2 l3 l4 l5 K ci cj cr = some q → jqp wI K q Qr → Ev g (d + 549) mX0_canBe 47 [.ref 0, jU, .int l2, .int l3, .int l4, .int l5] [] K ci cj cr c sl Qr Qx := by
  intro k
  induction k with
  | zero =>
    intro l2 l3 l4 l5 K ci cj cr q hC h hq
    rw [fX0_canBe_47.eq_1] at h; cases h
  | succ k ih =>
    intro l2 l3 l4 l5 K ci cj cr q hC h hq
    rw [fX0_canBe_47.eq_2] at h
    refine ev_iload dX0_canBe_47 rfl ?_
    refine ev_aload_n dX0_canBe_49 rfl ?_
    obtain ⟨r1, ci2, cj3, cr4, z5, h⟩ := jpb_inv h
    refine ev_zV0 dX0_canBe_50 vX0_167_0 (ck0 hC) (Or.inl (cl0 hC)) (Nat.le_of_ble_eq_true rfl) (Nat.le_of_ble_eq_true rfl) rfl (metX0_shoals n  _ _ _ _ hC z5 (fun hC6 => ?_))
    show Ev g _ _ 53 _ [.int r1, .int l5] K ci2 cj3 cr4 _ _ Qr Qx
    refine ev_icmp_ge 84 dX0_canBe_53 rfl (fun z7 => ?_) (fun z7 => ?_)
    · rw [if_pos z7] at h
      refine ev_iconst (v := (nI 0)) dX0_canBe_84 jc0 ?_
      refine ev_istore (L' := [_, _, _, _, _, _]) dX0_canBe_85 (by decide) rfl ?_
      exact wX0_canBe_87 n _ (hrec22) n _ _ _ _ _ _ _ _ hC6 h hq
    · rw [if_neg z7] at h
      refine ev_aload_n dX0_canBe_56 rfl ?_
      refine ev_getR dX0_canBe_57 fX0_92_0 (ck0 hC6) (Or.inl (cl0 hC6)) rfl (cq0_16 hC6) ?_
      refine ev_iload_n dX0_canBe_60 rfl ?_
      by_cases z8 : jok l2 10
      rotate_left
      · rw [if_neg z8] at h; cases h
      rw [if_pos z8] at h
      obtain ⟨r9, z10, h⟩ := Option.bind_eq_some_iff.mp h
      refine ev_aaload (t := 7) dX0_canBe_61 (ck184 hC6) (by decide) (by decide) (Or.inl (cl184 hC6)) (jok.ix z8 (cn184 hC6)) z10 ?_
      refine ev_iload dX0_canBe_62 rfl ?_
      by_cases z11 : K.1 r9 = 106 ∧ r9 < K.2.2
      rotate_left
      · rw [if_neg z11] at h; cases h
      rw [if_pos z11] at h
      by_cases z12 : jok l4 (K.2.1 r9)
      rotate_left
      · rw [if_neg z12] at h; cases h
      rw [if_pos z12] at h
      obtain ⟨r13, z14, h⟩ := Option.bind_eq_some_iff.mp h
      refine ev_aaload (t := 6) dX0_canBe_64 z11.1 (by decide) (by decide) (Or.inl z11.2) (jok.ix z12 rfl) z14 ?_
      refine ev_iload dX0_canBe_65 rfl ?_
      refine ev_aload_n dX0_canBe_67 rfl ?_
      refine ev_getR dX0_canBe_68 fX0_73_0 (ck0 hC6) (Or.inl (cl0 hC6)) rfl (cq0_10 hC6) ?_
      refine ev_getR dX0_canBe_71 fX0_186_5 (sk0 hC6 is68) (Or.inl (sl0 hC6 is68)) rfl (sr2 hC6 is68) ?_
      refine ev_iload dX0_canBe_74 rfl ?_
      by_cases z15 : jok l5 3
      rotate_left
      · rw [if_neg z15] at h; cases h
      rw [if_pos z15] at h
      refine ev_iaload dX0_canBe_76 (sk2 hC6 is68) (Or.inl (sl2 hC6 is68)) (jok.ix z15 (sn2 hC6 is68)) ?_
      by_cases z16 : K.1 r13 = 100 ∧ r13 < K.2.2
      rotate_left
      · rw [if_neg z16] at h; cases h
      rw [if_pos z16] at h
      by_cases z17 : jok l5 (K.2.1 r13)
      rotate_left
      · rw [if_neg z17] at h; cases h
      rw [if_pos z17] at h
      refine ev_iastore dX0_canBe_77 z16.1 z16.2 (jok.ix z17 rfl) ?_
      refine ev_iinc (v := (l5 + (nI 1))) (L' := [_, _, _, _, _, _]) dX0_canBe_78 rfl (by rw [ji_1]) (by decide) rfl ?_
      refine ev_goto 47 dX0_canBe_81 rfl ?_
      exact ih _ _ _ _ _ _ _ _ hC6 h hq
def fX0_canBe_22 (n : Nat) : Nat → Int32 → Int32 → Int32 → jK → jI → jJ → jR → Option (jTp Int32)
  | 0, _, _, _, _, _, _, _ => none
  | k + 1, l2, l3, l4, K, ci, cj, cr => jpb (fX0_isAhead n (l4 + (nI 1)) (nI 1) (nI 31) K ci cj cr) (fun r1 ci2 cj3 cr4 => if r1 = 0 then if l3 = (ci2 0 15) then fX0_canBe_166 n  (nI 1) K ci2 cj3 cr4 else fX0_canBe_166 n  (nI 0) K ci2 cj3 cr4 else jpb (fX5_goes n 68 K ci2 cj3 cr4) (fun r9 ci10 cj11 cr12 => fX0_canBe_47 n (fX0_canBe_22 n  k) n l2 l3 l4 (nI 0) K ci10 cj11 cr12))
theorem wX0_canBe_22 {g : jG} {d : Nat} {c sl : Nat} {Qr : jQ} {Qx : jX} (n : Nat) : ∀ (k : Nat) (l2 : Int32) (l3 : Int32) (l4 : Int32) (K : jK) (ci : jI) (cj : jJ) (cr : jR) {q}, jCW K cr → fX0_canBe_22 n  k l2 l3 l4 K ci cj cr = some q → jqp wI K q Qr → Ev g (d + 549) mX0_canBe 22 [.ref 0, jU, .int l2, .int l3, .int l4, jU] [] K ci cj cr c sl Qr Qx := by
  intro k
  induction k with
  | zero =>
    intro l2 l3 l4 K ci cj cr q hC h hq
    rw [fX0_canBe_22.eq_1] at h; cases h
  | succ k ih =>
    intro l2 l3 l4 K ci cj cr q hC h hq
    rw [fX0_canBe_22.eq_2] at h
    refine ev_aload_n dX0_canBe_22 rfl ?_
    refine ev_iload dX0_canBe_23 rfl ?_
    refine ev_iconst (v := (nI 1)) dX0_canBe_25 jc1 ?_
    refine ev_iadd dX0_canBe_26 ?_
    refine ev_iconst (v := (nI 1)) dX0_canBe_27 jc1 ?_
    refine ev_bipush (v := (nI 31)) dX0_canBe_28 jb31 ?_
    obtain ⟨r1, ci2, cj3, cr4, z5, h⟩ := jpb_inv h
    refine ev_zV3 dX0_canBe_30 vX0_261_0 (ck0 hC) (Or.inl (cl0 hC)) (Nat.le_of_ble_eq_true rfl) (Nat.le_of_ble_eq_true rfl) rfl (metX0_isAhead n _ _ _ _ _ _ _ hC z5 (fun hC6 => ?_))
    show Ev g _ _ 33 _ [.int r1] K ci2 cj3 cr4 _ _ Qr Qx
    refine ev_if_eq 153 dX0_canBe_33 rfl (fun z7 => ?_) (fun z7 => ?_)
    · rw [if_pos z7] at h
      refine ev_iload_n dX0_canBe_153 rfl ?_
      refine ev_aload_n dX0_canBe_154 rfl ?_
      refine ev_getI dX0_canBe_155 fX0_142_0 (ck0 hC6) (Or.inl (cl0 hC6)) rfl ?_
      refine ev_icmp_ne 165 dX0_canBe_158 rfl (fun z8 => ?_) (fun z8 => ?_)
      · rw [if_neg z8] at h
        refine ev_iconst (v := (nI 0)) dX0_canBe_165 jc0 ?_
        exact ev_mask [false, false, false, false, false, false] (wX0_canBe_166 n   _ _ _ _ _ hC6 h hq)
      · rw [if_pos z8] at h
        refine ev_iconst (v := (nI 1)) dX0_canBe_161 jc1 ?_
        refine ev_goto 166 dX0_canBe_162 rfl ?_
        exact ev_mask [false, false, false, false, false, false] (wX0_canBe_166 n   _ _ _ _ _ hC6 h hq)
    · rw [if_neg z7] at h
      refine ev_aload_n dX0_canBe_36 rfl ?_
      refine ev_getR dX0_canBe_37 fX0_73_0 (ck0 hC6) (Or.inl (cl0 hC6)) rfl (cq0_10 hC6) ?_
      obtain ⟨r9, ci10, cj11, cr12, z13, h⟩ := jpb_inv h
      refine ev_zV0 dX0_canBe_40 vX0_272_5 (sk0 hC6 is68) (Or.inl (sl0 hC6 is68)) (Nat.le_of_ble_eq_true rfl) (Nat.le_of_ble_eq_true rfl) rfl (metX5_goes n _ _ _ _ _ hC6 z13 (fun hC14 => ?_))
      show Ev g _ _ 43 _ [.int r9] K ci10 cj11 cr12 _ _ Qr Qx
      refine ev_pop dX0_canBe_43 rfl ?_
      refine ev_iconst (v := (nI 0)) dX0_canBe_44 jc0 ?_
      refine ev_istore (L' := [_, _, _, _, _, _]) dX0_canBe_45 (by decide) rfl ?_
      exact wX0_canBe_47 n _ (ih) n _ _ _ _ _ _ _ _ hC14 h hq
def fX0_canBe (n : Nat) (a0 : Int32) (a1 : Int32) (K : jK) (ci : jI) (cj : jJ) (cr : jR) : Option (jTp Int32) := jpb (fX5_copy n 68 16 K ci cj cr) (fun r1 ci2 cj3 cr4 => if K.1 r1 = 5 ∧ r1 < K.2.2 then Option.bind (cr4 r1 9) (fun r8 => if K.1 r8 = 100 ∧ r8 < K.2.2 then if jok a0 (K.2.1 r8) then fX0_canBe_22 n  n a1 (nI 0) (nI 0) K (ju ci2 r8 (a0).toNatClampNeg a1) cj3 cr4 else none else none) else none)
theorem metX0_canBe {g : jG} {d : Nat} {c sl : Nat} {Qr : jQ} {Qx : jX} (n : Nat) (a0 : Int32) (a1 : Int32) (K : jK) (ci : jI) (cj : jJ) (cr : jR) {q} (hC : jCW K cr) (h : fX0_canBe n a0 a1 K ci cj cr = some q) (hq : jqp wI K q Qr) : EvM g (d + 549) mX0_canBe [.ref 0, .int a0, .int a1] K ci cj cr c sl Qr Qx := by
  unfold fX0_canBe at h
  show Ev g (d + 549) mX0_canBe 0 [.ref 0, .int a0, .int a1, jU, jU, jU] [] K ci cj cr c sl Qr Qx
  refine ev_aload_n dX0_canBe_0 rfl ?_
  refine ev_getR dX0_canBe_1 fX0_73_0 (ck0 hC) (Or.inl (cl0 hC)) rfl (cq0_10 hC) ?_
  refine ev_aload_n dX0_canBe_4 rfl ?_
  refine ev_getR dX0_canBe_5 fX0_69_0 (ck0 hC) (Or.inl (cl0 hC)) rfl (cq0_9 hC) ?_
  obtain ⟨r1, ci2, cj3, cr4, z5, h⟩ := jpb_inv h
  refine ev_zV1 dX0_canBe_8 vX0_264_5 (sk0 hC is68) (Or.inl (sl0 hC is68)) (Nat.le_of_ble_eq_true rfl) (Nat.le_of_ble_eq_true rfl) rfl (metX5_copy n _ _ _ _ _ _ hC z5 (fun hC6 => ?_))
  show Ev g _ _ 11 _ [.ref r1] K ci2 cj3 cr4 _ _ Qr Qx
  by_cases z7 : K.1 r1 = 5 ∧ r1 < K.2.2
  rotate_left
  · rw [if_neg z7] at h; cases h
  rw [if_pos z7] at h
  obtain ⟨r8, z9, h⟩ := Option.bind_eq_some_iff.mp h
  refine ev_getR dX0_canBe_11 fX0_236_5 z7.1 (Or.inl z7.2) rfl z9 ?_
  refine ev_iload_n dX0_canBe_14 rfl ?_
  refine ev_iload_n dX0_canBe_15 rfl ?_
  by_cases z10 : K.1 r8 = 100 ∧ r8 < K.2.2
  rotate_left
  · rw [if_neg z10] at h; cases h
  rw [if_pos z10] at h
  by_cases z11 : jok a0 (K.2.1 r8)
  rotate_left
  · rw [if_neg z11] at h; cases h
  rw [if_pos z11] at h
  refine ev_iastore dX0_canBe_16 z10.1 z10.2 (jok.ix z11 rfl) ?_
  refine ev_iconst (v := (nI 0)) dX0_canBe_17 jc0 ?_
  refine ev_istore_n (L' := [_, _, _, _, _, _]) dX0_canBe_18 (by decide) rfl ?_
  refine ev_iconst (v := (nI 0)) dX0_canBe_19 jc0 ?_
  refine ev_istore (L' := [_, _, _, _, _, _]) dX0_canBe_20 (by decide) rfl ?_
  exact ev_mask [true, false, true, true, true, false] (wX0_canBe_22 n   n _ _ _ _ _ _ _ hC6 h hq)
