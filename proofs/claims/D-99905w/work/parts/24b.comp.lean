/-! STAGE A OF THE COMPONENT (printed by gen/comp.py) -/
set_option maxRecDepth 100000
def fJ6_coder_14 (n : Nat) (t0 : Int32) (K : jK) (ci : jI) (cj : jJ) (cr : jR) : Option (jTp Int32) := if (t0).toInt8.toInt32 = t0 then some (t0, ci, cj, cr) else none
theorem wJ6_coder_14 {g : jG} {d : Nat} {c sl : Nat} {Qr : jQ} {Qx : jX} (n : Nat) (t0 : Int32) (K : jK) (ci : jI) (cj : jJ) (cr : jR) {q} (hC : jCW K cr) (h : fJ6_coder_14 n  t0 K ci cj cr = some q) (hq : jqp wI K q Qr) : Ev g (d + 1) mJ6_coder 14 [jU] [.int t0] K ci cj cr c sl Qr Qx := by
  unfold fJ6_coder_14 at h
  by_cases z1 : (t0).toInt8.toInt32 = t0
  rotate_left
  · rw [if_neg z1] at h; cases h
  rw [if_pos z1] at h
  cases h
  exact ev_iret dJ6_coder_14 rfl (jbyt1 z1) (hq hC)
def fJ6_coder (n : Nat) (ah : Nat) (K : jK) (ci : jI) (cj : jJ) (cr : jR) : Option (jTp Int32) := if K.1 ah = 21 ∧ (ah < K.2.2 ∨ 1000000 ≤ ah) then fJ6_coder_14 n  (ci ah 1) K ci cj cr else none
theorem metJ6_coder {g : jG} {d : Nat} {c sl : Nat} {Qr : jQ} {Qx : jX} (n : Nat) (ah : Nat) (K : jK) (ci : jI) (cj : jJ) (cr : jR) {q} (hC : jCW K cr) (h : fJ6_coder n ah K ci cj cr = some q) (hq : jqp wI K q Qr) : EvM g (d + 1) mJ6_coder [.ref ah] K ci cj cr c sl Qr Qx := by
  unfold fJ6_coder at h
  show Ev g (d + 1) mJ6_coder 0 [.ref ah] [] K ci cj cr c sl Qr Qx
  refine ev_gets ("java/lang/String", "COMPACT_STRINGS", "Z", .int 1) dJ6_coder_0 q608 (by decide +kernel) ?_
  refine ev_if_eq 13 dJ6_coder_3 rfl (fun z => ?_) (fun z => ?_)
  · exact absurd z (by decide)
  refine ev_aload_n dJ6_coder_6 rfl ?_
  by_cases z1 : K.1 ah = 21 ∧ (ah < K.2.2 ∨ 1000000 ≤ ah)
  rotate_left
  · rw [if_neg z1] at h; cases h
  rw [if_pos z1] at h
  refine ev_getI dJ6_coder_7 fJ6_15_21 z1.1 z1.2 rfl ?_
  refine ev_goto 14 dJ6_coder_10 rfl ?_
  exact ev_mask [false] (wJ6_coder_14 n   _ _ _ _ _ hC h hq)
def fJ6_length (n : Nat) (ah : Nat) (K : jK) (ci : jI) (cj : jJ) (cr : jR) : Option (jTp Int32) := if K.1 ah = 21 ∧ (ah < K.2.2 ∨ 1000000 ≤ ah) then Option.bind (cr ah 0) (fun r2 => if K.1 r2 = 101 ∧ (r2 < K.2.2 ∨ 1000000 ≤ r2) then jpb (fJ6_coder n ah K ci cj cr) (fun r5 ci6 cj7 cr8 => some (((nI (K.2.1 r2)) >>> (r5 &&& 31)), ci6, cj7, cr8)) else none) else none
theorem metJ6_length {g : jG} {d : Nat} {c sl : Nat} {Qr : jQ} {Qx : jX} (n : Nat) (ah : Nat) (K : jK) (ci : jI) (cj : jJ) (cr : jR) {q} (hC : jCW K cr) (h : fJ6_length n ah K ci cj cr = some q) (hq : jqp wI K q Qr) : EvM g (d + 2) mJ6_length [.ref ah] K ci cj cr c sl Qr Qx := by
  unfold fJ6_length at h
  show Ev g (d + 2) mJ6_length 0 [.ref ah] [] K ci cj cr c sl Qr Qx
  refine ev_aload_n dJ6_length_0 rfl ?_
  by_cases z1 : K.1 ah = 21 ∧ (ah < K.2.2 ∨ 1000000 ≤ ah)
  rotate_left
  · rw [if_neg z1] at h; cases h
  rw [if_pos z1] at h
  obtain ⟨r2, z3, h⟩ := Option.bind_eq_some_iff.mp h
  refine ev_getR dJ6_length_1 fJ6_9_21 z1.1 z1.2 rfl z3 ?_
  by_cases z4 : K.1 r2 = 101 ∧ (r2 < K.2.2 ∨ 1000000 ≤ r2)
  rotate_left
  · rw [if_neg z4] at h; cases h
  rw [if_pos z4] at h
  refine ev_alen dJ6_length_4 (t := 1) z4.1 (by decide) z4.2 ?_
  refine ev_aload_n dJ6_length_5 rfl ?_
  obtain ⟨r5, ci6, cj7, cr8, z9, h⟩ := jpb_inv h
  refine ev_zV0 dJ6_length_6 vJ6_335_21 z1.1 z1.2 (Nat.le_of_ble_eq_true rfl) (Nat.le_of_ble_eq_true rfl) rfl (metJ6_coder n _ _ _ _ _ hC z9 (fun hC10 => ?_))
  show Ev g _ _ 9 _ [.int r5, .int (nI (K.2.1 r2))] K ci6 cj7 cr8 _ _ Qr Qx
  refine ev_ishr dJ6_length_9 ?_
  cases h
  exact ev_iret dJ6_length_10 rfl rfl (hq hC10)
def fJ9_charAt (n : Nat) (a0 : Nat) (a1 : Int32) (K : jK) (ci : jI) (cj : jJ) (cr : jR) : Option (jTp Int32) := if K.1 a0 = 101 ∧ (a0 < K.2.2 ∨ 1000000 ≤ a0) then jpb (fJ6_checkIndex n a1 (nI (K.2.1 a0)) K ci cj cr) (fun r2 ci3 cj4 cr5 => if jok a1 (K.2.1 a0) then if ((((ci3 a0 (a1).toNatClampNeg) &&& (nI 255))).toUInt32.toUInt16.toUInt32.toInt32).toUInt32.toUInt16.toUInt32.toInt32 = (((ci3 a0 (a1).toNatClampNeg) &&& (nI 255))).toUInt32.toUInt16.toUInt32.toInt32 then some ((((ci3 a0 (a1).toNatClampNeg) &&& (nI 255))).toUInt32.toUInt16.toUInt32.toInt32, ci3, cj4, cr5) else none else none) else none
theorem metJ9_charAt {g : jG} {d : Nat} {c sl : Nat} {Qr : jQ} {Qx : jX} (n : Nat) (a0 : Nat) (a1 : Int32) (K : jK) (ci : jI) (cj : jJ) (cr : jR) {q} (hC : jCW K cr) (h : fJ9_charAt n a0 a1 K ci cj cr = some q) (hq : jqp wI K q Qr) : EvM g (d + 3) mJ9_charAt [.ref a0, .int a1] K ci cj cr c sl Qr Qx := by
  unfold fJ9_charAt at h
  show Ev g (d + 3) mJ9_charAt 0 [.ref a0, .int a1] [] K ci cj cr c sl Qr Qx
  refine ev_iload_n dJ9_charAt_0 rfl ?_
  refine ev_aload_n dJ9_charAt_1 rfl ?_
  by_cases z1 : K.1 a0 = 101 ∧ (a0 < K.2.2 ∨ 1000000 ≤ a0)
  rotate_left
  · rw [if_neg z1] at h; cases h
  rw [if_pos z1] at h
  refine ev_alen dJ9_charAt_2 (t := 1) z1.1 (by decide) z1.2 ?_
  obtain ⟨r2, ci3, cj4, cr5, z6, h⟩ := jpb_inv h
  refine ev_zS2 dJ9_charAt_3 sJ9_9 (Nat.le_of_ble_eq_true rfl) (Nat.le_of_ble_eq_true rfl) rfl (metJ6_checkIndex n _ _ _ _ _ _ hC z6 (fun hC7 => ?_))
  show Ev g _ _ 6 _ [] K ci3 cj4 cr5 _ _ Qr Qx
  refine ev_aload_n dJ9_charAt_6 rfl ?_
  refine ev_iload_n dJ9_charAt_7 rfl ?_
  by_cases z8 : jok a1 (K.2.1 a0)
  rotate_left
  · rw [if_neg z8] at h; cases h
  rw [if_pos z8] at h
  refine ev_baload dJ9_charAt_8 z1.1 z1.2 (jok.ix z8 rfl) ?_
  refine ev_sipush (v := (nI 255)) dJ9_charAt_9 js255 ?_
  refine ev_iand dJ9_charAt_12 ?_
  refine ev_i2c dJ9_charAt_13 ?_
  by_cases z9 : ((((ci3 a0 (a1).toNatClampNeg) &&& (nI 255))).toUInt32.toUInt16.toUInt32.toInt32).toUInt32.toUInt16.toUInt32.toInt32 = (((ci3 a0 (a1).toNatClampNeg) &&& (nI 255))).toUInt32.toUInt16.toUInt32.toInt32
  rotate_left
  · rw [if_neg z9] at h; cases h
  rw [if_pos z9] at h
  cases h
  exact ev_iret dJ9_charAt_14 rfl (jchr1 z9) (hq hC7)
def fJ6_charAt (n : Nat) (ah : Nat) (a0 : Int32) (K : jK) (ci : jI) (cj : jJ) (cr : jR) : Option (jTp Int32) := if K.1 ah = 21 ∧ (ah < K.2.2 ∨ 1000000 ≤ ah) then jpb (fJ6_isLatin1 n ah K ci cj cr) (fun r2 ci3 cj4 cr5 => if r2 = 0 then Option.bind (cr5 ah 0) (fun r9 => none) else Option.bind (cr5 ah 0) (fun r11 => jpb (fJ9_charAt n r11 a0 K ci3 cj4 cr5) (fun r13 ci14 cj15 cr16 => if (r13).toUInt32.toUInt16.toUInt32.toInt32 = r13 then some (r13, ci14, cj15, cr16) else none))) else none
theorem metJ6_charAt {g : jG} {d : Nat} {c sl : Nat} {Qr : jQ} {Qx : jX} (n : Nat) (ah : Nat) (a0 : Int32) (K : jK) (ci : jI) (cj : jJ) (cr : jR) {q} (hC : jCW K cr) (h : fJ6_charAt n ah a0 K ci cj cr = some q) (hq : jqp wI K q Qr) : EvM g (d + 4) mJ6_charAt [.ref ah, .int a0] K ci cj cr c sl Qr Qx := by
  unfold fJ6_charAt at h
  show Ev g (d + 4) mJ6_charAt 0 [.ref ah, .int a0] [] K ci cj cr c sl Qr Qx
  refine ev_aload_n dJ6_charAt_0 rfl ?_
  by_cases z1 : K.1 ah = 21 ∧ (ah < K.2.2 ∨ 1000000 ≤ ah)
  rotate_left
  · rw [if_neg z1] at h; cases h
  rw [if_pos z1] at h
  obtain ⟨r2, ci3, cj4, cr5, z6, h⟩ := jpb_inv h
  refine ev_zV0 dJ6_charAt_1 vJ6_492_21 z1.1 z1.2 (Nat.le_of_ble_eq_true rfl) (Nat.le_of_ble_eq_true rfl) rfl (metJ6_isLatin1 n _ _ _ _ _ hC z6 (fun hC7 => ?_))
  show Ev g _ _ 4 _ [.int r2] K ci3 cj4 cr5 _ _ Qr Qx
  refine ev_if_eq 16 dJ6_charAt_4 rfl (fun z8 => ?_) (fun z8 => ?_)
  · rw [if_pos z8] at h
    refine ev_aload_n dJ6_charAt_16 rfl ?_
    obtain ⟨r9, z10, h⟩ := Option.bind_eq_some_iff.mp h
    refine ev_getR dJ6_charAt_17 fJ6_9_21 z1.1 z1.2 rfl z10 ?_
    refine ev_iload_n dJ6_charAt_20 rfl ?_
    cases h
  · rw [if_neg z8] at h
    refine ev_aload_n dJ6_charAt_7 rfl ?_
    obtain ⟨r11, z12, h⟩ := Option.bind_eq_some_iff.mp h
    refine ev_getR dJ6_charAt_8 fJ6_9_21 z1.1 z1.2 rfl z12 ?_
    refine ev_iload_n dJ6_charAt_11 rfl ?_
    obtain ⟨r13, ci14, cj15, cr16, z17, h⟩ := jpb_inv h
    refine ev_zS2 dJ6_charAt_12 sJ6_495 (Nat.le_of_ble_eq_true rfl) (Nat.le_of_ble_eq_true rfl) rfl (metJ9_charAt n _ _ _ _ _ _ hC7 z17 (fun hC18 => ?_))
    show Ev g _ _ 15 _ [.int r13] K ci14 cj15 cr16 _ _ Qr Qx
    by_cases z19 : (r13).toUInt32.toUInt16.toUInt32.toInt32 = r13
    rotate_left
    · rw [if_neg z19] at h; cases h
    rw [if_pos z19] at h
    cases h
    exact ev_iret dJ6_charAt_15 rfl (jchr1 z19) (hq hC18)
def fX0_lays_3 (n : Nat) : Nat → Int32 → Int32 → jK → jI → jJ → jR → Option (jTp Unit)
  | 0, _, _, _, _, _, _ => none
  | k + 1, l1, l2, K, ci, cj, cr => if l2 < 0 then some ((), ci, cj, cr) else if jok (ci 0 2) 1600 then fX0_lays_3 n  k l1 (l2 + (-8)) K (ju (ju ci 0 2 ((ci 0 2) + (nI 1))) 8 ((ci 0 2)).toNatClampNeg (((l1 >>> (l2 &&& 31))).toInt8.toInt32).toInt8.toInt32) cj cr else none
theorem wX0_lays_3 {g : jG} {d : Nat} {c sl : Nat} {Qr : jQ} {Qx : jX} (n : Nat) : ∀ (k : Nat) (l1 : Int32) (l2 : Int32) (K : jK) (ci : jI) (cj : jJ) (cr : jR) {q}, jCW K cr → fX0_lays_3 n  k l1 l2 K ci cj cr = some q → jqp wV K q Qr → Ev g (d + 1) mX0_lays 3 [.ref 0, .int l1, .int l2] [] K ci cj cr c sl Qr Qx := by
  intro k
  induction k with
  | zero =>
    intro l1 l2 K ci cj cr q hC h hq
    rw [fX0_lays_3.eq_1] at h; cases h
  | succ k ih =>
    intro l1 l2 K ci cj cr q hC h hq
    rw [fX0_lays_3.eq_2] at h
    refine ev_iload_n dX0_lays_3 rfl ?_
    refine ev_if_lt 33 dX0_lays_4 rfl (fun z1 => ?_) (fun z1 => ?_)
    · rw [if_pos z1] at h
      cases h
      exact ev_ret dX0_lays_33 rfl (hq hC)
    · rw [if_neg z1] at h
      refine ev_aload_n dX0_lays_7 rfl ?_
      refine ev_getR dX0_lays_8 fX0_35_0 (ck0 hC) (Or.inl (cl0 hC)) rfl (cq0_1 hC) ?_
      refine ev_aload_n dX0_lays_11 rfl ?_
      refine ev_dup dX0_lays_12 rfl ?_
      refine ev_getI dX0_lays_13 fX0_106_0 (ck0 hC) (Or.inl (cl0 hC)) rfl ?_
      refine ev_dup_x1 dX0_lays_16 rfl rfl ?_
      refine ev_iconst (v := (nI 1)) dX0_lays_17 jc1 ?_
      refine ev_iadd dX0_lays_18 ?_
      refine ev_putI dX0_lays_19 (pX0_106_0 _) (ck0 hC) (cl0 hC) rfl rfl rfl ?_
      refine ev_iload_n dX0_lays_22 rfl ?_
      refine ev_iload_n dX0_lays_23 rfl ?_
      refine ev_ishr dX0_lays_24 ?_
      refine ev_i2b dX0_lays_25 ?_
      by_cases z2 : jok (ci 0 2) 1600
      rotate_left
      · rw [if_neg z2] at h; cases h
      rw [if_pos z2] at h
      refine ev_bastore dX0_lays_26 (ck8 hC) (cl8 hC) (jok.ix z2 (cn8 hC)) ?_
      refine ev_iinc (v := (l2 + (-8))) (L' := [_, _, _]) dX0_lays_27 rfl (by rw [ji_m8]) (by decide) rfl ?_
      refine ev_goto 3 dX0_lays_30 rfl ?_
      exact ih _ _ _ _ _ _ hC h hq
def fX0_lays (n : Nat) (a0 : Int32) (K : jK) (ci : jI) (cj : jJ) (cr : jR) : Option (jTp Unit) := fX0_lays_3 n  n a0 (nI 24) K ci cj cr
theorem metX0_lays {g : jG} {d : Nat} {c sl : Nat} {Qr : jQ} {Qx : jX} (n : Nat) (a0 : Int32) (K : jK) (ci : jI) (cj : jJ) (cr : jR) {q} (hC : jCW K cr) (h : fX0_lays n a0 K ci cj cr = some q) (hq : jqp wV K q Qr) : EvM g (d + 1) mX0_lays [.ref 0, .int a0] K ci cj cr c sl Qr Qx := by
  unfold fX0_lays at h
  show Ev g (d + 1) mX0_lays 0 [.ref 0, .int a0, jU] [] K ci cj cr c sl Qr Qx
  refine ev_bipush (v := (nI 24)) dX0_lays_0 jb24 ?_
  refine ev_istore_n (L' := [_, _, _]) dX0_lays_2 (by decide) rfl ?_
  exact wX0_lays_3 n   n _ _ _ _ _ _ hC h hq
def fX0_refuses (n : Nat) (a0 : Int32) (K : jK) (ci : jI) (cj : jJ) (cr : jR) : Option (jTp Int32) := if jok a0 6 then if jok a0 6 then some ((-1), (ju ci 15 (a0).toNatClampNeg ((ci 15 (a0).toNatClampNeg) + (nI 1))), cj, cr) else none else none
theorem metX0_refuses {g : jG} {d : Nat} {c sl : Nat} {Qr : jQ} {Qx : jX} (n : Nat) (a0 : Int32) (K : jK) (ci : jI) (cj : jJ) (cr : jR) {q} (hC : jCW K cr) (h : fX0_refuses n a0 K ci cj cr = some q) (hq : jqp wI K q Qr) : EvM g (d + 1) mX0_refuses [.ref 0, .int a0] K ci cj cr c sl Qr Qx := by
  unfold fX0_refuses at h
  show Ev g (d + 1) mX0_refuses 0 [.ref 0, .int a0] [] K ci cj cr c sl Qr Qx
  refine ev_aload_n dX0_refuses_0 rfl ?_
  refine ev_getR dX0_refuses_1 fX0_62_0 (ck0 hC) (Or.inl (cl0 hC)) rfl (cq0_8 hC) ?_
  refine ev_iload_n dX0_refuses_4 rfl ?_
  refine ev_dup2 dX0_refuses_5 rfl rfl ?_
  by_cases z1 : jok a0 6
  rotate_left
  · rw [if_neg z1] at h; cases h
  rw [if_pos z1] at h
  refine ev_iaload dX0_refuses_6 (ck15 hC) (Or.inl (cl15 hC)) (jok.ix z1 (cn15 hC)) ?_
  refine ev_iconst (v := (nI 1)) dX0_refuses_7 jc1 ?_
  refine ev_iadd dX0_refuses_8 ?_
  by_cases z2 : jok a0 6
  rotate_left
  · rw [if_neg z2] at h; cases h
  rw [if_pos z2] at h
  refine ev_iastore dX0_refuses_9 (ck15 hC) (cl15 hC) (jok.ix z2 (cn15 hC)) ?_
  refine ev_iconst (v := (-1)) dX0_refuses_10 jcm1 ?_
  cases h
  exact ev_iret dX0_refuses_11 rfl rfl (hq hC)
def fX0_feed (n : Nat) (a0 : Int32) (a1 : Int32) (a2 : Int32) (a3 : Int32) (a4 : Int32) (K : jK) (ci : jI) (cj : jJ) (cr : jR) : Option (jTp Int32) := if ((ci 0 2) + (nI 20)) ≤ (nI 1600) then jpb (fX0_lays n a0 K ci cj cr) (fun r2 ci3 cj4 cr5 => jpb (fX0_lays n a1 K ci3 cj4 cr5) (fun r8 ci9 cj10 cr11 => jpb (fX0_lays n a2 K ci9 cj10 cr11) (fun r14 ci15 cj16 cr17 => jpb (fX0_lays n a3 K ci15 cj16 cr17) (fun r20 ci21 cj22 cr23 => jpb (fX0_lays n a4 K ci21 cj22 cr23) (fun r26 ci27 cj28 cr29 => some ((ci27 0 2), ci27, cj28, cr29)))))) else jpb (fX0_refuses n (nI 0) K ci cj cr) (fun r32 ci33 cj34 cr35 => some (r32, ci33, cj34, cr35))
theorem metX0_feed {g : jG} {d : Nat} {c sl : Nat} {Qr : jQ} {Qx : jX} (n : Nat) (a0 : Int32) (a1 : Int32) (a2 : Int32) (a3 : Int32) (a4 : Int32) (K : jK) (ci : jI) (cj : jJ) (cr : jR) {q} (hC : jCW K cr) (h : fX0_feed n a0 a1 a2 a3 a4 K ci cj cr = some q) (hq : jqp wI K q Qr) : EvM g (d + 2) mX0_feed [.ref 0, .int a0, .int a1, .int a2, .int a3, .int a4] K ci cj cr c sl Qr Qx := by
  unfold fX0_feed at h
  show Ev g (d + 2) mX0_feed 0 [.ref 0, .int a0, .int a1, .int a2, .int a3, .int a4] [] K ci cj cr c sl Qr Qx
  refine ev_aload_n dX0_feed_0 rfl ?_
  refine ev_getI dX0_feed_1 fX0_106_0 (ck0 hC) (Or.inl (cl0 hC)) rfl ?_
  refine ev_bipush (v := (nI 20)) dX0_feed_4 jb20 ?_
  refine ev_iadd dX0_feed_6 ?_
  refine ev_sipush (v := (nI 1600)) dX0_feed_7 js1600 ?_
  refine ev_icmp_le 19 dX0_feed_10 rfl (fun z1 => ?_) (fun z1 => ?_)
  · rw [if_pos z1] at h
    refine ev_aload_n dX0_feed_19 rfl ?_
    refine ev_iload_n dX0_feed_20 rfl ?_
    obtain ⟨r2, ci3, cj4, cr5, z6, h⟩ := jpb_inv h
    refine ev_zV1 dX0_feed_21 vX0_113_0 (ck0 hC) (Or.inl (cl0 hC)) (Nat.le_of_ble_eq_true rfl) (Nat.le_of_ble_eq_true rfl) rfl (metX0_lays n _ _ _ _ _ hC z6 (fun hC7 => ?_))
    show Ev g _ _ 24 _ [] K ci3 cj4 cr5 _ _ Qr Qx
    refine ev_aload_n dX0_feed_24 rfl ?_
    refine ev_iload_n dX0_feed_25 rfl ?_
    obtain ⟨r8, ci9, cj10, cr11, z12, h⟩ := jpb_inv h
    refine ev_zV1 dX0_feed_26 vX0_113_0 (ck0 hC7) (Or.inl (cl0 hC7)) (Nat.le_of_ble_eq_true rfl) (Nat.le_of_ble_eq_true rfl) rfl (metX0_lays n _ _ _ _ _ hC7 z12 (fun hC13 => ?_))
    show Ev g _ _ 29 _ [] K ci9 cj10 cr11 _ _ Qr Qx
    refine ev_aload_n dX0_feed_29 rfl ?_
    refine ev_iload_n dX0_feed_30 rfl ?_
    obtain ⟨r14, ci15, cj16, cr17, z18, h⟩ := jpb_inv h
    refine ev_zV1 dX0_feed_31 vX0_113_0 (ck0 hC13) (Or.inl (cl0 hC13)) (Nat.le_of_ble_eq_true rfl) (Nat.le_of_ble_eq_true rfl) rfl (metX0_lays n _ _ _ _ _ hC13 z18 (fun hC19 => ?_))
    show Ev g _ _ 34 _ [] K ci15 cj16 cr17 _ _ Qr Qx
    refine ev_aload_n dX0_feed_34 rfl ?_
    refine ev_iload dX0_feed_35 rfl ?_
    obtain ⟨r20, ci21, cj22, cr23, z24, h⟩ := jpb_inv h
    refine ev_zV1 dX0_feed_37 vX0_113_0 (ck0 hC19) (Or.inl (cl0 hC19)) (Nat.le_of_ble_eq_true rfl) (Nat.le_of_ble_eq_true rfl) rfl (metX0_lays n _ _ _ _ _ hC19 z24 (fun hC25 => ?_))
    show Ev g _ _ 40 _ [] K ci21 cj22 cr23 _ _ Qr Qx
    refine ev_aload_n dX0_feed_40 rfl ?_
    refine ev_iload dX0_feed_41 rfl ?_
    obtain ⟨r26, ci27, cj28, cr29, z30, h⟩ := jpb_inv h
    refine ev_zV1 dX0_feed_43 vX0_113_0 (ck0 hC25) (Or.inl (cl0 hC25)) (Nat.le_of_ble_eq_true rfl) (Nat.le_of_ble_eq_true rfl) rfl (metX0_lays n _ _ _ _ _ hC25 z30 (fun hC31 => ?_))
    show Ev g _ _ 46 _ [] K ci27 cj28 cr29 _ _ Qr Qx
    refine ev_aload_n dX0_feed_46 rfl ?_
    refine ev_getI dX0_feed_47 fX0_106_0 (ck0 hC31) (Or.inl (cl0 hC31)) rfl ?_
    cases h
    exact ev_iret dX0_feed_50 rfl rfl (hq hC31)
  · rw [if_neg z1] at h
    refine ev_aload_n dX0_feed_13 rfl ?_
    refine ev_iconst (v := (nI 0)) dX0_feed_14 jc0 ?_
    obtain ⟨r32, ci33, cj34, cr35, z36, h⟩ := jpb_inv h
    refine ev_zV1 dX0_feed_15 vX0_109_0 (ck0 hC) (Or.inl (cl0 hC)) (Nat.le_of_ble_eq_true rfl) (Nat.le_of_ble_eq_true rfl) rfl (metX0_refuses n _ _ _ _ _ hC z36 (fun hC37 => ?_))
    show Ev g _ _ 18 _ [.int r32] K ci33 cj34 cr35 _ _ Qr Qx
    cases h
    exact ev_iret dX0_feed_18 rfl rfl (hq hC37)
def fX0_end_25 (n : Nat) (t0 : Int32) (K : jK) (ci : jI) (cj : jJ) (cr : jR) : Option (jTp Int32) := if t0 = 0 ∨ t0 = 1 then some (t0, ci, cj, cr) else none
theorem wX0_end_25 {g : jG} {d : Nat} {c sl : Nat} {Qr : jQ} {Qx : jX} (n : Nat) (t0 : Int32) (K : jK) (ci : jI) (cj : jJ) (cr : jR) {q} (hC : jCW K cr) (h : fX0_end_25 n  t0 K ci cj cr = some q) (hq : jqp wI K q Qr) : Ev g (d + 2) mX0_end 25 [jU, jU] [.int t0] K ci cj cr c sl Qr Qx := by
  unfold fX0_end_25 at h
  by_cases z1 : t0 = 0 ∨ t0 = 1
  rotate_left
  · rw [if_neg z1] at h; cases h
  rw [if_pos z1] at h
  cases h
  exact ev_iret dX0_end_25 rfl (jbool z1) (hq hC)
def fX0_end_12 (n : Nat) (K : jK) (ci : jI) (cj : jJ) (cr : jR) : Option (jTp Int32) := jpb (fX0_refuses n (nI 0) K ci cj cr) (fun r1 ci2 cj3 cr4 => if r1 < 0 then fX0_end_25 n  (nI 0) K ci2 cj3 cr4 else fX0_end_25 n  (nI 1) K ci2 cj3 cr4)
theorem wX0_end_12 {g : jG} {d : Nat} {c sl : Nat} {Qr : jQ} {Qx : jX} (n : Nat) (K : jK) (ci : jI) (cj : jJ) (cr : jR) {q} (hC : jCW K cr) (h : fX0_end_12 n   K ci cj cr = some q) (hq : jqp wI K q Qr) : Ev g (d + 2) mX0_end 12 [.ref 0, jU] [] K ci cj cr c sl Qr Qx := by
  unfold fX0_end_12 at h
  refine ev_aload_n dX0_end_12 rfl ?_
  refine ev_iconst (v := (nI 0)) dX0_end_13 jc0 ?_
  obtain ⟨r1, ci2, cj3, cr4, z5, h⟩ := jpb_inv h
  refine ev_zV1 dX0_end_14 vX0_109_0 (ck0 hC) (Or.inl (cl0 hC)) (Nat.le_of_ble_eq_true rfl) (Nat.le_of_ble_eq_true rfl) rfl (metX0_refuses n _ _ _ _ _ hC z5 (fun hC6 => ?_))
  show Ev g _ _ 17 _ [.int r1] K ci2 cj3 cr4 _ _ Qr Qx
  refine ev_if_lt 24 dX0_end_17 rfl (fun z7 => ?_) (fun z7 => ?_)
  · rw [if_pos z7] at h
    refine ev_iconst (v := (nI 0)) dX0_end_24 jc0 ?_
    exact ev_mask [false, false] (wX0_end_25 n   _ _ _ _ _ hC6 h hq)
  · rw [if_neg z7] at h
    refine ev_iconst (v := (nI 1)) dX0_end_20 jc1 ?_
    refine ev_goto 25 dX0_end_21 rfl ?_
    exact ev_mask [false, false] (wX0_end_25 n   _ _ _ _ _ hC6 h hq)
def fX0_end (n : Nat) (a0 : Int32) (K : jK) (ci : jI) (cj : jJ) (cr : jR) : Option (jTp Int32) := if a0 < 0 then fX0_end_12 n   K ci cj cr else if a0 ≤ (ci 0 2) then some ((nI 1), (ju ci 0 2 a0), cj, cr) else fX0_end_12 n   K ci cj cr
theorem metX0_end {g : jG} {d : Nat} {c sl : Nat} {Qr : jQ} {Qx : jX} (n : Nat) (a0 : Int32) (K : jK) (ci : jI) (cj : jJ) (cr : jR) {q} (hC : jCW K cr) (h : fX0_end n a0 K ci cj cr = some q) (hq : jqp wI K q Qr) : EvM g (d + 2) mX0_end [.ref 0, .int a0] K ci cj cr c sl Qr Qx := by
  unfold fX0_end at h
  show Ev g (d + 2) mX0_end 0 [.ref 0, .int a0] [] K ci cj cr c sl Qr Qx
  refine ev_iload_n dX0_end_0 rfl ?_
  refine ev_if_lt 12 dX0_end_1 rfl (fun z1 => ?_) (fun z1 => ?_)
  · rw [if_pos z1] at h
    exact ev_mask [true, false] (wX0_end_12 n    _ _ _ _ hC h hq)
  · rw [if_neg z1] at h
    refine ev_iload_n dX0_end_4 rfl ?_
    refine ev_aload_n dX0_end_5 rfl ?_
    refine ev_getI dX0_end_6 fX0_106_0 (ck0 hC) (Or.inl (cl0 hC)) rfl ?_
    refine ev_icmp_le 26 dX0_end_9 rfl (fun z2 => ?_) (fun z2 => ?_)
    · rw [if_pos z2] at h
      refine ev_aload_n dX0_end_26 rfl ?_
      refine ev_iload_n dX0_end_27 rfl ?_
      refine ev_putI dX0_end_28 (pX0_106_0 _) (ck0 hC) (cl0 hC) rfl rfl rfl ?_
      refine ev_iconst (v := (nI 1)) dX0_end_31 jc1 ?_
      cases h
      exact ev_iret dX0_end_32 rfl (by decide) (hq hC)
    · rw [if_neg z2] at h
      exact ev_mask [true, false] (wX0_end_12 n    _ _ _ _ hC h hq)
def fX0_tapeTaken (n : Nat) (K : jK) (ci : jI) (cj : jJ) (cr : jR) : Option (jTp Int32) := some ((ci 0 2), (ju ci 0 2 (nI 0)), cj, cr)
theorem metX0_tapeTaken {g : jG} {d : Nat} {c sl : Nat} {Qr : jQ} {Qx : jX} (n : Nat) (K : jK) (ci : jI) (cj : jJ) (cr : jR) {q} (hC : jCW K cr) (h : fX0_tapeTaken n  K ci cj cr = some q) (hq : jqp wI K q Qr) : EvM g (d + 1) mX0_tapeTaken [.ref 0] K ci cj cr c sl Qr Qx := by
  unfold fX0_tapeTaken at h
  show Ev g (d + 1) mX0_tapeTaken 0 [.ref 0, jU] [] K ci cj cr c sl Qr Qx
  refine ev_aload_n dX0_tapeTaken_0 rfl ?_
  refine ev_getI dX0_tapeTaken_1 fX0_106_0 (ck0 hC) (Or.inl (cl0 hC)) rfl ?_
  refine ev_istore_n (L' := [_, _]) dX0_tapeTaken_4 (by decide) rfl ?_
  refine ev_aload_n dX0_tapeTaken_5 rfl ?_
  refine ev_iconst (v := (nI 0)) dX0_tapeTaken_6 jc0 ?_
  refine ev_putI dX0_tapeTaken_7 (pX0_106_0 _) (ck0 hC) (cl0 hC) rfl rfl rfl ?_
  refine ev_iload_n dX0_tapeTaken_10 rfl ?_
  cases h
  exact ev_iret dX0_tapeTaken_11 rfl rfl (hq hC)
def fX1_init (n : Nat) (ah : Nat) (K : jK) (ci : jI) (cj : jJ) (cr : jR) : Option (jT Unit) := if K.2.2 < 1000000 then jal (jfn 20) (jxb (fJ2_init n K.2.2 (nI 4) (jnK K 20 0) ci cj cr) (fun r4 K5 ci6 cj7 cr8 => if K5.1 ah = 1 ∧ ah < K5.2.2 then if K5.2.2 < 1000000 then jal (jfn 20) (jxb (fJ2_init n K5.2.2 (nI 4) (jnK K5 20 0) ci6 cj7 (ju cr8 ah 2 (some K.2.2))) (fun r16 K17 ci18 cj19 cr20 => if K17.1 ah = 1 ∧ ah < K17.2.2 then if K17.2.2 < 1000000 then jal (jfn 20) (jxb (fJ2_init n K17.2.2 (nI 2) (jnK K17 20 0) ci18 cj19 (ju cr20 ah 3 (some K5.2.2))) (fun r28 K29 ci30 cj31 cr32 => if K29.1 ah = 1 ∧ ah < K29.2.2 then some (some (), K29, ci30, cj31, (ju cr32 ah 4 (some K17.2.2)), 0, 0) else none)) else none else none)) else none else none)) else none
theorem metX1_init {g : jG} {d : Nat} {Qr : jQ} {Qx : jX} (n : Nat) (ah : Nat) (K : jK) (ci : jI) (cj : jJ) (cr : jR) {q} (hC : jCW K cr) (h : fX1_init n ah K ci cj cr = some q) (hq : jqx wV q Qr Qx) : EvM g (d + 4) mX1_init [.ref ah] K ci cj cr q.2.2.2.2.2.1 q.2.2.2.2.2.2 Qr Qx := by
  unfold fX1_init at h
  show Ev g (d + 4) mX1_init 0 [.ref ah] [] K ci cj cr q.2.2.2.2.2.1 q.2.2.2.2.2.2 Qr Qx
  refine ev_aload_n dX1_init_0 rfl ?_
  refine ev_objInit dX1_init_1 q211 (Nat.le_of_ble_eq_true rfl) ?_
  refine ev_aload_n dX1_init_4 rfl ?_
  by_cases z1 : K.2.2 < 1000000
  rotate_left
  · rw [if_neg z1] at h; cases h
  rw [if_pos z1] at h
  refine jx_new (fun c sl z => ev_new dX1_init_5 nX1_9 z1 z) h hq (fun w2 h hq => ?_)
  have hC3 := jCW.new hC 20 0
  show Ev g _ _ 8 _ [.ref K.2.2, .ref ah] (jnK K 20 0) ci cj cr _ _ Qr Qx
  refine ev_dup dX1_init_8 rfl ?_
  refine ev_iconst (v := (nI 4)) dX1_init_9 jc4 ?_
  refine jx_inv (wf := wV) (fun c1 s1 c sl z => ev_invI1 dX1_init_10 iX1_11 (Nat.le_of_ble_eq_true rfl) (Nat.le_of_ble_eq_true rfl) rfl z) h hq (fun q Qr' z zq => metJ2_init n _ _ _ _ _ _ hC3 z zq) (fun r4 K5 ci6 cj7 cr8 w9 h hC10 hq => ?_)
  show Ev g _ _ 13 _ [.ref K.2.2, .ref ah] K5 ci6 cj7 cr8 _ _ Qr Qx
  by_cases z11 : K5.1 ah = 1 ∧ ah < K5.2.2
  rotate_left
  · rw [if_neg z11] at h; cases h
  rw [if_pos z11] at h
  refine ev_putR dX1_init_13 pX1_14_1 z11.1 z11.2 rfl ?_
  have hC12 := jCW.upd hC10 (k := 2) (v := (some K.2.2)) z11.1 (by decide)
  refine ev_aload_n dX1_init_16 rfl ?_
  by_cases z13 : K5.2.2 < 1000000
  rotate_left
  · rw [if_neg z13] at h; cases h
  rw [if_pos z13] at h
  refine jx_new (fun c sl z => ev_new dX1_init_17 nX1_9 z13 z) h hq (fun w14 h hq => ?_)
  have hC15 := jCW.new hC12 20 0
  show Ev g _ _ 20 _ [.ref K5.2.2, .ref ah] (jnK K5 20 0) ci6 cj7 (ju cr8 ah 2 (some K.2.2)) _ _ Qr Qx
  refine ev_dup dX1_init_20 rfl ?_
  refine ev_iconst (v := (nI 4)) dX1_init_21 jc4 ?_
  refine jx_inv (wf := wV) (fun c1 s1 c sl z => ev_invI1 dX1_init_22 iX1_11 (Nat.le_of_ble_eq_true rfl) (Nat.le_of_ble_eq_true rfl) rfl z) h hq (fun q Qr' z zq => metJ2_init n _ _ _ _ _ _ hC15 z zq) (fun r16 K17 ci18 cj19 cr20 w21 h hC22 hq => ?_)
  show Ev g _ _ 25 _ [.ref K5.2.2, .ref ah] K17 ci18 cj19 cr20 _ _ Qr Qx
  by_cases z23 : K17.1 ah = 1 ∧ ah < K17.2.2
  rotate_left
  · rw [if_neg z23] at h; cases h
  rw [if_pos z23] at h
  refine ev_putR dX1_init_25 pX1_20_1 z23.1 z23.2 rfl ?_
  have hC24 := jCW.upd hC22 (k := 3) (v := (some K5.2.2)) z23.1 (by decide)
  refine ev_aload_n dX1_init_28 rfl ?_
  by_cases z25 : K17.2.2 < 1000000
  rotate_left
  · rw [if_neg z25] at h; cases h
  rw [if_pos z25] at h
  refine jx_new (fun c sl z => ev_new dX1_init_29 nX1_9 z25 z) h hq (fun w26 h hq => ?_)
  have hC27 := jCW.new hC24 20 0
  show Ev g _ _ 32 _ [.ref K17.2.2, .ref ah] (jnK K17 20 0) ci18 cj19 (ju cr20 ah 3 (some K5.2.2)) _ _ Qr Qx
  refine ev_dup dX1_init_32 rfl ?_
  refine ev_iconst (v := (nI 2)) dX1_init_33 jc2 ?_
  refine jx_inv (wf := wV) (fun c1 s1 c sl z => ev_invI1 dX1_init_34 iX1_11 (Nat.le_of_ble_eq_true rfl) (Nat.le_of_ble_eq_true rfl) rfl z) h hq (fun q Qr' z zq => metJ2_init n _ _ _ _ _ _ hC27 z zq) (fun r28 K29 ci30 cj31 cr32 w33 h hC34 hq => ?_)
  show Ev g _ _ 37 _ [.ref K17.2.2, .ref ah] K29 ci30 cj31 cr32 _ _ Qr Qx
  by_cases z35 : K29.1 ah = 1 ∧ ah < K29.2.2
  rotate_left
  · rw [if_neg z35] at h; cases h
  rw [if_pos z35] at h
  refine ev_putR dX1_init_37 pX1_23_1 z35.1 z35.2 rfl ?_
  have hC36 := jCW.upd hC34 (k := 4) (v := (some K17.2.2)) z35.1 (by decide)
  cases h
  exact ev_ret dX1_init_40 rfl (hq hC36)
def fX2_byteAt_29 (n : Nat) (t0 : Int32) (K : jK) (ci : jI) (cj : jJ) (cr : jR) : Option (jTp Int32) := some (t0, ci, cj, cr)
theorem wX2_byteAt_29 {g : jG} {d : Nat} {c sl : Nat} {Qr : jQ} {Qx : jX} (n : Nat) (t0 : Int32) (K : jK) (ci : jI) (cj : jJ) (cr : jR) {q} (hC : jCW K cr) (h : fX2_byteAt_29 n  t0 K ci cj cr = some q) (hq : jqp wI K q Qr) : Ev g (d + 1) mX2_byteAt 29 [jU, jU] [.int t0] K ci cj cr c sl Qr Qx := by
  unfold fX2_byteAt_29 at h
  cases h
  exact ev_iret dX2_byteAt_29 rfl rfl (hq hC)
def fX2_byteAt_28 (n : Nat) (K : jK) (ci : jI) (cj : jJ) (cr : jR) : Option (jTp Int32) := fX2_byteAt_29 n  (-1) K ci cj cr
theorem wX2_byteAt_28 {g : jG} {d : Nat} {c sl : Nat} {Qr : jQ} {Qx : jX} (n : Nat) (K : jK) (ci : jI) (cj : jJ) (cr : jR) {q} (hC : jCW K cr) (h : fX2_byteAt_28 n   K ci cj cr = some q) (hq : jqp wI K q Qr) : Ev g (d + 1) mX2_byteAt 28 [jU, jU] [] K ci cj cr c sl Qr Qx := by
  unfold fX2_byteAt_28 at h
  refine ev_iconst (v := (-1)) dX2_byteAt_28 jcm1 ?_
  exact wX2_byteAt_29 n   _ _ _ _ _ hC h hq
def fX2_byteAt (n : Nat) (a0 : Int32) (K : jK) (ci : jI) (cj : jJ) (cr : jR) : Option (jTp Int32) := if a0 < 0 then fX2_byteAt_28 n   K ci cj cr else if (ci 9 1) ≤ a0 then fX2_byteAt_28 n   K ci cj cr else if jok a0 1600 then fX2_byteAt_29 n  ((ci 8 (a0).toNatClampNeg) &&& (nI 255)) K ci cj cr else none
theorem metX2_byteAt {g : jG} {d : Nat} {c sl : Nat} {Qr : jQ} {Qx : jX} (n : Nat) (a0 : Int32) (K : jK) (ci : jI) (cj : jJ) (cr : jR) {q} (hC : jCW K cr) (h : fX2_byteAt n a0 K ci cj cr = some q) (hq : jqp wI K q Qr) : EvM g (d + 1) mX2_byteAt [.ref 9, .int a0] K ci cj cr c sl Qr Qx := by
  unfold fX2_byteAt at h
  show Ev g (d + 1) mX2_byteAt 0 [.ref 9, .int a0] [] K ci cj cr c sl Qr Qx
  refine ev_iload_n dX2_byteAt_0 rfl ?_
  refine ev_if_lt 28 dX2_byteAt_1 rfl (fun z1 => ?_) (fun z1 => ?_)
  · rw [if_pos z1] at h
    exact ev_mask [false, false] (wX2_byteAt_28 n    _ _ _ _ hC h hq)
  · rw [if_neg z1] at h
    refine ev_iload_n dX2_byteAt_4 rfl ?_
    refine ev_aload_n dX2_byteAt_5 rfl ?_
    refine ev_getI dX2_byteAt_6 fX2_29_2 (ck9 hC) (Or.inl (cl9 hC)) rfl ?_
    refine ev_icmp_ge 28 dX2_byteAt_9 rfl (fun z2 => ?_) (fun z2 => ?_)
    · rw [if_pos z2] at h
      exact ev_mask [false, false] (wX2_byteAt_28 n    _ _ _ _ hC h hq)
    · rw [if_neg z2] at h
      refine ev_aload_n dX2_byteAt_12 rfl ?_
      refine ev_getR dX2_byteAt_13 fX2_3_2 (ck9 hC) (Or.inl (cl9 hC)) rfl (cq9_7 hC) ?_
      refine ev_getR dX2_byteAt_16 fX2_32_0 (ck0 hC) (Or.inl (cl0 hC)) rfl (cq0_1 hC) ?_
      refine ev_iload_n dX2_byteAt_19 rfl ?_
      by_cases z3 : jok a0 1600
      rotate_left
      · rw [if_neg z3] at h; cases h
      rw [if_pos z3] at h
      refine ev_baload dX2_byteAt_20 (ck8 hC) (Or.inl (cl8 hC)) (jok.ix z3 (cn8 hC)) ?_
      refine ev_sipush (v := (nI 255)) dX2_byteAt_21 js255 ?_
      refine ev_iand dX2_byteAt_24 ?_
      refine ev_goto 29 dX2_byteAt_25 rfl ?_
      exact ev_mask [false, false] (wX2_byteAt_29 n   _ _ _ _ _ hC h hq)
def fX2_here_26 (n : Nat) (rec0 : jK → jI → jJ → jR → Option (jTp Int32)) (K : jK) (ci : jI) (cj : jJ) (cr : jR) : Option (jTp Int32) := rec0  K (ju ci 9 2 ((ci 9 2) + (nI 1))) cj cr
theorem wX2_here_26 {g : jG} {d : Nat} {c sl : Nat} {Qr : jQ} {Qx : jX} (n : Nat) (rec0 : jK → jI → jJ → jR → Option (jTp Int32)) (hrec0 : (∀ (K : jK) (ci : jI) (cj : jJ) (cr : jR) {q}, jCW K cr → rec0  K ci cj cr = some q → jqp wI K q Qr → Ev g (d + 2) mX2_here 0 [.ref 9] [] K ci cj cr c sl Qr Qx)) (K : jK) (ci : jI) (cj : jJ) (cr : jR) {q} (hC : jCW K cr) (h : fX2_here_26 n rec0  K ci cj cr = some q) (hq : jqp wI K q Qr) : Ev g (d + 2) mX2_here 26 [.ref 9] [] K ci cj cr c sl Qr Qx := by
  unfold fX2_here_26 at h
  refine ev_aload_n dX2_here_26 rfl ?_
  refine ev_dup dX2_here_27 rfl ?_
  refine ev_getI dX2_here_28 fX2_36_2 (ck9 hC) (Or.inl (cl9 hC)) rfl ?_
  refine ev_iconst (v := (nI 1)) dX2_here_31 jc1 ?_
  refine ev_iadd dX2_here_32 ?_
  refine ev_putI dX2_here_33 (pX2_36_2 _) (ck9 hC) (cl9 hC) rfl rfl rfl ?_
  refine ev_goto 0 dX2_here_36 rfl ?_
  exact hrec0  _ _ _ _ hC h hq
def fX2_here_0 (n : Nat) : Nat → jK → jI → jJ → jR → Option (jTp Int32)
  | 0, _, _, _, _ => none
  | k + 1, K, ci, cj, cr => jpb (fX2_byteAt n (ci 9 2) K ci cj cr) (fun r1 ci2 cj3 cr4 => if r1 = (nI 32) then fX2_here_26 n (fX2_here_0 n  k)  K ci2 cj3 cr4 else jpb (fX2_byteAt n (ci2 9 2) K ci2 cj3 cr4) (fun r8 ci9 cj10 cr11 => if r8 = (nI 10) then fX2_here_26 n (fX2_here_0 n  k)  K ci9 cj10 cr11 else jpb (fX2_byteAt n (ci9 9 2) K ci9 cj10 cr11) (fun r15 ci16 cj17 cr18 => some (r15, ci16, cj17, cr18))))
theorem wX2_here_0 {g : jG} {d : Nat} {c sl : Nat} {Qr : jQ} {Qx : jX} (n : Nat) : ∀ (k : Nat) (K : jK) (ci : jI) (cj : jJ) (cr : jR) {q}, jCW K cr → fX2_here_0 n  k  K ci cj cr = some q → jqp wI K q Qr → Ev g (d + 2) mX2_here 0 [.ref 9] [] K ci cj cr c sl Qr Qx := by
  intro k
  induction k with
  | zero =>
    intro  K ci cj cr q hC h hq
    rw [fX2_here_0.eq_1] at h; cases h
  | succ k ih =>
    intro  K ci cj cr q hC h hq
    rw [fX2_here_0.eq_2] at h
    refine ev_aload_n dX2_here_0 rfl ?_
    refine ev_aload_n dX2_here_1 rfl ?_
    refine ev_getI dX2_here_2 fX2_36_2 (ck9 hC) (Or.inl (cl9 hC)) rfl ?_
    obtain ⟨r1, ci2, cj3, cr4, z5, h⟩ := jpb_inv h
    refine ev_zV1 dX2_here_5 vX2_39_2 (ck9 hC) (Or.inl (cl9 hC)) (Nat.le_of_ble_eq_true rfl) (Nat.le_of_ble_eq_true rfl) rfl (metX2_byteAt n _ _ _ _ _ hC z5 (fun hC6 => ?_))
    show Ev g _ _ 8 _ [.int r1] K ci2 cj3 cr4 _ _ Qr Qx
    refine ev_bipush (v := (nI 32)) dX2_here_8 jb32 ?_
    refine ev_icmp_eq 26 dX2_here_10 rfl (fun z7 => ?_) (fun z7 => ?_)
    · rw [if_pos z7] at h
      exact wX2_here_26 n _ (ih)  _ _ _ _ hC6 h hq
    · rw [if_neg z7] at h
      refine ev_aload_n dX2_here_13 rfl ?_
      refine ev_aload_n dX2_here_14 rfl ?_
      refine ev_getI dX2_here_15 fX2_36_2 (ck9 hC6) (Or.inl (cl9 hC6)) rfl ?_
      obtain ⟨r8, ci9, cj10, cr11, z12, h⟩ := jpb_inv h
      refine ev_zV1 dX2_here_18 vX2_39_2 (ck9 hC6) (Or.inl (cl9 hC6)) (Nat.le_of_ble_eq_true rfl) (Nat.le_of_ble_eq_true rfl) rfl (metX2_byteAt n _ _ _ _ _ hC6 z12 (fun hC13 => ?_))
      show Ev g _ _ 21 _ [.int r8] K ci9 cj10 cr11 _ _ Qr Qx
      refine ev_bipush (v := (nI 10)) dX2_here_21 jb10 ?_
      refine ev_icmp_ne 39 dX2_here_23 rfl (fun z14 => ?_) (fun z14 => ?_)
      · rw [if_neg z14] at h
        refine ev_aload_n dX2_here_39 rfl ?_
        refine ev_aload_n dX2_here_40 rfl ?_
        refine ev_getI dX2_here_41 fX2_36_2 (ck9 hC13) (Or.inl (cl9 hC13)) rfl ?_
        obtain ⟨r15, ci16, cj17, cr18, z19, h⟩ := jpb_inv h
        refine ev_zV1 dX2_here_44 vX2_39_2 (ck9 hC13) (Or.inl (cl9 hC13)) (Nat.le_of_ble_eq_true rfl) (Nat.le_of_ble_eq_true rfl) rfl (metX2_byteAt n _ _ _ _ _ hC13 z19 (fun hC20 => ?_))
        show Ev g _ _ 47 _ [.int r15] K ci16 cj17 cr18 _ _ Qr Qx
        cases h
        exact ev_iret dX2_here_47 rfl rfl (hq hC20)
      · rw [if_pos z14] at h
        exact wX2_here_26 n _ (ih)  _ _ _ _ hC13 h hq
def fX2_here (n : Nat) (K : jK) (ci : jI) (cj : jJ) (cr : jR) : Option (jTp Int32) := fX2_here_0 n  n  K ci cj cr
theorem metX2_here {g : jG} {d : Nat} {c sl : Nat} {Qr : jQ} {Qx : jX} (n : Nat) (K : jK) (ci : jI) (cj : jJ) (cr : jR) {q} (hC : jCW K cr) (h : fX2_here n  K ci cj cr = some q) (hq : jqp wI K q Qr) : EvM g (d + 2) mX2_here [.ref 9] K ci cj cr c sl Qr Qx := by
  unfold fX2_here at h
  show Ev g (d + 2) mX2_here 0 [.ref 9] [] K ci cj cr c sl Qr Qx
  exact wX2_here_0 n   n  _ _ _ _ hC h hq
def fX0_is_15 (n : Nat) (t0 : Int32) (K : jK) (ci : jI) (cj : jJ) (cr : jR) : Option (jTp Int32) := if t0 = 0 ∨ t0 = 1 then some (t0, ci, cj, cr) else none
theorem wX0_is_15 {g : jG} {d : Nat} {c sl : Nat} {Qr : jQ} {Qx : jX} (n : Nat) (t0 : Int32) (K : jK) (ci : jI) (cj : jJ) (cr : jR) {q} (hC : jCW K cr) (h : fX0_is_15 n  t0 K ci cj cr = some q) (hq : jqp wI K q Qr) : Ev g (d + 1) mX0_is 15 [jU, jU, jU] [.int t0] K ci cj cr c sl Qr Qx := by
  unfold fX0_is_15 at h
  by_cases z1 : t0 = 0 ∨ t0 = 1
  rotate_left
  · rw [if_neg z1] at h; cases h
  rw [if_pos z1] at h
  cases h
  exact ev_iret dX0_is_15 rfl (jbool z1) (hq hC)
def fX0_is_14 (n : Nat) (K : jK) (ci : jI) (cj : jJ) (cr : jR) : Option (jTp Int32) := fX0_is_15 n  (nI 0) K ci cj cr
theorem wX0_is_14 {g : jG} {d : Nat} {c sl : Nat} {Qr : jQ} {Qx : jX} (n : Nat) (K : jK) (ci : jI) (cj : jJ) (cr : jR) {q} (hC : jCW K cr) (h : fX0_is_14 n   K ci cj cr = some q) (hq : jqp wI K q Qr) : Ev g (d + 1) mX0_is 14 [jU, jU, jU] [] K ci cj cr c sl Qr Qx := by
  unfold fX0_is_14 at h
  refine ev_iconst (v := (nI 0)) dX0_is_14 jc0 ?_
  exact wX0_is_15 n   _ _ _ _ _ hC h hq
def fX0_is (n : Nat) (a0 : Int32) (a1 : Int32) (a2 : Int32) (K : jK) (ci : jI) (cj : jJ) (cr : jR) : Option (jTp Int32) := if a0 < a1 then fX0_is_14 n   K ci cj cr else if a2 < a0 then fX0_is_14 n   K ci cj cr else fX0_is_15 n  (nI 1) K ci cj cr
theorem metX0_is {g : jG} {d : Nat} {c sl : Nat} {Qr : jQ} {Qx : jX} (n : Nat) (a0 : Int32) (a1 : Int32) (a2 : Int32) (K : jK) (ci : jI) (cj : jJ) (cr : jR) {q} (hC : jCW K cr) (h : fX0_is n a0 a1 a2 K ci cj cr = some q) (hq : jqp wI K q Qr) : EvM g (d + 1) mX0_is [.int a0, .int a1, .int a2] K ci cj cr c sl Qr Qx := by
  unfold fX0_is at h
  show Ev g (d + 1) mX0_is 0 [.int a0, .int a1, .int a2] [] K ci cj cr c sl Qr Qx
  refine ev_iload_n dX0_is_0 rfl ?_
  refine ev_iload_n dX0_is_1 rfl ?_
  refine ev_icmp_lt 14 dX0_is_2 rfl (fun z1 => ?_) (fun z1 => ?_)
  · rw [if_pos z1] at h
    exact ev_mask [false, false, false] (wX0_is_14 n    _ _ _ _ hC h hq)
  · rw [if_neg z1] at h
    refine ev_iload_n dX0_is_5 rfl ?_
    refine ev_iload_n dX0_is_6 rfl ?_
    refine ev_icmp_gt 14 dX0_is_7 rfl (fun z2 => ?_) (fun z2 => ?_)
    · rw [if_pos z2] at h
      exact ev_mask [false, false, false] (wX0_is_14 n    _ _ _ _ hC h hq)
    · rw [if_neg z2] at h
      refine ev_iconst (v := (nI 1)) dX0_is_10 jc1 ?_
      refine ev_goto 15 dX0_is_11 rfl ?_
      exact ev_mask [false, false, false] (wX0_is_15 n   _ _ _ _ _ hC h hq)
def fX0_isDigit_17 (n : Nat) (t0 : Int32) (K : jK) (ci : jI) (cj : jJ) (cr : jR) : Option (jTp Int32) := if t0 = 0 ∨ t0 = 1 then some (t0, ci, cj, cr) else none
theorem wX0_isDigit_17 {g : jG} {d : Nat} {c sl : Nat} {Qr : jQ} {Qx : jX} (n : Nat) (t0 : Int32) (K : jK) (ci : jI) (cj : jJ) (cr : jR) {q} (hC : jCW K cr) (h : fX0_isDigit_17 n  t0 K ci cj cr = some q) (hq : jqp wI K q Qr) : Ev g (d + 1) mX0_isDigit 17 [jU] [.int t0] K ci cj cr c sl Qr Qx := by
  unfold fX0_isDigit_17 at h
  by_cases z1 : t0 = 0 ∨ t0 = 1
  rotate_left
  · rw [if_neg z1] at h; cases h
  rw [if_pos z1] at h
  cases h
  exact ev_iret dX0_isDigit_17 rfl (jbool z1) (hq hC)
def fX0_isDigit_16 (n : Nat) (K : jK) (ci : jI) (cj : jJ) (cr : jR) : Option (jTp Int32) := fX0_isDigit_17 n  (nI 0) K ci cj cr
theorem wX0_isDigit_16 {g : jG} {d : Nat} {c sl : Nat} {Qr : jQ} {Qx : jX} (n : Nat) (K : jK) (ci : jI) (cj : jJ) (cr : jR) {q} (hC : jCW K cr) (h : fX0_isDigit_16 n   K ci cj cr = some q) (hq : jqp wI K q Qr) : Ev g (d + 1) mX0_isDigit 16 [jU] [] K ci cj cr c sl Qr Qx := by
  unfold fX0_isDigit_16 at h
  refine ev_iconst (v := (nI 0)) dX0_isDigit_16 jc0 ?_
  exact wX0_isDigit_17 n   _ _ _ _ _ hC h hq
def fX0_isDigit (n : Nat) (a0 : Int32) (K : jK) (ci : jI) (cj : jJ) (cr : jR) : Option (jTp Int32) := if a0 < (nI 48) then fX0_isDigit_16 n   K ci cj cr else if (nI 57) < a0 then fX0_isDigit_16 n   K ci cj cr else fX0_isDigit_17 n  (nI 1) K ci cj cr
theorem metX0_isDigit {g : jG} {d : Nat} {c sl : Nat} {Qr : jQ} {Qx : jX} (n : Nat) (a0 : Int32) (K : jK) (ci : jI) (cj : jJ) (cr : jR) {q} (hC : jCW K cr) (h : fX0_isDigit n a0 K ci cj cr = some q) (hq : jqp wI K q Qr) : EvM g (d + 1) mX0_isDigit [.int a0] K ci cj cr c sl Qr Qx := by
  unfold fX0_isDigit at h
  show Ev g (d + 1) mX0_isDigit 0 [.int a0] [] K ci cj cr c sl Qr Qx
  refine ev_iload_n dX0_isDigit_0 rfl ?_
  refine ev_bipush (v := (nI 48)) dX0_isDigit_1 jb48 ?_
  refine ev_icmp_lt 16 dX0_isDigit_3 rfl (fun z1 => ?_) (fun z1 => ?_)
  · rw [if_pos z1] at h
    exact ev_mask [false] (wX0_isDigit_16 n    _ _ _ _ hC h hq)
  · rw [if_neg z1] at h
    refine ev_iload_n dX0_isDigit_6 rfl ?_
    refine ev_bipush (v := (nI 57)) dX0_isDigit_7 jb57 ?_
    refine ev_icmp_gt 16 dX0_isDigit_9 rfl (fun z2 => ?_) (fun z2 => ?_)
    · rw [if_pos z2] at h
      exact ev_mask [false] (wX0_isDigit_16 n    _ _ _ _ hC h hq)
    · rw [if_neg z2] at h
      refine ev_iconst (v := (nI 1)) dX0_isDigit_12 jc1 ?_
      refine ev_goto 17 dX0_isDigit_13 rfl ?_
      exact ev_mask [false] (wX0_isDigit_17 n   _ _ _ _ _ hC h hq)
def fX0_isLetter_17 (n : Nat) (t0 : Int32) (K : jK) (ci : jI) (cj : jJ) (cr : jR) : Option (jTp Int32) := if t0 = 0 ∨ t0 = 1 then some (t0, ci, cj, cr) else none
theorem wX0_isLetter_17 {g : jG} {d : Nat} {c sl : Nat} {Qr : jQ} {Qx : jX} (n : Nat) (t0 : Int32) (K : jK) (ci : jI) (cj : jJ) (cr : jR) {q} (hC : jCW K cr) (h : fX0_isLetter_17 n  t0 K ci cj cr = some q) (hq : jqp wI K q Qr) : Ev g (d + 1) mX0_isLetter 17 [jU] [.int t0] K ci cj cr c sl Qr Qx := by
  unfold fX0_isLetter_17 at h
  by_cases z1 : t0 = 0 ∨ t0 = 1
  rotate_left
  · rw [if_neg z1] at h; cases h
  rw [if_pos z1] at h
  cases h
  exact ev_iret dX0_isLetter_17 rfl (jbool z1) (hq hC)
def fX0_isLetter_16 (n : Nat) (K : jK) (ci : jI) (cj : jJ) (cr : jR) : Option (jTp Int32) := fX0_isLetter_17 n  (nI 0) K ci cj cr
theorem wX0_isLetter_16 {g : jG} {d : Nat} {c sl : Nat} {Qr : jQ} {Qx : jX} (n : Nat) (K : jK) (ci : jI) (cj : jJ) (cr : jR) {q} (hC : jCW K cr) (h : fX0_isLetter_16 n   K ci cj cr = some q) (hq : jqp wI K q Qr) : Ev g (d + 1) mX0_isLetter 16 [jU] [] K ci cj cr c sl Qr Qx := by
  unfold fX0_isLetter_16 at h
  refine ev_iconst (v := (nI 0)) dX0_isLetter_16 jc0 ?_
  exact wX0_isLetter_17 n   _ _ _ _ _ hC h hq
def fX0_isLetter (n : Nat) (a0 : Int32) (K : jK) (ci : jI) (cj : jJ) (cr : jR) : Option (jTp Int32) := if a0 < (nI 97) then fX0_isLetter_16 n   K ci cj cr else if (nI 122) < a0 then fX0_isLetter_16 n   K ci cj cr else fX0_isLetter_17 n  (nI 1) K ci cj cr
theorem metX0_isLetter {g : jG} {d : Nat} {c sl : Nat} {Qr : jQ} {Qx : jX} (n : Nat) (a0 : Int32) (K : jK) (ci : jI) (cj : jJ) (cr : jR) {q} (hC : jCW K cr) (h : fX0_isLetter n a0 K ci cj cr = some q) (hq : jqp wI K q Qr) : EvM g (d + 1) mX0_isLetter [.int a0] K ci cj cr c sl Qr Qx := by
  unfold fX0_isLetter at h
  show Ev g (d + 1) mX0_isLetter 0 [.int a0] [] K ci cj cr c sl Qr Qx
  refine ev_iload_n dX0_isLetter_0 rfl ?_
  refine ev_bipush (v := (nI 97)) dX0_isLetter_1 jb97 ?_
  refine ev_icmp_lt 16 dX0_isLetter_3 rfl (fun z1 => ?_) (fun z1 => ?_)
  · rw [if_pos z1] at h
    exact ev_mask [false] (wX0_isLetter_16 n    _ _ _ _ hC h hq)
  · rw [if_neg z1] at h
    refine ev_iload_n dX0_isLetter_6 rfl ?_
    refine ev_bipush (v := (nI 122)) dX0_isLetter_7 jb122 ?_
    refine ev_icmp_gt 16 dX0_isLetter_9 rfl (fun z2 => ?_) (fun z2 => ?_)
    · rw [if_pos z2] at h
      exact ev_mask [false] (wX0_isLetter_16 n    _ _ _ _ hC h hq)
    · rw [if_neg z2] at h
      refine ev_iconst (v := (nI 1)) dX0_isLetter_12 jc1 ?_
      refine ev_goto 17 dX0_isLetter_13 rfl ?_
      exact ev_mask [false] (wX0_isLetter_17 n   _ _ _ _ _ hC h hq)
def fX2_wrong (n : Nat) (a0 : Int32) (a1 : Int32) (K : jK) (ci : jI) (cj : jJ) (cr : jR) : Option (jTp Nat) := some (10, (ju (ju ci 10 6 a0) 10 7 a1), cj, cr)
theorem metX2_wrong {g : jG} {d : Nat} {c sl : Nat} {Qr : jQ} {Qx : jX} (n : Nat) (a0 : Int32) (a1 : Int32) (K : jK) (ci : jI) (cj : jJ) (cr : jR) {q} (hC : jCW K cr) (h : fX2_wrong n a0 a1 K ci cj cr = some q) (hq : jqp wR K q Qr) : EvM g (d + 1) mX2_wrong [.ref 9, .int a0, .int a1] K ci cj cr c sl Qr Qx := by
  unfold fX2_wrong at h
  show Ev g (d + 1) mX2_wrong 0 [.ref 9, .int a0, .int a1] [] K ci cj cr c sl Qr Qx
  refine ev_aload_n dX2_wrong_0 rfl ?_
  refine ev_getR dX2_wrong_1 fX2_18_2 (ck9 hC) (Or.inl (cl9 hC)) rfl (cq9_0 hC) ?_
  refine ev_iload_n dX2_wrong_4 rfl ?_
  refine ev_putI dX2_wrong_5 (pX2_22_3 _) (ck10 hC) (cl10 hC) rfl rfl rfl ?_
  refine ev_aload_n dX2_wrong_8 rfl ?_
  refine ev_getR dX2_wrong_9 fX2_18_2 (ck9 hC) (Or.inl (cl9 hC)) rfl (cq9_0 hC) ?_
  refine ev_iload_n dX2_wrong_12 rfl ?_
  refine ev_putI dX2_wrong_13 (pX2_26_3 _) (ck10 hC) (cl10 hC) rfl rfl rfl ?_
  refine ev_aload_n dX2_wrong_16 rfl ?_
  refine ev_getR dX2_wrong_17 fX2_18_2 (ck9 hC) (Or.inl (cl9 hC)) rfl (cq9_0 hC) ?_
  cases h
  exact ev_aret dX2_wrong_20 rfl rfl (hq hC)
def fX2_parted_32 (n : Nat) (K : jK) (ci : jI) (cj : jJ) (cr : jR) : Option (jT Unit) := jpb (fX2_wrong n (nI 1) (ci 9 2) K ci cj cr) (fun r1 ci2 cj3 cr4 => if r1 = 10 then some (none, K, ci2, cj3, cr4, 0, 0) else none)
theorem wX2_parted_32 {g : jG} {d : Nat} {Qr : jQ} {Qx : jX} (n : Nat) (K : jK) (ci : jI) (cj : jJ) (cr : jR) {q} (hC : jCW K cr) (h : fX2_parted_32 n   K ci cj cr = some q) (hq : jqx wV q Qr Qx) : Ev g (d + 2) mX2_parted 32 [.ref 9] [] K ci cj cr q.2.2.2.2.2.1 q.2.2.2.2.2.2 Qr Qx := by
  unfold fX2_parted_32 at h
  refine ev_aload_n dX2_parted_32 rfl ?_
  refine ev_iconst (v := (nI 1)) dX2_parted_33 jc1 ?_
  refine ev_aload_n dX2_parted_34 rfl ?_
  refine ev_getI dX2_parted_35 fX2_36_2 (ck9 hC) (Or.inl (cl9 hC)) rfl ?_
  obtain ⟨r1, ci2, cj3, cr4, z5, h⟩ := jpb_inv h
  refine ev_zV2 dX2_parted_38 vX2_47_2 (ck9 hC) (Or.inl (cl9 hC)) (Nat.le_of_ble_eq_true rfl) (Nat.le_of_ble_eq_true rfl) rfl (metX2_wrong n _ _ _ _ _ _ hC z5 (fun hC6 => ?_))
  show Ev g _ _ 41 _ [.ref r1] K ci2 cj3 cr4 _ _ Qr Qx
  by_cases z7 : r1 = 10
  rotate_left
  · rw [if_neg z7] at h; cases h
  rw [if_pos z7] at h
  subst z7
  cases h
  exact ev_athrow dX2_parted_41 (cl10 hC6) (ck10 hC6) rfl (hq hC6)
def fX2_parted (n : Nat) (K : jK) (ci : jI) (cj : jJ) (cr : jR) : Option (jT Unit) := jpb (fX2_byteAt n ((ci 9 2) - (nI 1)) K ci cj cr) (fun r1 ci2 cj3 cr4 => jpb (fX0_isLetter n r1 K ci2 cj3 cr4) (fun r7 ci8 cj9 cr10 => if r7 = 0 then jpb (fX2_byteAt n ((ci8 9 2) - (nI 1)) K ci8 cj9 cr10) (fun r14 ci15 cj16 cr17 => jpb (fX0_isDigit n r14 K ci15 cj16 cr17) (fun r20 ci21 cj22 cr23 => if r20 = 0 then some (some (), K, ci21, cj22, cr23, 0, 0) else fX2_parted_32 n   K ci21 cj22 cr23)) else fX2_parted_32 n   K ci8 cj9 cr10))
theorem metX2_parted {g : jG} {d : Nat} {Qr : jQ} {Qx : jX} (n : Nat) (K : jK) (ci : jI) (cj : jJ) (cr : jR) {q} (hC : jCW K cr) (h : fX2_parted n  K ci cj cr = some q) (hq : jqx wV q Qr Qx) : EvM g (d + 2) mX2_parted [.ref 9] K ci cj cr q.2.2.2.2.2.1 q.2.2.2.2.2.2 Qr Qx := by
  unfold fX2_parted at h
  show Ev g (d + 2) mX2_parted 0 [.ref 9] [] K ci cj cr q.2.2.2.2.2.1 q.2.2.2.2.2.2 Qr Qx
  refine ev_aload_n dX2_parted_0 rfl ?_
  refine ev_aload_n dX2_parted_1 rfl ?_
  refine ev_getI dX2_parted_2 fX2_36_2 (ck9 hC) (Or.inl (cl9 hC)) rfl ?_
  refine ev_iconst (v := (nI 1)) dX2_parted_5 jc1 ?_
  refine ev_isub dX2_parted_6 ?_
  obtain ⟨r1, ci2, cj3, cr4, z5, h⟩ := jpb_inv h
  refine ev_zV1 dX2_parted_7 vX2_39_2 (ck9 hC) (Or.inl (cl9 hC)) (Nat.le_of_ble_eq_true rfl) (Nat.le_of_ble_eq_true rfl) rfl (metX2_byteAt n _ _ _ _ _ hC z5 (fun hC6 => ?_))
  show Ev g _ _ 10 _ [.int r1] K ci2 cj3 cr4 _ _ Qr Qx
  obtain ⟨r7, ci8, cj9, cr10, z11, h⟩ := jpb_inv h
  refine ev_zS1 dX2_parted_10 sX2_51 (Nat.le_of_ble_eq_true rfl) (Nat.le_of_ble_eq_true rfl) rfl (metX0_isLetter n _ _ _ _ _ hC6 z11 (fun hC12 => ?_))
  show Ev g _ _ 13 _ [.int r7] K ci8 cj9 cr10 _ _ Qr Qx
  refine ev_if_ne 32 dX2_parted_13 rfl (fun z13 => ?_) (fun z13 => ?_)
  · rw [if_neg z13] at h
    exact wX2_parted_32 n    _ _ _ _ hC12 h hq
  · rw [if_pos z13] at h
    refine ev_aload_n dX2_parted_16 rfl ?_
    refine ev_aload_n dX2_parted_17 rfl ?_
    refine ev_getI dX2_parted_18 fX2_36_2 (ck9 hC12) (Or.inl (cl9 hC12)) rfl ?_
    refine ev_iconst (v := (nI 1)) dX2_parted_21 jc1 ?_
    refine ev_isub dX2_parted_22 ?_
    obtain ⟨r14, ci15, cj16, cr17, z18, h⟩ := jpb_inv h
    refine ev_zV1 dX2_parted_23 vX2_39_2 (ck9 hC12) (Or.inl (cl9 hC12)) (Nat.le_of_ble_eq_true rfl) (Nat.le_of_ble_eq_true rfl) rfl (metX2_byteAt n _ _ _ _ _ hC12 z18 (fun hC19 => ?_))
    show Ev g _ _ 26 _ [.int r14] K ci15 cj16 cr17 _ _ Qr Qx
    obtain ⟨r20, ci21, cj22, cr23, z24, h⟩ := jpb_inv h
    refine ev_zS1 dX2_parted_26 sX2_55 (Nat.le_of_ble_eq_true rfl) (Nat.le_of_ble_eq_true rfl) rfl (metX0_isDigit n _ _ _ _ _ hC19 z24 (fun hC25 => ?_))
    show Ev g _ _ 29 _ [.int r20] K ci21 cj22 cr23 _ _ Qr Qx
    refine ev_if_eq 42 dX2_parted_29 rfl (fun z26 => ?_) (fun z26 => ?_)
    · rw [if_pos z26] at h
      cases h
      exact ev_ret dX2_parted_42 rfl (hq hC25)
    · rw [if_neg z26] at h
      exact wX2_parted_32 n    _ _ _ _ hC25 h hq
def fX2_number_2_34 (n : Nat) : Nat → Int32 → Int32 → Int32 → jK → jI → jJ → jR → Option (jT Int32)
  | 0, _, _, _, _, _, _, _ => none
  | k + 1, l1, l2, l3, K, ci, cj, cr => jpb (fX2_byteAt n (ci 9 2) K ci cj cr) (fun r1 ci2 cj3 cr4 => jpb (fX0_isDigit n r1 K ci2 cj3 cr4) (fun r7 ci8 cj9 cr10 => if r7 = 0 then jpb (fX0_is n l3 l1 l2 K ci8 cj9 cr10) (fun r14 ci15 cj16 cr17 => if r14 = 0 then jpb (fX2_wrong n (nI 2) (ci15 9 3) K ci15 cj16 cr17) (fun r21 ci22 cj23 cr24 => if r21 = 10 then some (none, K, ci22, cj23, cr24, 0, 0) else none) else some (some l3, K, ci15, cj16, cr17, 0, 0)) else if ((ci8 9 2) - (ci8 9 3)) = (nI 4) then jpb (fX2_wrong n (nI 1) (ci8 9 2) K ci8 cj9 cr10) (fun r35 ci36 cj37 cr38 => if r35 = 10 then some (none, K, ci36, cj37, cr38, 0, 0) else none) else jpb (fX2_byteAt n (ci8 9 2) K ci8 cj9 cr10) (fun r29 ci30 cj31 cr32 => fX2_number_2_34 n  k l1 l2 ((((nI 10) * l3) + r29) - (nI 48)) K (ju ci30 9 2 ((ci30 9 2) + (nI 1))) cj31 cr32)))
theorem wX2_number_2_34 {g : jG} {d : Nat} {Qr : jQ} {Qx : jX} (n : Nat) : ∀ (k : Nat) (l1 : Int32) (l2 : Int32) (l3 : Int32) (K : jK) (ci : jI) (cj : jJ) (cr : jR) {q}, jCW K cr → fX2_number_2_34 n  k l1 l2 l3 K ci cj cr = some q → jqx wI q Qr Qx → Ev g (d + 3) mX2_number_2 34 [.ref 9, .int l1, .int l2, .int l3] [] K ci cj cr q.2.2.2.2.2.1 q.2.2.2.2.2.2 Qr Qx := by
  intro k
  induction k with
  | zero =>
    intro l1 l2 l3 K ci cj cr q hC h hq
    rw [fX2_number_2_34.eq_1] at h; cases h
  | succ k ih =>
    intro l1 l2 l3 K ci cj cr q hC h hq
    rw [fX2_number_2_34.eq_2] at h
    refine ev_aload_n dX2_number_2_34 rfl ?_
    refine ev_aload_n dX2_number_2_35 rfl ?_
    refine ev_getI dX2_number_2_36 fX2_36_2 (ck9 hC) (Or.inl (cl9 hC)) rfl ?_
    obtain ⟨r1, ci2, cj3, cr4, z5, h⟩ := jpb_inv h
    refine ev_zV1 dX2_number_2_39 vX2_39_2 (ck9 hC) (Or.inl (cl9 hC)) (Nat.le_of_ble_eq_true rfl) (Nat.le_of_ble_eq_true rfl) rfl (metX2_byteAt n _ _ _ _ _ hC z5 (fun hC6 => ?_))
    show Ev g _ _ 42 _ [.int r1] K ci2 cj3 cr4 _ _ Qr Qx
    obtain ⟨r7, ci8, cj9, cr10, z11, h⟩ := jpb_inv h
    refine ev_zS1 dX2_number_2_42 sX2_55 (Nat.le_of_ble_eq_true rfl) (Nat.le_of_ble_eq_true rfl) rfl (metX0_isDigit n _ _ _ _ _ hC6 z11 (fun hC12 => ?_))
    show Ev g _ _ 45 _ [.int r7] K ci8 cj9 cr10 _ _ Qr Qx
    refine ev_if_eq 101 dX2_number_2_45 rfl (fun z13 => ?_) (fun z13 => ?_)
    · rw [if_pos z13] at h
      refine ev_iload_n dX2_number_2_101 rfl ?_
      refine ev_iload_n dX2_number_2_102 rfl ?_
      refine ev_iload_n dX2_number_2_103 rfl ?_
      obtain ⟨r14, ci15, cj16, cr17, z18, h⟩ := jpb_inv h
      refine ev_zS3 dX2_number_2_104 sX2_89 (Nat.le_of_ble_eq_true rfl) (Nat.le_of_ble_eq_true rfl) rfl (metX0_is n _ _ _ _ _ _ _ hC12 z18 (fun hC19 => ?_))
      show Ev g _ _ 107 _ [.int r14] K ci15 cj16 cr17 _ _ Qr Qx
      refine ev_if_ne 120 dX2_number_2_107 rfl (fun z20 => ?_) (fun z20 => ?_)
      · rw [if_neg z20] at h
        refine ev_iload_n dX2_number_2_120 rfl ?_
        cases h
        exact ev_iret dX2_number_2_121 rfl rfl (hq hC19)
      · rw [if_pos z20] at h
        refine ev_aload_n dX2_number_2_110 rfl ?_
        refine ev_iconst (v := (nI 2)) dX2_number_2_111 jc2 ?_
        refine ev_aload_n dX2_number_2_112 rfl ?_
        refine ev_getI dX2_number_2_113 fX2_61_2 (ck9 hC19) (Or.inl (cl9 hC19)) rfl ?_
        obtain ⟨r21, ci22, cj23, cr24, z25, h⟩ := jpb_inv h
        refine ev_zV2 dX2_number_2_116 vX2_47_2 (ck9 hC19) (Or.inl (cl9 hC19)) (Nat.le_of_ble_eq_true rfl) (Nat.le_of_ble_eq_true rfl) rfl (metX2_wrong n _ _ _ _ _ _ hC19 z25 (fun hC26 => ?_))
        show Ev g _ _ 119 _ [.ref r21] K ci22 cj23 cr24 _ _ Qr Qx
        by_cases z27 : r21 = 10
        rotate_left
        · rw [if_neg z27] at h; cases h
        rw [if_pos z27] at h
        subst z27
        cases h
        exact ev_athrow dX2_number_2_119 (cl10 hC26) (ck10 hC26) rfl (hq hC26)
    · rw [if_neg z13] at h
      refine ev_aload_n dX2_number_2_48 rfl ?_
      refine ev_getI dX2_number_2_49 fX2_36_2 (ck9 hC12) (Or.inl (cl9 hC12)) rfl ?_
      refine ev_aload_n dX2_number_2_52 rfl ?_
      refine ev_getI dX2_number_2_53 fX2_61_2 (ck9 hC12) (Or.inl (cl9 hC12)) rfl ?_
      refine ev_isub dX2_number_2_56 ?_
      refine ev_iconst (v := (nI 4)) dX2_number_2_57 jc4 ?_
      refine ev_icmp_ne 71 dX2_number_2_58 rfl (fun z28 => ?_) (fun z28 => ?_)
      · rw [if_neg z28] at h
        refine ev_bipush (v := (nI 10)) dX2_number_2_71 jb10 ?_
        refine ev_iload_n dX2_number_2_73 rfl ?_
        refine ev_imul dX2_number_2_74 ?_
        refine ev_aload_n dX2_number_2_75 rfl ?_
        refine ev_aload_n dX2_number_2_76 rfl ?_
        refine ev_getI dX2_number_2_77 fX2_36_2 (ck9 hC12) (Or.inl (cl9 hC12)) rfl ?_
        obtain ⟨r29, ci30, cj31, cr32, z33, h⟩ := jpb_inv h
        refine ev_zV1 dX2_number_2_80 vX2_39_2 (ck9 hC12) (Or.inl (cl9 hC12)) (Nat.le_of_ble_eq_true rfl) (Nat.le_of_ble_eq_true rfl) rfl (metX2_byteAt n _ _ _ _ _ hC12 z33 (fun hC34 => ?_))
        show Ev g _ _ 83 _ [.int r29, .int ((nI 10) * l3)] K ci30 cj31 cr32 _ _ Qr Qx
        refine ev_iadd dX2_number_2_83 ?_
        refine ev_bipush (v := (nI 48)) dX2_number_2_84 jb48 ?_
        refine ev_isub dX2_number_2_86 ?_
        refine ev_istore_n (L' := [_, _, _, _]) dX2_number_2_87 (by decide) rfl ?_
        refine ev_aload_n dX2_number_2_88 rfl ?_
        refine ev_dup dX2_number_2_89 rfl ?_
        refine ev_getI dX2_number_2_90 fX2_36_2 (ck9 hC34) (Or.inl (cl9 hC34)) rfl ?_
        refine ev_iconst (v := (nI 1)) dX2_number_2_93 jc1 ?_
        refine ev_iadd dX2_number_2_94 ?_
        refine ev_putI dX2_number_2_95 (pX2_36_2 _) (ck9 hC34) (cl9 hC34) rfl rfl rfl ?_
        refine ev_goto 34 dX2_number_2_98 rfl ?_
        exact ih _ _ _ _ _ _ _ hC34 h hq
      · rw [if_pos z28] at h
        refine ev_aload_n dX2_number_2_61 rfl ?_
        refine ev_iconst (v := (nI 1)) dX2_number_2_62 jc1 ?_
        refine ev_aload_n dX2_number_2_63 rfl ?_
        refine ev_getI dX2_number_2_64 fX2_36_2 (ck9 hC12) (Or.inl (cl9 hC12)) rfl ?_
        obtain ⟨r35, ci36, cj37, cr38, z39, h⟩ := jpb_inv h
        refine ev_zV2 dX2_number_2_67 vX2_47_2 (ck9 hC12) (Or.inl (cl9 hC12)) (Nat.le_of_ble_eq_true rfl) (Nat.le_of_ble_eq_true rfl) rfl (metX2_wrong n _ _ _ _ _ _ hC12 z39 (fun hC40 => ?_))
        show Ev g _ _ 70 _ [.ref r35] K ci36 cj37 cr38 _ _ Qr Qx
        by_cases z41 : r35 = 10
        rotate_left
        · rw [if_neg z41] at h; cases h
        rw [if_pos z41] at h
        subst z41
        cases h
        exact ev_athrow dX2_number_2_70 (cl10 hC40) (ck10 hC40) rfl (hq hC40)
def fX2_number_2 (n : Nat) (a0 : Int32) (a1 : Int32) (K : jK) (ci : jI) (cj : jJ) (cr : jR) : Option (jT Int32) := jpb (fX2_here n  K ci cj cr) (fun r1 ci2 cj3 cr4 => jpb (fX0_isDigit n r1 K ci2 cj3 cr4) (fun r7 ci8 cj9 cr10 => if r7 = 0 then jpb (fX2_wrong n (nI 1) (ci8 9 2) K ci8 cj9 cr10) (fun r21 ci22 cj23 cr24 => if r21 = 10 then some (none, K, ci22, cj23, cr24, 0, 0) else none) else jxb (fX2_parted n  K ci8 cj9 cr10) (fun r14 K15 ci16 cj17 cr18 => fX2_number_2_34 n  n a0 a1 (nI 0) K15 (ju ci16 9 3 (ci16 9 2)) cj17 cr18)))
theorem metX2_number_2 {g : jG} {d : Nat} {Qr : jQ} {Qx : jX} (n : Nat) (a0 : Int32) (a1 : Int32) (K : jK) (ci : jI) (cj : jJ) (cr : jR) {q} (hC : jCW K cr) (h : fX2_number_2 n a0 a1 K ci cj cr = some q) (hq : jqx wI q Qr Qx) : EvM g (d + 3) mX2_number_2 [.ref 9, .int a0, .int a1] K ci cj cr q.2.2.2.2.2.1 q.2.2.2.2.2.2 Qr Qx := by
  unfold fX2_number_2 at h
  show Ev g (d + 3) mX2_number_2 0 [.ref 9, .int a0, .int a1, jU] [] K ci cj cr q.2.2.2.2.2.1 q.2.2.2.2.2.2 Qr Qx
  refine ev_aload_n dX2_number_2_0 rfl ?_
  obtain ⟨r1, ci2, cj3, cr4, z5, h⟩ := jpb_inv h
  refine ev_zV0 dX2_number_2_1 vX2_43_2 (ck9 hC) (Or.inl (cl9 hC)) (Nat.le_of_ble_eq_true rfl) (Nat.le_of_ble_eq_true rfl) rfl (metX2_here n  _ _ _ _ hC z5 (fun hC6 => ?_))
  show Ev g _ _ 4 _ [.int r1] K ci2 cj3 cr4 _ _ Qr Qx
  obtain ⟨r7, ci8, cj9, cr10, z11, h⟩ := jpb_inv h
  refine ev_zS1 dX2_number_2_4 sX2_55 (Nat.le_of_ble_eq_true rfl) (Nat.le_of_ble_eq_true rfl) rfl (metX0_isDigit n _ _ _ _ _ hC6 z11 (fun hC12 => ?_))
  show Ev g _ _ 7 _ [.int r7] K ci8 cj9 cr10 _ _ Qr Qx
  refine ev_if_ne 20 dX2_number_2_7 rfl (fun z13 => ?_) (fun z13 => ?_)
  · rw [if_neg z13] at h
    refine ev_aload_n dX2_number_2_20 rfl ?_
    refine jx_inv (wf := wV) (fun c1 s1 c sl z => ev_invV0 dX2_number_2_21 vX2_58_2 (ck9 hC12) (Or.inl (cl9 hC12)) (Nat.le_of_ble_eq_true rfl) (Nat.le_of_ble_eq_true rfl) rfl z) h hq (fun q Qr' z zq => metX2_parted n  _ _ _ _ hC12 z zq) (fun r14 K15 ci16 cj17 cr18 w19 h hC20 hq => ?_)
    show Ev g _ _ 24 _ [] K15 ci16 cj17 cr18 _ _ Qr Qx
    refine ev_aload_n dX2_number_2_24 rfl ?_
    refine ev_aload_n dX2_number_2_25 rfl ?_
    refine ev_getI dX2_number_2_26 fX2_36_2 (ck9 hC20) (Or.inl (cl9 hC20)) rfl ?_
    refine ev_putI dX2_number_2_29 (pX2_61_2 _) (ck9 hC20) (cl9 hC20) rfl rfl rfl ?_
    refine ev_iconst (v := (nI 0)) dX2_number_2_32 jc0 ?_
    refine ev_istore_n (L' := [_, _, _, _]) dX2_number_2_33 (by decide) rfl ?_
    exact wX2_number_2_34 n   n _ _ _ _ _ _ _ hC20 h hq
  · rw [if_pos z13] at h
    refine ev_aload_n dX2_number_2_10 rfl ?_
    refine ev_iconst (v := (nI 1)) dX2_number_2_11 jc1 ?_
    refine ev_aload_n dX2_number_2_12 rfl ?_
    refine ev_getI dX2_number_2_13 fX2_36_2 (ck9 hC12) (Or.inl (cl9 hC12)) rfl ?_
    obtain ⟨r21, ci22, cj23, cr24, z25, h⟩ := jpb_inv h
    refine ev_zV2 dX2_number_2_16 vX2_47_2 (ck9 hC12) (Or.inl (cl9 hC12)) (Nat.le_of_ble_eq_true rfl) (Nat.le_of_ble_eq_true rfl) rfl (metX2_wrong n _ _ _ _ _ _ hC12 z25 (fun hC26 => ?_))
    show Ev g _ _ 19 _ [.ref r21] K ci22 cj23 cr24 _ _ Qr Qx
    by_cases z27 : r21 = 10
    rotate_left
    · rw [if_neg z27] at h; cases h
    rw [if_pos z27] at h
    subst z27
    cases h
    exact ev_athrow dX2_number_2_19 (cl10 hC26) (ck10 hC26) rfl (hq hC26)
def fX7_find_2 (n : Nat) : Nat → Nat → Nat → Int32 → jK → jI → jJ → jR → Option (jTp Int32)
  | 0, _, _, _, _, _, _, _ => none
  | k + 1, l0, l1, l2, K, ci, cj, cr => if K.1 l0 = 20 ∧ l0 < K.2.2 then jpb (fJ2_size n l0 K ci cj cr) (fun r2 ci3 cj4 cr5 => if r2 ≤ l2 then some ((-1), ci3, cj4, cr5) else jpb (fJ2_get n l0 l2 K ci3 cj4 cr5) (fun r9 ci10 cj11 cr12 => if (K.1 r9 = 7 ∨ K.1 r9 = 8 ∨ K.1 r9 = 9) ∧ r9 < K.2.2 then Option.bind (cr12 r9 0) (fun r16 => if K.1 r16 = 21 ∧ (r16 < K.2.2 ∨ 1000000 ≤ r16) then jpb (fJ6_equals n r16 l1 K ci10 cj11 cr12) (fun r19 ci20 cj21 cr22 => if r19 = 0 then fX7_find_2 n  k l0 l1 (l2 + (nI 1)) K ci20 cj21 cr22 else some (l2, ci20, cj21, cr22)) else none) else none)) else none
theorem wX7_find_2 {g : jG} {d : Nat} {c sl : Nat} {Qr : jQ} {Qx : jX} (n : Nat) : ∀ (k : Nat) (l0 : Nat) (l1 : Nat) (l2 : Int32) (K : jK) (ci : jI) (cj : jJ) (cr : jR) {q}, jCW K cr → fX7_find_2 n  k l0 l1 l2 K ci cj cr = some q → jqp wI K q Qr → Ev g (d + 4) mX7_find 2 [.ref l0, .ref l1, .int l2] [] K ci cj cr c sl Qr Qx := by
  intro k
  induction k with
  | zero =>
    intro l0 l1 l2 K ci cj cr q hC h hq
    rw [fX7_find_2.eq_1] at h; cases h
  | succ k ih =>
    intro l0 l1 l2 K ci cj cr q hC h hq
    rw [fX7_find_2.eq_2] at h
    refine ev_iload_n dX7_find_2 rfl ?_
    refine ev_aload_n dX7_find_3 rfl ?_
    by_cases z1 : K.1 l0 = 20 ∧ l0 < K.2.2
    rotate_left
    · rw [if_neg z1] at h; cases h
    rw [if_pos z1] at h
    obtain ⟨r2, ci3, cj4, cr5, z6, h⟩ := jpb_inv h
    refine ev_zF0 dX7_find_4 vX7_15_20 z1.1 (Or.inl z1.2) (Nat.le_of_ble_eq_true rfl) (Nat.le_of_ble_eq_true rfl) rfl (metJ2_size n _ _ _ _ _ hC z6 (fun hC7 => ?_))
    show Ev g _ _ 9 _ [.int r2, .int l2] K ci3 cj4 cr5 _ _ Qr Qx
    refine ev_icmp_ge 40 dX7_find_9 rfl (fun z8 => ?_) (fun z8 => ?_)
    · rw [if_pos z8] at h
      refine ev_iconst (v := (-1)) dX7_find_40 jcm1 ?_
      cases h
      exact ev_iret dX7_find_41 rfl rfl (hq hC7)
    · rw [if_neg z8] at h
      refine ev_aload_n dX7_find_12 rfl ?_
      refine ev_iload_n dX7_find_13 rfl ?_
      obtain ⟨r9, ci10, cj11, cr12, z13, h⟩ := jpb_inv h
      refine ev_zF1 dX7_find_14 vX7_21_20 z1.1 (Or.inl z1.2) (Nat.le_of_ble_eq_true rfl) (Nat.le_of_ble_eq_true rfl) rfl (metJ2_get n _ _ _ _ _ _ hC7 z13 (fun hC14 => ?_))
      show Ev g _ _ 19 _ [.ref r9] K ci10 cj11 cr12 _ _ Qr Qx
      by_cases z15 : (K.1 r9 = 7 ∨ K.1 r9 = 8 ∨ K.1 r9 = 9) ∧ r9 < K.2.2
      rotate_left
      · rw [if_neg z15] at h; cases h
      rw [if_pos z15] at h
      refine ev_cast dX7_find_19 kX7_10 (by rcases z15.1 with z | z | z <;> rw [z] <;> decide) (Or.inl z15.2) ?_
      obtain ⟨r16, z17, h⟩ := Option.bind_eq_some_iff.mp h
      refine ev_getR dX7_find_22 (by rcases z15.1 with z | z | z <;> rw [z] <;> first | exact fX7_9_7 | exact fX7_9_8 | exact fX7_9_9) (rfl : K.1 r9 = _) (Or.inl z15.2) (by rcases z15.1 with z | z | z <;> rw [z] <;> rfl) z17 ?_
      refine ev_aload_n dX7_find_25 rfl ?_
      by_cases z18 : K.1 r16 = 21 ∧ (r16 < K.2.2 ∨ 1000000 ≤ r16)
      rotate_left
      · rw [if_neg z18] at h; cases h
      rw [if_pos z18] at h
      obtain ⟨r19, ci20, cj21, cr22, z23, h⟩ := jpb_inv h
      refine ev_zV1 dX7_find_26 vX7_25_21 z18.1 z18.2 (Nat.le_of_ble_eq_true rfl) (Nat.le_of_ble_eq_true rfl) rfl (metJ6_equals n _ _ _ _ _ _ hC14 z23 (fun hC24 => ?_))
      show Ev g _ _ 29 _ [.int r19] K ci20 cj21 cr22 _ _ Qr Qx
      refine ev_if_eq 34 dX7_find_29 rfl (fun z25 => ?_) (fun z25 => ?_)
      · rw [if_pos z25] at h
        refine ev_iinc (v := (l2 + (nI 1))) (L' := [_, _, _]) dX7_find_34 rfl (by rw [ji_1]) (by decide) rfl ?_
        refine ev_goto 2 dX7_find_37 rfl ?_
        exact ih _ _ _ _ _ _ _ hC24 h hq
      · rw [if_neg z25] at h
        refine ev_iload_n dX7_find_32 rfl ?_
        cases h
        exact ev_iret dX7_find_33 rfl rfl (hq hC24)
def fX7_find (n : Nat) (a0 : Nat) (a1 : Nat) (K : jK) (ci : jI) (cj : jJ) (cr : jR) : Option (jTp Int32) := fX7_find_2 n  n a0 a1 (nI 0) K ci cj cr
theorem metX7_find {g : jG} {d : Nat} {c sl : Nat} {Qr : jQ} {Qx : jX} (n : Nat) (a0 : Nat) (a1 : Nat) (K : jK) (ci : jI) (cj : jJ) (cr : jR) {q} (hC : jCW K cr) (h : fX7_find n a0 a1 K ci cj cr = some q) (hq : jqp wI K q Qr) : EvM g (d + 4) mX7_find [.ref a0, .ref a1] K ci cj cr c sl Qr Qx := by
  unfold fX7_find at h
  show Ev g (d + 4) mX7_find 0 [.ref a0, .ref a1, jU] [] K ci cj cr c sl Qr Qx
  refine ev_iconst (v := (nI 0)) dX7_find_0 jc0 ?_
  refine ev_istore_n (L' := [_, _, _]) dX7_find_1 (by decide) rfl ?_
  exact wX7_find_2 n   n _ _ _ _ _ _ _ hC h hq
def fX1_isNamed_41 (n : Nat) (t0 : Int32) (K : jK) (ci : jI) (cj : jJ) (cr : jR) : Option (jTp Int32) := if t0 = 0 ∨ t0 = 1 then some (t0, ci, cj, cr) else none
theorem wX1_isNamed_41 {g : jG} {d : Nat} {c sl : Nat} {Qr : jQ} {Qx : jX} (n : Nat) (t0 : Int32) (K : jK) (ci : jI) (cj : jJ) (cr : jR) {q} (hC : jCW K cr) (h : fX1_isNamed_41 n  t0 K ci cj cr = some q) (hq : jqp wI K q Qr) : Ev g (d + 5) mX1_isNamed 41 [jU, jU] [.int t0] K ci cj cr c sl Qr Qx := by
  unfold fX1_isNamed_41 at h
  by_cases z1 : t0 = 0 ∨ t0 = 1
  rotate_left
  · rw [if_neg z1] at h; cases h
  rw [if_pos z1] at h
  cases h
  exact ev_iret dX1_isNamed_41 rfl (jbool z1) (hq hC)
def fX1_isNamed_36 (n : Nat) (K : jK) (ci : jI) (cj : jJ) (cr : jR) : Option (jTp Int32) := fX1_isNamed_41 n  (nI 1) K ci cj cr
theorem wX1_isNamed_36 {g : jG} {d : Nat} {c sl : Nat} {Qr : jQ} {Qx : jX} (n : Nat) (K : jK) (ci : jI) (cj : jJ) (cr : jR) {q} (hC : jCW K cr) (h : fX1_isNamed_36 n   K ci cj cr = some q) (hq : jqp wI K q Qr) : Ev g (d + 5) mX1_isNamed 36 [jU, jU] [] K ci cj cr c sl Qr Qx := by
  unfold fX1_isNamed_36 at h
  refine ev_iconst (v := (nI 1)) dX1_isNamed_36 jc1 ?_
  refine ev_goto 41 dX1_isNamed_37 rfl ?_
  exact wX1_isNamed_41 n   _ _ _ _ _ hC h hq
def fX1_isNamed (n : Nat) (ah : Nat) (a0 : Nat) (K : jK) (ci : jI) (cj : jJ) (cr : jR) : Option (jTp Int32) := if K.1 ah = 1 ∧ ah < K.2.2 then Option.bind (cr ah 2) (fun r2 => jpb (fX7_find n r2 a0 K ci cj cr) (fun r4 ci5 cj6 cr7 => if r4 = (-1) then Option.bind (cr7 ah 3) (fun r11 => jpb (fX7_find n r11 a0 K ci5 cj6 cr7) (fun r13 ci14 cj15 cr16 => if r13 = (-1) then Option.bind (cr16 ah 4) (fun r20 => jpb (fX7_find n r20 a0 K ci14 cj15 cr16) (fun r22 ci23 cj24 cr25 => if r22 = (-1) then fX1_isNamed_41 n  (nI 0) K ci23 cj24 cr25 else fX1_isNamed_36 n   K ci23 cj24 cr25)) else fX1_isNamed_36 n   K ci14 cj15 cr16)) else fX1_isNamed_36 n   K ci5 cj6 cr7)) else none
theorem metX1_isNamed {g : jG} {d : Nat} {c sl : Nat} {Qr : jQ} {Qx : jX} (n : Nat) (ah : Nat) (a0 : Nat) (K : jK) (ci : jI) (cj : jJ) (cr : jR) {q} (hC : jCW K cr) (h : fX1_isNamed n ah a0 K ci cj cr = some q) (hq : jqp wI K q Qr) : EvM g (d + 5) mX1_isNamed [.ref ah, .ref a0] K ci cj cr c sl Qr Qx := by
  unfold fX1_isNamed at h
  show Ev g (d + 5) mX1_isNamed 0 [.ref ah, .ref a0] [] K ci cj cr c sl Qr Qx
  refine ev_aload_n dX1_isNamed_0 rfl ?_
  by_cases z1 : K.1 ah = 1 ∧ ah < K.2.2
  rotate_left
  · rw [if_neg z1] at h; cases h
  rw [if_pos z1] at h
  obtain ⟨r2, z3, h⟩ := Option.bind_eq_some_iff.mp h
  refine ev_getR dX1_isNamed_1 fX1_14_1 z1.1 (Or.inl z1.2) rfl z3 ?_
  refine ev_aload_n dX1_isNamed_4 rfl ?_
  obtain ⟨r4, ci5, cj6, cr7, z8, h⟩ := jpb_inv h
  refine ev_zS2 dX1_isNamed_5 sX1_26 (Nat.le_of_ble_eq_true rfl) (Nat.le_of_ble_eq_true rfl) rfl (metX7_find n _ _ _ _ _ _ hC z8 (fun hC9 => ?_))
  show Ev g _ _ 8 _ [.int r4] K ci5 cj6 cr7 _ _ Qr Qx
  refine ev_iconst (v := (-1)) dX1_isNamed_8 jcm1 ?_
  refine ev_icmp_ne 36 dX1_isNamed_9 rfl (fun z10 => ?_) (fun z10 => ?_)
  · rw [if_neg z10] at h
    exact ev_mask [false, false] (wX1_isNamed_36 n    _ _ _ _ hC9 h hq)
  · rw [if_pos z10] at h
    refine ev_aload_n dX1_isNamed_12 rfl ?_
    obtain ⟨r11, z12, h⟩ := Option.bind_eq_some_iff.mp h
    refine ev_getR dX1_isNamed_13 fX1_20_1 z1.1 (Or.inl z1.2) rfl z12 ?_
    refine ev_aload_n dX1_isNamed_16 rfl ?_
    obtain ⟨r13, ci14, cj15, cr16, z17, h⟩ := jpb_inv h
    refine ev_zS2 dX1_isNamed_17 sX1_26 (Nat.le_of_ble_eq_true rfl) (Nat.le_of_ble_eq_true rfl) rfl (metX7_find n _ _ _ _ _ _ hC9 z17 (fun hC18 => ?_))
    show Ev g _ _ 20 _ [.int r13] K ci14 cj15 cr16 _ _ Qr Qx
    refine ev_iconst (v := (-1)) dX1_isNamed_20 jcm1 ?_
    refine ev_icmp_ne 36 dX1_isNamed_21 rfl (fun z19 => ?_) (fun z19 => ?_)
    · rw [if_neg z19] at h
      exact ev_mask [false, false] (wX1_isNamed_36 n    _ _ _ _ hC18 h hq)
    · rw [if_pos z19] at h
      refine ev_aload_n dX1_isNamed_24 rfl ?_
      obtain ⟨r20, z21, h⟩ := Option.bind_eq_some_iff.mp h
      refine ev_getR dX1_isNamed_25 fX1_23_1 z1.1 (Or.inl z1.2) rfl z21 ?_
      refine ev_aload_n dX1_isNamed_28 rfl ?_
      obtain ⟨r22, ci23, cj24, cr25, z26, h⟩ := jpb_inv h
      refine ev_zS2 dX1_isNamed_29 sX1_26 (Nat.le_of_ble_eq_true rfl) (Nat.le_of_ble_eq_true rfl) rfl (metX7_find n _ _ _ _ _ _ hC18 z26 (fun hC27 => ?_))
      show Ev g _ _ 32 _ [.int r22] K ci23 cj24 cr25 _ _ Qr Qx
      refine ev_iconst (v := (-1)) dX1_isNamed_32 jcm1 ?_
      refine ev_icmp_eq 40 dX1_isNamed_33 rfl (fun z28 => ?_) (fun z28 => ?_)
      · rw [if_pos z28] at h
        refine ev_iconst (v := (nI 0)) dX1_isNamed_40 jc0 ?_
        exact ev_mask [false, false] (wX1_isNamed_41 n   _ _ _ _ _ hC27 h hq)
      · rw [if_neg z28] at h
        exact ev_mask [false, false] (wX1_isNamed_36 n    _ _ _ _ hC27 h hq)
def fX0_find_2 (n : Nat) : Nat → Nat → Nat → Int32 → jK → jI → jJ → jR → Option (jTp Int32)
  | 0, _, _, _, _, _, _, _ => none
  | k + 1, l0, l1, l2, K, ci, cj, cr => if K.1 l1 = 105 ∧ (l1 < K.2.2 ∨ 1000000 ≤ l1) then if (nI (K.2.1 l1)) ≤ l2 then some ((-1), ci, cj, cr) else if jok l2 (K.2.1 l1) then Option.bind (cr l1 (l2).toNatClampNeg) (fun r4 => if K.1 r4 = 21 ∧ (r4 < K.2.2 ∨ 1000000 ≤ r4) then jpb (fJ6_equals n r4 l0 K ci cj cr) (fun r7 ci8 cj9 cr10 => if r7 = 0 then fX0_find_2 n  k l0 l1 (l2 + (nI 1)) K ci8 cj9 cr10 else some (l2, ci8, cj9, cr10)) else none) else none else none
theorem wX0_find_2 {g : jG} {d : Nat} {c sl : Nat} {Qr : jQ} {Qx : jX} (n : Nat) : ∀ (k : Nat) (l0 : Nat) (l1 : Nat) (l2 : Int32) (K : jK) (ci : jI) (cj : jJ) (cr : jR) {q}, jCW K cr → fX0_find_2 n  k l0 l1 l2 K ci cj cr = some q → jqp wI K q Qr → Ev g (d + 3) mX0_find 2 [.ref l0, .ref l1, .int l2] [] K ci cj cr c sl Qr Qx := by
  intro k
  induction k with
  | zero =>
    intro l0 l1 l2 K ci cj cr q hC h hq
    rw [fX0_find_2.eq_1] at h; cases h
  | succ k ih =>
    intro l0 l1 l2 K ci cj cr q hC h hq
    rw [fX0_find_2.eq_2] at h
    refine ev_iload_n dX0_find_2 rfl ?_
    refine ev_aload_n dX0_find_3 rfl ?_
    by_cases z1 : K.1 l1 = 105 ∧ (l1 < K.2.2 ∨ 1000000 ≤ l1)
    rotate_left
    · rw [if_neg z1] at h; cases h
    rw [if_pos z1] at h
    refine ev_alen dX0_find_4 (t := 5) z1.1 (by decide) z1.2 ?_
    refine ev_icmp_ge 26 dX0_find_5 rfl (fun z2 => ?_) (fun z2 => ?_)
    · rw [if_pos z2] at h
      refine ev_iconst (v := (-1)) dX0_find_26 jcm1 ?_
      cases h
      exact ev_iret dX0_find_27 rfl rfl (hq hC)
    · rw [if_neg z2] at h
      refine ev_aload_n dX0_find_8 rfl ?_
      refine ev_iload_n dX0_find_9 rfl ?_
      by_cases z3 : jok l2 (K.2.1 l1)
      rotate_left
      · rw [if_neg z3] at h; cases h
      rw [if_pos z3] at h
      obtain ⟨r4, z5, h⟩ := Option.bind_eq_some_iff.mp h
      refine ev_aaload (t := 5) dX0_find_10 z1.1 (by decide) (by decide) z1.2 (jok.ix z3 rfl) z5 ?_
      refine ev_aload_n dX0_find_11 rfl ?_
      by_cases z6 : K.1 r4 = 21 ∧ (r4 < K.2.2 ∨ 1000000 ≤ r4)
      rotate_left
      · rw [if_neg z6] at h; cases h
      rw [if_pos z6] at h
      obtain ⟨r7, ci8, cj9, cr10, z11, h⟩ := jpb_inv h
      refine ev_zV1 dX0_find_12 vX0_16_21 z6.1 z6.2 (Nat.le_of_ble_eq_true rfl) (Nat.le_of_ble_eq_true rfl) rfl (metJ6_equals n _ _ _ _ _ _ hC z11 (fun hC12 => ?_))
      show Ev g _ _ 15 _ [.int r7] K ci8 cj9 cr10 _ _ Qr Qx
      refine ev_if_eq 20 dX0_find_15 rfl (fun z13 => ?_) (fun z13 => ?_)
      · rw [if_pos z13] at h
        refine ev_iinc (v := (l2 + (nI 1))) (L' := [_, _, _]) dX0_find_20 rfl (by rw [ji_1]) (by decide) rfl ?_
        refine ev_goto 2 dX0_find_23 rfl ?_
        exact ih _ _ _ _ _ _ _ hC12 h hq
      · rw [if_neg z13] at h
        refine ev_iload_n dX0_find_18 rfl ?_
        cases h
        exact ev_iret dX0_find_19 rfl rfl (hq hC12)
def fX0_find (n : Nat) (a0 : Nat) (a1 : Nat) (K : jK) (ci : jI) (cj : jJ) (cr : jR) : Option (jTp Int32) := fX0_find_2 n  n a0 a1 (nI 0) K ci cj cr
theorem metX0_find {g : jG} {d : Nat} {c sl : Nat} {Qr : jQ} {Qx : jX} (n : Nat) (a0 : Nat) (a1 : Nat) (K : jK) (ci : jI) (cj : jJ) (cr : jR) {q} (hC : jCW K cr) (h : fX0_find n a0 a1 K ci cj cr = some q) (hq : jqp wI K q Qr) : EvM g (d + 3) mX0_find [.ref a0, .ref a1] K ci cj cr c sl Qr Qx := by
  unfold fX0_find at h
  show Ev g (d + 3) mX0_find 0 [.ref a0, .ref a1, jU] [] K ci cj cr c sl Qr Qx
  refine ev_iconst (v := (nI 0)) dX0_find_0 jc0 ?_
  refine ev_istore_n (L' := [_, _, _]) dX0_find_1 (by decide) rfl ?_
  exact wX0_find_2 n   n _ _ _ _ _ _ _ hC h hq
def fX2_word_76 (n : Nat) : Nat → Nat → Int32 → jK → jI → jJ → jR → Option (jT Nat)
  | 0, _, _, _, _, _, _ => none
  | k + 1, l1, l2, K, ci, cj, cr => if (ci 9 2) ≤ l2 then jxb (fJ6_valueOf n l1 K ci cj cr) (fun r2 K3 ci4 cj5 cr6 => some (some r2, K3, ci4, cj5, cr6, 0, 0)) else if jok l2 1600 then if K.1 l1 = 102 ∧ l1 < K.2.2 then if jok (l2 - (ci 9 3)) (K.2.1 l1) then fX2_word_76 n  k l1 (l2 + (nI 1)) K (ju ci l1 ((l2 - (ci 9 3))).toNatClampNeg (((ci 8 (l2).toNatClampNeg)).toUInt32.toUInt16.toUInt32.toInt32).toUInt32.toUInt16.toUInt32.toInt32) cj cr else none else none else none
theorem wX2_word_76 {g : jG} {d : Nat} {Qr : jQ} {Qx : jX} (n : Nat) : ∀ (k : Nat) (l1 : Nat) (l2 : Int32) (K : jK) (ci : jI) (cj : jJ) (cr : jR) {q}, jCW K cr → fX2_word_76 n  k l1 l2 K ci cj cr = some q → jqx wR q Qr Qx → Ev g (d + 6) mX2_word 76 [.ref 9, .ref l1, .int l2] [] K ci cj cr q.2.2.2.2.2.1 q.2.2.2.2.2.2 Qr Qx := by
  intro k
  induction k with
  | zero =>
    intro l1 l2 K ci cj cr q hC h hq
    rw [fX2_word_76.eq_1] at h; cases h
  | succ k ih =>
    intro l1 l2 K ci cj cr q hC h hq
    rw [fX2_word_76.eq_2] at h
    refine ev_iload_n dX2_word_76 rfl ?_
    refine ev_aload_n dX2_word_77 rfl ?_
    refine ev_getI dX2_word_78 fX2_36_2 (ck9 hC) (Or.inl (cl9 hC)) rfl ?_
    refine ev_icmp_ge 108 dX2_word_81 rfl (fun z1 => ?_) (fun z1 => ?_)
    · rw [if_pos z1] at h
      refine ev_aload_n dX2_word_108 rfl ?_
      refine jx_inv (wf := wR) (fun c1 s1 c sl z => ev_invS1 dX2_word_109 sX2_64 (Nat.le_of_ble_eq_true rfl) (Nat.le_of_ble_eq_true rfl) rfl z) h hq (fun q Qr' z zq => metJ6_valueOf n _ _ _ _ _ hC z zq) (fun r2 K3 ci4 cj5 cr6 w7 h hC8 hq => ?_)
      show Ev g _ _ 112 _ [.ref r2] K3 ci4 cj5 cr6 _ _ Qr Qx
      cases h
      exact ev_aret dX2_word_112 rfl rfl (hq hC8)
    · rw [if_neg z1] at h
      refine ev_aload_n dX2_word_84 rfl ?_
      refine ev_iload_n dX2_word_85 rfl ?_
      refine ev_aload_n dX2_word_86 rfl ?_
      refine ev_getI dX2_word_87 fX2_61_2 (ck9 hC) (Or.inl (cl9 hC)) rfl ?_
      refine ev_isub dX2_word_90 ?_
      refine ev_aload_n dX2_word_91 rfl ?_
      refine ev_getR dX2_word_92 fX2_3_2 (ck9 hC) (Or.inl (cl9 hC)) rfl (cq9_7 hC) ?_
      refine ev_getR dX2_word_95 fX2_32_0 (ck0 hC) (Or.inl (cl0 hC)) rfl (cq0_1 hC) ?_
      refine ev_iload_n dX2_word_98 rfl ?_
      by_cases z9 : jok l2 1600
      rotate_left
      · rw [if_neg z9] at h; cases h
      rw [if_pos z9] at h
      refine ev_baload dX2_word_99 (ck8 hC) (Or.inl (cl8 hC)) (jok.ix z9 (cn8 hC)) ?_
      refine ev_i2c dX2_word_100 ?_
      by_cases z10 : K.1 l1 = 102 ∧ l1 < K.2.2
      rotate_left
      · rw [if_neg z10] at h; cases h
      rw [if_pos z10] at h
      by_cases z11 : jok (l2 - (ci 9 3)) (K.2.1 l1)
      rotate_left
      · rw [if_neg z11] at h; cases h
      rw [if_pos z11] at h
      refine ev_castore dX2_word_101 z10.1 z10.2 (jok.ix z11 rfl) ?_
      refine ev_iinc (v := (l2 + (nI 1))) (L' := [_, _, _]) dX2_word_102 rfl (by rw [ji_1]) (by decide) rfl ?_
      refine ev_goto 76 dX2_word_105 rfl ?_
      exact ih _ _ _ _ _ _ hC h hq
def fX2_word_32 (n : Nat) : Nat → jK → jI → jJ → jR → Option (jT Nat)
  | 0, _, _, _, _ => none
  | k + 1, K, ci, cj, cr => jpb (fX2_byteAt n (ci 9 2) K ci cj cr) (fun r1 ci2 cj3 cr4 => jpb (fX0_isLetter n r1 K ci2 cj3 cr4) (fun r7 ci8 cj9 cr10 => if r7 = 0 then if K.2.2 < 1000000 then if ¬ ((ci8 9 2) - (ci8 9 3)) < 0 ∧ (((ci8 9 2) - (ci8 9 3))).toNatClampNeg ≤ 65536 then jal (((ci8 9 2) - (ci8 9 3))).toNatClampNeg (fX2_word_76 n  n K.2.2 (ci8 9 3) (jnK K 102 (((ci8 9 2) - (ci8 9 3))).toNatClampNeg) ci8 cj9 cr10) else none else none else fX2_word_32 n  k  K (ju ci8 9 2 ((ci8 9 2) + (nI 1))) cj9 cr10))
theorem wX2_word_32 {g : jG} {d : Nat} {Qr : jQ} {Qx : jX} (n : Nat) : ∀ (k : Nat) (K : jK) (ci : jI) (cj : jJ) (cr : jR) {q}, jCW K cr → fX2_word_32 n  k  K ci cj cr = some q → jqx wR q Qr Qx → Ev g (d + 6) mX2_word 32 [.ref 9, jU, jU] [] K ci cj cr q.2.2.2.2.2.1 q.2.2.2.2.2.2 Qr Qx := by
  intro k
  induction k with
  | zero =>
    intro  K ci cj cr q hC h hq
    rw [fX2_word_32.eq_1] at h; cases h
  | succ k ih =>
    intro  K ci cj cr q hC h hq
    rw [fX2_word_32.eq_2] at h
    refine ev_aload_n dX2_word_32 rfl ?_
    refine ev_aload_n dX2_word_33 rfl ?_
    refine ev_getI dX2_word_34 fX2_36_2 (ck9 hC) (Or.inl (cl9 hC)) rfl ?_
    obtain ⟨r1, ci2, cj3, cr4, z5, h⟩ := jpb_inv h
    refine ev_zV1 dX2_word_37 vX2_39_2 (ck9 hC) (Or.inl (cl9 hC)) (Nat.le_of_ble_eq_true rfl) (Nat.le_of_ble_eq_true rfl) rfl (metX2_byteAt n _ _ _ _ _ hC z5 (fun hC6 => ?_))
    show Ev g _ _ 40 _ [.int r1] K ci2 cj3 cr4 _ _ Qr Qx
    obtain ⟨r7, ci8, cj9, cr10, z11, h⟩ := jpb_inv h
    refine ev_zS1 dX2_word_40 sX2_51 (Nat.le_of_ble_eq_true rfl) (Nat.le_of_ble_eq_true rfl) rfl (metX0_isLetter n _ _ _ _ _ hC6 z11 (fun hC12 => ?_))
    show Ev g _ _ 43 _ [.int r7] K ci8 cj9 cr10 _ _ Qr Qx
    refine ev_if_eq 59 dX2_word_43 rfl (fun z13 => ?_) (fun z13 => ?_)
    · rw [if_pos z13] at h
      refine ev_aload_n dX2_word_59 rfl ?_
      refine ev_getI dX2_word_60 fX2_36_2 (ck9 hC12) (Or.inl (cl9 hC12)) rfl ?_
      refine ev_aload_n dX2_word_63 rfl ?_
      refine ev_getI dX2_word_64 fX2_61_2 (ck9 hC12) (Or.inl (cl9 hC12)) rfl ?_
      refine ev_isub dX2_word_67 ?_
      by_cases z14 : K.2.2 < 1000000
      rotate_left
      · rw [if_neg z14] at h; cases h
      rw [if_pos z14] at h
      by_cases z15 : ¬ ((ci8 9 2) - (ci8 9 3)) < 0 ∧ (((ci8 9 2) - (ci8 9 3))).toNatClampNeg ≤ 65536
      rotate_left
      · rw [if_neg z15] at h; cases h
      rw [if_pos z15] at h
      refine jx_new (fun c sl z => ev_newa_char dX2_word_68 z15.1 rfl z15.2 z14 z) h hq (fun w16 h hq => ?_)
      have hC17 := jCW.new hC12 102 (((ci8 9 2) - (ci8 9 3))).toNatClampNeg
      show Ev g _ _ 70 _ [.ref K.2.2] (jnK K 102 (((ci8 9 2) - (ci8 9 3))).toNatClampNeg) ci8 cj9 cr10 _ _ Qr Qx
      refine ev_astore_n (L' := [_, _, _]) dX2_word_70 (by decide) rfl ?_
      refine ev_aload_n dX2_word_71 rfl ?_
      refine ev_getI dX2_word_72 fX2_61_2 (ck9 hC17) (Or.inl (cl9 hC17)) rfl ?_
      refine ev_istore_n (L' := [_, _, _]) dX2_word_75 (by decide) rfl ?_
      exact wX2_word_76 n   n _ _ _ _ _ _ hC17 h hq
    · rw [if_neg z13] at h
      refine ev_aload_n dX2_word_46 rfl ?_
      refine ev_dup dX2_word_47 rfl ?_
      refine ev_getI dX2_word_48 fX2_36_2 (ck9 hC12) (Or.inl (cl9 hC12)) rfl ?_
      refine ev_iconst (v := (nI 1)) dX2_word_51 jc1 ?_
      refine ev_iadd dX2_word_52 ?_
      refine ev_putI dX2_word_53 (pX2_36_2 _) (ck9 hC12) (cl9 hC12) rfl rfl rfl ?_
      refine ev_goto 32 dX2_word_56 rfl ?_
      exact ih  _ _ _ _ hC12 h hq
def fX2_word (n : Nat) (K : jK) (ci : jI) (cj : jJ) (cr : jR) : Option (jT Nat) := jpb (fX2_here n  K ci cj cr) (fun r1 ci2 cj3 cr4 => jpb (fX0_isLetter n r1 K ci2 cj3 cr4) (fun r7 ci8 cj9 cr10 => if r7 = 0 then jpb (fX2_wrong n (nI 1) (ci8 9 2) K ci8 cj9 cr10) (fun r21 ci22 cj23 cr24 => if r21 = 10 then some (none, K, ci22, cj23, cr24, 0, 0) else none) else jxb (fX2_parted n  K ci8 cj9 cr10) (fun r14 K15 ci16 cj17 cr18 => fX2_word_32 n  n  K15 (ju ci16 9 3 (ci16 9 2)) cj17 cr18)))
theorem metX2_word {g : jG} {d : Nat} {Qr : jQ} {Qx : jX} (n : Nat) (K : jK) (ci : jI) (cj : jJ) (cr : jR) {q} (hC : jCW K cr) (h : fX2_word n  K ci cj cr = some q) (hq : jqx wR q Qr Qx) : EvM g (d + 6) mX2_word [.ref 9] K ci cj cr q.2.2.2.2.2.1 q.2.2.2.2.2.2 Qr Qx := by
  unfold fX2_word at h
  show Ev g (d + 6) mX2_word 0 [.ref 9, jU, jU] [] K ci cj cr q.2.2.2.2.2.1 q.2.2.2.2.2.2 Qr Qx
  refine ev_aload_n dX2_word_0 rfl ?_
  obtain ⟨r1, ci2, cj3, cr4, z5, h⟩ := jpb_inv h
  refine ev_zV0 dX2_word_1 vX2_43_2 (ck9 hC) (Or.inl (cl9 hC)) (Nat.le_of_ble_eq_true rfl) (Nat.le_of_ble_eq_true rfl) rfl (metX2_here n  _ _ _ _ hC z5 (fun hC6 => ?_))
  show Ev g _ _ 4 _ [.int r1] K ci2 cj3 cr4 _ _ Qr Qx
  obtain ⟨r7, ci8, cj9, cr10, z11, h⟩ := jpb_inv h
  refine ev_zS1 dX2_word_4 sX2_51 (Nat.le_of_ble_eq_true rfl) (Nat.le_of_ble_eq_true rfl) rfl (metX0_isLetter n _ _ _ _ _ hC6 z11 (fun hC12 => ?_))
  show Ev g _ _ 7 _ [.int r7] K ci8 cj9 cr10 _ _ Qr Qx
  refine ev_if_ne 20 dX2_word_7 rfl (fun z13 => ?_) (fun z13 => ?_)
  · rw [if_neg z13] at h
    refine ev_aload_n dX2_word_20 rfl ?_
    refine jx_inv (wf := wV) (fun c1 s1 c sl z => ev_invV0 dX2_word_21 vX2_58_2 (ck9 hC12) (Or.inl (cl9 hC12)) (Nat.le_of_ble_eq_true rfl) (Nat.le_of_ble_eq_true rfl) rfl z) h hq (fun q Qr' z zq => metX2_parted n  _ _ _ _ hC12 z zq) (fun r14 K15 ci16 cj17 cr18 w19 h hC20 hq => ?_)
    show Ev g _ _ 24 _ [] K15 ci16 cj17 cr18 _ _ Qr Qx
    refine ev_aload_n dX2_word_24 rfl ?_
    refine ev_aload_n dX2_word_25 rfl ?_
    refine ev_getI dX2_word_26 fX2_36_2 (ck9 hC20) (Or.inl (cl9 hC20)) rfl ?_
    refine ev_putI dX2_word_29 (pX2_61_2 _) (ck9 hC20) (cl9 hC20) rfl rfl rfl ?_
    exact wX2_word_32 n   n  _ _ _ _ hC20 h hq
  · rw [if_pos z13] at h
    refine ev_aload_n dX2_word_10 rfl ?_
    refine ev_iconst (v := (nI 1)) dX2_word_11 jc1 ?_
    refine ev_aload_n dX2_word_12 rfl ?_
    refine ev_getI dX2_word_13 fX2_36_2 (ck9 hC12) (Or.inl (cl9 hC12)) rfl ?_
    obtain ⟨r21, ci22, cj23, cr24, z25, h⟩ := jpb_inv h
    refine ev_zV2 dX2_word_16 vX2_47_2 (ck9 hC12) (Or.inl (cl9 hC12)) (Nat.le_of_ble_eq_true rfl) (Nat.le_of_ble_eq_true rfl) rfl (metX2_wrong n _ _ _ _ _ _ hC12 z25 (fun hC26 => ?_))
    show Ev g _ _ 19 _ [.ref r21] K ci22 cj23 cr24 _ _ Qr Qx
    by_cases z27 : r21 = 10
    rotate_left
    · rw [if_neg z27] at h; cases h
    rw [if_pos z27] at h
    subst z27
    cases h
    exact ev_athrow dX2_word_19 (cl10 hC26) (ck10 hC26) rfl (hq hC26)
def fX2_name (n : Nat) (K : jK) (ci : jI) (cj : jJ) (cr : jR) : Option (jT Nat) := jxb (fX2_word n  K ci cj cr) (fun r1 K2 ci3 cj4 cr5 => jpb (fX0_find n r1 1000000 K2 ci3 cj4 cr5) (fun r8 ci9 cj10 cr11 => if r8 = (-1) then if K2.1 r1 = 21 ∧ (r1 < K2.2.2 ∨ 1000000 ≤ r1) then jpb (fJ6_length n r1 K2 ci9 cj10 cr11) (fun r16 ci17 cj18 cr19 => if r16 ≤ (nI 6) then some (some r1, K2, ci17, cj18, cr19, 0, 0) else jpb (fX2_wrong n (nI 1) ((ci17 9 3) + (nI 6)) K2 ci17 cj18 cr19) (fun r23 ci24 cj25 cr26 => if r23 = 10 then some (none, K2, ci24, cj25, cr26, 0, 0) else none)) else none else jpb (fX2_wrong n (nI 1) (ci9 9 3) K2 ci9 cj10 cr11) (fun r30 ci31 cj32 cr33 => if r30 = 10 then some (none, K2, ci31, cj32, cr33, 0, 0) else none)))
theorem metX2_name {g : jG} {d : Nat} {Qr : jQ} {Qx : jX} (n : Nat) (K : jK) (ci : jI) (cj : jJ) (cr : jR) {q} (hC : jCW K cr) (h : fX2_name n  K ci cj cr = some q) (hq : jqx wR q Qr Qx) : EvM g (d + 7) mX2_name [.ref 9] K ci cj cr q.2.2.2.2.2.1 q.2.2.2.2.2.2 Qr Qx := by
  unfold fX2_name at h
  show Ev g (d + 7) mX2_name 0 [.ref 9, jU] [] K ci cj cr q.2.2.2.2.2.1 q.2.2.2.2.2.2 Qr Qx
  refine ev_aload_n dX2_name_0 rfl ?_
  refine jx_inv (wf := wR) (fun c1 s1 c sl z => ev_invV0 dX2_name_1 vX2_70_2 (ck9 hC) (Or.inl (cl9 hC)) (Nat.le_of_ble_eq_true rfl) (Nat.le_of_ble_eq_true rfl) rfl z) h hq (fun q Qr' z zq => metX2_word n  _ _ _ _ hC z zq) (fun r1 K2 ci3 cj4 cr5 w6 h hC7 hq => ?_)
  show Ev g _ _ 4 _ [.ref r1] K2 ci3 cj4 cr5 _ _ Qr Qx
  refine ev_astore_n (L' := [_, _]) dX2_name_4 (by decide) rfl ?_
  refine ev_aload_n dX2_name_5 rfl ?_
  refine ev_getsN ("MarriageHerring", "OWN", "[Ljava/lang/String;", .ref 1000000) dX2_name_6 q763 (by decide +kernel) ?_
  obtain ⟨r8, ci9, cj10, cr11, z12, h⟩ := jpb_inv h
  refine ev_zS2 dX2_name_9 sX2_82 (Nat.le_of_ble_eq_true rfl) (Nat.le_of_ble_eq_true rfl) rfl (metX0_find n _ _ _ _ _ _ hC7 z12 (fun hC13 => ?_))
  show Ev g _ _ 12 _ [.int r8] K2 ci9 cj10 cr11 _ _ Qr Qx
  refine ev_iconst (v := (-1)) dX2_name_12 jcm1 ?_
  refine ev_icmp_eq 26 dX2_name_13 rfl (fun z14 => ?_) (fun z14 => ?_)
  · rw [if_pos z14] at h
    refine ev_aload_n dX2_name_26 rfl ?_
    by_cases z15 : K2.1 r1 = 21 ∧ (r1 < K2.2.2 ∨ 1000000 ≤ r1)
    rotate_left
    · rw [if_neg z15] at h; cases h
    rw [if_pos z15] at h
    obtain ⟨r16, ci17, cj18, cr19, z20, h⟩ := jpb_inv h
    refine ev_zV0 dX2_name_27 vX2_86_21 z15.1 z15.2 (Nat.le_of_ble_eq_true rfl) (Nat.le_of_ble_eq_true rfl) rfl (metJ6_length n _ _ _ _ _ hC13 z20 (fun hC21 => ?_))
    show Ev g _ _ 30 _ [.int r16] K2 ci17 cj18 cr19 _ _ Qr Qx
    refine ev_bipush (v := (nI 6)) dX2_name_30 jb6 ?_
    refine ev_icmp_le 48 dX2_name_32 rfl (fun z22 => ?_) (fun z22 => ?_)
    · rw [if_pos z22] at h
      refine ev_aload_n dX2_name_48 rfl ?_
      cases h
      exact ev_aret dX2_name_49 rfl rfl (hq hC21)
    · rw [if_neg z22] at h
      refine ev_aload_n dX2_name_35 rfl ?_
      refine ev_iconst (v := (nI 1)) dX2_name_36 jc1 ?_
      refine ev_aload_n dX2_name_37 rfl ?_
      refine ev_getI dX2_name_38 fX2_61_2 (ck9 hC21) (Or.inl (cl9 hC21)) rfl ?_
      refine ev_bipush (v := (nI 6)) dX2_name_41 jb6 ?_
      refine ev_iadd dX2_name_43 ?_
      obtain ⟨r23, ci24, cj25, cr26, z27, h⟩ := jpb_inv h
      refine ev_zV2 dX2_name_44 vX2_47_2 (ck9 hC21) (Or.inl (cl9 hC21)) (Nat.le_of_ble_eq_true rfl) (Nat.le_of_ble_eq_true rfl) rfl (metX2_wrong n _ _ _ _ _ _ hC21 z27 (fun hC28 => ?_))
      show Ev g _ _ 47 _ [.ref r23] K2 ci24 cj25 cr26 _ _ Qr Qx
      by_cases z29 : r23 = 10
      rotate_left
      · rw [if_neg z29] at h; cases h
      rw [if_pos z29] at h
      subst z29
      cases h
      exact ev_athrow dX2_name_47 (cl10 hC28) (ck10 hC28) rfl (hq hC28)
  · rw [if_neg z14] at h
    refine ev_aload_n dX2_name_16 rfl ?_
    refine ev_iconst (v := (nI 1)) dX2_name_17 jc1 ?_
    refine ev_aload_n dX2_name_18 rfl ?_
    refine ev_getI dX2_name_19 fX2_61_2 (ck9 hC13) (Or.inl (cl9 hC13)) rfl ?_
    obtain ⟨r30, ci31, cj32, cr33, z34, h⟩ := jpb_inv h
    refine ev_zV2 dX2_name_22 vX2_47_2 (ck9 hC13) (Or.inl (cl9 hC13)) (Nat.le_of_ble_eq_true rfl) (Nat.le_of_ble_eq_true rfl) rfl (metX2_wrong n _ _ _ _ _ _ hC13 z34 (fun hC35 => ?_))
    show Ev g _ _ 25 _ [.ref r30] K2 ci31 cj32 cr33 _ _ Qr Qx
    by_cases z36 : r30 = 10
    rotate_left
    · rw [if_neg z36] at h; cases h
    rw [if_pos z36] at h
    subst z36
    cases h
    exact ev_athrow dX2_name_25 (cl10 hC35) (ck10 hC35) rfl (hq hC35)
def fX2_fresh (n : Nat) (K : jK) (ci : jI) (cj : jJ) (cr : jR) : Option (jT Nat) := jxb (fX2_name n  K ci cj cr) (fun r1 K2 ci3 cj4 cr5 => Option.bind (cr5 9 6) (fun r8 => if K2.1 r8 = 1 ∧ r8 < K2.2.2 then jpb (fX1_isNamed n r8 r1 K2 ci3 cj4 cr5) (fun r11 ci12 cj13 cr14 => if r11 = 0 then some (some r1, K2, ci12, cj13, cr14, 0, 0) else jpb (fX2_wrong n (nI 3) (ci12 9 3) K2 ci12 cj13 cr14) (fun r18 ci19 cj20 cr21 => if r18 = 10 then some (none, K2, ci19, cj20, cr21, 0, 0) else none)) else none))
theorem metX2_fresh {g : jG} {d : Nat} {Qr : jQ} {Qx : jX} (n : Nat) (K : jK) (ci : jI) (cj : jJ) (cr : jR) {q} (hC : jCW K cr) (h : fX2_fresh n  K ci cj cr = some q) (hq : jqx wR q Qr Qx) : EvM g (d + 8) mX2_fresh [.ref 9] K ci cj cr q.2.2.2.2.2.1 q.2.2.2.2.2.2 Qr Qx := by
  unfold fX2_fresh at h
  show Ev g (d + 8) mX2_fresh 0 [.ref 9, jU] [] K ci cj cr q.2.2.2.2.2.1 q.2.2.2.2.2.2 Qr Qx
  refine ev_aload_n dX2_fresh_0 rfl ?_
  refine jx_inv (wf := wR) (fun c1 s1 c sl z => ev_invV0 dX2_fresh_1 vX2_100_2 (ck9 hC) (Or.inl (cl9 hC)) (Nat.le_of_ble_eq_true rfl) (Nat.le_of_ble_eq_true rfl) rfl z) h hq (fun q Qr' z zq => metX2_name n  _ _ _ _ hC z zq) (fun r1 K2 ci3 cj4 cr5 w6 h hC7 hq => ?_)
  show Ev g _ _ 4 _ [.ref r1] K2 ci3 cj4 cr5 _ _ Qr Qx
  refine ev_astore_n (L' := [_, _]) dX2_fresh_4 (by decide) rfl ?_
  refine ev_aload_n dX2_fresh_5 rfl ?_
  obtain ⟨r8, z9, h⟩ := Option.bind_eq_some_iff.mp h
  refine ev_getR dX2_fresh_6 fX2_103_2 (ck9 hC7) (Or.inl (cl9 hC7)) rfl z9 ?_
  refine ev_aload_n dX2_fresh_9 rfl ?_
  by_cases z10 : K2.1 r8 = 1 ∧ r8 < K2.2.2
  rotate_left
  · rw [if_neg z10] at h; cases h
  rw [if_pos z10] at h
  obtain ⟨r11, ci12, cj13, cr14, z15, h⟩ := jpb_inv h
  refine ev_zV1 dX2_fresh_10 vX2_107_1 z10.1 (Or.inl z10.2) (Nat.le_of_ble_eq_true rfl) (Nat.le_of_ble_eq_true rfl) rfl (metX1_isNamed n _ _ _ _ _ _ hC7 z15 (fun hC16 => ?_))
  show Ev g _ _ 13 _ [.int r11] K2 ci12 cj13 cr14 _ _ Qr Qx
  refine ev_if_eq 26 dX2_fresh_13 rfl (fun z17 => ?_) (fun z17 => ?_)
  · rw [if_pos z17] at h
    refine ev_aload_n dX2_fresh_26 rfl ?_
    cases h
    exact ev_aret dX2_fresh_27 rfl rfl (hq hC16)
  · rw [if_neg z17] at h
    refine ev_aload_n dX2_fresh_16 rfl ?_
    refine ev_iconst (v := (nI 3)) dX2_fresh_17 jc3 ?_
    refine ev_aload_n dX2_fresh_18 rfl ?_
    refine ev_getI dX2_fresh_19 fX2_61_2 (ck9 hC16) (Or.inl (cl9 hC16)) rfl ?_
    obtain ⟨r18, ci19, cj20, cr21, z22, h⟩ := jpb_inv h
    refine ev_zV2 dX2_fresh_22 vX2_47_2 (ck9 hC16) (Or.inl (cl9 hC16)) (Nat.le_of_ble_eq_true rfl) (Nat.le_of_ble_eq_true rfl) rfl (metX2_wrong n _ _ _ _ _ _ hC16 z22 (fun hC23 => ?_))
    show Ev g _ _ 25 _ [.ref r18] K2 ci19 cj20 cr21 _ _ Qr Qx
    by_cases z24 : r18 = 10
    rotate_left
    · rw [if_neg z24] at h; cases h
    rw [if_pos z24] at h
    subst z24
    cases h
    exact ev_athrow dX2_fresh_25 (cl10 hC23) (ck10 hC23) rfl (hq hC23)
def fX2_most (n : Nat) (a0 : Int32) (a1 : Int32) (K : jK) (ci : jI) (cj : jJ) (cr : jR) : Option (jT Unit) := if a0 = 0 then some (some (), K, ci, cj, cr, 0, 0) else jpb (fX2_wrong n (nI 5) a1 K ci cj cr) (fun r2 ci3 cj4 cr5 => if r2 = 10 then some (none, K, ci3, cj4, cr5, 0, 0) else none)
theorem metX2_most {g : jG} {d : Nat} {Qr : jQ} {Qx : jX} (n : Nat) (a0 : Int32) (a1 : Int32) (K : jK) (ci : jI) (cj : jJ) (cr : jR) {q} (hC : jCW K cr) (h : fX2_most n a0 a1 K ci cj cr = some q) (hq : jqx wV q Qr Qx) : EvM g (d + 2) mX2_most [.ref 9, .int a0, .int a1] K ci cj cr q.2.2.2.2.2.1 q.2.2.2.2.2.2 Qr Qx := by
  unfold fX2_most at h
  show Ev g (d + 2) mX2_most 0 [.ref 9, .int a0, .int a1] [] K ci cj cr q.2.2.2.2.2.1 q.2.2.2.2.2.2 Qr Qx
  refine ev_iload_n dX2_most_0 rfl ?_
  refine ev_if_eq 11 dX2_most_1 rfl (fun z1 => ?_) (fun z1 => ?_)
  · rw [if_pos z1] at h
    cases h
    exact ev_ret dX2_most_11 rfl (hq hC)
  · rw [if_neg z1] at h
    refine ev_aload_n dX2_most_4 rfl ?_
    refine ev_iconst (v := (nI 5)) dX2_most_5 jc5 ?_
    refine ev_iload_n dX2_most_6 rfl ?_
    obtain ⟨r2, ci3, cj4, cr5, z6, h⟩ := jpb_inv h
    refine ev_zV2 dX2_most_7 vX2_47_2 (ck9 hC) (Or.inl (cl9 hC)) (Nat.le_of_ble_eq_true rfl) (Nat.le_of_ble_eq_true rfl) rfl (metX2_wrong n _ _ _ _ _ _ hC z6 (fun hC7 => ?_))
    show Ev g _ _ 10 _ [.ref r2] K ci3 cj4 cr5 _ _ Qr Qx
    by_cases z8 : r2 = 10
    rotate_left
    · rw [if_neg z8] at h; cases h
    rw [if_pos z8] at h
    subst z8
    cases h
    exact ev_athrow dX2_most_10 (cl10 hC7) (ck10 hC7) rfl (hq hC7)
def fX2_word_2 (n : Nat) (a0 : Nat) (K : jK) (ci : jI) (cj : jJ) (cr : jR) : Option (jT Unit) := jxb (fX2_word n  K ci cj cr) (fun r1 K2 ci3 cj4 cr5 => if K2.1 r1 = 21 ∧ (r1 < K2.2.2 ∨ 1000000 ≤ r1) then jpb (fJ6_equals n r1 a0 K2 ci3 cj4 cr5) (fun r9 ci10 cj11 cr12 => if r9 = 0 then jpb (fX2_wrong n (nI 1) (ci10 9 3) K2 ci10 cj11 cr12) (fun r16 ci17 cj18 cr19 => if r16 = 10 then some (none, K2, ci17, cj18, cr19, 0, 0) else none) else some (some (), K2, ci10, cj11, cr12, 0, 0)) else none)
theorem metX2_word_2 {g : jG} {d : Nat} {Qr : jQ} {Qx : jX} (n : Nat) (a0 : Nat) (K : jK) (ci : jI) (cj : jJ) (cr : jR) {q} (hC : jCW K cr) (h : fX2_word_2 n a0 K ci cj cr = some q) (hq : jqx wV q Qr Qx) : EvM g (d + 7) mX2_word_2 [.ref 9, .ref a0] K ci cj cr q.2.2.2.2.2.1 q.2.2.2.2.2.2 Qr Qx := by
  unfold fX2_word_2 at h
  show Ev g (d + 7) mX2_word_2 0 [.ref 9, .ref a0] [] K ci cj cr q.2.2.2.2.2.1 q.2.2.2.2.2.2 Qr Qx
  refine ev_aload_n dX2_word_2_0 rfl ?_
  refine jx_inv (wf := wR) (fun c1 s1 c sl z => ev_invV0 dX2_word_2_1 vX2_70_2 (ck9 hC) (Or.inl (cl9 hC)) (Nat.le_of_ble_eq_true rfl) (Nat.le_of_ble_eq_true rfl) rfl z) h hq (fun q Qr' z zq => metX2_word n  _ _ _ _ hC z zq) (fun r1 K2 ci3 cj4 cr5 w6 h hC7 hq => ?_)
  show Ev g _ _ 4 _ [.ref r1] K2 ci3 cj4 cr5 _ _ Qr Qx
  refine ev_aload_n dX2_word_2_4 rfl ?_
  by_cases z8 : K2.1 r1 = 21 ∧ (r1 < K2.2.2 ∨ 1000000 ≤ r1)
  rotate_left
  · rw [if_neg z8] at h; cases h
  rw [if_pos z8] at h
  obtain ⟨r9, ci10, cj11, cr12, z13, h⟩ := jpb_inv h
  refine ev_zV1 dX2_word_2_5 vX2_74_21 z8.1 z8.2 (Nat.le_of_ble_eq_true rfl) (Nat.le_of_ble_eq_true rfl) rfl (metJ6_equals n _ _ _ _ _ _ hC7 z13 (fun hC14 => ?_))
  show Ev g _ _ 8 _ [.int r9] K2 ci10 cj11 cr12 _ _ Qr Qx
  refine ev_if_ne 21 dX2_word_2_8 rfl (fun z15 => ?_) (fun z15 => ?_)
  · rw [if_neg z15] at h
    cases h
    exact ev_ret dX2_word_2_21 rfl (hq hC14)
  · rw [if_pos z15] at h
    refine ev_aload_n dX2_word_2_11 rfl ?_
    refine ev_iconst (v := (nI 1)) dX2_word_2_12 jc1 ?_
    refine ev_aload_n dX2_word_2_13 rfl ?_
    refine ev_getI dX2_word_2_14 fX2_61_2 (ck9 hC14) (Or.inl (cl9 hC14)) rfl ?_
    obtain ⟨r16, ci17, cj18, cr19, z20, h⟩ := jpb_inv h
    refine ev_zV2 dX2_word_2_17 vX2_47_2 (ck9 hC14) (Or.inl (cl9 hC14)) (Nat.le_of_ble_eq_true rfl) (Nat.le_of_ble_eq_true rfl) rfl (metX2_wrong n _ _ _ _ _ _ hC14 z20 (fun hC21 => ?_))
    show Ev g _ _ 20 _ [.ref r16] K2 ci17 cj18 cr19 _ _ Qr Qx
    by_cases z22 : r16 = 10
    rotate_left
    · rw [if_neg z22] at h; cases h
    rw [if_pos z22] at h
    subst z22
    cases h
    exact ev_athrow dX2_word_2_20 (cl10 hC21) (ck10 hC21) rfl (hq hC21)
def fX2_number (n : Nat) (a0 : Nat) (a1 : Int32) (a2 : Int32) (K : jK) (ci : jI) (cj : jJ) (cr : jR) : Option (jT Int32) := jxb (fX2_word_2 n a0 K ci cj cr) (fun r1 K2 ci3 cj4 cr5 => jxb (fX2_number_2 n a1 a2 K2 ci3 cj4 cr5) (fun r8 K9 ci10 cj11 cr12 => some (some r8, K9, ci10, cj11, cr12, 0, 0)))
theorem metX2_number {g : jG} {d : Nat} {Qr : jQ} {Qx : jX} (n : Nat) (a0 : Nat) (a1 : Int32) (a2 : Int32) (K : jK) (ci : jI) (cj : jJ) (cr : jR) {q} (hC : jCW K cr) (h : fX2_number n a0 a1 a2 K ci cj cr = some q) (hq : jqx wI q Qr Qx) : EvM g (d + 8) mX2_number [.ref 9, .ref a0, .int a1, .int a2] K ci cj cr q.2.2.2.2.2.1 q.2.2.2.2.2.2 Qr Qx := by
  unfold fX2_number at h
  show Ev g (d + 8) mX2_number 0 [.ref 9, .ref a0, .int a1, .int a2] [] K ci cj cr q.2.2.2.2.2.1 q.2.2.2.2.2.2 Qr Qx
  refine ev_aload_n dX2_number_0 rfl ?_
  refine ev_aload_n dX2_number_1 rfl ?_
  refine jx_inv (wf := wV) (fun c1 s1 c sl z => ev_invV1 dX2_number_2 vX2_93_2 (ck9 hC) (Or.inl (cl9 hC)) (Nat.le_of_ble_eq_true rfl) (Nat.le_of_ble_eq_true rfl) rfl z) h hq (fun q Qr' z zq => metX2_word_2 n _ _ _ _ _ hC z zq) (fun r1 K2 ci3 cj4 cr5 w6 h hC7 hq => ?_)
  show Ev g _ _ 5 _ [] K2 ci3 cj4 cr5 _ _ Qr Qx
  refine ev_aload_n dX2_number_5 rfl ?_
  refine ev_iload_n dX2_number_6 rfl ?_
  refine ev_iload_n dX2_number_7 rfl ?_
  refine jx_inv (wf := wI) (fun c1 s1 c sl z => ev_invV2 dX2_number_8 vX2_96_2 (ck9 hC7) (Or.inl (cl9 hC7)) (Nat.le_of_ble_eq_true rfl) (Nat.le_of_ble_eq_true rfl) rfl z) h hq (fun q Qr' z zq => metX2_number_2 n _ _ _ _ _ _ hC7 z zq) (fun r8 K9 ci10 cj11 cr12 w13 h hC14 hq => ?_)
  show Ev g _ _ 11 _ [.int r8] K9 ci10 cj11 cr12 _ _ Qr Qx
  cases h
  exact ev_iret dX2_number_11 rfl rfl (hq hC14)
def fX7_init (n : Nat) (ah : Nat) (a0 : Nat) (K : jK) (ci : jI) (cj : jJ) (cr : jR) : Option (jTp Unit) := if (K.1 ah = 7 ∨ K.1 ah = 8 ∨ K.1 ah = 9) ∧ ah < K.2.2 then some ((), ci, cj, (ju cr ah 0 (some a0))) else none
theorem metX7_init {g : jG} {d : Nat} {c sl : Nat} {Qr : jQ} {Qx : jX} (n : Nat) (ah : Nat) (a0 : Nat) (K : jK) (ci : jI) (cj : jJ) (cr : jR) {q} (hC : jCW K cr) (h : fX7_init n ah a0 K ci cj cr = some q) (hq : jqp wV K q Qr) : EvM g (d + 1) mX7_init [.ref ah, .ref a0] K ci cj cr c sl Qr Qx := by
  unfold fX7_init at h
  show Ev g (d + 1) mX7_init 0 [.ref ah, .ref a0] [] K ci cj cr c sl Qr Qx
  refine ev_aload_n dX7_init_0 rfl ?_
  refine ev_objInit dX7_init_1 q832 (Nat.le_of_ble_eq_true rfl) ?_
  refine ev_aload_n dX7_init_4 rfl ?_
  refine ev_aload_n dX7_init_5 rfl ?_
  by_cases z1 : (K.1 ah = 7 ∨ K.1 ah = 8 ∨ K.1 ah = 9) ∧ ah < K.2.2
  rotate_left
  · rw [if_neg z1] at h; cases h
  rw [if_pos z1] at h
  refine ev_putR dX7_init_6 (by rcases z1.1 with z | z | z <;> rw [z] <;> first | exact pX7_9_7 | exact pX7_9_8 | exact pX7_9_9) (rfl : K.1 ah = _) z1.2 (by rcases z1.1 with z | z | z <;> rw [z] <;> rfl) ?_
  have hC2 := jCW.upd hC (k := 0) (v := (some a0)) (rfl : K.1 ah = _) (by rcases z1.1 with z | z | z <;> rw [z] <;> decide)
  cases h
  exact ev_ret dX7_init_9 rfl (hq hC2)
def fX8_init (n : Nat) (ah : Nat) (a0 : Nat) (a1 : Int32) (a2 : Int32) (K : jK) (ci : jI) (cj : jJ) (cr : jR) : Option (jTp Unit) := jpb (fX7_init n ah a0 K ci cj cr) (fun r1 ci2 cj3 cr4 => if K.1 ah = 7 ∧ ah < K.2.2 then some ((), (ju (ju ci2 ah 1 a1) ah 2 a2), cj3, cr4) else none)
theorem metX8_init {g : jG} {d : Nat} {c sl : Nat} {Qr : jQ} {Qx : jX} (n : Nat) (ah : Nat) (a0 : Nat) (a1 : Int32) (a2 : Int32) (K : jK) (ci : jI) (cj : jJ) (cr : jR) {q} (hC : jCW K cr) (h : fX8_init n ah a0 a1 a2 K ci cj cr = some q) (hq : jqp wV K q Qr) : EvM g (d + 2) mX8_init [.ref ah, .ref a0, .int a1, .int a2] K ci cj cr c sl Qr Qx := by
  unfold fX8_init at h
  show Ev g (d + 2) mX8_init 0 [.ref ah, .ref a0, .int a1, .int a2] [] K ci cj cr c sl Qr Qx
  refine ev_aload_n dX8_init_0 rfl ?_
  refine ev_aload_n dX8_init_1 rfl ?_
  obtain ⟨r1, ci2, cj3, cr4, z5, h⟩ := jpb_inv h
  refine ev_zI1 dX8_init_2 iX8_1 (Nat.le_of_ble_eq_true rfl) (Nat.le_of_ble_eq_true rfl) rfl (metX7_init n _ _ _ _ _ _ hC z5 (fun hC6 => ?_))
  show Ev g _ _ 5 _ [] K ci2 cj3 cr4 _ _ Qr Qx
  refine ev_aload_n dX8_init_5 rfl ?_
  refine ev_iload_n dX8_init_6 rfl ?_
  by_cases z7 : K.1 ah = 7 ∧ ah < K.2.2
  rotate_left
  · rw [if_neg z7] at h; cases h
  rw [if_pos z7] at h
  refine ev_putI dX8_init_7 pX8_7_7 z7.1 z7.2 rfl rfl rfl ?_
  refine ev_aload_n dX8_init_10 rfl ?_
  refine ev_iload_n dX8_init_11 rfl ?_
  refine ev_putI dX8_init_12 pX8_13_7 z7.1 z7.2 rfl rfl rfl ?_
  cases h
  exact ev_ret dX8_init_15 rfl (hq hC6)
def fX2_readsBay_23 (n : Nat) (l1 : Int32) (t0 : Int32) (K : jK) (ci : jI) (cj : jJ) (cr : jR) : Option (jT Unit) := jxb (fX2_most n t0 l1 K ci cj cr) (fun r1 K2 ci3 cj4 cr5 => jxb (fX2_fresh n  K2 ci3 cj4 cr5) (fun r8 K9 ci10 cj11 cr12 => jxb (fX2_number n 1000136 (nI 0) (nI 99) K9 ci10 cj11 cr12) (fun r15 K16 ci17 cj18 cr19 => Option.bind (cr19 9 6) (fun r22 => if K16.1 r22 = 1 ∧ r22 < K16.2.2 then Option.bind (cr19 r22 2) (fun r25 => if K16.2.2 < 1000000 then jal (jfn 7) (jxb (fX2_number n 1000102 (nI 0) (nI 99) (jnK K16 7 0) ci17 cj18 cr19) (fun r30 K31 ci32 cj33 cr34 => jpb (fX8_init n K16.2.2 r8 r15 r30 K31 ci32 cj33 cr34) (fun r37 ci38 cj39 cr40 => if K31.1 r25 = 20 ∧ r25 < K31.2.2 then jxb (fJ2_add n r25 K16.2.2 K31 ci38 cj39 cr40) (fun r44 K45 ci46 cj47 cr48 => some (some (), K45, ci46, cj47, cr48, 0, 0)) else none))) else none) else none))))
theorem wX2_readsBay_23 {g : jG} {d : Nat} {Qr : jQ} {Qx : jX} (n : Nat) (l1 : Int32) (t0 : Int32) (K : jK) (ci : jI) (cj : jJ) (cr : jR) {q} (hC : jCW K cr) (h : fX2_readsBay_23 n  l1 t0 K ci cj cr = some q) (hq : jqx wV q Qr Qx) : Ev g (d + 9) mX2_readsBay 23 [.ref 9, .int l1, jU, jU] [.int t0, .ref 9] K ci cj cr q.2.2.2.2.2.1 q.2.2.2.2.2.2 Qr Qx := by
  unfold fX2_readsBay_23 at h
  refine ev_iload_n dX2_readsBay_23 rfl ?_
  refine jx_inv (wf := wV) (fun c1 s1 c sl z => ev_invV2 dX2_readsBay_24 vX2_120_2 (ck9 hC) (Or.inl (cl9 hC)) (Nat.le_of_ble_eq_true rfl) (Nat.le_of_ble_eq_true rfl) rfl z) h hq (fun q Qr' z zq => metX2_most n _ _ _ _ _ _ hC z zq) (fun r1 K2 ci3 cj4 cr5 w6 h hC7 hq => ?_)
  show Ev g _ _ 27 _ [] K2 ci3 cj4 cr5 _ _ Qr Qx
  refine ev_aload_n dX2_readsBay_27 rfl ?_
  refine jx_inv (wf := wR) (fun c1 s1 c sl z => ev_invV0 dX2_readsBay_28 vX2_144_2 (ck9 hC7) (Or.inl (cl9 hC7)) (Nat.le_of_ble_eq_true rfl) (Nat.le_of_ble_eq_true rfl) rfl z) h hq (fun q Qr' z zq => metX2_fresh n  _ _ _ _ hC7 z zq) (fun r8 K9 ci10 cj11 cr12 w13 h hC14 hq => ?_)
  show Ev g _ _ 31 _ [.ref r8] K9 ci10 cj11 cr12 _ _ Qr Qx
  refine ev_astore_n (L' := [_, _, _, _]) dX2_readsBay_31 (by decide) rfl ?_
  refine ev_aload_n dX2_readsBay_32 rfl ?_
  refine ev_ldcS "mile" 1000136 dX2_readsBay_33 (by decide +kernel) ?_
  refine ev_iconst (v := (nI 0)) dX2_readsBay_35 jc0 ?_
  refine ev_bipush (v := (nI 99)) dX2_readsBay_36 jb99 ?_
  refine jx_inv (wf := wI) (fun c1 s1 c sl z => ev_invV3 dX2_readsBay_38 vX2_149_2 (ck9 hC14) (Or.inl (cl9 hC14)) (Nat.le_of_ble_eq_true rfl) (Nat.le_of_ble_eq_true rfl) rfl z) h hq (fun q Qr' z zq => metX2_number n _ _ _ _ _ _ _ hC14 z zq) (fun r15 K16 ci17 cj18 cr19 w20 h hC21 hq => ?_)
  show Ev g _ _ 41 _ [.int r15] K16 ci17 cj18 cr19 _ _ Qr Qx
  refine ev_istore_n (L' := [_, _, _, _]) dX2_readsBay_41 (by decide) rfl ?_
  refine ev_aload_n dX2_readsBay_42 rfl ?_
  obtain ⟨r22, z23, h⟩ := Option.bind_eq_some_iff.mp h
  refine ev_getR dX2_readsBay_43 fX2_103_2 (ck9 hC21) (Or.inl (cl9 hC21)) rfl z23 ?_
  by_cases z24 : K16.1 r22 = 1 ∧ r22 < K16.2.2
  rotate_left
  · rw [if_neg z24] at h; cases h
  rw [if_pos z24] at h
  obtain ⟨r25, z26, h⟩ := Option.bind_eq_some_iff.mp h
  refine ev_getR dX2_readsBay_46 fX2_136_1 z24.1 (Or.inl z24.2) rfl z26 ?_
  by_cases z27 : K16.2.2 < 1000000
  rotate_left
  · rw [if_neg z27] at h; cases h
  rw [if_pos z27] at h
  refine jx_new (fun c sl z => ev_new dX2_readsBay_49 nX2_152 z27 z) h hq (fun w28 h hq => ?_)
  have hC29 := jCW.new hC21 7 0
  show Ev g _ _ 52 _ [.ref K16.2.2, .ref r25] (jnK K16 7 0) ci17 cj18 cr19 _ _ Qr Qx
  refine ev_dup dX2_readsBay_52 rfl ?_
  refine ev_aload_n dX2_readsBay_53 rfl ?_
  refine ev_iload_n dX2_readsBay_54 rfl ?_
  refine ev_aload_n dX2_readsBay_55 rfl ?_
  refine ev_ldcS "hunger" 1000102 dX2_readsBay_56 (by decide +kernel) ?_
  refine ev_iconst (v := (nI 0)) dX2_readsBay_58 jc0 ?_
  refine ev_bipush (v := (nI 99)) dX2_readsBay_59 jb99 ?_
  refine jx_inv (wf := wI) (fun c1 s1 c sl z => ev_invV3 dX2_readsBay_61 vX2_149_2 (ck9 hC29) (Or.inl (cl9 hC29)) (Nat.le_of_ble_eq_true rfl) (Nat.le_of_ble_eq_true rfl) rfl z) h hq (fun q Qr' z zq => metX2_number n _ _ _ _ _ _ _ hC29 z zq) (fun r30 K31 ci32 cj33 cr34 w35 h hC36 hq => ?_)
  show Ev g _ _ 64 _ [.int r30, .int r15, .ref r8, .ref K16.2.2, .ref K16.2.2, .ref r25] K31 ci32 cj33 cr34 _ _ Qr Qx
  obtain ⟨r37, ci38, cj39, cr40, z41, h⟩ := jpb_inv h
  refine ev_zI3 dX2_readsBay_64 iX2_156 (Nat.le_of_ble_eq_true rfl) (Nat.le_of_ble_eq_true rfl) rfl (metX8_init n _ _ _ _ _ _ _ _ hC36 z41 (fun hC42 => ?_))
  show Ev g _ _ 67 _ [.ref K16.2.2, .ref r25] K31 ci38 cj39 cr40 _ _ Qr Qx
  by_cases z43 : K31.1 r25 = 20 ∧ r25 < K31.2.2
  rotate_left
  · rw [if_neg z43] at h; cases h
  rw [if_pos z43] at h
  refine jx_inv (wf := wI) (fun c1 s1 c sl z => ev_invF1 dX2_readsBay_67 vX2_159_20 z43.1 (Or.inl z43.2) (Nat.le_of_ble_eq_true rfl) (Nat.le_of_ble_eq_true rfl) rfl z) h hq (fun q Qr' z zq => metJ2_add n _ _ _ _ _ _ hC42 z zq) (fun r44 K45 ci46 cj47 cr48 w49 h hC50 hq => ?_)
  show Ev g _ _ 72 _ [.int r44] K45 ci46 cj47 cr48 _ _ Qr Qx
  refine ev_pop dX2_readsBay_72 rfl ?_
  cases h
  exact ev_ret dX2_readsBay_73 rfl (hq hC50)
def fX2_readsBay (n : Nat) (a0 : Int32) (K : jK) (ci : jI) (cj : jJ) (cr : jR) : Option (jT Unit) := Option.bind (cr 9 6) (fun r1 => if K.1 r1 = 1 ∧ r1 < K.2.2 then Option.bind (cr r1 2) (fun r4 => if K.1 r4 = 20 ∧ r4 < K.2.2 then jpb (fJ2_size n r4 K ci cj cr) (fun r7 ci8 cj9 cr10 => if r7 = (nI 6) then fX2_readsBay_23 n  a0 (nI 1) K ci8 cj9 cr10 else fX2_readsBay_23 n  a0 (nI 0) K ci8 cj9 cr10) else none) else none)
theorem metX2_readsBay {g : jG} {d : Nat} {Qr : jQ} {Qx : jX} (n : Nat) (a0 : Int32) (K : jK) (ci : jI) (cj : jJ) (cr : jR) {q} (hC : jCW K cr) (h : fX2_readsBay n a0 K ci cj cr = some q) (hq : jqx wV q Qr Qx) : EvM g (d + 9) mX2_readsBay [.ref 9, .int a0] K ci cj cr q.2.2.2.2.2.1 q.2.2.2.2.2.2 Qr Qx := by
  unfold fX2_readsBay at h
  show Ev g (d + 9) mX2_readsBay 0 [.ref 9, .int a0, jU, jU] [] K ci cj cr q.2.2.2.2.2.1 q.2.2.2.2.2.2 Qr Qx
  refine ev_aload_n dX2_readsBay_0 rfl ?_
  refine ev_aload_n dX2_readsBay_1 rfl ?_
  obtain ⟨r1, z2, h⟩ := Option.bind_eq_some_iff.mp h
  refine ev_getR dX2_readsBay_2 fX2_103_2 (ck9 hC) (Or.inl (cl9 hC)) rfl z2 ?_
  by_cases z3 : K.1 r1 = 1 ∧ r1 < K.2.2
  rotate_left
  · rw [if_neg z3] at h; cases h
  rw [if_pos z3] at h
  obtain ⟨r4, z5, h⟩ := Option.bind_eq_some_iff.mp h
  refine ev_getR dX2_readsBay_5 fX2_136_1 z3.1 (Or.inl z3.2) rfl z5 ?_
  by_cases z6 : K.1 r4 = 20 ∧ r4 < K.2.2
  rotate_left
  · rw [if_neg z6] at h; cases h
  rw [if_pos z6] at h
  obtain ⟨r7, ci8, cj9, cr10, z11, h⟩ := jpb_inv h
  refine ev_zF0 dX2_readsBay_8 vX2_140_20 z6.1 (Or.inl z6.2) (Nat.le_of_ble_eq_true rfl) (Nat.le_of_ble_eq_true rfl) rfl (metJ2_size n _ _ _ _ _ hC z11 (fun hC12 => ?_))
  show Ev g _ _ 13 _ [.int r7, .ref 9] K ci8 cj9 cr10 _ _ Qr Qx
  refine ev_bipush (v := (nI 6)) dX2_readsBay_13 jb6 ?_
  refine ev_icmp_ne 22 dX2_readsBay_15 rfl (fun z13 => ?_) (fun z13 => ?_)
  · rw [if_neg z13] at h
    refine ev_iconst (v := (nI 0)) dX2_readsBay_22 jc0 ?_
    exact wX2_readsBay_23 n   _ _ _ _ _ _ hC12 h hq
  · rw [if_pos z13] at h
    refine ev_iconst (v := (nI 1)) dX2_readsBay_18 jc1 ?_
    refine ev_goto 23 dX2_readsBay_19 rfl ?_
    exact wX2_readsBay_23 n   _ _ _ _ _ _ hC12 h hq
def fX9_init (n : Nat) (ah : Nat) (a0 : Nat) (a1 : Int32) (a2 : Int32) (K : jK) (ci : jI) (cj : jJ) (cr : jR) : Option (jTp Unit) := jpb (fX7_init n ah a0 K ci cj cr) (fun r1 ci2 cj3 cr4 => if K.1 ah = 8 ∧ ah < K.2.2 then some ((), (ju (ju ci2 ah 1 a1) ah 2 a2), cj3, cr4) else none)
theorem metX9_init {g : jG} {d : Nat} {c sl : Nat} {Qr : jQ} {Qx : jX} (n : Nat) (ah : Nat) (a0 : Nat) (a1 : Int32) (a2 : Int32) (K : jK) (ci : jI) (cj : jJ) (cr : jR) {q} (hC : jCW K cr) (h : fX9_init n ah a0 a1 a2 K ci cj cr = some q) (hq : jqp wV K q Qr) : EvM g (d + 2) mX9_init [.ref ah, .ref a0, .int a1, .int a2] K ci cj cr c sl Qr Qx := by
  unfold fX9_init at h
  show Ev g (d + 2) mX9_init 0 [.ref ah, .ref a0, .int a1, .int a2] [] K ci cj cr c sl Qr Qx
  refine ev_aload_n dX9_init_0 rfl ?_
  refine ev_aload_n dX9_init_1 rfl ?_
  obtain ⟨r1, ci2, cj3, cr4, z5, h⟩ := jpb_inv h
  refine ev_zI1 dX9_init_2 iX9_1 (Nat.le_of_ble_eq_true rfl) (Nat.le_of_ble_eq_true rfl) rfl (metX7_init n _ _ _ _ _ _ hC z5 (fun hC6 => ?_))
  show Ev g _ _ 5 _ [] K ci2 cj3 cr4 _ _ Qr Qx
  refine ev_aload_n dX9_init_5 rfl ?_
  refine ev_iload_n dX9_init_6 rfl ?_
  by_cases z7 : K.1 ah = 8 ∧ ah < K.2.2
  rotate_left
  · rw [if_neg z7] at h; cases h
  rw [if_pos z7] at h
  refine ev_putI dX9_init_7 pX9_7_8 z7.1 z7.2 rfl rfl rfl ?_
  refine ev_aload_n dX9_init_10 rfl ?_
  refine ev_iload_n dX9_init_11 rfl ?_
  refine ev_putI dX9_init_12 pX9_13_8 z7.1 z7.2 rfl rfl rfl ?_
  cases h
  exact ev_ret dX9_init_15 rfl (hq hC6)
def fX2_readsPair_23 (n : Nat) (l1 : Int32) (t0 : Int32) (K : jK) (ci : jI) (cj : jJ) (cr : jR) : Option (jT Unit) := jxb (fX2_most n t0 l1 K ci cj cr) (fun r1 K2 ci3 cj4 cr5 => jxb (fX2_fresh n  K2 ci3 cj4 cr5) (fun r8 K9 ci10 cj11 cr12 => jxb (fX2_word_2 n 1000140 K9 ci10 cj11 cr12) (fun r15 K16 ci17 cj18 cr19 => Option.bind (cr19 9 6) (fun r22 => if K16.1 r22 = 1 ∧ r22 < K16.2.2 then Option.bind (cr19 r22 2) (fun r25 => jxb (fX2_name n  K16 ci17 cj18 cr19) (fun r27 K28 ci29 cj30 cr31 => jpb (fX7_find n r25 r27 K28 ci29 cj30 cr31) (fun r34 ci35 cj36 cr37 => if r34 = (-1) then jpb (fX2_wrong n (nI 3) (ci35 9 3) K28 ci35 cj36 cr37) (fun r70 ci71 cj72 cr73 => if r70 = 10 then some (none, K28, ci71, cj72, cr73, 0, 0) else none) else Option.bind (cr37 9 6) (fun r41 => if K28.1 r41 = 1 ∧ r41 < K28.2.2 then Option.bind (cr37 r41 3) (fun r44 => if K28.2.2 < 1000000 then jal (jfn 8) (jxb (fX2_number n 1000112 (nI 0) (nI 9) (jnK K28 8 0) ci35 cj36 cr37) (fun r49 K50 ci51 cj52 cr53 => jpb (fX9_init n K28.2.2 r8 r34 r49 K50 ci51 cj52 cr53) (fun r56 ci57 cj58 cr59 => if K50.1 r44 = 20 ∧ r44 < K50.2.2 then jxb (fJ2_add n r44 K28.2.2 K50 ci57 cj58 cr59) (fun r63 K64 ci65 cj66 cr67 => some (some (), K64, ci65, cj66, cr67, 0, 0)) else none))) else none) else none)))) else none))))
theorem wX2_readsPair_23 {g : jG} {d : Nat} {Qr : jQ} {Qx : jX} (n : Nat) (l1 : Int32) (t0 : Int32) (K : jK) (ci : jI) (cj : jJ) (cr : jR) {q} (hC : jCW K cr) (h : fX2_readsPair_23 n  l1 t0 K ci cj cr = some q) (hq : jqx wV q Qr Qx) : Ev g (d + 9) mX2_readsPair 23 [.ref 9, .int l1, jU, jU] [.int t0, .ref 9] K ci cj cr q.2.2.2.2.2.1 q.2.2.2.2.2.2 Qr Qx := by
  unfold fX2_readsPair_23 at h
  refine ev_iload_n dX2_readsPair_23 rfl ?_
  refine jx_inv (wf := wV) (fun c1 s1 c sl z => ev_invV2 dX2_readsPair_24 vX2_120_2 (ck9 hC) (Or.inl (cl9 hC)) (Nat.le_of_ble_eq_true rfl) (Nat.le_of_ble_eq_true rfl) rfl z) h hq (fun q Qr' z zq => metX2_most n _ _ _ _ _ _ hC z zq) (fun r1 K2 ci3 cj4 cr5 w6 h hC7 hq => ?_)
  show Ev g _ _ 27 _ [] K2 ci3 cj4 cr5 _ _ Qr Qx
  refine ev_aload_n dX2_readsPair_27 rfl ?_
  refine jx_inv (wf := wR) (fun c1 s1 c sl z => ev_invV0 dX2_readsPair_28 vX2_144_2 (ck9 hC7) (Or.inl (cl9 hC7)) (Nat.le_of_ble_eq_true rfl) (Nat.le_of_ble_eq_true rfl) rfl z) h hq (fun q Qr' z zq => metX2_fresh n  _ _ _ _ hC7 z zq) (fun r8 K9 ci10 cj11 cr12 w13 h hC14 hq => ?_)
  show Ev g _ _ 31 _ [.ref r8] K9 ci10 cj11 cr12 _ _ Qr Qx
  refine ev_astore_n (L' := [_, _, _, _]) dX2_readsPair_31 (by decide) rfl ?_
  refine ev_aload_n dX2_readsPair_32 rfl ?_
  refine ev_ldcS "in" 1000140 dX2_readsPair_33 (by decide +kernel) ?_
  refine jx_inv (wf := wV) (fun c1 s1 c sl z => ev_invV1 dX2_readsPair_35 vX2_93_2 (ck9 hC14) (Or.inl (cl9 hC14)) (Nat.le_of_ble_eq_true rfl) (Nat.le_of_ble_eq_true rfl) rfl z) h hq (fun q Qr' z zq => metX2_word_2 n _ _ _ _ _ hC14 z zq) (fun r15 K16 ci17 cj18 cr19 w20 h hC21 hq => ?_)
  show Ev g _ _ 38 _ [] K16 ci17 cj18 cr19 _ _ Qr Qx
  refine ev_aload_n dX2_readsPair_38 rfl ?_
  obtain ⟨r22, z23, h⟩ := Option.bind_eq_some_iff.mp h
  refine ev_getR dX2_readsPair_39 fX2_103_2 (ck9 hC21) (Or.inl (cl9 hC21)) rfl z23 ?_
  by_cases z24 : K16.1 r22 = 1 ∧ r22 < K16.2.2
  rotate_left
  · rw [if_neg z24] at h; cases h
  rw [if_pos z24] at h
  obtain ⟨r25, z26, h⟩ := Option.bind_eq_some_iff.mp h
  refine ev_getR dX2_readsPair_42 fX2_136_1 z24.1 (Or.inl z24.2) rfl z26 ?_
  refine ev_aload_n dX2_readsPair_45 rfl ?_
  refine jx_inv (wf := wR) (fun c1 s1 c sl z => ev_invV0 dX2_readsPair_46 vX2_100_2 (ck9 hC21) (Or.inl (cl9 hC21)) (Nat.le_of_ble_eq_true rfl) (Nat.le_of_ble_eq_true rfl) rfl z) h hq (fun q Qr' z zq => metX2_name n  _ _ _ _ hC21 z zq) (fun r27 K28 ci29 cj30 cr31 w32 h hC33 hq => ?_)
  show Ev g _ _ 49 _ [.ref r27, .ref r25] K28 ci29 cj30 cr31 _ _ Qr Qx
  obtain ⟨r34, ci35, cj36, cr37, z38, h⟩ := jpb_inv h
  refine ev_zS2 dX2_readsPair_49 sX2_167 (Nat.le_of_ble_eq_true rfl) (Nat.le_of_ble_eq_true rfl) rfl (metX7_find n _ _ _ _ _ _ hC33 z38 (fun hC39 => ?_))
  show Ev g _ _ 52 _ [.int r34] K28 ci35 cj36 cr37 _ _ Qr Qx
  refine ev_istore_n (L' := [_, _, _, _]) dX2_readsPair_52 (by decide) rfl ?_
  refine ev_iload_n dX2_readsPair_53 rfl ?_
  refine ev_iconst (v := (-1)) dX2_readsPair_54 jcm1 ?_
  refine ev_icmp_ne 68 dX2_readsPair_55 rfl (fun z40 => ?_) (fun z40 => ?_)
  · rw [if_neg z40] at h
    refine ev_aload_n dX2_readsPair_68 rfl ?_
    obtain ⟨r41, z42, h⟩ := Option.bind_eq_some_iff.mp h
    refine ev_getR dX2_readsPair_69 fX2_103_2 (ck9 hC39) (Or.inl (cl9 hC39)) rfl z42 ?_
    by_cases z43 : K28.1 r41 = 1 ∧ r41 < K28.2.2
    rotate_left
    · rw [if_neg z43] at h; cases h
    rw [if_pos z43] at h
    obtain ⟨r44, z45, h⟩ := Option.bind_eq_some_iff.mp h
    refine ev_getR dX2_readsPair_72 fX2_162_1 z43.1 (Or.inl z43.2) rfl z45 ?_
    by_cases z46 : K28.2.2 < 1000000
    rotate_left
    · rw [if_neg z46] at h; cases h
    rw [if_pos z46] at h
    refine jx_new (fun c sl z => ev_new dX2_readsPair_75 nX2_172 z46 z) h hq (fun w47 h hq => ?_)
    have hC48 := jCW.new hC39 8 0
    show Ev g _ _ 78 _ [.ref K28.2.2, .ref r44] (jnK K28 8 0) ci35 cj36 cr37 _ _ Qr Qx
    refine ev_dup dX2_readsPair_78 rfl ?_
    refine ev_aload_n dX2_readsPair_79 rfl ?_
    refine ev_iload_n dX2_readsPair_80 rfl ?_
    refine ev_aload_n dX2_readsPair_81 rfl ?_
    refine ev_ldcS "true" 1000112 dX2_readsPair_82 (by decide +kernel) ?_
    refine ev_iconst (v := (nI 0)) dX2_readsPair_84 jc0 ?_
    refine ev_bipush (v := (nI 9)) dX2_readsPair_85 jb9 ?_
    refine jx_inv (wf := wI) (fun c1 s1 c sl z => ev_invV3 dX2_readsPair_87 vX2_149_2 (ck9 hC48) (Or.inl (cl9 hC48)) (Nat.le_of_ble_eq_true rfl) (Nat.le_of_ble_eq_true rfl) rfl z) h hq (fun q Qr' z zq => metX2_number n _ _ _ _ _ _ _ hC48 z zq) (fun r49 K50 ci51 cj52 cr53 w54 h hC55 hq => ?_)
    show Ev g _ _ 90 _ [.int r49, .int r34, .ref r8, .ref K28.2.2, .ref K28.2.2, .ref r44] K50 ci51 cj52 cr53 _ _ Qr Qx
    obtain ⟨r56, ci57, cj58, cr59, z60, h⟩ := jpb_inv h
    refine ev_zI3 dX2_readsPair_90 iX2_176 (Nat.le_of_ble_eq_true rfl) (Nat.le_of_ble_eq_true rfl) rfl (metX9_init n _ _ _ _ _ _ _ _ hC55 z60 (fun hC61 => ?_))
    show Ev g _ _ 93 _ [.ref K28.2.2, .ref r44] K50 ci57 cj58 cr59 _ _ Qr Qx
    by_cases z62 : K50.1 r44 = 20 ∧ r44 < K50.2.2
    rotate_left
    · rw [if_neg z62] at h; cases h
    rw [if_pos z62] at h
    refine jx_inv (wf := wI) (fun c1 s1 c sl z => ev_invF1 dX2_readsPair_93 vX2_159_20 z62.1 (Or.inl z62.2) (Nat.le_of_ble_eq_true rfl) (Nat.le_of_ble_eq_true rfl) rfl z) h hq (fun q Qr' z zq => metJ2_add n _ _ _ _ _ _ hC61 z zq) (fun r63 K64 ci65 cj66 cr67 w68 h hC69 hq => ?_)
    show Ev g _ _ 98 _ [.int r63] K64 ci65 cj66 cr67 _ _ Qr Qx
    refine ev_pop dX2_readsPair_98 rfl ?_
    cases h
    exact ev_ret dX2_readsPair_99 rfl (hq hC69)
  · rw [if_pos z40] at h
    refine ev_aload_n dX2_readsPair_58 rfl ?_
    refine ev_iconst (v := (nI 3)) dX2_readsPair_59 jc3 ?_
    refine ev_aload_n dX2_readsPair_60 rfl ?_
    refine ev_getI dX2_readsPair_61 fX2_61_2 (ck9 hC39) (Or.inl (cl9 hC39)) rfl ?_
    obtain ⟨r70, ci71, cj72, cr73, z74, h⟩ := jpb_inv h
    refine ev_zV2 dX2_readsPair_64 vX2_47_2 (ck9 hC39) (Or.inl (cl9 hC39)) (Nat.le_of_ble_eq_true rfl) (Nat.le_of_ble_eq_true rfl) rfl (metX2_wrong n _ _ _ _ _ _ hC39 z74 (fun hC75 => ?_))
    show Ev g _ _ 67 _ [.ref r70] K28 ci71 cj72 cr73 _ _ Qr Qx
    by_cases z76 : r70 = 10
    rotate_left
    · rw [if_neg z76] at h; cases h
    rw [if_pos z76] at h
    subst z76
    cases h
    exact ev_athrow dX2_readsPair_67 (cl10 hC75) (ck10 hC75) rfl (hq hC75)
def fX2_readsPair (n : Nat) (a0 : Int32) (K : jK) (ci : jI) (cj : jJ) (cr : jR) : Option (jT Unit) := Option.bind (cr 9 6) (fun r1 => if K.1 r1 = 1 ∧ r1 < K.2.2 then Option.bind (cr r1 3) (fun r4 => if K.1 r4 = 20 ∧ r4 < K.2.2 then jpb (fJ2_size n r4 K ci cj cr) (fun r7 ci8 cj9 cr10 => if r7 = (nI 10) then fX2_readsPair_23 n  a0 (nI 1) K ci8 cj9 cr10 else fX2_readsPair_23 n  a0 (nI 0) K ci8 cj9 cr10) else none) else none)
theorem metX2_readsPair {g : jG} {d : Nat} {Qr : jQ} {Qx : jX} (n : Nat) (a0 : Int32) (K : jK) (ci : jI) (cj : jJ) (cr : jR) {q} (hC : jCW K cr) (h : fX2_readsPair n a0 K ci cj cr = some q) (hq : jqx wV q Qr Qx) : EvM g (d + 9) mX2_readsPair [.ref 9, .int a0] K ci cj cr q.2.2.2.2.2.1 q.2.2.2.2.2.2 Qr Qx := by
  unfold fX2_readsPair at h
  show Ev g (d + 9) mX2_readsPair 0 [.ref 9, .int a0, jU, jU] [] K ci cj cr q.2.2.2.2.2.1 q.2.2.2.2.2.2 Qr Qx
  refine ev_aload_n dX2_readsPair_0 rfl ?_
  refine ev_aload_n dX2_readsPair_1 rfl ?_
  obtain ⟨r1, z2, h⟩ := Option.bind_eq_some_iff.mp h
  refine ev_getR dX2_readsPair_2 fX2_103_2 (ck9 hC) (Or.inl (cl9 hC)) rfl z2 ?_
  by_cases z3 : K.1 r1 = 1 ∧ r1 < K.2.2
  rotate_left
  · rw [if_neg z3] at h; cases h
  rw [if_pos z3] at h
  obtain ⟨r4, z5, h⟩ := Option.bind_eq_some_iff.mp h
  refine ev_getR dX2_readsPair_5 fX2_162_1 z3.1 (Or.inl z3.2) rfl z5 ?_
  by_cases z6 : K.1 r4 = 20 ∧ r4 < K.2.2
  rotate_left
  · rw [if_neg z6] at h; cases h
  rw [if_pos z6] at h
  obtain ⟨r7, ci8, cj9, cr10, z11, h⟩ := jpb_inv h
  refine ev_zF0 dX2_readsPair_8 vX2_140_20 z6.1 (Or.inl z6.2) (Nat.le_of_ble_eq_true rfl) (Nat.le_of_ble_eq_true rfl) rfl (metJ2_size n _ _ _ _ _ hC z11 (fun hC12 => ?_))
  show Ev g _ _ 13 _ [.int r7, .ref 9] K ci8 cj9 cr10 _ _ Qr Qx
  refine ev_bipush (v := (nI 10)) dX2_readsPair_13 jb10 ?_
  refine ev_icmp_ne 22 dX2_readsPair_15 rfl (fun z13 => ?_) (fun z13 => ?_)
  · rw [if_neg z13] at h
    refine ev_iconst (v := (nI 0)) dX2_readsPair_22 jc0 ?_
    exact wX2_readsPair_23 n   _ _ _ _ _ _ hC12 h hq
  · rw [if_pos z13] at h
    refine ev_iconst (v := (nI 1)) dX2_readsPair_18 jc1 ?_
    refine ev_goto 23 dX2_readsPair_19 rfl ?_
    exact wX2_readsPair_23 n   _ _ _ _ _ _ hC12 h hq
def fX10_init (n : Nat) (ah : Nat) (a0 : Nat) (a1 : Int32) (a2 : Int32) (K : jK) (ci : jI) (cj : jJ) (cr : jR) : Option (jTp Unit) := jpb (fX7_init n ah a0 K ci cj cr) (fun r1 ci2 cj3 cr4 => if K.1 ah = 9 ∧ ah < K.2.2 then some ((), (ju (ju ci2 ah 1 a1) ah 2 a2), cj3, cr4) else none)
theorem metX10_init {g : jG} {d : Nat} {c sl : Nat} {Qr : jQ} {Qx : jX} (n : Nat) (ah : Nat) (a0 : Nat) (a1 : Int32) (a2 : Int32) (K : jK) (ci : jI) (cj : jJ) (cr : jR) {q} (hC : jCW K cr) (h : fX10_init n ah a0 a1 a2 K ci cj cr = some q) (hq : jqp wV K q Qr) : EvM g (d + 2) mX10_init [.ref ah, .ref a0, .int a1, .int a2] K ci cj cr c sl Qr Qx := by
  unfold fX10_init at h
  show Ev g (d + 2) mX10_init 0 [.ref ah, .ref a0, .int a1, .int a2] [] K ci cj cr c sl Qr Qx
  refine ev_aload_n dX10_init_0 rfl ?_
  refine ev_aload_n dX10_init_1 rfl ?_
  obtain ⟨r1, ci2, cj3, cr4, z5, h⟩ := jpb_inv h
  refine ev_zI1 dX10_init_2 iX10_1 (Nat.le_of_ble_eq_true rfl) (Nat.le_of_ble_eq_true rfl) rfl (metX7_init n _ _ _ _ _ _ hC z5 (fun hC6 => ?_))
  show Ev g _ _ 5 _ [] K ci2 cj3 cr4 _ _ Qr Qx
  refine ev_aload_n dX10_init_5 rfl ?_
  refine ev_iload_n dX10_init_6 rfl ?_
  by_cases z7 : K.1 ah = 9 ∧ ah < K.2.2
  rotate_left
  · rw [if_neg z7] at h; cases h
  rw [if_pos z7] at h
  refine ev_putI dX10_init_7 pX10_7_9 z7.1 z7.2 rfl rfl rfl ?_
  refine ev_aload_n dX10_init_10 rfl ?_
  refine ev_iload_n dX10_init_11 rfl ?_
  refine ev_putI dX10_init_12 pX10_13_9 z7.1 z7.2 rfl rfl rfl ?_
  cases h
  exact ev_ret dX10_init_15 rfl (hq hC6)
def fX2_readsShoal_22 (n : Nat) (l1 : Int32) (t0 : Int32) (K : jK) (ci : jI) (cj : jJ) (cr : jR) : Option (jT Unit) := jxb (fX2_most n t0 l1 K ci cj cr) (fun r1 K2 ci3 cj4 cr5 => jxb (fX2_fresh n  K2 ci3 cj4 cr5) (fun r8 K9 ci10 cj11 cr12 => jxb (fX2_number n 1000136 (nI 0) (nI 99) K9 ci10 cj11 cr12) (fun r15 K16 ci17 cj18 cr19 => Option.bind (cr19 9 6) (fun r22 => if K16.1 r22 = 1 ∧ r22 < K16.2.2 then Option.bind (cr19 r22 4) (fun r25 => if K16.2.2 < 1000000 then jal (jfn 9) (jxb (fX2_number n 1000106 (nI 1) (nI 99) (jnK K16 9 0) ci17 cj18 cr19) (fun r30 K31 ci32 cj33 cr34 => jpb (fX10_init n K16.2.2 r8 r15 r30 K31 ci32 cj33 cr34) (fun r37 ci38 cj39 cr40 => if K31.1 r25 = 20 ∧ r25 < K31.2.2 then jxb (fJ2_add n r25 K16.2.2 K31 ci38 cj39 cr40) (fun r44 K45 ci46 cj47 cr48 => some (some (), K45, ci46, cj47, cr48, 0, 0)) else none))) else none) else none))))
theorem wX2_readsShoal_22 {g : jG} {d : Nat} {Qr : jQ} {Qx : jX} (n : Nat) (l1 : Int32) (t0 : Int32) (K : jK) (ci : jI) (cj : jJ) (cr : jR) {q} (hC : jCW K cr) (h : fX2_readsShoal_22 n  l1 t0 K ci cj cr = some q) (hq : jqx wV q Qr Qx) : Ev g (d + 9) mX2_readsShoal 22 [.ref 9, .int l1, jU, jU] [.int t0, .ref 9] K ci cj cr q.2.2.2.2.2.1 q.2.2.2.2.2.2 Qr Qx := by
  unfold fX2_readsShoal_22 at h
  refine ev_iload_n dX2_readsShoal_22 rfl ?_
  refine jx_inv (wf := wV) (fun c1 s1 c sl z => ev_invV2 dX2_readsShoal_23 vX2_120_2 (ck9 hC) (Or.inl (cl9 hC)) (Nat.le_of_ble_eq_true rfl) (Nat.le_of_ble_eq_true rfl) rfl z) h hq (fun q Qr' z zq => metX2_most n _ _ _ _ _ _ hC z zq) (fun r1 K2 ci3 cj4 cr5 w6 h hC7 hq => ?_)
  show Ev g _ _ 26 _ [] K2 ci3 cj4 cr5 _ _ Qr Qx
  refine ev_aload_n dX2_readsShoal_26 rfl ?_
  refine jx_inv (wf := wR) (fun c1 s1 c sl z => ev_invV0 dX2_readsShoal_27 vX2_144_2 (ck9 hC7) (Or.inl (cl9 hC7)) (Nat.le_of_ble_eq_true rfl) (Nat.le_of_ble_eq_true rfl) rfl z) h hq (fun q Qr' z zq => metX2_fresh n  _ _ _ _ hC7 z zq) (fun r8 K9 ci10 cj11 cr12 w13 h hC14 hq => ?_)
  show Ev g _ _ 30 _ [.ref r8] K9 ci10 cj11 cr12 _ _ Qr Qx
  refine ev_astore_n (L' := [_, _, _, _]) dX2_readsShoal_30 (by decide) rfl ?_
  refine ev_aload_n dX2_readsShoal_31 rfl ?_
  refine ev_ldcS "mile" 1000136 dX2_readsShoal_32 (by decide +kernel) ?_
  refine ev_iconst (v := (nI 0)) dX2_readsShoal_34 jc0 ?_
  refine ev_bipush (v := (nI 99)) dX2_readsShoal_35 jb99 ?_
  refine jx_inv (wf := wI) (fun c1 s1 c sl z => ev_invV3 dX2_readsShoal_37 vX2_149_2 (ck9 hC14) (Or.inl (cl9 hC14)) (Nat.le_of_ble_eq_true rfl) (Nat.le_of_ble_eq_true rfl) rfl z) h hq (fun q Qr' z zq => metX2_number n _ _ _ _ _ _ _ hC14 z zq) (fun r15 K16 ci17 cj18 cr19 w20 h hC21 hq => ?_)
  show Ev g _ _ 40 _ [.int r15] K16 ci17 cj18 cr19 _ _ Qr Qx
  refine ev_istore_n (L' := [_, _, _, _]) dX2_readsShoal_40 (by decide) rfl ?_
  refine ev_aload_n dX2_readsShoal_41 rfl ?_
  obtain ⟨r22, z23, h⟩ := Option.bind_eq_some_iff.mp h
  refine ev_getR dX2_readsShoal_42 fX2_103_2 (ck9 hC21) (Or.inl (cl9 hC21)) rfl z23 ?_
  by_cases z24 : K16.1 r22 = 1 ∧ r22 < K16.2.2
  rotate_left
  · rw [if_neg z24] at h; cases h
  rw [if_pos z24] at h
  obtain ⟨r25, z26, h⟩ := Option.bind_eq_some_iff.mp h
  refine ev_getR dX2_readsShoal_45 fX2_177_1 z24.1 (Or.inl z24.2) rfl z26 ?_
  by_cases z27 : K16.2.2 < 1000000
  rotate_left
  · rw [if_neg z27] at h; cases h
  rw [if_pos z27] at h
  refine jx_new (fun c sl z => ev_new dX2_readsShoal_48 nX2_180 z27 z) h hq (fun w28 h hq => ?_)
  have hC29 := jCW.new hC21 9 0
  show Ev g _ _ 51 _ [.ref K16.2.2, .ref r25] (jnK K16 9 0) ci17 cj18 cr19 _ _ Qr Qx
  refine ev_dup dX2_readsShoal_51 rfl ?_
  refine ev_aload_n dX2_readsShoal_52 rfl ?_
  refine ev_iload_n dX2_readsShoal_53 rfl ?_
  refine ev_aload_n dX2_readsShoal_54 rfl ?_
  refine ev_ldcS "size" 1000106 dX2_readsShoal_55 (by decide +kernel) ?_
  refine ev_iconst (v := (nI 1)) dX2_readsShoal_57 jc1 ?_
  refine ev_bipush (v := (nI 99)) dX2_readsShoal_58 jb99 ?_
  refine jx_inv (wf := wI) (fun c1 s1 c sl z => ev_invV3 dX2_readsShoal_60 vX2_149_2 (ck9 hC29) (Or.inl (cl9 hC29)) (Nat.le_of_ble_eq_true rfl) (Nat.le_of_ble_eq_true rfl) rfl z) h hq (fun q Qr' z zq => metX2_number n _ _ _ _ _ _ _ hC29 z zq) (fun r30 K31 ci32 cj33 cr34 w35 h hC36 hq => ?_)
  show Ev g _ _ 63 _ [.int r30, .int r15, .ref r8, .ref K16.2.2, .ref K16.2.2, .ref r25] K31 ci32 cj33 cr34 _ _ Qr Qx
  obtain ⟨r37, ci38, cj39, cr40, z41, h⟩ := jpb_inv h
  refine ev_zI3 dX2_readsShoal_63 iX2_183 (Nat.le_of_ble_eq_true rfl) (Nat.le_of_ble_eq_true rfl) rfl (metX10_init n _ _ _ _ _ _ _ _ hC36 z41 (fun hC42 => ?_))
  show Ev g _ _ 66 _ [.ref K16.2.2, .ref r25] K31 ci38 cj39 cr40 _ _ Qr Qx
  by_cases z43 : K31.1 r25 = 20 ∧ r25 < K31.2.2
  rotate_left
  · rw [if_neg z43] at h; cases h
  rw [if_pos z43] at h
  refine jx_inv (wf := wI) (fun c1 s1 c sl z => ev_invF1 dX2_readsShoal_66 vX2_159_20 z43.1 (Or.inl z43.2) (Nat.le_of_ble_eq_true rfl) (Nat.le_of_ble_eq_true rfl) rfl z) h hq (fun q Qr' z zq => metJ2_add n _ _ _ _ _ _ hC42 z zq) (fun r44 K45 ci46 cj47 cr48 w49 h hC50 hq => ?_)
  show Ev g _ _ 71 _ [.int r44] K45 ci46 cj47 cr48 _ _ Qr Qx
  refine ev_pop dX2_readsShoal_71 rfl ?_
  cases h
  exact ev_ret dX2_readsShoal_72 rfl (hq hC50)
def fX2_readsShoal (n : Nat) (a0 : Int32) (K : jK) (ci : jI) (cj : jJ) (cr : jR) : Option (jT Unit) := Option.bind (cr 9 6) (fun r1 => if K.1 r1 = 1 ∧ r1 < K.2.2 then Option.bind (cr r1 4) (fun r4 => if K.1 r4 = 20 ∧ r4 < K.2.2 then jpb (fJ2_size n r4 K ci cj cr) (fun r7 ci8 cj9 cr10 => if r7 = (nI 3) then fX2_readsShoal_22 n  a0 (nI 1) K ci8 cj9 cr10 else fX2_readsShoal_22 n  a0 (nI 0) K ci8 cj9 cr10) else none) else none)
theorem metX2_readsShoal {g : jG} {d : Nat} {Qr : jQ} {Qx : jX} (n : Nat) (a0 : Int32) (K : jK) (ci : jI) (cj : jJ) (cr : jR) {q} (hC : jCW K cr) (h : fX2_readsShoal n a0 K ci cj cr = some q) (hq : jqx wV q Qr Qx) : EvM g (d + 9) mX2_readsShoal [.ref 9, .int a0] K ci cj cr q.2.2.2.2.2.1 q.2.2.2.2.2.2 Qr Qx := by
  unfold fX2_readsShoal at h
  show Ev g (d + 9) mX2_readsShoal 0 [.ref 9, .int a0, jU, jU] [] K ci cj cr q.2.2.2.2.2.1 q.2.2.2.2.2.2 Qr Qx
  refine ev_aload_n dX2_readsShoal_0 rfl ?_
  refine ev_aload_n dX2_readsShoal_1 rfl ?_
  obtain ⟨r1, z2, h⟩ := Option.bind_eq_some_iff.mp h
  refine ev_getR dX2_readsShoal_2 fX2_103_2 (ck9 hC) (Or.inl (cl9 hC)) rfl z2 ?_
  by_cases z3 : K.1 r1 = 1 ∧ r1 < K.2.2
  rotate_left
  · rw [if_neg z3] at h; cases h
  rw [if_pos z3] at h
  obtain ⟨r4, z5, h⟩ := Option.bind_eq_some_iff.mp h
  refine ev_getR dX2_readsShoal_5 fX2_177_1 z3.1 (Or.inl z3.2) rfl z5 ?_
  by_cases z6 : K.1 r4 = 20 ∧ r4 < K.2.2
  rotate_left
  · rw [if_neg z6] at h; cases h
  rw [if_pos z6] at h
  obtain ⟨r7, ci8, cj9, cr10, z11, h⟩ := jpb_inv h
  refine ev_zF0 dX2_readsShoal_8 vX2_140_20 z6.1 (Or.inl z6.2) (Nat.le_of_ble_eq_true rfl) (Nat.le_of_ble_eq_true rfl) rfl (metJ2_size n _ _ _ _ _ hC z11 (fun hC12 => ?_))
  show Ev g _ _ 13 _ [.int r7, .ref 9] K ci8 cj9 cr10 _ _ Qr Qx
  refine ev_iconst (v := (nI 3)) dX2_readsShoal_13 jc3 ?_
  refine ev_icmp_ne 21 dX2_readsShoal_14 rfl (fun z13 => ?_) (fun z13 => ?_)
  · rw [if_neg z13] at h
    refine ev_iconst (v := (nI 0)) dX2_readsShoal_21 jc0 ?_
    exact wX2_readsShoal_22 n   _ _ _ _ _ _ hC12 h hq
  · rw [if_pos z13] at h
    refine ev_iconst (v := (nI 1)) dX2_readsShoal_17 jc1 ?_
    refine ev_goto 22 dX2_readsShoal_18 rfl ?_
    exact wX2_readsShoal_22 n   _ _ _ _ _ _ hC12 h hq
def fX2_isTold_109 (n : Nat) (l2 : Int32) (l4 : Int32) (K : jK) (ci : jI) (cj : jJ) (cr : jR) : Option (jT Int32) := if l4 = (nI 0) then jxb (fX2_readsBay n l2 K ci cj cr) (fun r2 K3 ci4 cj5 cr6 => some (some (nI 1), K3, ci4, cj5, cr6, 0, 0)) else if l4 = (nI 1) then jxb (fX2_readsPair n l2 K ci cj cr) (fun r10 K11 ci12 cj13 cr14 => some (some (nI 1), K11, ci12, cj13, cr14, 0, 0)) else if l4 = (nI 2) then jxb (fX2_readsShoal n l2 K ci cj cr) (fun r18 K19 ci20 cj21 cr22 => some (some (nI 1), K19, ci20, cj21, cr22, 0, 0)) else if l4 = (nI 3) then Option.bind (cr 9 6) (fun r26 => jxb (fX2_number_2 n (nI 0) (nI 100) K ci cj cr) (fun r28 K29 ci30 cj31 cr32 => if K29.1 r26 = 1 ∧ r26 < K29.2.2 then some (some (nI 1), K29, (ju ci30 r26 1 r28), cj31, cr32, 0, 0) else none)) else some (some (nI 0), K, ci, cj, cr, 0, 0)
theorem wX2_isTold_109 {g : jG} {d : Nat} {Qr : jQ} {Qx : jX} (n : Nat) (l2 : Int32) (l4 : Int32) (K : jK) (ci : jI) (cj : jJ) (cr : jR) {q} (hC : jCW K cr) (h : fX2_isTold_109 n  l2 l4 K ci cj cr = some q) (hq : jqx wI q Qr Qx) : Ev g (d + 10) mX2_isTold 109 [.ref 9, jU, .int l2, jU, .int l4] [] K ci cj cr q.2.2.2.2.2.1 q.2.2.2.2.2.2 Qr Qx := by
  unfold fX2_isTold_109 at h
  refine ev_iload dX2_isTold_109 rfl ?_
  by_cases z1 : l4 = (nI 0)
  · rw [if_pos z1] at h
    refine ev_tableIn 140 dX2_isTold_111 (by rw [z1]; decide) (by rw [z1]; decide) (by rw [z1]; rfl) rfl ?_
    refine ev_aload_n dX2_isTold_140 rfl ?_
    refine ev_iload_n dX2_isTold_141 rfl ?_
    refine jx_inv (wf := wV) (fun c1 s1 c sl z => ev_invV1 dX2_isTold_142 vX2_195_2 (ck9 hC) (Or.inl (cl9 hC)) (Nat.le_of_ble_eq_true rfl) (Nat.le_of_ble_eq_true rfl) rfl z) h hq (fun q Qr' z zq => metX2_readsBay n _ _ _ _ _ hC z zq) (fun r2 K3 ci4 cj5 cr6 w7 h hC8 hq => ?_)
    show Ev g _ _ 145 _ [] K3 ci4 cj5 cr6 _ _ Qr Qx
    refine ev_iconst (v := (nI 1)) dX2_isTold_145 jc1 ?_
    cases h
    exact ev_iret dX2_isTold_146 rfl (by decide) (hq hC8)
  rw [if_neg z1] at h
  by_cases z9 : l4 = (nI 1)
  · rw [if_pos z9] at h
    refine ev_tableIn 147 dX2_isTold_111 (by rw [z9]; decide) (by rw [z9]; decide) (by rw [z9]; rfl) rfl ?_
    refine ev_aload_n dX2_isTold_147 rfl ?_
    refine ev_iload_n dX2_isTold_148 rfl ?_
    refine jx_inv (wf := wV) (fun c1 s1 c sl z => ev_invV1 dX2_isTold_149 vX2_198_2 (ck9 hC) (Or.inl (cl9 hC)) (Nat.le_of_ble_eq_true rfl) (Nat.le_of_ble_eq_true rfl) rfl z) h hq (fun q Qr' z zq => metX2_readsPair n _ _ _ _ _ hC z zq) (fun r10 K11 ci12 cj13 cr14 w15 h hC16 hq => ?_)
    show Ev g _ _ 152 _ [] K11 ci12 cj13 cr14 _ _ Qr Qx
    refine ev_iconst (v := (nI 1)) dX2_isTold_152 jc1 ?_
    cases h
    exact ev_iret dX2_isTold_153 rfl (by decide) (hq hC16)
  rw [if_neg z9] at h
  by_cases z17 : l4 = (nI 2)
  · rw [if_pos z17] at h
    refine ev_tableIn 154 dX2_isTold_111 (by rw [z17]; decide) (by rw [z17]; decide) (by rw [z17]; rfl) rfl ?_
    refine ev_aload_n dX2_isTold_154 rfl ?_
    refine ev_iload_n dX2_isTold_155 rfl ?_
    refine jx_inv (wf := wV) (fun c1 s1 c sl z => ev_invV1 dX2_isTold_156 vX2_201_2 (ck9 hC) (Or.inl (cl9 hC)) (Nat.le_of_ble_eq_true rfl) (Nat.le_of_ble_eq_true rfl) rfl z) h hq (fun q Qr' z zq => metX2_readsShoal n _ _ _ _ _ hC z zq) (fun r18 K19 ci20 cj21 cr22 w23 h hC24 hq => ?_)
    show Ev g _ _ 159 _ [] K19 ci20 cj21 cr22 _ _ Qr Qx
    refine ev_iconst (v := (nI 1)) dX2_isTold_159 jc1 ?_
    cases h
    exact ev_iret dX2_isTold_160 rfl (by decide) (hq hC24)
  rw [if_neg z17] at h
  by_cases z25 : l4 = (nI 3)
  · rw [if_pos z25] at h
    refine ev_tableIn 161 dX2_isTold_111 (by rw [z25]; decide) (by rw [z25]; decide) (by rw [z25]; rfl) rfl ?_
    refine ev_aload_n dX2_isTold_161 rfl ?_
    obtain ⟨r26, z27, h⟩ := Option.bind_eq_some_iff.mp h
    refine ev_getR dX2_isTold_162 fX2_103_2 (ck9 hC) (Or.inl (cl9 hC)) rfl z27 ?_
    refine ev_aload_n dX2_isTold_165 rfl ?_
    refine ev_iconst (v := (nI 0)) dX2_isTold_166 jc0 ?_
    refine ev_bipush (v := (nI 100)) dX2_isTold_167 jb100 ?_
    refine jx_inv (wf := wI) (fun c1 s1 c sl z => ev_invV2 dX2_isTold_169 vX2_96_2 (ck9 hC) (Or.inl (cl9 hC)) (Nat.le_of_ble_eq_true rfl) (Nat.le_of_ble_eq_true rfl) rfl z) h hq (fun q Qr' z zq => metX2_number_2 n _ _ _ _ _ _ hC z zq) (fun r28 K29 ci30 cj31 cr32 w33 h hC34 hq => ?_)
    show Ev g _ _ 172 _ [.int r28, .ref r26] K29 ci30 cj31 cr32 _ _ Qr Qx
    by_cases z35 : K29.1 r26 = 1 ∧ r26 < K29.2.2
    rotate_left
    · rw [if_neg z35] at h; cases h
    rw [if_pos z35] at h
    refine ev_putI dX2_isTold_172 (pX2_204_1 _) z35.1 z35.2 rfl rfl rfl ?_
    refine ev_iconst (v := (nI 1)) dX2_isTold_175 jc1 ?_
    cases h
    exact ev_iret dX2_isTold_176 rfl (by decide) (hq hC34)
  rw [if_neg z25] at h
  refine ev_tableOut 177 dX2_isTold_111 (jtab_0_3 z1 z9 z17 z25) rfl ?_
  refine ev_iconst (v := (nI 0)) dX2_isTold_177 jc0 ?_
  cases h
  exact ev_iret dX2_isTold_178 rfl (by decide) (hq hC)
def fX2_isTold (n : Nat) (a0 : Nat) (a1 : Int32) (K : jK) (ci : jI) (cj : jJ) (cr : jR) : Option (jT Int32) := if K.1 a0 = 21 ∧ (a0 < K.2.2 ∨ 1000000 ≤ a0) then jpb (fJ6_hashCode n a0 K ci cj cr) (fun r2 ci3 cj4 cr5 => if r2 = (nI 97306) then jpb (fJ6_equals n a0 1000134 K ci3 cj4 cr5) (fun r9 ci10 cj11 cr12 => if r9 = 0 then fX2_isTold_109 n  a1 (-1) K ci10 cj11 cr12 else fX2_isTold_109 n  a1 (nI 0) K ci10 cj11 cr12) else if r2 = (nI 3433178) then jpb (fJ6_equals n a0 1000138 K ci3 cj4 cr5) (fun r17 ci18 cj19 cr20 => if r17 = 0 then fX2_isTold_109 n  a1 (-1) K ci18 cj19 cr20 else fX2_isTold_109 n  a1 (nI 1) K ci18 cj19 cr20) else if r2 = (nI 109412965) then jpb (fJ6_equals n a0 1000142 K ci3 cj4 cr5) (fun r25 ci26 cj27 cr28 => if r25 = 0 then fX2_isTold_109 n  a1 (-1) K ci26 cj27 cr28 else fX2_isTold_109 n  a1 (nI 2) K ci26 cj27 cr28) else if r2 = (nI 109770985) then jpb (fJ6_equals n a0 1000152 K ci3 cj4 cr5) (fun r33 ci34 cj35 cr36 => if r33 = 0 then fX2_isTold_109 n  a1 (-1) K ci34 cj35 cr36 else fX2_isTold_109 n  a1 (nI 3) K ci34 cj35 cr36) else fX2_isTold_109 n  a1 (-1) K ci3 cj4 cr5) else none
theorem metX2_isTold {g : jG} {d : Nat} {Qr : jQ} {Qx : jX} (n : Nat) (a0 : Nat) (a1 : Int32) (K : jK) (ci : jI) (cj : jJ) (cr : jR) {q} (hC : jCW K cr) (h : fX2_isTold n a0 a1 K ci cj cr = some q) (hq : jqx wI q Qr Qx) : EvM g (d + 10) mX2_isTold [.ref 9, .ref a0, .int a1] K ci cj cr q.2.2.2.2.2.1 q.2.2.2.2.2.2 Qr Qx := by
  unfold fX2_isTold at h
  show Ev g (d + 10) mX2_isTold 0 [.ref 9, .ref a0, .int a1, jU, jU] [] K ci cj cr q.2.2.2.2.2.1 q.2.2.2.2.2.2 Qr Qx
  refine ev_aload_n dX2_isTold_0 rfl ?_
  refine ev_astore_n (L' := [_, _, _, _, _]) dX2_isTold_1 (by decide) rfl ?_
  refine ev_iconst (v := (-1)) dX2_isTold_2 jcm1 ?_
  refine ev_istore (L' := [_, _, _, _, _]) dX2_isTold_3 (by decide) rfl ?_
  refine ev_aload_n dX2_isTold_5 rfl ?_
  by_cases z1 : K.1 a0 = 21 ∧ (a0 < K.2.2 ∨ 1000000 ≤ a0)
  rotate_left
  · rw [if_neg z1] at h; cases h
  rw [if_pos z1] at h
  obtain ⟨r2, ci3, cj4, cr5, z6, h⟩ := jpb_inv h
  refine ev_zV0 dX2_isTold_6 vX2_184_21 z1.1 z1.2 (Nat.le_of_ble_eq_true rfl) (Nat.le_of_ble_eq_true rfl) rfl (metJ6_hashCode n _ _ _ _ _ hC z6 (fun hC7 => ?_))
  show Ev g _ _ 9 _ [.int r2] K ci3 cj4 cr5 _ _ Qr Qx
  by_cases z8 : r2 = (nI 97306)
  · rw [if_pos z8] at h
    refine ev_lookup 52 dX2_isTold_9 (by decide) (off := 43) (by rw [z8]; decide) rfl ?_
    refine ev_aload_n dX2_isTold_52 rfl ?_
    refine ev_ldcS "bay" 1000134 dX2_isTold_53 (by decide +kernel) ?_
    obtain ⟨r9, ci10, cj11, cr12, z13, h⟩ := jpb_inv h
    refine ev_zV1 dX2_isTold_55 vX2_74_21 z1.1 z1.2 (Nat.le_of_ble_eq_true rfl) (Nat.le_of_ble_eq_true rfl) rfl (metJ6_equals n _ _ _ _ _ _ hC7 z13 (fun hC14 => ?_))
    show Ev g _ _ 58 _ [.int r9] K ci10 cj11 cr12 _ _ Qr Qx
    refine ev_if_eq 109 dX2_isTold_58 rfl (fun z15 => ?_) (fun z15 => ?_)
    · rw [if_pos z15] at h
      exact ev_mask [true, false, true, false, true] (wX2_isTold_109 n   _ _ _ _ _ _ hC14 h hq)
    · rw [if_neg z15] at h
      refine ev_iconst (v := (nI 0)) dX2_isTold_61 jc0 ?_
      refine ev_istore (L' := [_, _, _, _, _]) dX2_isTold_62 (by decide) rfl ?_
      refine ev_goto 109 dX2_isTold_64 rfl ?_
      exact ev_mask [true, false, true, false, true] (wX2_isTold_109 n   _ _ _ _ _ _ hC14 h hq)
  rw [if_neg z8] at h
  by_cases z16 : r2 = (nI 3433178)
  · rw [if_pos z16] at h
    refine ev_lookup 67 dX2_isTold_9 (by decide) (off := 58) (by rw [z16]; decide) rfl ?_
    refine ev_aload_n dX2_isTold_67 rfl ?_
    refine ev_ldcS "pair" 1000138 dX2_isTold_68 (by decide +kernel) ?_
    obtain ⟨r17, ci18, cj19, cr20, z21, h⟩ := jpb_inv h
    refine ev_zV1 dX2_isTold_70 vX2_74_21 z1.1 z1.2 (Nat.le_of_ble_eq_true rfl) (Nat.le_of_ble_eq_true rfl) rfl (metJ6_equals n _ _ _ _ _ _ hC7 z21 (fun hC22 => ?_))
    show Ev g _ _ 73 _ [.int r17] K ci18 cj19 cr20 _ _ Qr Qx
    refine ev_if_eq 109 dX2_isTold_73 rfl (fun z23 => ?_) (fun z23 => ?_)
    · rw [if_pos z23] at h
      exact ev_mask [true, false, true, false, true] (wX2_isTold_109 n   _ _ _ _ _ _ hC22 h hq)
    · rw [if_neg z23] at h
      refine ev_iconst (v := (nI 1)) dX2_isTold_76 jc1 ?_
      refine ev_istore (L' := [_, _, _, _, _]) dX2_isTold_77 (by decide) rfl ?_
      refine ev_goto 109 dX2_isTold_79 rfl ?_
      exact ev_mask [true, false, true, false, true] (wX2_isTold_109 n   _ _ _ _ _ _ hC22 h hq)
  rw [if_neg z16] at h
  by_cases z24 : r2 = (nI 109412965)
  · rw [if_pos z24] at h
    refine ev_lookup 82 dX2_isTold_9 (by decide) (off := 73) (by rw [z24]; decide) rfl ?_
    refine ev_aload_n dX2_isTold_82 rfl ?_
    refine ev_ldcS "shoal" 1000142 dX2_isTold_83 (by decide +kernel) ?_
    obtain ⟨r25, ci26, cj27, cr28, z29, h⟩ := jpb_inv h
    refine ev_zV1 dX2_isTold_85 vX2_74_21 z1.1 z1.2 (Nat.le_of_ble_eq_true rfl) (Nat.le_of_ble_eq_true rfl) rfl (metJ6_equals n _ _ _ _ _ _ hC7 z29 (fun hC30 => ?_))
    show Ev g _ _ 88 _ [.int r25] K ci26 cj27 cr28 _ _ Qr Qx
    refine ev_if_eq 109 dX2_isTold_88 rfl (fun z31 => ?_) (fun z31 => ?_)
    · rw [if_pos z31] at h
      exact ev_mask [true, false, true, false, true] (wX2_isTold_109 n   _ _ _ _ _ _ hC30 h hq)
    · rw [if_neg z31] at h
      refine ev_iconst (v := (nI 2)) dX2_isTold_91 jc2 ?_
      refine ev_istore (L' := [_, _, _, _, _]) dX2_isTold_92 (by decide) rfl ?_
      refine ev_goto 109 dX2_isTold_94 rfl ?_
      exact ev_mask [true, false, true, false, true] (wX2_isTold_109 n   _ _ _ _ _ _ hC30 h hq)
  rw [if_neg z24] at h
  by_cases z32 : r2 = (nI 109770985)
  · rw [if_pos z32] at h
    refine ev_lookup 97 dX2_isTold_9 (by decide) (off := 88) (by rw [z32]; decide) rfl ?_
    refine ev_aload_n dX2_isTold_97 rfl ?_
    refine ev_ldcS "storm" 1000152 dX2_isTold_98 (by decide +kernel) ?_
    obtain ⟨r33, ci34, cj35, cr36, z37, h⟩ := jpb_inv h
    refine ev_zV1 dX2_isTold_100 vX2_74_21 z1.1 z1.2 (Nat.le_of_ble_eq_true rfl) (Nat.le_of_ble_eq_true rfl) rfl (metJ6_equals n _ _ _ _ _ _ hC7 z37 (fun hC38 => ?_))
    show Ev g _ _ 103 _ [.int r33] K ci34 cj35 cr36 _ _ Qr Qx
    refine ev_if_eq 109 dX2_isTold_103 rfl (fun z39 => ?_) (fun z39 => ?_)
    · rw [if_pos z39] at h
      exact ev_mask [true, false, true, false, true] (wX2_isTold_109 n   _ _ _ _ _ _ hC38 h hq)
    · rw [if_neg z39] at h
      refine ev_iconst (v := (nI 3)) dX2_isTold_106 jc3 ?_
      refine ev_istore (L' := [_, _, _, _, _]) dX2_isTold_107 (by decide) rfl ?_
      exact ev_mask [true, false, true, false, true] (wX2_isTold_109 n   _ _ _ _ _ _ hC38 h hq)
  rw [if_neg z32] at h
  refine ev_lookup 109 dX2_isTold_9 (by decide) (off := 100) (by show Op.lookupswitch.offset [(97306, 43), (3433178, 58), (109412965, 73), (109770985, 88)] 100 _ = 100; rw [lv_osw z8 (by decide : ((nI 97306) : Int32).toInt = 97306), lv_osw z16 (by decide : ((nI 3433178) : Int32).toInt = 3433178), lv_osw z24 (by decide : ((nI 109412965) : Int32).toInt = 109412965), lv_osw z32 (by decide : ((nI 109770985) : Int32).toInt = 109770985)]; rfl) rfl ?_
  exact ev_mask [true, false, true, false, true] (wX2_isTold_109 n   _ _ _ _ _ _ hC7 h hq)
