/-! STAGE A OF THE COMPONENT (printed by gen/comp.py) -/
set_option maxRecDepth 100000
def fX12_add (n : Nat) (ah : Nat) (a0 : Int32) (a1 : Nat) (K : jK) (ci : jI) (cj : jJ) (cr : jR) : Option (jT Unit) := if K.1 ah = 10 ∧ ah < K.2.2 then Option.bind (cr ah 1) (fun r2 => if K.1 r2 = 22 ∧ r2 < K.2.2 then jxb (fJ15_append n r2 a0 K ci cj cr) (fun r5 K6 ci7 cj8 cr9 => if K6.1 ah = 10 ∧ ah < K6.2.2 then Option.bind (cr9 ah 0) (fun r13 => if K6.1 r13 = 20 ∧ r13 < K6.2.2 then jxb (fJ2_add n r13 a1 K6 ci7 cj8 cr9) (fun r16 K17 ci18 cj19 cr20 => some (some (), K17, ci18, cj19, cr20, 0, 0)) else none) else none) else none) else none
theorem metX12_add {g : jG} {d : Nat} {Qr : jQ} {Qx : jX} (n : Nat) (ah : Nat) (a0 : Int32) (a1 : Nat) (K : jK) (ci : jI) (cj : jJ) (cr : jR) {q} (hC : jCW K cr) (h : fX12_add n ah a0 a1 K ci cj cr = some q) (hq : jqx wV q Qr Qx) : EvM g (d + 8) mX12_add [.ref ah, .int a0, .ref a1] K ci cj cr q.2.2.2.2.2.1 q.2.2.2.2.2.2 Qr Qx := by
  unfold fX12_add at h
  show Ev g (d + 8) mX12_add 0 [.ref ah, .int a0, .ref a1] [] K ci cj cr q.2.2.2.2.2.1 q.2.2.2.2.2.2 Qr Qx
  refine ev_aload_n dX12_add_0 rfl ?_
  by_cases z1 : K.1 ah = 10 ∧ ah < K.2.2
  rotate_left
  · rw [if_neg z1] at h; cases h
  rw [if_pos z1] at h
  obtain ⟨r2, z3, h⟩ := Option.bind_eq_some_iff.mp h
  refine ev_getR dX12_add_1 fX12_21_10 z1.1 (Or.inl z1.2) rfl z3 ?_
  refine ev_iload_n dX12_add_4 rfl ?_
  by_cases z4 : K.1 r2 = 22 ∧ r2 < K.2.2
  rotate_left
  · rw [if_neg z4] at h; cases h
  rw [if_pos z4] at h
  refine jx_inv (wf := wR) (fun c1 s1 c sl z => ev_invV1 dX12_add_5 vX12_25_22 z4.1 (Or.inl z4.2) (Nat.le_of_ble_eq_true rfl) (Nat.le_of_ble_eq_true rfl) rfl z) h hq (fun q Qr' z zq => metJ15_append n _ _ _ _ _ _ hC z zq) (fun r5 K6 ci7 cj8 cr9 w10 h hC11 hq => ?_)
  show Ev g _ _ 8 _ [.ref r5] K6 ci7 cj8 cr9 _ _ Qr Qx
  refine ev_pop dX12_add_8 rfl ?_
  refine ev_aload_n dX12_add_9 rfl ?_
  by_cases z12 : K6.1 ah = 10 ∧ ah < K6.2.2
  rotate_left
  · rw [if_neg z12] at h; cases h
  rw [if_pos z12] at h
  obtain ⟨r13, z14, h⟩ := Option.bind_eq_some_iff.mp h
  refine ev_getR dX12_add_10 fX12_12_10 z12.1 (Or.inl z12.2) rfl z14 ?_
  refine ev_aload_n dX12_add_13 rfl ?_
  by_cases z15 : K6.1 r13 = 20 ∧ r13 < K6.2.2
  rotate_left
  · rw [if_neg z15] at h; cases h
  rw [if_pos z15] at h
  refine jx_inv (wf := wI) (fun c1 s1 c sl z => ev_invF1 dX12_add_14 vX12_29_20 z15.1 (Or.inl z15.2) (Nat.le_of_ble_eq_true rfl) (Nat.le_of_ble_eq_true rfl) rfl z) h hq (fun q Qr' z zq => metJ2_add n _ _ _ _ _ _ hC11 z zq) (fun r16 K17 ci18 cj19 cr20 w21 h hC22 hq => ?_)
  show Ev g _ _ 19 _ [.int r16] K17 ci18 cj19 cr20 _ _ Qr Qx
  refine ev_pop dX12_add_19 rfl ?_
  cases h
  exact ev_ret dX12_add_20 rfl (hq hC22)
def fX11_init (n : Nat) (ah : Nat) (K : jK) (ci : jI) (cj : jJ) (cr : jR) : Option (jTp Unit) := some ((), ci, cj, cr)
theorem metX11_init {g : jG} {d : Nat} {c sl : Nat} {Qr : jQ} {Qx : jX} (n : Nat) (ah : Nat) (K : jK) (ci : jI) (cj : jJ) (cr : jR) {q} (hC : jCW K cr) (h : fX11_init n ah K ci cj cr = some q) (hq : jqp wV K q Qr) : EvM g (d + 1) mX11_init [.ref ah] K ci cj cr c sl Qr Qx := by
  unfold fX11_init at h
  show Ev g (d + 1) mX11_init 0 [.ref ah] [] K ci cj cr c sl Qr Qx
  refine ev_aload_n dX11_init_0 rfl ?_
  refine ev_objInit dX11_init_1 q992 (Nat.le_of_ble_eq_true rfl) ?_
  cases h
  exact ev_ret dX11_init_4 rfl (hq hC)
def fX12_init (n : Nat) (ah : Nat) (K : jK) (ci : jI) (cj : jJ) (cr : jR) : Option (jT Unit) := jpb (fX11_init n ah K ci cj cr) (fun r1 ci2 cj3 cr4 => if K.2.2 < 1000000 then jal (jfn 20) (jxb (fJ2_init n K.2.2 (nI 2) (jnK K 20 0) ci2 cj3 cr4) (fun r10 K11 ci12 cj13 cr14 => if K11.1 ah = 10 ∧ ah < K11.2.2 then if K11.2.2 < 1000000 then jal (jfn 22) (jxb (fJ15_init n K11.2.2 (jnK K11 22 0) ci12 cj13 (ju cr14 ah 0 (some K.2.2))) (fun r22 K23 ci24 cj25 cr26 => if K23.1 ah = 10 ∧ ah < K23.2.2 then some (some (), K23, ci24, cj25, (ju cr26 ah 1 (some K11.2.2)), 0, 0) else none)) else none else none)) else none)
theorem metX12_init {g : jG} {d : Nat} {Qr : jQ} {Qx : jX} (n : Nat) (ah : Nat) (K : jK) (ci : jI) (cj : jJ) (cr : jR) {q} (hC : jCW K cr) (h : fX12_init n ah K ci cj cr = some q) (hq : jqx wV q Qr Qx) : EvM g (d + 4) mX12_init [.ref ah] K ci cj cr q.2.2.2.2.2.1 q.2.2.2.2.2.2 Qr Qx := by
  unfold fX12_init at h
  show Ev g (d + 4) mX12_init 0 [.ref ah] [] K ci cj cr q.2.2.2.2.2.1 q.2.2.2.2.2.2 Qr Qx
  refine ev_aload_n dX12_init_0 rfl ?_
  obtain ⟨r1, ci2, cj3, cr4, z5, h⟩ := jpb_inv h
  refine ev_zI0 dX12_init_1 iX12_1 (Nat.le_of_ble_eq_true rfl) (Nat.le_of_ble_eq_true rfl) rfl (metX11_init n _ _ _ _ _ hC z5 (fun hC6 => ?_))
  show Ev g _ _ 4 _ [] K ci2 cj3 cr4 _ _ Qr Qx
  refine ev_aload_n dX12_init_4 rfl ?_
  by_cases z7 : K.2.2 < 1000000
  rotate_left
  · rw [if_neg z7] at h; cases h
  rw [if_pos z7] at h
  refine jx_new (fun c sl z => ev_new dX12_init_5 nX12_7 z7 z) h hq (fun w8 h hq => ?_)
  have hC9 := jCW.new hC6 20 0
  show Ev g _ _ 8 _ [.ref K.2.2, .ref ah] (jnK K 20 0) ci2 cj3 cr4 _ _ Qr Qx
  refine ev_dup dX12_init_8 rfl ?_
  refine ev_iconst (v := (nI 2)) dX12_init_9 jc2 ?_
  refine jx_inv (wf := wV) (fun c1 s1 c sl z => ev_invI1 dX12_init_10 iX12_9 (Nat.le_of_ble_eq_true rfl) (Nat.le_of_ble_eq_true rfl) rfl z) h hq (fun q Qr' z zq => metJ2_init n _ _ _ _ _ _ hC9 z zq) (fun r10 K11 ci12 cj13 cr14 w15 h hC16 hq => ?_)
  show Ev g _ _ 13 _ [.ref K.2.2, .ref ah] K11 ci12 cj13 cr14 _ _ Qr Qx
  by_cases z17 : K11.1 ah = 10 ∧ ah < K11.2.2
  rotate_left
  · rw [if_neg z17] at h; cases h
  rw [if_pos z17] at h
  refine ev_putR dX12_init_13 pX12_12_10 z17.1 z17.2 rfl ?_
  have hC18 := jCW.upd hC16 (k := 0) (v := (some K.2.2)) z17.1 (by decide)
  refine ev_aload_n dX12_init_16 rfl ?_
  by_cases z19 : K11.2.2 < 1000000
  rotate_left
  · rw [if_neg z19] at h; cases h
  rw [if_pos z19] at h
  refine jx_new (fun c sl z => ev_new dX12_init_17 nX12_18 z19 z) h hq (fun w20 h hq => ?_)
  have hC21 := jCW.new hC18 22 0
  show Ev g _ _ 20 _ [.ref K11.2.2, .ref ah] (jnK K11 22 0) ci12 cj13 (ju cr14 ah 0 (some K.2.2)) _ _ Qr Qx
  refine ev_dup dX12_init_20 rfl ?_
  refine jx_inv (wf := wV) (fun c1 s1 c sl z => ev_invI0 dX12_init_21 iX12_20 (Nat.le_of_ble_eq_true rfl) (Nat.le_of_ble_eq_true rfl) rfl z) h hq (fun q Qr' z zq => metJ15_init n _ _ _ _ _ hC21 z zq) (fun r22 K23 ci24 cj25 cr26 w27 h hC28 hq => ?_)
  show Ev g _ _ 24 _ [.ref K11.2.2, .ref ah] K23 ci24 cj25 cr26 _ _ Qr Qx
  by_cases z29 : K23.1 ah = 10 ∧ ah < K23.2.2
  rotate_left
  · rw [if_neg z29] at h; cases h
  rw [if_pos z29] at h
  refine ev_putR dX12_init_24 pX12_21_10 z29.1 z29.2 rfl ?_
  have hC30 := jCW.upd hC28 (k := 1) (v := (some K11.2.2)) z29.1 (by decide)
  cases h
  exact ev_ret dX12_init_27 rfl (hq hC30)
def fX0_has_14 (n : Nat) (t0 : Int32) (K : jK) (ci : jI) (cj : jJ) (cr : jR) : Option (jTp Int32) := if t0 = 0 ∨ t0 = 1 then some (t0, ci, cj, cr) else none
theorem wX0_has_14 {g : jG} {d : Nat} {c sl : Nat} {Qr : jQ} {Qx : jX} (n : Nat) (t0 : Int32) (K : jK) (ci : jI) (cj : jJ) (cr : jR) {q} (hC : jCW K cr) (h : fX0_has_14 n  t0 K ci cj cr = some q) (hq : jqp wI K q Qr) : Ev g (d + 1) mX0_has 14 [jU, jU] [.int t0] K ci cj cr c sl Qr Qx := by
  unfold fX0_has_14 at h
  by_cases z1 : t0 = 0 ∨ t0 = 1
  rotate_left
  · rw [if_neg z1] at h; cases h
  rw [if_pos z1] at h
  cases h
  exact ev_iret dX0_has_14 rfl (jbool z1) (hq hC)
def fX0_has (n : Nat) (a0 : Int32) (a1 : Int32) (K : jK) (ci : jI) (cj : jJ) (cr : jR) : Option (jTp Int32) := if ((a0 >>> (a1 &&& 31)) &&& (nI 1)) = (nI 1) then fX0_has_14 n  (nI 1) K ci cj cr else fX0_has_14 n  (nI 0) K ci cj cr
theorem metX0_has {g : jG} {d : Nat} {c sl : Nat} {Qr : jQ} {Qx : jX} (n : Nat) (a0 : Int32) (a1 : Int32) (K : jK) (ci : jI) (cj : jJ) (cr : jR) {q} (hC : jCW K cr) (h : fX0_has n a0 a1 K ci cj cr = some q) (hq : jqp wI K q Qr) : EvM g (d + 1) mX0_has [.int a0, .int a1] K ci cj cr c sl Qr Qx := by
  unfold fX0_has at h
  show Ev g (d + 1) mX0_has 0 [.int a0, .int a1] [] K ci cj cr c sl Qr Qx
  refine ev_iload_n dX0_has_0 rfl ?_
  refine ev_iload_n dX0_has_1 rfl ?_
  refine ev_ishr dX0_has_2 ?_
  refine ev_iconst (v := (nI 1)) dX0_has_3 jc1 ?_
  refine ev_iand dX0_has_4 ?_
  refine ev_iconst (v := (nI 1)) dX0_has_5 jc1 ?_
  refine ev_icmp_ne 13 dX0_has_6 rfl (fun z1 => ?_) (fun z1 => ?_)
  · rw [if_neg z1] at h
    refine ev_iconst (v := (nI 0)) dX0_has_13 jc0 ?_
    exact ev_mask [false, false] (wX0_has_14 n   _ _ _ _ _ hC h hq)
  · rw [if_pos z1] at h
    refine ev_iconst (v := (nI 1)) dX0_has_9 jc1 ?_
    refine ev_goto 14 dX0_has_10 rfl ?_
    exact ev_mask [false, false] (wX0_has_14 n   _ _ _ _ _ hC h hq)
def fX14_init (n : Nat) (ah : Nat) (a0 : Int64) (K : jK) (ci : jI) (cj : jJ) (cr : jR) : Option (jTp Unit) := jpb (fX11_init n ah K ci cj cr) (fun r1 ci2 cj3 cr4 => if K.1 ah = 12 ∧ ah < K.2.2 then some ((), ci2, (ju cj3 ah 0 a0), cr4) else none)
theorem metX14_init {g : jG} {d : Nat} {c sl : Nat} {Qr : jQ} {Qx : jX} (n : Nat) (ah : Nat) (a0 : Int64) (K : jK) (ci : jI) (cj : jJ) (cr : jR) {q} (hC : jCW K cr) (h : fX14_init n ah a0 K ci cj cr = some q) (hq : jqp wV K q Qr) : EvM g (d + 2) mX14_init [.ref ah, .long a0] K ci cj cr c sl Qr Qx := by
  unfold fX14_init at h
  show Ev g (d + 2) mX14_init 0 [.ref ah, .long a0, jU] [] K ci cj cr c sl Qr Qx
  refine ev_aload_n dX14_init_0 rfl ?_
  obtain ⟨r1, ci2, cj3, cr4, z5, h⟩ := jpb_inv h
  refine ev_zI0 dX14_init_1 iX14_1 (Nat.le_of_ble_eq_true rfl) (Nat.le_of_ble_eq_true rfl) rfl (metX11_init n _ _ _ _ _ hC z5 (fun hC6 => ?_))
  show Ev g _ _ 4 _ [] K ci2 cj3 cr4 _ _ Qr Qx
  refine ev_aload_n dX14_init_4 rfl ?_
  refine ev_lload_n dX14_init_5 rfl ?_
  by_cases z7 : K.1 ah = 12 ∧ ah < K.2.2
  rotate_left
  · rw [if_neg z7] at h; cases h
  rw [if_pos z7] at h
  refine ev_putJ dX14_init_6 pX14_7_12 z7.1 z7.2 rfl ?_
  cases h
  exact ev_ret dX14_init_9 rfl (hq hC6)
def fX15_init (n : Nat) (ah : Nat) (a0 : Int32) (K : jK) (ci : jI) (cj : jJ) (cr : jR) : Option (jTp Unit) := jpb (fX11_init n ah K ci cj cr) (fun r1 ci2 cj3 cr4 => if K.1 ah = 13 ∧ ah < K.2.2 then some ((), (ju ci2 ah 0 a0), cj3, cr4) else none)
theorem metX15_init {g : jG} {d : Nat} {c sl : Nat} {Qr : jQ} {Qx : jX} (n : Nat) (ah : Nat) (a0 : Int32) (K : jK) (ci : jI) (cj : jJ) (cr : jR) {q} (hC : jCW K cr) (h : fX15_init n ah a0 K ci cj cr = some q) (hq : jqp wV K q Qr) : EvM g (d + 2) mX15_init [.ref ah, .int a0] K ci cj cr c sl Qr Qx := by
  unfold fX15_init at h
  show Ev g (d + 2) mX15_init 0 [.ref ah, .int a0] [] K ci cj cr c sl Qr Qx
  refine ev_aload_n dX15_init_0 rfl ?_
  obtain ⟨r1, ci2, cj3, cr4, z5, h⟩ := jpb_inv h
  refine ev_zI0 dX15_init_1 iX15_1 (Nat.le_of_ble_eq_true rfl) (Nat.le_of_ble_eq_true rfl) rfl (metX11_init n _ _ _ _ _ hC z5 (fun hC6 => ?_))
  show Ev g _ _ 4 _ [] K ci2 cj3 cr4 _ _ Qr Qx
  refine ev_aload_n dX15_init_4 rfl ?_
  refine ev_iload_n dX15_init_5 rfl ?_
  by_cases z7 : K.1 ah = 13 ∧ ah < K.2.2
  rotate_left
  · rw [if_neg z7] at h; cases h
  rw [if_pos z7] at h
  refine ev_putI dX15_init_6 pX15_7_13 z7.1 z7.2 rfl rfl rfl ?_
  cases h
  exact ev_ret dX15_init_9 rfl (hq hC6)
def fX16_init (n : Nat) (ah : Nat) (a1 : Int32) (a2 : Nat) (K : jK) (ci : jI) (cj : jJ) (cr : jR) : Option (jTp Unit) := if K.1 ah = 14 ∧ ah < K.2.2 then jpb (fX11_init n ah K ci cj (ju cr ah 2 (some 0))) (fun r3 ci4 cj5 cr6 => some ((), (ju ci4 ah 0 a1), cj5, (ju cr6 ah 1 (some a2)))) else none
theorem metX16_init {g : jG} {d : Nat} {c sl : Nat} {Qr : jQ} {Qx : jX} (n : Nat) (ah : Nat) (a1 : Int32) (a2 : Nat) (K : jK) (ci : jI) (cj : jJ) (cr : jR) {q} (hC : jCW K cr) (h : fX16_init n ah a1 a2 K ci cj cr = some q) (hq : jqp wV K q Qr) : EvM g (d + 2) mX16_init [.ref ah, .ref 0, .int a1, .ref a2] K ci cj cr c sl Qr Qx := by
  unfold fX16_init at h
  show Ev g (d + 2) mX16_init 0 [.ref ah, .ref 0, .int a1, .ref a2] [] K ci cj cr c sl Qr Qx
  refine ev_aload_n dX16_init_0 rfl ?_
  refine ev_aload_n dX16_init_1 rfl ?_
  by_cases z1 : K.1 ah = 14 ∧ ah < K.2.2
  rotate_left
  · rw [if_neg z1] at h; cases h
  rw [if_pos z1] at h
  refine ev_putR dX16_init_2 pX16_1_14 z1.1 z1.2 rfl ?_
  have hC2 := jCW.upd hC (k := 2) (v := (some 0)) z1.1 (by decide)
  refine ev_aload_n dX16_init_5 rfl ?_
  obtain ⟨r3, ci4, cj5, cr6, z7, h⟩ := jpb_inv h
  refine ev_zI0 dX16_init_6 iX16_7 (Nat.le_of_ble_eq_true rfl) (Nat.le_of_ble_eq_true rfl) rfl (metX11_init n _ _ _ _ _ hC2 z7 (fun hC8 => ?_))
  show Ev g _ _ 9 _ [] K ci4 cj5 cr6 _ _ Qr Qx
  refine ev_aload_n dX16_init_9 rfl ?_
  refine ev_iload_n dX16_init_10 rfl ?_
  refine ev_putI dX16_init_11 pX16_13_14 z1.1 z1.2 rfl rfl rfl ?_
  refine ev_aload_n dX16_init_14 rfl ?_
  refine ev_aload_n dX16_init_15 rfl ?_
  refine ev_putR dX16_init_16 pX16_17_14 z1.1 z1.2 rfl ?_
  have hC9 := jCW.upd hC8 (k := 1) (v := (some a2)) z1.1 (by decide)
  cases h
  exact ev_ret dX16_init_19 rfl (hq hC9)
def fX2_opens (n : Nat) (a0 : Int32) (K : jK) (ci : jI) (cj : jJ) (cr : jR) : Option (jT Unit) := if (ci 9 4) = (nI 6) then jpb (fX2_wrong n (nI 4) a0 K ci cj cr) (fun r2 ci3 cj4 cr5 => if r2 = 10 then some (none, K, ci3, cj4, cr5, 0, 0) else none) else some (some (), K, (ju ci 9 4 ((ci 9 4) + (nI 1))), cj, cr, 0, 0)
theorem metX2_opens {g : jG} {d : Nat} {Qr : jQ} {Qx : jX} (n : Nat) (a0 : Int32) (K : jK) (ci : jI) (cj : jJ) (cr : jR) {q} (hC : jCW K cr) (h : fX2_opens n a0 K ci cj cr = some q) (hq : jqx wV q Qr Qx) : EvM g (d + 2) mX2_opens [.ref 9, .int a0] K ci cj cr q.2.2.2.2.2.1 q.2.2.2.2.2.2 Qr Qx := by
  unfold fX2_opens at h
  show Ev g (d + 2) mX2_opens 0 [.ref 9, .int a0] [] K ci cj cr q.2.2.2.2.2.1 q.2.2.2.2.2.2 Qr Qx
  refine ev_aload_n dX2_opens_0 rfl ?_
  refine ev_getI dX2_opens_1 fX2_114_2 (ck9 hC) (Or.inl (cl9 hC)) rfl ?_
  refine ev_bipush (v := (nI 6)) dX2_opens_4 jb6 ?_
  refine ev_icmp_ne 16 dX2_opens_6 rfl (fun z1 => ?_) (fun z1 => ?_)
  · rw [if_neg z1] at h
    refine ev_aload_n dX2_opens_16 rfl ?_
    refine ev_dup dX2_opens_17 rfl ?_
    refine ev_getI dX2_opens_18 fX2_114_2 (ck9 hC) (Or.inl (cl9 hC)) rfl ?_
    refine ev_iconst (v := (nI 1)) dX2_opens_21 jc1 ?_
    refine ev_iadd dX2_opens_22 ?_
    refine ev_putI dX2_opens_23 (pX2_114_2 _) (ck9 hC) (cl9 hC) rfl rfl rfl ?_
    cases h
    exact ev_ret dX2_opens_26 rfl (hq hC)
  · rw [if_pos z1] at h
    refine ev_aload_n dX2_opens_9 rfl ?_
    refine ev_iconst (v := (nI 4)) dX2_opens_10 jc4 ?_
    refine ev_iload_n dX2_opens_11 rfl ?_
    obtain ⟨r2, ci3, cj4, cr5, z6, h⟩ := jpb_inv h
    refine ev_zV2 dX2_opens_12 vX2_47_2 (ck9 hC) (Or.inl (cl9 hC)) (Nat.le_of_ble_eq_true rfl) (Nat.le_of_ble_eq_true rfl) rfl (metX2_wrong n _ _ _ _ _ _ hC z6 (fun hC7 => ?_))
    show Ev g _ _ 15 _ [.ref r2] K ci3 cj4 cr5 _ _ Qr Qx
    by_cases z8 : r2 = 10
    rotate_left
    · rw [if_neg z8] at h; cases h
    rw [if_pos z8] at h
    subst z8
    cases h
    exact ev_athrow dX2_opens_15 (cl10 hC7) (ck10 hC7) rfl (hq hC7)
def fX2_looked (n : Nat) (catom : jK → jI → jJ → jR → Option (jT Nat)) (a0 : Int32) (K : jK) (ci : jI) (cj : jJ) (cr : jR) : Option (jT Nat) := jxb (fX2_opens n (ci 9 3) K ci cj cr) (fun r1 K2 ci3 cj4 cr5 => if K2.2.2 < 1000000 then jal (jfn 14) (jxb (catom (jnK K2 14 0) ci3 cj4 cr5) (fun r11 K12 ci13 cj14 cr15 => jpb (fX16_init n K2.2.2 a0 r11 K12 ci13 cj14 cr15) (fun r18 ci19 cj20 cr21 => some (some K2.2.2, K12, (ju ci19 9 4 ((ci19 9 4) - (nI 1))), cj20, cr21, 0, 0)))) else none)
theorem metX2_looked {g : jG} {d : Nat} {Qr : jQ} {Qx : jX} (n : Nat) (catom : jK → jI → jJ → jR → Option (jT Nat)) (hcatom : jcb g d mX2_atom catom) (a0 : Int32) (K : jK) (ci : jI) (cj : jJ) (cr : jR) {q} (hC : jCW K cr) (h : fX2_looked n catom a0 K ci cj cr = some q) (hq : jqx wR q Qr Qx) : EvM g (d + 3) mX2_looked [.ref 9, .int a0] K ci cj cr q.2.2.2.2.2.1 q.2.2.2.2.2.2 Qr Qx := by
  unfold fX2_looked at h
  show Ev g (d + 3) mX2_looked 0 [.ref 9, .int a0, jU] [] K ci cj cr q.2.2.2.2.2.1 q.2.2.2.2.2.2 Qr Qx
  refine ev_aload_n dX2_looked_0 rfl ?_
  refine ev_aload_n dX2_looked_1 rfl ?_
  refine ev_getI dX2_looked_2 fX2_61_2 (ck9 hC) (Or.inl (cl9 hC)) rfl ?_
  refine jx_inv (wf := wV) (fun c1 s1 c sl z => ev_invV1 dX2_looked_5 vX2_254_2 (ck9 hC) (Or.inl (cl9 hC)) (Nat.le_of_ble_eq_true rfl) (Nat.le_of_ble_eq_true rfl) rfl z) h hq (fun q Qr' z zq => metX2_opens n _ _ _ _ _ hC z zq) (fun r1 K2 ci3 cj4 cr5 w6 h hC7 hq => ?_)
  show Ev g _ _ 8 _ [] K2 ci3 cj4 cr5 _ _ Qr Qx
  by_cases z8 : K2.2.2 < 1000000
  rotate_left
  · rw [if_neg z8] at h; cases h
  rw [if_pos z8] at h
  refine jx_new (fun c sl z => ev_new dX2_looked_8 nX2_330 z8 z) h hq (fun w9 h hq => ?_)
  have hC10 := jCW.new hC7 14 0
  show Ev g _ _ 11 _ [.ref K2.2.2] (jnK K2 14 0) ci3 cj4 cr5 _ _ Qr Qx
  refine ev_dup dX2_looked_11 rfl ?_
  refine ev_aload_n dX2_looked_12 rfl ?_
  refine ev_getR dX2_looked_13 fX2_3_2 (ck9 hC10) (Or.inl (cl9 hC10)) rfl (cq9_7 hC10) ?_
  refine ev_iload_n dX2_looked_16 rfl ?_
  refine ev_aload_n dX2_looked_17 rfl ?_
  refine jx_inv (wf := wR) (fun c1 s1 c sl z => ev_invV0 dX2_looked_18 vX2_251_2 (ck9 hC10) (Or.inl (cl9 hC10)) (Nat.le_of_ble_eq_true rfl) (Nat.le_of_ble_eq_true rfl) rfl z) h hq (fun q Qr' z zq => hcatom _ (by omega) _ _ _ _ hC10 z zq) (fun r11 K12 ci13 cj14 cr15 w16 h hC17 hq => ?_)
  show Ev g _ _ 21 _ [.ref r11, .int a0, .ref 0, .ref K2.2.2, .ref K2.2.2] K12 ci13 cj14 cr15 _ _ Qr Qx
  obtain ⟨r18, ci19, cj20, cr21, z22, h⟩ := jpb_inv h
  refine ev_zI3 dX2_looked_21 iX2_332 (Nat.le_of_ble_eq_true rfl) (Nat.le_of_ble_eq_true rfl) rfl (metX16_init n _ _ _ _ _ _ _ hC17 z22 (fun hC23 => ?_))
  show Ev g _ _ 24 _ [.ref K2.2.2] K12 ci19 cj20 cr21 _ _ Qr Qx
  refine ev_astore_n (L' := [_, _, _]) dX2_looked_24 (by decide) rfl ?_
  refine ev_aload_n dX2_looked_25 rfl ?_
  refine ev_dup dX2_looked_26 rfl ?_
  refine ev_getI dX2_looked_27 fX2_114_2 (ck9 hC23) (Or.inl (cl9 hC23)) rfl ?_
  refine ev_iconst (v := (nI 1)) dX2_looked_30 jc1 ?_
  refine ev_isub dX2_looked_31 ?_
  refine ev_putI dX2_looked_32 (pX2_114_2 _) (ck9 hC23) (cl9 hC23) rfl rfl rfl ?_
  refine ev_aload_n dX2_looked_35 rfl ?_
  cases h
  exact ev_aret dX2_looked_36 rfl rfl (hq hC23)
def fX13_init (n : Nat) (ah : Nat) (a0 : Int32) (a1 : Nat) (a2 : Nat) (K : jK) (ci : jI) (cj : jJ) (cr : jR) : Option (jTp Unit) := jpb (fX11_init n ah K ci cj cr) (fun r1 ci2 cj3 cr4 => if K.1 ah = 11 ∧ ah < K.2.2 then if a0 = 0 ∨ a0 = 1 then some ((), (ju ci2 ah 0 a0), cj3, (ju (ju cr4 ah 1 (some a1)) ah 2 (some a2))) else none else none)
theorem metX13_init {g : jG} {d : Nat} {c sl : Nat} {Qr : jQ} {Qx : jX} (n : Nat) (ah : Nat) (a0 : Int32) (a1 : Nat) (a2 : Nat) (K : jK) (ci : jI) (cj : jJ) (cr : jR) {q} (hC : jCW K cr) (h : fX13_init n ah a0 a1 a2 K ci cj cr = some q) (hq : jqp wV K q Qr) : EvM g (d + 2) mX13_init [.ref ah, .int a0, .ref a1, .ref a2] K ci cj cr c sl Qr Qx := by
  unfold fX13_init at h
  show Ev g (d + 2) mX13_init 0 [.ref ah, .int a0, .ref a1, .ref a2] [] K ci cj cr c sl Qr Qx
  refine ev_aload_n dX13_init_0 rfl ?_
  obtain ⟨r1, ci2, cj3, cr4, z5, h⟩ := jpb_inv h
  refine ev_zI0 dX13_init_1 iX13_1 (Nat.le_of_ble_eq_true rfl) (Nat.le_of_ble_eq_true rfl) rfl (metX11_init n _ _ _ _ _ hC z5 (fun hC6 => ?_))
  show Ev g _ _ 4 _ [] K ci2 cj3 cr4 _ _ Qr Qx
  refine ev_aload_n dX13_init_4 rfl ?_
  refine ev_iload_n dX13_init_5 rfl ?_
  by_cases z7 : K.1 ah = 11 ∧ ah < K.2.2
  rotate_left
  · rw [if_neg z7] at h; cases h
  rw [if_pos z7] at h
  by_cases z8 : a0 = 0 ∨ a0 = 1
  rotate_left
  · rw [if_neg z8] at h; cases h
  rw [if_pos z8] at h
  refine ev_putI dX13_init_6 pX13_7_11 z7.1 z7.2 rfl (jbool z8) (jboolf z8) ?_
  refine ev_aload_n dX13_init_9 rfl ?_
  refine ev_aload_n dX13_init_10 rfl ?_
  refine ev_putR dX13_init_11 pX13_13_11 z7.1 z7.2 rfl ?_
  have hC9 := jCW.upd hC6 (k := 1) (v := (some a1)) z7.1 (by decide)
  refine ev_aload_n dX13_init_14 rfl ?_
  refine ev_aload_n dX13_init_15 rfl ?_
  refine ev_putR dX13_init_16 pX13_17_11 z7.1 z7.2 rfl ?_
  have hC10 := jCW.upd hC9 (k := 2) (v := (some a2)) z7.1 (by decide)
  cases h
  exact ev_ret dX13_init_19 rfl (hq hC10)
def fX2_must (n : Nat) (a0 : Int32) (K : jK) (ci : jI) (cj : jJ) (cr : jR) : Option (jT Unit) := jpb (fX2_here n  K ci cj cr) (fun r1 ci2 cj3 cr4 => if r1 = a0 then some (some (), K, (ju ci2 9 2 ((ci2 9 2) + (nI 1))), cj3, cr4, 0, 0) else jpb (fX2_wrong n (nI 1) (ci2 9 2) K ci2 cj3 cr4) (fun r8 ci9 cj10 cr11 => if r8 = 10 then some (none, K, ci9, cj10, cr11, 0, 0) else none))
theorem metX2_must {g : jG} {d : Nat} {Qr : jQ} {Qx : jX} (n : Nat) (a0 : Int32) (K : jK) (ci : jI) (cj : jJ) (cr : jR) {q} (hC : jCW K cr) (h : fX2_must n a0 K ci cj cr = some q) (hq : jqx wV q Qr Qx) : EvM g (d + 3) mX2_must [.ref 9, .int a0] K ci cj cr q.2.2.2.2.2.1 q.2.2.2.2.2.2 Qr Qx := by
  unfold fX2_must at h
  show Ev g (d + 3) mX2_must 0 [.ref 9, .int a0] [] K ci cj cr q.2.2.2.2.2.1 q.2.2.2.2.2.2 Qr Qx
  refine ev_aload_n dX2_must_0 rfl ?_
  obtain ⟨r1, ci2, cj3, cr4, z5, h⟩ := jpb_inv h
  refine ev_zV0 dX2_must_1 vX2_43_2 (ck9 hC) (Or.inl (cl9 hC)) (Nat.le_of_ble_eq_true rfl) (Nat.le_of_ble_eq_true rfl) rfl (metX2_here n  _ _ _ _ hC z5 (fun hC6 => ?_))
  show Ev g _ _ 4 _ [.int r1] K ci2 cj3 cr4 _ _ Qr Qx
  refine ev_iload_n dX2_must_4 rfl ?_
  refine ev_icmp_eq 18 dX2_must_5 rfl (fun z7 => ?_) (fun z7 => ?_)
  · rw [if_pos z7] at h
    refine ev_aload_n dX2_must_18 rfl ?_
    refine ev_dup dX2_must_19 rfl ?_
    refine ev_getI dX2_must_20 fX2_36_2 (ck9 hC6) (Or.inl (cl9 hC6)) rfl ?_
    refine ev_iconst (v := (nI 1)) dX2_must_23 jc1 ?_
    refine ev_iadd dX2_must_24 ?_
    refine ev_putI dX2_must_25 (pX2_36_2 _) (ck9 hC6) (cl9 hC6) rfl rfl rfl ?_
    cases h
    exact ev_ret dX2_must_28 rfl (hq hC6)
  · rw [if_neg z7] at h
    refine ev_aload_n dX2_must_8 rfl ?_
    refine ev_iconst (v := (nI 1)) dX2_must_9 jc1 ?_
    refine ev_aload_n dX2_must_10 rfl ?_
    refine ev_getI dX2_must_11 fX2_36_2 (ck9 hC6) (Or.inl (cl9 hC6)) rfl ?_
    obtain ⟨r8, ci9, cj10, cr11, z12, h⟩ := jpb_inv h
    refine ev_zV2 dX2_must_14 vX2_47_2 (ck9 hC6) (Or.inl (cl9 hC6)) (Nat.le_of_ble_eq_true rfl) (Nat.le_of_ble_eq_true rfl) rfl (metX2_wrong n _ _ _ _ _ _ hC6 z12 (fun hC13 => ?_))
    show Ev g _ _ 17 _ [.ref r8] K ci9 cj10 cr11 _ _ Qr Qx
    by_cases z14 : r8 = 10
    rotate_left
    · rw [if_neg z14] at h; cases h
    rw [if_pos z14] at h
    subst z14
    cases h
    exact ev_athrow dX2_must_17 (cl10 hC13) (ck10 hC13) rfl (hq hC13)
def fX2_within_77 (n : Nat) (csum : jK → jI → jJ → jR → Option (jT Nat)) (l3 : Nat) (K : jK) (ci : jI) (cj : jJ) (cr : jR) : Option (jT Nat) := jxb (fX2_must n (nI 41) K ci cj cr) (fun r1 K2 ci3 cj4 cr5 => some (some l3, K2, (ju ci3 9 4 ((ci3 9 4) - (nI 1))), cj4, cr5, 0, 0))
theorem wX2_within_77 {g : jG} {d : Nat} {Qr : jQ} {Qx : jX} (n : Nat) (csum : jK → jI → jJ → jR → Option (jT Nat)) (hcsum : jcb g d mX2_sum csum) (l3 : Nat) (K : jK) (ci : jI) (cj : jJ) (cr : jR) {q} (hC : jCW K cr) (h : fX2_within_77 n csum  l3 K ci cj cr = some q) (hq : jqx wR q Qr Qx) : Ev g (d + 4) mX2_within 77 [.ref 9, jU, jU, .ref l3] [] K ci cj cr q.2.2.2.2.2.1 q.2.2.2.2.2.2 Qr Qx := by
  unfold fX2_within_77 at h
  refine ev_aload_n dX2_within_77 rfl ?_
  refine ev_bipush (v := (nI 41)) dX2_within_78 jb41 ?_
  refine jx_inv (wf := wV) (fun c1 s1 c sl z => ev_invV1 dX2_within_80 vX2_132_2 (ck9 hC) (Or.inl (cl9 hC)) (Nat.le_of_ble_eq_true rfl) (Nat.le_of_ble_eq_true rfl) rfl z) h hq (fun q Qr' z zq => metX2_must n _ _ _ _ _ hC z zq) (fun r1 K2 ci3 cj4 cr5 w6 h hC7 hq => ?_)
  show Ev g _ _ 83 _ [] K2 ci3 cj4 cr5 _ _ Qr Qx
  refine ev_aload_n dX2_within_83 rfl ?_
  refine ev_dup dX2_within_84 rfl ?_
  refine ev_getI dX2_within_85 fX2_114_2 (ck9 hC7) (Or.inl (cl9 hC7)) rfl ?_
  refine ev_iconst (v := (nI 1)) dX2_within_88 jc1 ?_
  refine ev_isub dX2_within_89 ?_
  refine ev_putI dX2_within_90 (pX2_114_2 _) (ck9 hC7) (cl9 hC7) rfl rfl rfl ?_
  refine ev_aload_n dX2_within_93 rfl ?_
  cases h
  exact ev_aret dX2_within_94 rfl rfl (hq hC7)
def fX2_within_68 (n : Nat) (csum : jK → jI → jJ → jR → Option (jT Nat)) (l2 : Nat) (t0 : Int32) (t1 : Nat) (t2 : Nat) (K : jK) (ci : jI) (cj : jJ) (cr : jR) : Option (jT Nat) := jxb (csum K ci cj cr) (fun r1 K2 ci3 cj4 cr5 => jpb (fX13_init n t1 t0 l2 r1 K2 ci3 cj4 cr5) (fun r8 ci9 cj10 cr11 => fX2_within_77 n csum  t2 K2 ci9 cj10 cr11))
theorem wX2_within_68 {g : jG} {d : Nat} {Qr : jQ} {Qx : jX} (n : Nat) (csum : jK → jI → jJ → jR → Option (jT Nat)) (hcsum : jcb g d mX2_sum csum) (l2 : Nat) (t0 : Int32) (t1 : Nat) (t2 : Nat) (K : jK) (ci : jI) (cj : jJ) (cr : jR) {q} (hC : jCW K cr) (h : fX2_within_68 n csum  l2 t0 t1 t2 K ci cj cr = some q) (hq : jqx wR q Qr Qx) : Ev g (d + 4) mX2_within 68 [.ref 9, jU, .ref l2, jU] [.int t0, .ref t1, .ref t2] K ci cj cr q.2.2.2.2.2.1 q.2.2.2.2.2.2 Qr Qx := by
  unfold fX2_within_68 at h
  refine ev_aload_n dX2_within_68 rfl ?_
  refine ev_aload_n dX2_within_69 rfl ?_
  refine jx_inv (wf := wR) (fun c1 s1 c sl z => ev_invV0 dX2_within_70 vX2_209_2 (ck9 hC) (Or.inl (cl9 hC)) (Nat.le_of_ble_eq_true rfl) (Nat.le_of_ble_eq_true rfl) rfl z) h hq (fun q Qr' z zq => hcsum _ (by omega) _ _ _ _ hC z zq) (fun r1 K2 ci3 cj4 cr5 w6 h hC7 hq => ?_)
  show Ev g _ _ 73 _ [.ref r1, .ref l2, .int t0, .ref t1, .ref t2] K2 ci3 cj4 cr5 _ _ Qr Qx
  obtain ⟨r8, ci9, cj10, cr11, z12, h⟩ := jpb_inv h
  refine ev_zI3 dX2_within_73 iX2_259 (Nat.le_of_ble_eq_true rfl) (Nat.le_of_ble_eq_true rfl) rfl (metX13_init n _ _ _ _ _ _ _ _ hC7 z12 (fun hC13 => ?_))
  show Ev g _ _ 76 _ [.ref t2] K2 ci9 cj10 cr11 _ _ Qr Qx
  refine ev_astore_n (L' := [_, _, _, _]) dX2_within_76 (by decide) rfl ?_
  exact ev_mask [true, false, false, true] (wX2_within_77 n _ hcsum   _ _ _ _ _ hC13 h hq)
def fX2_within (n : Nat) (csum : jK → jI → jJ → jR → Option (jT Nat)) (a0 : Int32) (K : jK) (ci : jI) (cj : jJ) (cr : jR) : Option (jT Nat) := jpb (fX2_here n  K ci cj cr) (fun r1 ci2 cj3 cr4 => if r1 = (nI 40) then jxb (fX2_opens n (ci2 9 2) K ci2 cj3 cr4) (fun r8 K9 ci10 cj11 cr12 => jxb (csum K9 (ju ci10 9 2 ((ci10 9 2) + (nI 1))) cj11 cr12) (fun r15 K16 ci17 cj18 cr19 => if a0 ≤ 0 then fX2_within_77 n csum  r15 K16 ci17 cj18 cr19 else jxb (fX2_must n (nI 44) K16 ci17 cj18 cr19) (fun r23 K24 ci25 cj26 cr27 => if K24.2.2 < 1000000 then jal (jfn 11) (if a0 = (nI 2) then fX2_within_68 n csum  r15 (nI 1) K24.2.2 K24.2.2 (jnK K24 11 0) ci25 cj26 cr27 else fX2_within_68 n csum  r15 (nI 0) K24.2.2 K24.2.2 (jnK K24 11 0) ci25 cj26 cr27) else none))) else jpb (fX2_wrong n (nI 1) (ci2 9 2) K ci2 cj3 cr4) (fun r34 ci35 cj36 cr37 => if r34 = 10 then some (none, K, ci35, cj36, cr37, 0, 0) else none))
theorem metX2_within {g : jG} {d : Nat} {Qr : jQ} {Qx : jX} (n : Nat) (csum : jK → jI → jJ → jR → Option (jT Nat)) (hcsum : jcb g d mX2_sum csum) (a0 : Int32) (K : jK) (ci : jI) (cj : jJ) (cr : jR) {q} (hC : jCW K cr) (h : fX2_within n csum a0 K ci cj cr = some q) (hq : jqx wR q Qr Qx) : EvM g (d + 4) mX2_within [.ref 9, .int a0] K ci cj cr q.2.2.2.2.2.1 q.2.2.2.2.2.2 Qr Qx := by
  unfold fX2_within at h
  show Ev g (d + 4) mX2_within 0 [.ref 9, .int a0, jU, jU] [] K ci cj cr q.2.2.2.2.2.1 q.2.2.2.2.2.2 Qr Qx
  refine ev_aload_n dX2_within_0 rfl ?_
  obtain ⟨r1, ci2, cj3, cr4, z5, h⟩ := jpb_inv h
  refine ev_zV0 dX2_within_1 vX2_43_2 (ck9 hC) (Or.inl (cl9 hC)) (Nat.le_of_ble_eq_true rfl) (Nat.le_of_ble_eq_true rfl) rfl (metX2_here n  _ _ _ _ hC z5 (fun hC6 => ?_))
  show Ev g _ _ 4 _ [.int r1] K ci2 cj3 cr4 _ _ Qr Qx
  refine ev_bipush (v := (nI 40)) dX2_within_4 jb40 ?_
  refine ev_icmp_eq 19 dX2_within_6 rfl (fun z7 => ?_) (fun z7 => ?_)
  · rw [if_pos z7] at h
    refine ev_aload_n dX2_within_19 rfl ?_
    refine ev_aload_n dX2_within_20 rfl ?_
    refine ev_getI dX2_within_21 fX2_36_2 (ck9 hC6) (Or.inl (cl9 hC6)) rfl ?_
    refine jx_inv (wf := wV) (fun c1 s1 c sl z => ev_invV1 dX2_within_24 vX2_254_2 (ck9 hC6) (Or.inl (cl9 hC6)) (Nat.le_of_ble_eq_true rfl) (Nat.le_of_ble_eq_true rfl) rfl z) h hq (fun q Qr' z zq => metX2_opens n _ _ _ _ _ hC6 z zq) (fun r8 K9 ci10 cj11 cr12 w13 h hC14 hq => ?_)
    show Ev g _ _ 27 _ [] K9 ci10 cj11 cr12 _ _ Qr Qx
    refine ev_aload_n dX2_within_27 rfl ?_
    refine ev_dup dX2_within_28 rfl ?_
    refine ev_getI dX2_within_29 fX2_36_2 (ck9 hC14) (Or.inl (cl9 hC14)) rfl ?_
    refine ev_iconst (v := (nI 1)) dX2_within_32 jc1 ?_
    refine ev_iadd dX2_within_33 ?_
    refine ev_putI dX2_within_34 (pX2_36_2 _) (ck9 hC14) (cl9 hC14) rfl rfl rfl ?_
    refine ev_aload_n dX2_within_37 rfl ?_
    refine jx_inv (wf := wR) (fun c1 s1 c sl z => ev_invV0 dX2_within_38 vX2_209_2 (ck9 hC14) (Or.inl (cl9 hC14)) (Nat.le_of_ble_eq_true rfl) (Nat.le_of_ble_eq_true rfl) rfl z) h hq (fun q Qr' z zq => hcsum _ (by omega) _ _ _ _ hC14 z zq) (fun r15 K16 ci17 cj18 cr19 w20 h hC21 hq => ?_)
    show Ev g _ _ 41 _ [.ref r15] K16 ci17 cj18 cr19 _ _ Qr Qx
    refine ev_astore_n (L' := [_, _, _, _]) dX2_within_41 (by decide) rfl ?_
    refine ev_aload_n dX2_within_42 rfl ?_
    refine ev_astore_n (L' := [_, _, _, _]) dX2_within_43 (by decide) rfl ?_
    refine ev_iload_n dX2_within_44 rfl ?_
    refine ev_if_le 77 dX2_within_45 rfl (fun z22 => ?_) (fun z22 => ?_)
    · rw [if_pos z22] at h
      exact ev_mask [true, false, false, true] (wX2_within_77 n _ hcsum   _ _ _ _ _ hC21 h hq)
    · rw [if_neg z22] at h
      refine ev_aload_n dX2_within_48 rfl ?_
      refine ev_bipush (v := (nI 44)) dX2_within_49 jb44 ?_
      refine jx_inv (wf := wV) (fun c1 s1 c sl z => ev_invV1 dX2_within_51 vX2_132_2 (ck9 hC21) (Or.inl (cl9 hC21)) (Nat.le_of_ble_eq_true rfl) (Nat.le_of_ble_eq_true rfl) rfl z) h hq (fun q Qr' z zq => metX2_must n _ _ _ _ _ hC21 z zq) (fun r23 K24 ci25 cj26 cr27 w28 h hC29 hq => ?_)
      show Ev g _ _ 54 _ [] K24 ci25 cj26 cr27 _ _ Qr Qx
      by_cases z30 : K24.2.2 < 1000000
      rotate_left
      · rw [if_neg z30] at h; cases h
      rw [if_pos z30] at h
      refine jx_new (fun c sl z => ev_new dX2_within_54 nX2_257 z30 z) h hq (fun w31 h hq => ?_)
      have hC32 := jCW.new hC29 11 0
      show Ev g _ _ 57 _ [.ref K24.2.2] (jnK K24 11 0) ci25 cj26 cr27 _ _ Qr Qx
      refine ev_dup dX2_within_57 rfl ?_
      refine ev_iload_n dX2_within_58 rfl ?_
      refine ev_iconst (v := (nI 2)) dX2_within_59 jc2 ?_
      refine ev_icmp_ne 67 dX2_within_60 rfl (fun z33 => ?_) (fun z33 => ?_)
      · rw [if_neg z33] at h
        refine ev_iconst (v := (nI 0)) dX2_within_67 jc0 ?_
        exact ev_mask [true, false, true, false] (wX2_within_68 n _ hcsum   _ _ _ _ _ _ _ _ hC32 h hq)
      · rw [if_pos z33] at h
        refine ev_iconst (v := (nI 1)) dX2_within_63 jc1 ?_
        refine ev_goto 68 dX2_within_64 rfl ?_
        exact ev_mask [true, false, true, false] (wX2_within_68 n _ hcsum   _ _ _ _ _ _ _ _ hC32 h hq)
  · rw [if_neg z7] at h
    refine ev_aload_n dX2_within_9 rfl ?_
    refine ev_iconst (v := (nI 1)) dX2_within_10 jc1 ?_
    refine ev_aload_n dX2_within_11 rfl ?_
    refine ev_getI dX2_within_12 fX2_36_2 (ck9 hC6) (Or.inl (cl9 hC6)) rfl ?_
    obtain ⟨r34, ci35, cj36, cr37, z38, h⟩ := jpb_inv h
    refine ev_zV2 dX2_within_15 vX2_47_2 (ck9 hC6) (Or.inl (cl9 hC6)) (Nat.le_of_ble_eq_true rfl) (Nat.le_of_ble_eq_true rfl) rfl (metX2_wrong n _ _ _ _ _ _ hC6 z38 (fun hC39 => ?_))
    show Ev g _ _ 18 _ [.ref r34] K ci35 cj36 cr37 _ _ Qr Qx
    by_cases z40 : r34 = 10
    rotate_left
    · rw [if_neg z40] at h; cases h
    rw [if_pos z40] at h
    subst z40
    cases h
    exact ev_athrow dX2_within_18 (cl10 hC39) (ck10 hC39) rfl (hq hC39)
def fX2_atom_159 (n : Nat) (csum : jK → jI → jJ → jR → Option (jT Nat)) (catom : jK → jI → jJ → jR → Option (jT Nat)) (t0 : Int32) (K : jK) (ci : jI) (cj : jJ) (cr : jR) : Option (jT Nat) := jxb (fX2_within n csum t0 K ci cj cr) (fun r1 K2 ci3 cj4 cr5 => some (some r1, K2, ci3, cj4, cr5, 0, 0))
theorem wX2_atom_159 {g : jG} {d : Nat} {Qr : jQ} {Qx : jX} (n : Nat) (csum : jK → jI → jJ → jR → Option (jT Nat)) (catom : jK → jI → jJ → jR → Option (jT Nat)) (hcsum : jcb g d mX2_sum csum) (hcatom : jcb g d mX2_atom catom) (t0 : Int32) (K : jK) (ci : jI) (cj : jJ) (cr : jR) {q} (hC : jCW K cr) (h : fX2_atom_159 n csum catom  t0 K ci cj cr = some q) (hq : jqx wR q Qr Qx) : Ev g (d + 7) mX2_atom 159 [jU, jU, jU] [.int t0, .ref 9] K ci cj cr q.2.2.2.2.2.1 q.2.2.2.2.2.2 Qr Qx := by
  unfold fX2_atom_159 at h
  refine jx_inv (wf := wR) (fun c1 s1 c sl z => ev_invV1 dX2_atom_159 vX2_262_2 (ck9 hC) (Or.inl (cl9 hC)) (Nat.le_of_ble_eq_true rfl) (Nat.le_of_ble_eq_true rfl) rfl z) h hq (fun q Qr' z zq => metX2_within n _ (jcb.up hcsum (by omega)) _ _ _ _ _ hC z zq) (fun r1 K2 ci3 cj4 cr5 w6 h hC7 hq => ?_)
  show Ev g _ _ 162 _ [.ref r1] K2 ci3 cj4 cr5 _ _ Qr Qx
  cases h
  exact ev_aret dX2_atom_162 rfl rfl (hq hC7)
def fX2_atom_143 (n : Nat) (csum : jK → jI → jJ → jR → Option (jT Nat)) (catom : jK → jI → jJ → jR → Option (jT Nat)) (l1 : Nat) (K : jK) (ci : jI) (cj : jJ) (cr : jR) : Option (jT Nat) := if K.1 l1 = 21 ∧ (l1 < K.2.2 ∨ 1000000 ≤ l1) then jpb (fJ6_equals n l1 1000162 K ci cj cr) (fun r2 ci3 cj4 cr5 => if r2 = 0 then fX2_atom_159 n csum catom  (nI 2) K ci3 cj4 cr5 else fX2_atom_159 n csum catom  (nI 1) K ci3 cj4 cr5) else none
theorem wX2_atom_143 {g : jG} {d : Nat} {Qr : jQ} {Qx : jX} (n : Nat) (csum : jK → jI → jJ → jR → Option (jT Nat)) (catom : jK → jI → jJ → jR → Option (jT Nat)) (hcsum : jcb g d mX2_sum csum) (hcatom : jcb g d mX2_atom catom) (l1 : Nat) (K : jK) (ci : jI) (cj : jJ) (cr : jR) {q} (hC : jCW K cr) (h : fX2_atom_143 n csum catom  l1 K ci cj cr = some q) (hq : jqx wR q Qr Qx) : Ev g (d + 7) mX2_atom 143 [.ref 9, .ref l1, jU] [] K ci cj cr q.2.2.2.2.2.1 q.2.2.2.2.2.2 Qr Qx := by
  unfold fX2_atom_143 at h
  refine ev_aload_n dX2_atom_143 rfl ?_
  refine ev_aload_n dX2_atom_144 rfl ?_
  refine ev_ldcSw "min" 1000162 dX2_atom_145 (by decide +kernel) ?_
  by_cases z1 : K.1 l1 = 21 ∧ (l1 < K.2.2 ∨ 1000000 ≤ l1)
  rotate_left
  · rw [if_neg z1] at h; cases h
  rw [if_pos z1] at h
  obtain ⟨r2, ci3, cj4, cr5, z6, h⟩ := jpb_inv h
  refine ev_zV1 dX2_atom_148 vX2_74_21 z1.1 z1.2 (Nat.le_of_ble_eq_true rfl) (Nat.le_of_ble_eq_true rfl) rfl (metJ6_equals n _ _ _ _ _ _ hC z6 (fun hC7 => ?_))
  show Ev g _ _ 151 _ [.int r2, .ref 9] K ci3 cj4 cr5 _ _ Qr Qx
  refine ev_if_eq 158 dX2_atom_151 rfl (fun z8 => ?_) (fun z8 => ?_)
  · rw [if_pos z8] at h
    refine ev_iconst (v := (nI 2)) dX2_atom_158 jc2 ?_
    exact ev_mask [false, false, false] (wX2_atom_159 n _ _ hcsum hcatom   _ _ _ _ _ hC7 h hq)
  · rw [if_neg z8] at h
    refine ev_iconst (v := (nI 1)) dX2_atom_154 jc1 ?_
    refine ev_goto 159 dX2_atom_155 rfl ?_
    exact ev_mask [false, false, false] (wX2_atom_159 n _ _ hcsum hcatom   _ _ _ _ _ hC7 h hq)
def fX2_atom_101 (n : Nat) (csum : jK → jI → jJ → jR → Option (jT Nat)) (catom : jK → jI → jJ → jR → Option (jT Nat)) (l1 : Nat) (t0 : Int32) (K : jK) (ci : jI) (cj : jJ) (cr : jR) : Option (jT Nat) := if t0 = (-1) then if K.1 l1 = 21 ∧ (l1 < K.2.2 ∨ 1000000 ≤ l1) then jpb (fJ6_equals n l1 1000162 K ci cj cr) (fun r3 ci4 cj5 cr6 => if r3 = 0 then jpb (fJ6_equals n l1 1000164 K ci4 cj5 cr6) (fun r10 ci11 cj12 cr13 => if r10 = 0 then jpb (fX2_wrong n (nI 1) (ci11 9 3) K ci11 cj12 cr13) (fun r17 ci18 cj19 cr20 => if r17 = 10 then some (none, K, ci18, cj19, cr20, 0, 0) else none) else fX2_atom_143 n csum catom  l1 K ci11 cj12 cr13) else fX2_atom_143 n csum catom  l1 K ci4 cj5 cr6) else none else jxb (fX2_looked n catom t0 K ci cj cr) (fun r24 K25 ci26 cj27 cr28 => some (some r24, K25, ci26, cj27, cr28, 0, 0))
theorem wX2_atom_101 {g : jG} {d : Nat} {Qr : jQ} {Qx : jX} (n : Nat) (csum : jK → jI → jJ → jR → Option (jT Nat)) (catom : jK → jI → jJ → jR → Option (jT Nat)) (hcsum : jcb g d mX2_sum csum) (hcatom : jcb g d mX2_atom catom) (l1 : Nat) (t0 : Int32) (K : jK) (ci : jI) (cj : jJ) (cr : jR) {q} (hC : jCW K cr) (h : fX2_atom_101 n csum catom  l1 t0 K ci cj cr = some q) (hq : jqx wR q Qr Qx) : Ev g (d + 7) mX2_atom 101 [.ref 9, .ref l1, jU] [.int t0] K ci cj cr q.2.2.2.2.2.1 q.2.2.2.2.2.2 Qr Qx := by
  unfold fX2_atom_101 at h
  refine ev_istore_n (L' := [_, _, _]) dX2_atom_101 (by decide) rfl ?_
  refine ev_iload_n dX2_atom_102 rfl ?_
  refine ev_iconst (v := (-1)) dX2_atom_103 jcm1 ?_
  refine ev_icmp_eq 113 dX2_atom_104 rfl (fun z1 => ?_) (fun z1 => ?_)
  · rw [if_pos z1] at h
    refine ev_aload_n dX2_atom_113 rfl ?_
    refine ev_ldcSw "min" 1000162 dX2_atom_114 (by decide +kernel) ?_
    by_cases z2 : K.1 l1 = 21 ∧ (l1 < K.2.2 ∨ 1000000 ≤ l1)
    rotate_left
    · rw [if_neg z2] at h; cases h
    rw [if_pos z2] at h
    obtain ⟨r3, ci4, cj5, cr6, z7, h⟩ := jpb_inv h
    refine ev_zV1 dX2_atom_117 vX2_74_21 z2.1 z2.2 (Nat.le_of_ble_eq_true rfl) (Nat.le_of_ble_eq_true rfl) rfl (metJ6_equals n _ _ _ _ _ _ hC z7 (fun hC8 => ?_))
    show Ev g _ _ 120 _ [.int r3] K ci4 cj5 cr6 _ _ Qr Qx
    refine ev_if_ne 143 dX2_atom_120 rfl (fun z9 => ?_) (fun z9 => ?_)
    · rw [if_neg z9] at h
      exact ev_mask [true, true, false] (wX2_atom_143 n _ _ hcsum hcatom   _ _ _ _ _ hC8 h hq)
    · rw [if_pos z9] at h
      refine ev_aload_n dX2_atom_123 rfl ?_
      refine ev_ldcSw "max" 1000164 dX2_atom_124 (by decide +kernel) ?_
      obtain ⟨r10, ci11, cj12, cr13, z14, h⟩ := jpb_inv h
      refine ev_zV1 dX2_atom_127 vX2_74_21 z2.1 z2.2 (Nat.le_of_ble_eq_true rfl) (Nat.le_of_ble_eq_true rfl) rfl (metJ6_equals n _ _ _ _ _ _ hC8 z14 (fun hC15 => ?_))
      show Ev g _ _ 130 _ [.int r10] K ci11 cj12 cr13 _ _ Qr Qx
      refine ev_if_ne 143 dX2_atom_130 rfl (fun z16 => ?_) (fun z16 => ?_)
      · rw [if_neg z16] at h
        exact ev_mask [true, true, false] (wX2_atom_143 n _ _ hcsum hcatom   _ _ _ _ _ hC15 h hq)
      · rw [if_pos z16] at h
        refine ev_aload_n dX2_atom_133 rfl ?_
        refine ev_iconst (v := (nI 1)) dX2_atom_134 jc1 ?_
        refine ev_aload_n dX2_atom_135 rfl ?_
        refine ev_getI dX2_atom_136 fX2_61_2 (ck9 hC15) (Or.inl (cl9 hC15)) rfl ?_
        obtain ⟨r17, ci18, cj19, cr20, z21, h⟩ := jpb_inv h
        refine ev_zV2 dX2_atom_139 vX2_47_2 (ck9 hC15) (Or.inl (cl9 hC15)) (Nat.le_of_ble_eq_true rfl) (Nat.le_of_ble_eq_true rfl) rfl (metX2_wrong n _ _ _ _ _ _ hC15 z21 (fun hC22 => ?_))
        show Ev g _ _ 142 _ [.ref r17] K ci18 cj19 cr20 _ _ Qr Qx
        by_cases z23 : r17 = 10
        rotate_left
        · rw [if_neg z23] at h; cases h
        rw [if_pos z23] at h
        subst z23
        cases h
        exact ev_athrow dX2_atom_142 (cl10 hC22) (ck10 hC22) rfl (hq hC22)
  · rw [if_neg z1] at h
    refine ev_aload_n dX2_atom_107 rfl ?_
    refine ev_iload_n dX2_atom_108 rfl ?_
    refine jx_inv (wf := wR) (fun c1 s1 c sl z => ev_invV1 dX2_atom_109 vX2_285_2 (ck9 hC) (Or.inl (cl9 hC)) (Nat.le_of_ble_eq_true rfl) (Nat.le_of_ble_eq_true rfl) rfl z) h hq (fun q Qr' z zq => metX2_looked n _ (jcb.up hcatom (by omega)) _ _ _ _ _ hC z zq) (fun r24 K25 ci26 cj27 cr28 w29 h hC30 hq => ?_)
    show Ev g _ _ 112 _ [.ref r24] K25 ci26 cj27 cr28 _ _ Qr Qx
    cases h
    exact ev_aret dX2_atom_112 rfl rfl (hq hC30)
def fX2_atom_80 (n : Nat) (csum : jK → jI → jJ → jR → Option (jT Nat)) (catom : jK → jI → jJ → jR → Option (jT Nat)) (l1 : Nat) (K : jK) (ci : jI) (cj : jJ) (cr : jR) : Option (jT Nat) := if (ci 9 5) = (nI 1874) then jpb (fX0_find n l1 1000002 K ci cj cr) (fun r2 ci3 cj4 cr5 => fX2_atom_101 n csum catom  l1 r2 K ci3 cj4 cr5) else fX2_atom_101 n csum catom  l1 (-1) K ci cj cr
theorem wX2_atom_80 {g : jG} {d : Nat} {Qr : jQ} {Qx : jX} (n : Nat) (csum : jK → jI → jJ → jR → Option (jT Nat)) (catom : jK → jI → jJ → jR → Option (jT Nat)) (hcsum : jcb g d mX2_sum csum) (hcatom : jcb g d mX2_atom catom) (l1 : Nat) (K : jK) (ci : jI) (cj : jJ) (cr : jR) {q} (hC : jCW K cr) (h : fX2_atom_80 n csum catom  l1 K ci cj cr = some q) (hq : jqx wR q Qr Qx) : Ev g (d + 7) mX2_atom 80 [.ref 9, .ref l1, jU] [] K ci cj cr q.2.2.2.2.2.1 q.2.2.2.2.2.2 Qr Qx := by
  unfold fX2_atom_80 at h
  refine ev_aload_n dX2_atom_80 rfl ?_
  refine ev_getI dX2_atom_81 fX2_206_2 (ck9 hC) (Or.inl (cl9 hC)) rfl ?_
  refine ev_sipush (v := (nI 1874)) dX2_atom_84 js1874 ?_
  refine ev_icmp_ne 100 dX2_atom_87 rfl (fun z1 => ?_) (fun z1 => ?_)
  · rw [if_neg z1] at h
    refine ev_iconst (v := (-1)) dX2_atom_100 jcm1 ?_
    exact wX2_atom_101 n _ _ hcsum hcatom   _ _ _ _ _ _ hC h hq
  · rw [if_pos z1] at h
    refine ev_aload_n dX2_atom_90 rfl ?_
    refine ev_getsN ("MarriageHerring", "LOOKED", "[Ljava/lang/String;", .ref 1000002) dX2_atom_91 q1086 (by decide +kernel) ?_
    obtain ⟨r2, ci3, cj4, cr5, z6, h⟩ := jpb_inv h
    refine ev_zS2 dX2_atom_94 sX2_82 (Nat.le_of_ble_eq_true rfl) (Nat.le_of_ble_eq_true rfl) rfl (metX0_find n _ _ _ _ _ _ hC z6 (fun hC7 => ?_))
    show Ev g _ _ 97 _ [.int r2] K ci3 cj4 cr5 _ _ Qr Qx
    refine ev_goto 101 dX2_atom_97 rfl ?_
    exact wX2_atom_101 n _ _ hcsum hcatom   _ _ _ _ _ _ hC7 h hq
def fX2_atom (n : Nat) (csum : jK → jI → jJ → jR → Option (jT Nat)) (catom : jK → jI → jJ → jR → Option (jT Nat)) (K : jK) (ci : jI) (cj : jJ) (cr : jR) : Option (jT Nat) := jpb (fX2_here n  K ci cj cr) (fun r1 ci2 cj3 cr4 => if r1 = (nI 40) then jxb (fX2_within n csum (nI 0) K ci2 cj3 cr4) (fun r67 K68 ci69 cj70 cr71 => some (some r67, K68, ci69, cj70, cr71, 0, 0)) else jpb (fX2_here n  K ci2 cj3 cr4) (fun r8 ci9 cj10 cr11 => jpb (fX0_isDigit n r8 K ci9 cj10 cr11) (fun r14 ci15 cj16 cr17 => if r14 = 0 then jxb (fX2_word n  K ci15 cj16 cr17) (fun r21 K22 ci23 cj24 cr25 => jpb (fX0_find n r21 1000001 K22 ci23 cj24 cr25) (fun r28 ci29 cj30 cr31 => if r28 = (-1) then fX2_atom_80 n csum catom  r21 K22 ci29 cj30 cr31 else jpb (fX0_has n (ci29 9 5) r28 K22 ci29 cj30 cr31) (fun r35 ci36 cj37 cr38 => if r35 = 0 then fX2_atom_80 n csum catom  r21 K22 ci36 cj37 cr38 else if K22.2.2 < 1000000 then jal (jfn 13) (jpb (fX15_init n K22.2.2 r28 (jnK K22 13 0) ci36 cj37 cr38) (fun r45 ci46 cj47 cr48 => some (some K22.2.2, (jnK K22 13 0), ci46, cj47, cr48, 0, 0))) else none))) else if K.2.2 < 1000000 then jal (jfn 12) (jxb (fX2_number_2 n (nI 0) (nI 9999) (jnK K 12 0) ci15 cj16 cr17) (fun r54 K55 ci56 cj57 cr58 => jpb (fX14_init n K.2.2 ((r54).toInt64) K55 ci56 cj57 cr58) (fun r61 ci62 cj63 cr64 => some (some K.2.2, K55, ci62, cj63, cr64, 0, 0)))) else none)))
theorem metX2_atom {g : jG} {d : Nat} {Qr : jQ} {Qx : jX} (n : Nat) (csum : jK → jI → jJ → jR → Option (jT Nat)) (catom : jK → jI → jJ → jR → Option (jT Nat)) (hcsum : jcb g d mX2_sum csum) (hcatom : jcb g d mX2_atom catom) (K : jK) (ci : jI) (cj : jJ) (cr : jR) {q} (hC : jCW K cr) (h : fX2_atom n csum catom  K ci cj cr = some q) (hq : jqx wR q Qr Qx) : EvM g (d + 7) mX2_atom [.ref 9] K ci cj cr q.2.2.2.2.2.1 q.2.2.2.2.2.2 Qr Qx := by
  unfold fX2_atom at h
  show Ev g (d + 7) mX2_atom 0 [.ref 9, jU, jU] [] K ci cj cr q.2.2.2.2.2.1 q.2.2.2.2.2.2 Qr Qx
  refine ev_aload_n dX2_atom_0 rfl ?_
  obtain ⟨r1, ci2, cj3, cr4, z5, h⟩ := jpb_inv h
  refine ev_zV0 dX2_atom_1 vX2_43_2 (ck9 hC) (Or.inl (cl9 hC)) (Nat.le_of_ble_eq_true rfl) (Nat.le_of_ble_eq_true rfl) rfl (metX2_here n  _ _ _ _ hC z5 (fun hC6 => ?_))
  show Ev g _ _ 4 _ [.int r1] K ci2 cj3 cr4 _ _ Qr Qx
  refine ev_bipush (v := (nI 40)) dX2_atom_4 jb40 ?_
  refine ev_icmp_ne 15 dX2_atom_6 rfl (fun z7 => ?_) (fun z7 => ?_)
  · rw [if_neg z7] at h
    refine ev_aload_n dX2_atom_15 rfl ?_
    obtain ⟨r8, ci9, cj10, cr11, z12, h⟩ := jpb_inv h
    refine ev_zV0 dX2_atom_16 vX2_43_2 (ck9 hC6) (Or.inl (cl9 hC6)) (Nat.le_of_ble_eq_true rfl) (Nat.le_of_ble_eq_true rfl) rfl (metX2_here n  _ _ _ _ hC6 z12 (fun hC13 => ?_))
    show Ev g _ _ 19 _ [.int r8] K ci9 cj10 cr11 _ _ Qr Qx
    obtain ⟨r14, ci15, cj16, cr17, z18, h⟩ := jpb_inv h
    refine ev_zS1 dX2_atom_19 sX2_55 (Nat.le_of_ble_eq_true rfl) (Nat.le_of_ble_eq_true rfl) rfl (metX0_isDigit n _ _ _ _ _ hC13 z18 (fun hC19 => ?_))
    show Ev g _ _ 22 _ [.int r14] K ci15 cj16 cr17 _ _ Qr Qx
    refine ev_if_eq 42 dX2_atom_22 rfl (fun z20 => ?_) (fun z20 => ?_)
    · rw [if_pos z20] at h
      refine ev_aload_n dX2_atom_42 rfl ?_
      refine jx_inv (wf := wR) (fun c1 s1 c sl z => ev_invV0 dX2_atom_43 vX2_70_2 (ck9 hC19) (Or.inl (cl9 hC19)) (Nat.le_of_ble_eq_true rfl) (Nat.le_of_ble_eq_true rfl) rfl z) h hq (fun q Qr' z zq => metX2_word n  _ _ _ _ hC19 z zq) (fun r21 K22 ci23 cj24 cr25 w26 h hC27 hq => ?_)
      show Ev g _ _ 46 _ [.ref r21] K22 ci23 cj24 cr25 _ _ Qr Qx
      refine ev_astore_n (L' := [_, _, _]) dX2_atom_46 (by decide) rfl ?_
      refine ev_aload_n dX2_atom_47 rfl ?_
      refine ev_getsN ("MarriageHerring", "ASKED", "[Ljava/lang/String;", .ref 1000001) dX2_atom_48 q1071 (by decide +kernel) ?_
      obtain ⟨r28, ci29, cj30, cr31, z32, h⟩ := jpb_inv h
      refine ev_zS2 dX2_atom_51 sX2_82 (Nat.le_of_ble_eq_true rfl) (Nat.le_of_ble_eq_true rfl) rfl (metX0_find n _ _ _ _ _ _ hC27 z32 (fun hC33 => ?_))
      show Ev g _ _ 54 _ [.int r28] K22 ci29 cj30 cr31 _ _ Qr Qx
      refine ev_istore_n (L' := [_, _, _]) dX2_atom_54 (by decide) rfl ?_
      refine ev_iload_n dX2_atom_55 rfl ?_
      refine ev_iconst (v := (-1)) dX2_atom_56 jcm1 ?_
      refine ev_icmp_eq 80 dX2_atom_57 rfl (fun z34 => ?_) (fun z34 => ?_)
      · rw [if_pos z34] at h
        exact ev_mask [true, true, false] (wX2_atom_80 n _ _ hcsum hcatom   _ _ _ _ _ hC33 h hq)
      · rw [if_neg z34] at h
        refine ev_aload_n dX2_atom_60 rfl ?_
        refine ev_getI dX2_atom_61 fX2_206_2 (ck9 hC33) (Or.inl (cl9 hC33)) rfl ?_
        refine ev_iload_n dX2_atom_64 rfl ?_
        obtain ⟨r35, ci36, cj37, cr38, z39, h⟩ := jpb_inv h
        refine ev_zS2 dX2_atom_65 sX2_274 (Nat.le_of_ble_eq_true rfl) (Nat.le_of_ble_eq_true rfl) rfl (metX0_has n _ _ _ _ _ _ hC33 z39 (fun hC40 => ?_))
        show Ev g _ _ 68 _ [.int r35] K22 ci36 cj37 cr38 _ _ Qr Qx
        refine ev_if_eq 80 dX2_atom_68 rfl (fun z41 => ?_) (fun z41 => ?_)
        · rw [if_pos z41] at h
          exact ev_mask [true, true, false] (wX2_atom_80 n _ _ hcsum hcatom   _ _ _ _ _ hC40 h hq)
        · rw [if_neg z41] at h
          by_cases z42 : K22.2.2 < 1000000
          rotate_left
          · rw [if_neg z42] at h; cases h
          rw [if_pos z42] at h
          refine jx_new (fun c sl z => ev_new dX2_atom_71 nX2_278 z42 z) h hq (fun w43 h hq => ?_)
          have hC44 := jCW.new hC40 13 0
          show Ev g _ _ 74 _ [.ref K22.2.2] (jnK K22 13 0) ci36 cj37 cr38 _ _ Qr Qx
          refine ev_dup dX2_atom_74 rfl ?_
          refine ev_iload_n dX2_atom_75 rfl ?_
          obtain ⟨r45, ci46, cj47, cr48, z49, h⟩ := jpb_inv h
          refine ev_zI1 dX2_atom_76 iX2_280 (Nat.le_of_ble_eq_true rfl) (Nat.le_of_ble_eq_true rfl) rfl (metX15_init n _ _ _ _ _ _ hC44 z49 (fun hC50 => ?_))
          show Ev g _ _ 79 _ [.ref K22.2.2] (jnK K22 13 0) ci46 cj47 cr48 _ _ Qr Qx
          cases h
          exact ev_aret dX2_atom_79 rfl rfl (hq hC50)
    · rw [if_neg z20] at h
      by_cases z51 : K.2.2 < 1000000
      rotate_left
      · rw [if_neg z51] at h; cases h
      rw [if_pos z51] at h
      refine jx_new (fun c sl z => ev_new dX2_atom_25 nX2_266 z51 z) h hq (fun w52 h hq => ?_)
      have hC53 := jCW.new hC19 12 0
      show Ev g _ _ 28 _ [.ref K.2.2] (jnK K 12 0) ci15 cj16 cr17 _ _ Qr Qx
      refine ev_dup dX2_atom_28 rfl ?_
      refine ev_aload_n dX2_atom_29 rfl ?_
      refine ev_iconst (v := (nI 0)) dX2_atom_30 jc0 ?_
      refine ev_sipush (v := (nI 9999)) dX2_atom_31 js9999 ?_
      refine jx_inv (wf := wI) (fun c1 s1 c sl z => ev_invV2 dX2_atom_34 vX2_96_2 (ck9 hC53) (Or.inl (cl9 hC53)) (Nat.le_of_ble_eq_true rfl) (Nat.le_of_ble_eq_true rfl) rfl z) h hq (fun q Qr' z zq => metX2_number_2 n _ _ _ _ _ _ hC53 z zq) (fun r54 K55 ci56 cj57 cr58 w59 h hC60 hq => ?_)
      show Ev g _ _ 37 _ [.int r54, .ref K.2.2, .ref K.2.2] K55 ci56 cj57 cr58 _ _ Qr Qx
      refine ev_i2l dX2_atom_37 ?_
      obtain ⟨r61, ci62, cj63, cr64, z65, h⟩ := jpb_inv h
      refine ev_zI1 dX2_atom_38 iX2_268 (Nat.le_of_ble_eq_true rfl) (Nat.le_of_ble_eq_true rfl) rfl (metX14_init n _ _ _ _ _ _ hC60 z65 (fun hC66 => ?_))
      show Ev g _ _ 41 _ [.ref K.2.2] K55 ci62 cj63 cr64 _ _ Qr Qx
      cases h
      exact ev_aret dX2_atom_41 rfl rfl (hq hC66)
  · rw [if_pos z7] at h
    refine ev_aload_n dX2_atom_9 rfl ?_
    refine ev_iconst (v := (nI 0)) dX2_atom_10 jc0 ?_
    refine jx_inv (wf := wR) (fun c1 s1 c sl z => ev_invV1 dX2_atom_11 vX2_262_2 (ck9 hC6) (Or.inl (cl9 hC6)) (Nat.le_of_ble_eq_true rfl) (Nat.le_of_ble_eq_true rfl) rfl z) h hq (fun q Qr' z zq => metX2_within n _ (jcb.up hcsum (by omega)) _ _ _ _ _ hC6 z zq) (fun r67 K68 ci69 cj70 cr71 w72 h hC73 hq => ?_)
    show Ev g _ _ 14 _ [.ref r67] K68 ci69 cj70 cr71 _ _ Qr Qx
    cases h
    exact ev_aret dX2_atom_14 rfl rfl (hq hC73)
def fX2_takes_28 (n : Nat) (l2 : Int32) (t0 : Int32) (t1 : Int32) (K : jK) (ci : jI) (cj : jJ) (cr : jR) : Option (jTp Int32) := if l2 = 0 ∨ l2 = 1 then some (l2, (ju ci 9 2 (t1 + t0)), cj, cr) else none
theorem wX2_takes_28 {g : jG} {d : Nat} {c sl : Nat} {Qr : jQ} {Qx : jX} (n : Nat) (l2 : Int32) (t0 : Int32) (t1 : Int32) (K : jK) (ci : jI) (cj : jJ) (cr : jR) {q} (hC : jCW K cr) (h : fX2_takes_28 n  l2 t0 t1 K ci cj cr = some q) (hq : jqp wI K q Qr) : Ev g (d + 3) mX2_takes 28 [jU, jU, .int l2] [.int t0, .int t1, .ref 9] K ci cj cr c sl Qr Qx := by
  unfold fX2_takes_28 at h
  refine ev_iadd dX2_takes_28 ?_
  refine ev_putI dX2_takes_29 (pX2_36_2 _) (ck9 hC) (cl9 hC) rfl rfl rfl ?_
  refine ev_iload_n dX2_takes_32 rfl ?_
  by_cases z1 : l2 = 0 ∨ l2 = 1
  rotate_left
  · rw [if_neg z1] at h; cases h
  rw [if_pos z1] at h
  cases h
  exact ev_iret dX2_takes_33 rfl (jbool z1) (hq hC)
def fX2_takes_13 (n : Nat) (t0 : Int32) (K : jK) (ci : jI) (cj : jJ) (cr : jR) : Option (jTp Int32) := if t0 = 0 then fX2_takes_28 n  t0 (nI 0) (ci 9 2) K ci cj cr else fX2_takes_28 n  t0 (nI 1) (ci 9 2) K ci cj cr
theorem wX2_takes_13 {g : jG} {d : Nat} {c sl : Nat} {Qr : jQ} {Qx : jX} (n : Nat) (t0 : Int32) (K : jK) (ci : jI) (cj : jJ) (cr : jR) {q} (hC : jCW K cr) (h : fX2_takes_13 n  t0 K ci cj cr = some q) (hq : jqp wI K q Qr) : Ev g (d + 3) mX2_takes 13 [.ref 9, jU, jU] [.int t0] K ci cj cr c sl Qr Qx := by
  unfold fX2_takes_13 at h
  refine ev_istore_n (L' := [_, _, _]) dX2_takes_13 (by decide) rfl ?_
  refine ev_aload_n dX2_takes_14 rfl ?_
  refine ev_dup dX2_takes_15 rfl ?_
  refine ev_getI dX2_takes_16 fX2_36_2 (ck9 hC) (Or.inl (cl9 hC)) rfl ?_
  refine ev_iload_n dX2_takes_19 rfl ?_
  refine ev_if_eq 27 dX2_takes_20 rfl (fun z1 => ?_) (fun z1 => ?_)
  · rw [if_pos z1] at h
    refine ev_iconst (v := (nI 0)) dX2_takes_27 jc0 ?_
    exact ev_mask [false, false, true] (wX2_takes_28 n   _ _ _ _ _ _ _ hC h hq)
  · rw [if_neg z1] at h
    refine ev_iconst (v := (nI 1)) dX2_takes_23 jc1 ?_
    refine ev_goto 28 dX2_takes_24 rfl ?_
    exact ev_mask [false, false, true] (wX2_takes_28 n   _ _ _ _ _ _ _ hC h hq)
def fX2_takes (n : Nat) (a0 : Int32) (K : jK) (ci : jI) (cj : jJ) (cr : jR) : Option (jTp Int32) := jpb (fX2_here n  K ci cj cr) (fun r1 ci2 cj3 cr4 => if r1 = a0 then fX2_takes_13 n  (nI 1) K ci2 cj3 cr4 else fX2_takes_13 n  (nI 0) K ci2 cj3 cr4)
theorem metX2_takes {g : jG} {d : Nat} {c sl : Nat} {Qr : jQ} {Qx : jX} (n : Nat) (a0 : Int32) (K : jK) (ci : jI) (cj : jJ) (cr : jR) {q} (hC : jCW K cr) (h : fX2_takes n a0 K ci cj cr = some q) (hq : jqp wI K q Qr) : EvM g (d + 3) mX2_takes [.ref 9, .int a0] K ci cj cr c sl Qr Qx := by
  unfold fX2_takes at h
  show Ev g (d + 3) mX2_takes 0 [.ref 9, .int a0, jU] [] K ci cj cr c sl Qr Qx
  refine ev_aload_n dX2_takes_0 rfl ?_
  obtain ⟨r1, ci2, cj3, cr4, z5, h⟩ := jpb_inv h
  refine ev_zV0 dX2_takes_1 vX2_43_2 (ck9 hC) (Or.inl (cl9 hC)) (Nat.le_of_ble_eq_true rfl) (Nat.le_of_ble_eq_true rfl) rfl (metX2_here n  _ _ _ _ hC z5 (fun hC6 => ?_))
  show Ev g _ _ 4 _ [.int r1] K ci2 cj3 cr4 _ _ Qr Qx
  refine ev_iload_n dX2_takes_4 rfl ?_
  refine ev_icmp_ne 12 dX2_takes_5 rfl (fun z7 => ?_) (fun z7 => ?_)
  · rw [if_neg z7] at h
    refine ev_iconst (v := (nI 0)) dX2_takes_12 jc0 ?_
    exact ev_mask [true, false, false] (wX2_takes_13 n   _ _ _ _ _ hC6 h hq)
  · rw [if_pos z7] at h
    refine ev_iconst (v := (nI 1)) dX2_takes_8 jc1 ?_
    refine ev_goto 13 dX2_takes_9 rfl ?_
    exact ev_mask [true, false, false] (wX2_takes_13 n   _ _ _ _ _ hC6 h hq)
def fX2_product_20 (n : Nat) (csum : jK → jI → jJ → jR → Option (jT Nat)) (catom : jK → jI → jJ → jR → Option (jT Nat)) : Nat → Nat → Int32 → jK → jI → jJ → jR → Option (jT Nat)
  | 0, _, _, _, _, _, _ => none
  | k + 1, l1, l2, K, ci, cj, cr => if l2 = 0 then some (some l1, K, ci, cj, cr, 0, 0) else jpb (fX2_takes n (nI 42) K ci cj cr) (fun r2 ci3 cj4 cr5 => if r2 = 0 then jpb (fX2_takes n (nI 47) K ci3 cj4 cr5) (fun r9 ci10 cj11 cr12 => if r9 = 0 then fX2_product_20 n csum catom  k l1 (nI 0) K ci10 cj11 cr12 else jxb (fX2_atom n csum catom  K ci10 cj11 cr12) (fun r16 K17 ci18 cj19 cr20 => if K17.1 l1 = 10 ∧ l1 < K17.2.2 then jxb (fX12_add n l1 (nI 47) r16 K17 ci18 cj19 cr20) (fun r24 K25 ci26 cj27 cr28 => fX2_product_20 n csum catom  k l1 l2 K25 ci26 cj27 cr28) else none)) else jxb (fX2_atom n csum catom  K ci3 cj4 cr5) (fun r31 K32 ci33 cj34 cr35 => if K32.1 l1 = 10 ∧ l1 < K32.2.2 then jxb (fX12_add n l1 (nI 42) r31 K32 ci33 cj34 cr35) (fun r39 K40 ci41 cj42 cr43 => fX2_product_20 n csum catom  k l1 l2 K40 ci41 cj42 cr43) else none))
theorem wX2_product_20 {g : jG} {d : Nat} {Qr : jQ} {Qx : jX} (n : Nat) (csum : jK → jI → jJ → jR → Option (jT Nat)) (catom : jK → jI → jJ → jR → Option (jT Nat)) (hcsum : jcb g d mX2_sum csum) (hcatom : jcb g d mX2_atom catom) : ∀ (k : Nat) (l1 : Nat) (l2 : Int32) (K : jK) (ci : jI) (cj : jJ) (cr : jR) {q}, jCW K cr → fX2_product_20 n csum catom  k l1 l2 K ci cj cr = some q → jqx wR q Qr Qx → Ev g (d + 9) mX2_product 20 [.ref 9, .ref l1, .int l2] [] K ci cj cr q.2.2.2.2.2.1 q.2.2.2.2.2.2 Qr Qx := by
  intro k
  induction k with
  | zero =>
    intro l1 l2 K ci cj cr q hC h hq
    rw [fX2_product_20.eq_1] at h; cases h
  | succ k ih =>
    intro l1 l2 K ci cj cr q hC h hq
    rw [fX2_product_20.eq_2] at h
    refine ev_iload_n dX2_product_20 rfl ?_
    refine ev_if_eq 73 dX2_product_21 rfl (fun z1 => ?_) (fun z1 => ?_)
    · rw [if_pos z1] at h
      refine ev_aload_n dX2_product_73 rfl ?_
      cases h
      exact ev_aret dX2_product_74 rfl rfl (hq hC)
    · rw [if_neg z1] at h
      refine ev_aload_n dX2_product_24 rfl ?_
      refine ev_bipush (v := (nI 42)) dX2_product_25 jb42 ?_
      obtain ⟨r2, ci3, cj4, cr5, z6, h⟩ := jpb_inv h
      refine ev_zV1 dX2_product_27 vX2_248_2 (ck9 hC) (Or.inl (cl9 hC)) (Nat.le_of_ble_eq_true rfl) (Nat.le_of_ble_eq_true rfl) rfl (metX2_takes n _ _ _ _ _ hC z6 (fun hC7 => ?_))
      show Ev g _ _ 30 _ [.int r2] K ci3 cj4 cr5 _ _ Qr Qx
      refine ev_if_eq 46 dX2_product_30 rfl (fun z8 => ?_) (fun z8 => ?_)
      · rw [if_pos z8] at h
        refine ev_aload_n dX2_product_46 rfl ?_
        refine ev_bipush (v := (nI 47)) dX2_product_47 jb47 ?_
        obtain ⟨r9, ci10, cj11, cr12, z13, h⟩ := jpb_inv h
        refine ev_zV1 dX2_product_49 vX2_248_2 (ck9 hC7) (Or.inl (cl9 hC7)) (Nat.le_of_ble_eq_true rfl) (Nat.le_of_ble_eq_true rfl) rfl (metX2_takes n _ _ _ _ _ hC7 z13 (fun hC14 => ?_))
        show Ev g _ _ 52 _ [.int r9] K ci10 cj11 cr12 _ _ Qr Qx
        refine ev_if_eq 68 dX2_product_52 rfl (fun z15 => ?_) (fun z15 => ?_)
        · rw [if_pos z15] at h
          refine ev_iconst (v := (nI 0)) dX2_product_68 jc0 ?_
          refine ev_istore_n (L' := [_, _, _]) dX2_product_69 (by decide) rfl ?_
          refine ev_goto 20 dX2_product_70 rfl ?_
          exact ih _ _ _ _ _ _ hC14 h hq
        · rw [if_neg z15] at h
          refine ev_aload_n dX2_product_55 rfl ?_
          refine ev_bipush (v := (nI 47)) dX2_product_56 jb47 ?_
          refine ev_aload_n dX2_product_58 rfl ?_
          refine jx_inv (wf := wR) (fun c1 s1 c sl z => ev_invV0 dX2_product_59 vX2_251_2 (ck9 hC14) (Or.inl (cl9 hC14)) (Nat.le_of_ble_eq_true rfl) (Nat.le_of_ble_eq_true rfl) rfl z) h hq (fun q Qr' z zq => metX2_atom n _ _ (jcb.up hcsum (by omega)) (jcb.up hcatom (by omega))  _ _ _ _ hC14 z zq) (fun r16 K17 ci18 cj19 cr20 w21 h hC22 hq => ?_)
          show Ev g _ _ 62 _ [.ref r16, .int (nI 47), .ref l1] K17 ci18 cj19 cr20 _ _ Qr Qx
          by_cases z23 : K17.1 l1 = 10 ∧ l1 < K17.2.2
          rotate_left
          · rw [if_neg z23] at h; cases h
          rw [if_pos z23] at h
          refine jx_inv (wf := wV) (fun c1 s1 c sl z => ev_invV2 dX2_product_62 vX2_245_10 z23.1 (Or.inl z23.2) (Nat.le_of_ble_eq_true rfl) (Nat.le_of_ble_eq_true rfl) rfl z) h hq (fun q Qr' z zq => metX12_add n _ _ _ _ _ _ _ hC22 z zq) (fun r24 K25 ci26 cj27 cr28 w29 h hC30 hq => ?_)
          show Ev g _ _ 65 _ [] K25 ci26 cj27 cr28 _ _ Qr Qx
          refine ev_goto 20 dX2_product_65 rfl ?_
          exact ih _ _ _ _ _ _ hC30 h hq
      · rw [if_neg z8] at h
        refine ev_aload_n dX2_product_33 rfl ?_
        refine ev_bipush (v := (nI 42)) dX2_product_34 jb42 ?_
        refine ev_aload_n dX2_product_36 rfl ?_
        refine jx_inv (wf := wR) (fun c1 s1 c sl z => ev_invV0 dX2_product_37 vX2_251_2 (ck9 hC7) (Or.inl (cl9 hC7)) (Nat.le_of_ble_eq_true rfl) (Nat.le_of_ble_eq_true rfl) rfl z) h hq (fun q Qr' z zq => metX2_atom n _ _ (jcb.up hcsum (by omega)) (jcb.up hcatom (by omega))  _ _ _ _ hC7 z zq) (fun r31 K32 ci33 cj34 cr35 w36 h hC37 hq => ?_)
        show Ev g _ _ 40 _ [.ref r31, .int (nI 42), .ref l1] K32 ci33 cj34 cr35 _ _ Qr Qx
        by_cases z38 : K32.1 l1 = 10 ∧ l1 < K32.2.2
        rotate_left
        · rw [if_neg z38] at h; cases h
        rw [if_pos z38] at h
        refine jx_inv (wf := wV) (fun c1 s1 c sl z => ev_invV2 dX2_product_40 vX2_245_10 z38.1 (Or.inl z38.2) (Nat.le_of_ble_eq_true rfl) (Nat.le_of_ble_eq_true rfl) rfl z) h hq (fun q Qr' z zq => metX12_add n _ _ _ _ _ _ _ hC37 z zq) (fun r39 K40 ci41 cj42 cr43 w44 h hC45 hq => ?_)
        show Ev g _ _ 43 _ [] K40 ci41 cj42 cr43 _ _ Qr Qx
        refine ev_goto 20 dX2_product_43 rfl ?_
        exact ih _ _ _ _ _ _ hC45 h hq
def fX2_product (n : Nat) (csum : jK → jI → jJ → jR → Option (jT Nat)) (catom : jK → jI → jJ → jR → Option (jT Nat)) (K : jK) (ci : jI) (cj : jJ) (cr : jR) : Option (jT Nat) := if K.2.2 < 1000000 then jal (jfn 10) (jxb (fX12_init n K.2.2 (jnK K 10 0) ci cj cr) (fun r4 K5 ci6 cj7 cr8 => jxb (fX2_atom n csum catom  K5 ci6 cj7 cr8) (fun r11 K12 ci13 cj14 cr15 => if K12.1 K.2.2 = 10 ∧ K.2.2 < K12.2.2 then jxb (fX12_add n K.2.2 (nI 42) r11 K12 ci13 cj14 cr15) (fun r19 K20 ci21 cj22 cr23 => fX2_product_20 n csum catom  n K.2.2 (nI 1) K20 ci21 cj22 cr23) else none))) else none
theorem metX2_product {g : jG} {d : Nat} {Qr : jQ} {Qx : jX} (n : Nat) (csum : jK → jI → jJ → jR → Option (jT Nat)) (catom : jK → jI → jJ → jR → Option (jT Nat)) (hcsum : jcb g d mX2_sum csum) (hcatom : jcb g d mX2_atom catom) (K : jK) (ci : jI) (cj : jJ) (cr : jR) {q} (hC : jCW K cr) (h : fX2_product n csum catom  K ci cj cr = some q) (hq : jqx wR q Qr Qx) : EvM g (d + 9) mX2_product [.ref 9] K ci cj cr q.2.2.2.2.2.1 q.2.2.2.2.2.2 Qr Qx := by
  unfold fX2_product at h
  show Ev g (d + 9) mX2_product 0 [.ref 9, jU, jU] [] K ci cj cr q.2.2.2.2.2.1 q.2.2.2.2.2.2 Qr Qx
  by_cases z1 : K.2.2 < 1000000
  rotate_left
  · rw [if_neg z1] at h; cases h
  rw [if_pos z1] at h
  refine jx_new (fun c sl z => ev_new dX2_product_0 nX2_239 z1 z) h hq (fun w2 h hq => ?_)
  have hC3 := jCW.new hC 10 0
  show Ev g _ _ 3 _ [.ref K.2.2] (jnK K 10 0) ci cj cr _ _ Qr Qx
  refine ev_dup dX2_product_3 rfl ?_
  refine jx_inv (wf := wV) (fun c1 s1 c sl z => ev_invI0 dX2_product_4 iX2_241 (Nat.le_of_ble_eq_true rfl) (Nat.le_of_ble_eq_true rfl) rfl z) h hq (fun q Qr' z zq => metX12_init n _ _ _ _ _ hC3 z zq) (fun r4 K5 ci6 cj7 cr8 w9 h hC10 hq => ?_)
  show Ev g _ _ 7 _ [.ref K.2.2] K5 ci6 cj7 cr8 _ _ Qr Qx
  refine ev_astore_n (L' := [_, _, _]) dX2_product_7 (by decide) rfl ?_
  refine ev_aload_n dX2_product_8 rfl ?_
  refine ev_bipush (v := (nI 42)) dX2_product_9 jb42 ?_
  refine ev_aload_n dX2_product_11 rfl ?_
  refine jx_inv (wf := wR) (fun c1 s1 c sl z => ev_invV0 dX2_product_12 vX2_251_2 (ck9 hC10) (Or.inl (cl9 hC10)) (Nat.le_of_ble_eq_true rfl) (Nat.le_of_ble_eq_true rfl) rfl z) h hq (fun q Qr' z zq => metX2_atom n _ _ (jcb.up hcsum (by omega)) (jcb.up hcatom (by omega))  _ _ _ _ hC10 z zq) (fun r11 K12 ci13 cj14 cr15 w16 h hC17 hq => ?_)
  show Ev g _ _ 15 _ [.ref r11, .int (nI 42), .ref K.2.2] K12 ci13 cj14 cr15 _ _ Qr Qx
  by_cases z18 : K12.1 K.2.2 = 10 ∧ K.2.2 < K12.2.2
  rotate_left
  · rw [if_neg z18] at h; cases h
  rw [if_pos z18] at h
  refine jx_inv (wf := wV) (fun c1 s1 c sl z => ev_invV2 dX2_product_15 vX2_245_10 z18.1 (Or.inl z18.2) (Nat.le_of_ble_eq_true rfl) (Nat.le_of_ble_eq_true rfl) rfl z) h hq (fun q Qr' z zq => metX12_add n _ _ _ _ _ _ _ hC17 z zq) (fun r19 K20 ci21 cj22 cr23 w24 h hC25 hq => ?_)
  show Ev g _ _ 18 _ [] K20 ci21 cj22 cr23 _ _ Qr Qx
  refine ev_iconst (v := (nI 1)) dX2_product_18 jc1 ?_
  refine ev_istore_n (L' := [_, _, _]) dX2_product_19 (by decide) rfl ?_
  exact wX2_product_20 n _ _ hcsum hcatom   n _ _ _ _ _ _ hC25 h hq
def fX2_sum_20 (n : Nat) (csum : jK → jI → jJ → jR → Option (jT Nat)) (catom : jK → jI → jJ → jR → Option (jT Nat)) : Nat → Nat → Int32 → jK → jI → jJ → jR → Option (jT Nat)
  | 0, _, _, _, _, _, _ => none
  | k + 1, l1, l2, K, ci, cj, cr => if l2 = 0 then some (some l1, K, ci, cj, cr, 0, 0) else jpb (fX2_takes n (nI 43) K ci cj cr) (fun r2 ci3 cj4 cr5 => if r2 = 0 then jpb (fX2_takes n (nI 45) K ci3 cj4 cr5) (fun r9 ci10 cj11 cr12 => if r9 = 0 then fX2_sum_20 n csum catom  k l1 (nI 0) K ci10 cj11 cr12 else jxb (fX2_product n csum catom  K ci10 cj11 cr12) (fun r16 K17 ci18 cj19 cr20 => if K17.1 l1 = 10 ∧ l1 < K17.2.2 then jxb (fX12_add n l1 (nI 45) r16 K17 ci18 cj19 cr20) (fun r24 K25 ci26 cj27 cr28 => fX2_sum_20 n csum catom  k l1 l2 K25 ci26 cj27 cr28) else none)) else jxb (fX2_product n csum catom  K ci3 cj4 cr5) (fun r31 K32 ci33 cj34 cr35 => if K32.1 l1 = 10 ∧ l1 < K32.2.2 then jxb (fX12_add n l1 (nI 43) r31 K32 ci33 cj34 cr35) (fun r39 K40 ci41 cj42 cr43 => fX2_sum_20 n csum catom  k l1 l2 K40 ci41 cj42 cr43) else none))
theorem wX2_sum_20 {g : jG} {d : Nat} {Qr : jQ} {Qx : jX} (n : Nat) (csum : jK → jI → jJ → jR → Option (jT Nat)) (catom : jK → jI → jJ → jR → Option (jT Nat)) (hcsum : jcb g d mX2_sum csum) (hcatom : jcb g d mX2_atom catom) : ∀ (k : Nat) (l1 : Nat) (l2 : Int32) (K : jK) (ci : jI) (cj : jJ) (cr : jR) {q}, jCW K cr → fX2_sum_20 n csum catom  k l1 l2 K ci cj cr = some q → jqx wR q Qr Qx → Ev g (d + 10) mX2_sum 20 [.ref 9, .ref l1, .int l2] [] K ci cj cr q.2.2.2.2.2.1 q.2.2.2.2.2.2 Qr Qx := by
  intro k
  induction k with
  | zero =>
    intro l1 l2 K ci cj cr q hC h hq
    rw [fX2_sum_20.eq_1] at h; cases h
  | succ k ih =>
    intro l1 l2 K ci cj cr q hC h hq
    rw [fX2_sum_20.eq_2] at h
    refine ev_iload_n dX2_sum_20 rfl ?_
    refine ev_if_eq 73 dX2_sum_21 rfl (fun z1 => ?_) (fun z1 => ?_)
    · rw [if_pos z1] at h
      refine ev_aload_n dX2_sum_73 rfl ?_
      cases h
      exact ev_aret dX2_sum_74 rfl rfl (hq hC)
    · rw [if_neg z1] at h
      refine ev_aload_n dX2_sum_24 rfl ?_
      refine ev_bipush (v := (nI 43)) dX2_sum_25 jb43 ?_
      obtain ⟨r2, ci3, cj4, cr5, z6, h⟩ := jpb_inv h
      refine ev_zV1 dX2_sum_27 vX2_248_2 (ck9 hC) (Or.inl (cl9 hC)) (Nat.le_of_ble_eq_true rfl) (Nat.le_of_ble_eq_true rfl) rfl (metX2_takes n _ _ _ _ _ hC z6 (fun hC7 => ?_))
      show Ev g _ _ 30 _ [.int r2] K ci3 cj4 cr5 _ _ Qr Qx
      refine ev_if_eq 46 dX2_sum_30 rfl (fun z8 => ?_) (fun z8 => ?_)
      · rw [if_pos z8] at h
        refine ev_aload_n dX2_sum_46 rfl ?_
        refine ev_bipush (v := (nI 45)) dX2_sum_47 jb45 ?_
        obtain ⟨r9, ci10, cj11, cr12, z13, h⟩ := jpb_inv h
        refine ev_zV1 dX2_sum_49 vX2_248_2 (ck9 hC7) (Or.inl (cl9 hC7)) (Nat.le_of_ble_eq_true rfl) (Nat.le_of_ble_eq_true rfl) rfl (metX2_takes n _ _ _ _ _ hC7 z13 (fun hC14 => ?_))
        show Ev g _ _ 52 _ [.int r9] K ci10 cj11 cr12 _ _ Qr Qx
        refine ev_if_eq 68 dX2_sum_52 rfl (fun z15 => ?_) (fun z15 => ?_)
        · rw [if_pos z15] at h
          refine ev_iconst (v := (nI 0)) dX2_sum_68 jc0 ?_
          refine ev_istore_n (L' := [_, _, _]) dX2_sum_69 (by decide) rfl ?_
          refine ev_goto 20 dX2_sum_70 rfl ?_
          exact ih _ _ _ _ _ _ hC14 h hq
        · rw [if_neg z15] at h
          refine ev_aload_n dX2_sum_55 rfl ?_
          refine ev_bipush (v := (nI 45)) dX2_sum_56 jb45 ?_
          refine ev_aload_n dX2_sum_58 rfl ?_
          refine jx_inv (wf := wR) (fun c1 s1 c sl z => ev_invV0 dX2_sum_59 vX2_242_2 (ck9 hC14) (Or.inl (cl9 hC14)) (Nat.le_of_ble_eq_true rfl) (Nat.le_of_ble_eq_true rfl) rfl z) h hq (fun q Qr' z zq => metX2_product n _ _ (jcb.up hcsum (by omega)) (jcb.up hcatom (by omega))  _ _ _ _ hC14 z zq) (fun r16 K17 ci18 cj19 cr20 w21 h hC22 hq => ?_)
          show Ev g _ _ 62 _ [.ref r16, .int (nI 45), .ref l1] K17 ci18 cj19 cr20 _ _ Qr Qx
          by_cases z23 : K17.1 l1 = 10 ∧ l1 < K17.2.2
          rotate_left
          · rw [if_neg z23] at h; cases h
          rw [if_pos z23] at h
          refine jx_inv (wf := wV) (fun c1 s1 c sl z => ev_invV2 dX2_sum_62 vX2_245_10 z23.1 (Or.inl z23.2) (Nat.le_of_ble_eq_true rfl) (Nat.le_of_ble_eq_true rfl) rfl z) h hq (fun q Qr' z zq => metX12_add n _ _ _ _ _ _ _ hC22 z zq) (fun r24 K25 ci26 cj27 cr28 w29 h hC30 hq => ?_)
          show Ev g _ _ 65 _ [] K25 ci26 cj27 cr28 _ _ Qr Qx
          refine ev_goto 20 dX2_sum_65 rfl ?_
          exact ih _ _ _ _ _ _ hC30 h hq
      · rw [if_neg z8] at h
        refine ev_aload_n dX2_sum_33 rfl ?_
        refine ev_bipush (v := (nI 43)) dX2_sum_34 jb43 ?_
        refine ev_aload_n dX2_sum_36 rfl ?_
        refine jx_inv (wf := wR) (fun c1 s1 c sl z => ev_invV0 dX2_sum_37 vX2_242_2 (ck9 hC7) (Or.inl (cl9 hC7)) (Nat.le_of_ble_eq_true rfl) (Nat.le_of_ble_eq_true rfl) rfl z) h hq (fun q Qr' z zq => metX2_product n _ _ (jcb.up hcsum (by omega)) (jcb.up hcatom (by omega))  _ _ _ _ hC7 z zq) (fun r31 K32 ci33 cj34 cr35 w36 h hC37 hq => ?_)
        show Ev g _ _ 40 _ [.ref r31, .int (nI 43), .ref l1] K32 ci33 cj34 cr35 _ _ Qr Qx
        by_cases z38 : K32.1 l1 = 10 ∧ l1 < K32.2.2
        rotate_left
        · rw [if_neg z38] at h; cases h
        rw [if_pos z38] at h
        refine jx_inv (wf := wV) (fun c1 s1 c sl z => ev_invV2 dX2_sum_40 vX2_245_10 z38.1 (Or.inl z38.2) (Nat.le_of_ble_eq_true rfl) (Nat.le_of_ble_eq_true rfl) rfl z) h hq (fun q Qr' z zq => metX12_add n _ _ _ _ _ _ _ hC37 z zq) (fun r39 K40 ci41 cj42 cr43 w44 h hC45 hq => ?_)
        show Ev g _ _ 43 _ [] K40 ci41 cj42 cr43 _ _ Qr Qx
        refine ev_goto 20 dX2_sum_43 rfl ?_
        exact ih _ _ _ _ _ _ hC45 h hq
def fX2_sum (n : Nat) (csum : jK → jI → jJ → jR → Option (jT Nat)) (catom : jK → jI → jJ → jR → Option (jT Nat)) (K : jK) (ci : jI) (cj : jJ) (cr : jR) : Option (jT Nat) := if K.2.2 < 1000000 then jal (jfn 10) (jxb (fX12_init n K.2.2 (jnK K 10 0) ci cj cr) (fun r4 K5 ci6 cj7 cr8 => jxb (fX2_product n csum catom  K5 ci6 cj7 cr8) (fun r11 K12 ci13 cj14 cr15 => if K12.1 K.2.2 = 10 ∧ K.2.2 < K12.2.2 then jxb (fX12_add n K.2.2 (nI 43) r11 K12 ci13 cj14 cr15) (fun r19 K20 ci21 cj22 cr23 => fX2_sum_20 n csum catom  n K.2.2 (nI 1) K20 ci21 cj22 cr23) else none))) else none
theorem metX2_sum {g : jG} {d : Nat} {Qr : jQ} {Qx : jX} (n : Nat) (csum : jK → jI → jJ → jR → Option (jT Nat)) (catom : jK → jI → jJ → jR → Option (jT Nat)) (hcsum : jcb g d mX2_sum csum) (hcatom : jcb g d mX2_atom catom) (K : jK) (ci : jI) (cj : jJ) (cr : jR) {q} (hC : jCW K cr) (h : fX2_sum n csum catom  K ci cj cr = some q) (hq : jqx wR q Qr Qx) : EvM g (d + 10) mX2_sum [.ref 9] K ci cj cr q.2.2.2.2.2.1 q.2.2.2.2.2.2 Qr Qx := by
  unfold fX2_sum at h
  show Ev g (d + 10) mX2_sum 0 [.ref 9, jU, jU] [] K ci cj cr q.2.2.2.2.2.1 q.2.2.2.2.2.2 Qr Qx
  by_cases z1 : K.2.2 < 1000000
  rotate_left
  · rw [if_neg z1] at h; cases h
  rw [if_pos z1] at h
  refine jx_new (fun c sl z => ev_new dX2_sum_0 nX2_239 z1 z) h hq (fun w2 h hq => ?_)
  have hC3 := jCW.new hC 10 0
  show Ev g _ _ 3 _ [.ref K.2.2] (jnK K 10 0) ci cj cr _ _ Qr Qx
  refine ev_dup dX2_sum_3 rfl ?_
  refine jx_inv (wf := wV) (fun c1 s1 c sl z => ev_invI0 dX2_sum_4 iX2_241 (Nat.le_of_ble_eq_true rfl) (Nat.le_of_ble_eq_true rfl) rfl z) h hq (fun q Qr' z zq => metX12_init n _ _ _ _ _ hC3 z zq) (fun r4 K5 ci6 cj7 cr8 w9 h hC10 hq => ?_)
  show Ev g _ _ 7 _ [.ref K.2.2] K5 ci6 cj7 cr8 _ _ Qr Qx
  refine ev_astore_n (L' := [_, _, _]) dX2_sum_7 (by decide) rfl ?_
  refine ev_aload_n dX2_sum_8 rfl ?_
  refine ev_bipush (v := (nI 43)) dX2_sum_9 jb43 ?_
  refine ev_aload_n dX2_sum_11 rfl ?_
  refine jx_inv (wf := wR) (fun c1 s1 c sl z => ev_invV0 dX2_sum_12 vX2_242_2 (ck9 hC10) (Or.inl (cl9 hC10)) (Nat.le_of_ble_eq_true rfl) (Nat.le_of_ble_eq_true rfl) rfl z) h hq (fun q Qr' z zq => metX2_product n _ _ (jcb.up hcsum (by omega)) (jcb.up hcatom (by omega))  _ _ _ _ hC10 z zq) (fun r11 K12 ci13 cj14 cr15 w16 h hC17 hq => ?_)
  show Ev g _ _ 15 _ [.ref r11, .int (nI 43), .ref K.2.2] K12 ci13 cj14 cr15 _ _ Qr Qx
  by_cases z18 : K12.1 K.2.2 = 10 ∧ K.2.2 < K12.2.2
  rotate_left
  · rw [if_neg z18] at h; cases h
  rw [if_pos z18] at h
  refine jx_inv (wf := wV) (fun c1 s1 c sl z => ev_invV2 dX2_sum_15 vX2_245_10 z18.1 (Or.inl z18.2) (Nat.le_of_ble_eq_true rfl) (Nat.le_of_ble_eq_true rfl) rfl z) h hq (fun q Qr' z zq => metX12_add n _ _ _ _ _ _ _ hC17 z zq) (fun r19 K20 ci21 cj22 cr23 w24 h hC25 hq => ?_)
  show Ev g _ _ 18 _ [] K20 ci21 cj22 cr23 _ _ Qr Qx
  refine ev_iconst (v := (nI 1)) dX2_sum_18 jc1 ?_
  refine ev_istore_n (L' := [_, _, _]) dX2_sum_19 (by decide) rfl ?_
  exact wX2_sum_20 n _ _ hcsum hcatom   n _ _ _ _ _ _ hC25 h hq
def fX17_init (n : Nat) (ah : Nat) (K : jK) (ci : jI) (cj : jJ) (cr : jR) : Option (jTp Unit) := some ((), ci, cj, cr)
theorem metX17_init {g : jG} {d : Nat} {c sl : Nat} {Qr : jQ} {Qx : jX} (n : Nat) (ah : Nat) (K : jK) (ci : jI) (cj : jJ) (cr : jR) {q} (hC : jCW K cr) (h : fX17_init n ah K ci cj cr = some q) (hq : jqp wV K q Qr) : EvM g (d + 1) mX17_init [.ref ah] K ci cj cr c sl Qr Qx := by
  unfold fX17_init at h
  show Ev g (d + 1) mX17_init 0 [.ref ah] [] K ci cj cr c sl Qr Qx
  refine ev_aload_n dX17_init_0 rfl ?_
  refine ev_objInit dX17_init_1 q1187 (Nat.le_of_ble_eq_true rfl) ?_
  cases h
  exact ev_ret dX17_init_4 rfl (hq hC)
def fX18_init (n : Nat) (ah : Nat) (a0 : Int32) (K : jK) (ci : jI) (cj : jJ) (cr : jR) : Option (jT Unit) := jpb (fX17_init n ah K ci cj cr) (fun r1 ci2 cj3 cr4 => if K.2.2 < 1000000 then jal (jfn 20) (jxb (fJ2_init n K.2.2 (nI 2) (jnK K 20 0) ci2 cj3 cr4) (fun r10 K11 ci12 cj13 cr14 => if K11.1 ah = 15 ∧ ah < K11.2.2 then if a0 = 0 ∨ a0 = 1 then some (some (), K11, (ju ci12 ah 1 a0), cj13, (ju cr14 ah 0 (some K.2.2)), 0, 0) else none else none)) else none)
theorem metX18_init {g : jG} {d : Nat} {Qr : jQ} {Qx : jX} (n : Nat) (ah : Nat) (a0 : Int32) (K : jK) (ci : jI) (cj : jJ) (cr : jR) {q} (hC : jCW K cr) (h : fX18_init n ah a0 K ci cj cr = some q) (hq : jqx wV q Qr Qx) : EvM g (d + 4) mX18_init [.ref ah, .int a0] K ci cj cr q.2.2.2.2.2.1 q.2.2.2.2.2.2 Qr Qx := by
  unfold fX18_init at h
  show Ev g (d + 4) mX18_init 0 [.ref ah, .int a0] [] K ci cj cr q.2.2.2.2.2.1 q.2.2.2.2.2.2 Qr Qx
  refine ev_aload_n dX18_init_0 rfl ?_
  obtain ⟨r1, ci2, cj3, cr4, z5, h⟩ := jpb_inv h
  refine ev_zI0 dX18_init_1 iX18_1 (Nat.le_of_ble_eq_true rfl) (Nat.le_of_ble_eq_true rfl) rfl (metX17_init n _ _ _ _ _ hC z5 (fun hC6 => ?_))
  show Ev g _ _ 4 _ [] K ci2 cj3 cr4 _ _ Qr Qx
  refine ev_aload_n dX18_init_4 rfl ?_
  by_cases z7 : K.2.2 < 1000000
  rotate_left
  · rw [if_neg z7] at h; cases h
  rw [if_pos z7] at h
  refine jx_new (fun c sl z => ev_new dX18_init_5 nX18_7 z7 z) h hq (fun w8 h hq => ?_)
  have hC9 := jCW.new hC6 20 0
  show Ev g _ _ 8 _ [.ref K.2.2, .ref ah] (jnK K 20 0) ci2 cj3 cr4 _ _ Qr Qx
  refine ev_dup dX18_init_8 rfl ?_
  refine ev_iconst (v := (nI 2)) dX18_init_9 jc2 ?_
  refine jx_inv (wf := wV) (fun c1 s1 c sl z => ev_invI1 dX18_init_10 iX18_9 (Nat.le_of_ble_eq_true rfl) (Nat.le_of_ble_eq_true rfl) rfl z) h hq (fun q Qr' z zq => metJ2_init n _ _ _ _ _ _ hC9 z zq) (fun r10 K11 ci12 cj13 cr14 w15 h hC16 hq => ?_)
  show Ev g _ _ 13 _ [.ref K.2.2, .ref ah] K11 ci12 cj13 cr14 _ _ Qr Qx
  by_cases z17 : K11.1 ah = 15 ∧ ah < K11.2.2
  rotate_left
  · rw [if_neg z17] at h; cases h
  rw [if_pos z17] at h
  refine ev_putR dX18_init_13 pX18_12_15 z17.1 z17.2 rfl ?_
  have hC18 := jCW.upd hC16 (k := 0) (v := (some K.2.2)) z17.1 (by decide)
  refine ev_aload_n dX18_init_16 rfl ?_
  refine ev_iload_n dX18_init_17 rfl ?_
  by_cases z19 : a0 = 0 ∨ a0 = 1
  rotate_left
  · rw [if_neg z19] at h; cases h
  rw [if_pos z19] at h
  refine ev_putI dX18_init_18 pX18_18_15 z17.1 z17.2 rfl (jbool z19) (jboolf z19) ?_
  cases h
  exact ev_ret dX18_init_21 rfl (hq hC18)
def fX19_init (n : Nat) (ah : Nat) (a0 : Nat) (K : jK) (ci : jI) (cj : jJ) (cr : jR) : Option (jTp Unit) := jpb (fX17_init n ah K ci cj cr) (fun r1 ci2 cj3 cr4 => if K.1 ah = 16 ∧ ah < K.2.2 then some ((), ci2, cj3, (ju cr4 ah 0 (some a0))) else none)
theorem metX19_init {g : jG} {d : Nat} {c sl : Nat} {Qr : jQ} {Qx : jX} (n : Nat) (ah : Nat) (a0 : Nat) (K : jK) (ci : jI) (cj : jJ) (cr : jR) {q} (hC : jCW K cr) (h : fX19_init n ah a0 K ci cj cr = some q) (hq : jqp wV K q Qr) : EvM g (d + 2) mX19_init [.ref ah, .ref a0] K ci cj cr c sl Qr Qx := by
  unfold fX19_init at h
  show Ev g (d + 2) mX19_init 0 [.ref ah, .ref a0] [] K ci cj cr c sl Qr Qx
  refine ev_aload_n dX19_init_0 rfl ?_
  obtain ⟨r1, ci2, cj3, cr4, z5, h⟩ := jpb_inv h
  refine ev_zI0 dX19_init_1 iX19_1 (Nat.le_of_ble_eq_true rfl) (Nat.le_of_ble_eq_true rfl) rfl (metX17_init n _ _ _ _ _ hC z5 (fun hC6 => ?_))
  show Ev g _ _ 4 _ [] K ci2 cj3 cr4 _ _ Qr Qx
  refine ev_aload_n dX19_init_4 rfl ?_
  refine ev_aload_n dX19_init_5 rfl ?_
  by_cases z7 : K.1 ah = 16 ∧ ah < K.2.2
  rotate_left
  · rw [if_neg z7] at h; cases h
  rw [if_pos z7] at h
  refine ev_putR dX19_init_6 pX19_7_16 z7.1 z7.2 rfl ?_
  have hC8 := jCW.upd hC6 (k := 0) (v := (some a0)) z7.1 (by decide)
  cases h
  exact ev_ret dX19_init_9 rfl (hq hC8)
def fX20_init (n : Nat) (ah : Nat) (K : jK) (ci : jI) (cj : jJ) (cr : jR) : Option (jTp Unit) := jpb (fX17_init n ah K ci cj cr) (fun r1 ci2 cj3 cr4 => some ((), ci2, cj3, cr4))
theorem metX20_init {g : jG} {d : Nat} {c sl : Nat} {Qr : jQ} {Qx : jX} (n : Nat) (ah : Nat) (K : jK) (ci : jI) (cj : jJ) (cr : jR) {q} (hC : jCW K cr) (h : fX20_init n ah K ci cj cr = some q) (hq : jqp wV K q Qr) : EvM g (d + 2) mX20_init [.ref ah] K ci cj cr c sl Qr Qx := by
  unfold fX20_init at h
  show Ev g (d + 2) mX20_init 0 [.ref ah] [] K ci cj cr c sl Qr Qx
  refine ev_aload_n dX20_init_0 rfl ?_
  obtain ⟨r1, ci2, cj3, cr4, z5, h⟩ := jpb_inv h
  refine ev_zI0 dX20_init_1 iX20_1 (Nat.le_of_ble_eq_true rfl) (Nat.le_of_ble_eq_true rfl) rfl (metX17_init n _ _ _ _ _ hC z5 (fun hC6 => ?_))
  show Ev g _ _ 4 _ [] K ci2 cj3 cr4 _ _ Qr Qx
  cases h
  exact ev_ret dX20_init_4 rfl (hq hC6)
def fX21_init (n : Nat) (ah : Nat) (a0 : Nat) (a1 : Int32) (a2 : Nat) (K : jK) (ci : jI) (cj : jJ) (cr : jR) : Option (jTp Unit) := jpb (fX17_init n ah K ci cj cr) (fun r1 ci2 cj3 cr4 => if K.1 ah = 18 ∧ ah < K.2.2 then some ((), (ju ci2 ah 2 a1), cj3, (ju (ju cr4 ah 0 (some a0)) ah 1 (some a2))) else none)
theorem metX21_init {g : jG} {d : Nat} {c sl : Nat} {Qr : jQ} {Qx : jX} (n : Nat) (ah : Nat) (a0 : Nat) (a1 : Int32) (a2 : Nat) (K : jK) (ci : jI) (cj : jJ) (cr : jR) {q} (hC : jCW K cr) (h : fX21_init n ah a0 a1 a2 K ci cj cr = some q) (hq : jqp wV K q Qr) : EvM g (d + 2) mX21_init [.ref ah, .ref a0, .int a1, .ref a2] K ci cj cr c sl Qr Qx := by
  unfold fX21_init at h
  show Ev g (d + 2) mX21_init 0 [.ref ah, .ref a0, .int a1, .ref a2] [] K ci cj cr c sl Qr Qx
  refine ev_aload_n dX21_init_0 rfl ?_
  obtain ⟨r1, ci2, cj3, cr4, z5, h⟩ := jpb_inv h
  refine ev_zI0 dX21_init_1 iX21_1 (Nat.le_of_ble_eq_true rfl) (Nat.le_of_ble_eq_true rfl) rfl (metX17_init n _ _ _ _ _ hC z5 (fun hC6 => ?_))
  show Ev g _ _ 4 _ [] K ci2 cj3 cr4 _ _ Qr Qx
  refine ev_aload_n dX21_init_4 rfl ?_
  refine ev_aload_n dX21_init_5 rfl ?_
  by_cases z7 : K.1 ah = 18 ∧ ah < K.2.2
  rotate_left
  · rw [if_neg z7] at h; cases h
  rw [if_pos z7] at h
  refine ev_putR dX21_init_6 pX21_7_18 z7.1 z7.2 rfl ?_
  have hC8 := jCW.upd hC6 (k := 0) (v := (some a0)) z7.1 (by decide)
  refine ev_aload_n dX21_init_9 rfl ?_
  refine ev_iload_n dX21_init_10 rfl ?_
  refine ev_putI dX21_init_11 pX21_13_18 z7.1 z7.2 rfl rfl rfl ?_
  refine ev_aload_n dX21_init_14 rfl ?_
  refine ev_aload_n dX21_init_15 rfl ?_
  refine ev_putR dX21_init_16 pX21_17_18 z7.1 z7.2 rfl ?_
  have hC9 := jCW.upd hC8 (k := 1) (v := (some a2)) z7.1 (by decide)
  cases h
  exact ev_ret dX21_init_19 rfl (hq hC9)
def fX2_passes (n : Nat) (a0 : Nat) (K : jK) (ci : jI) (cj : jJ) (cr : jR) : Option (jT Int32) := jpb (fX2_here n  K ci cj cr) (fun r1 ci2 cj3 cr4 => jpb (fX0_isLetter n r1 K ci2 cj3 cr4) (fun r7 ci8 cj9 cr10 => if r7 = 0 then some (some (nI 0), K, ci8, cj9, cr10, 0, 0) else jxb (fX2_word n  K ci8 cj9 cr10) (fun r14 K15 ci16 cj17 cr18 => if K15.1 r14 = 21 ∧ (r14 < K15.2.2 ∨ 1000000 ≤ r14) then jpb (fJ6_equals n r14 a0 K15 ci16 cj17 cr18) (fun r22 ci23 cj24 cr25 => if r22 = 0 then some (some (nI 0), K15, (ju ci23 9 2 (ci 9 2)), cj24, cr25, 0, 0) else some (some (nI 1), K15, ci23, cj24, cr25, 0, 0)) else none)))
theorem metX2_passes {g : jG} {d : Nat} {Qr : jQ} {Qx : jX} (n : Nat) (a0 : Nat) (K : jK) (ci : jI) (cj : jJ) (cr : jR) {q} (hC : jCW K cr) (h : fX2_passes n a0 K ci cj cr = some q) (hq : jqx wI q Qr Qx) : EvM g (d + 7) mX2_passes [.ref 9, .ref a0] K ci cj cr q.2.2.2.2.2.1 q.2.2.2.2.2.2 Qr Qx := by
  unfold fX2_passes at h
  show Ev g (d + 7) mX2_passes 0 [.ref 9, .ref a0, jU] [] K ci cj cr q.2.2.2.2.2.1 q.2.2.2.2.2.2 Qr Qx
  refine ev_aload_n dX2_passes_0 rfl ?_
  refine ev_getI dX2_passes_1 fX2_36_2 (ck9 hC) (Or.inl (cl9 hC)) rfl ?_
  refine ev_istore_n (L' := [_, _, _]) dX2_passes_4 (by decide) rfl ?_
  refine ev_aload_n dX2_passes_5 rfl ?_
  obtain ⟨r1, ci2, cj3, cr4, z5, h⟩ := jpb_inv h
  refine ev_zV0 dX2_passes_6 vX2_43_2 (ck9 hC) (Or.inl (cl9 hC)) (Nat.le_of_ble_eq_true rfl) (Nat.le_of_ble_eq_true rfl) rfl (metX2_here n  _ _ _ _ hC z5 (fun hC6 => ?_))
  show Ev g _ _ 9 _ [.int r1] K ci2 cj3 cr4 _ _ Qr Qx
  obtain ⟨r7, ci8, cj9, cr10, z11, h⟩ := jpb_inv h
  refine ev_zS1 dX2_passes_9 sX2_51 (Nat.le_of_ble_eq_true rfl) (Nat.le_of_ble_eq_true rfl) rfl (metX0_isLetter n _ _ _ _ _ hC6 z11 (fun hC12 => ?_))
  show Ev g _ _ 12 _ [.int r7] K ci8 cj9 cr10 _ _ Qr Qx
  refine ev_if_ne 17 dX2_passes_12 rfl (fun z13 => ?_) (fun z13 => ?_)
  · rw [if_neg z13] at h
    refine ev_aload_n dX2_passes_17 rfl ?_
    refine jx_inv (wf := wR) (fun c1 s1 c sl z => ev_invV0 dX2_passes_18 vX2_70_2 (ck9 hC12) (Or.inl (cl9 hC12)) (Nat.le_of_ble_eq_true rfl) (Nat.le_of_ble_eq_true rfl) rfl z) h hq (fun q Qr' z zq => metX2_word n  _ _ _ _ hC12 z zq) (fun r14 K15 ci16 cj17 cr18 w19 h hC20 hq => ?_)
    show Ev g _ _ 21 _ [.ref r14] K15 ci16 cj17 cr18 _ _ Qr Qx
    refine ev_aload_n dX2_passes_21 rfl ?_
    by_cases z21 : K15.1 r14 = 21 ∧ (r14 < K15.2.2 ∨ 1000000 ≤ r14)
    rotate_left
    · rw [if_neg z21] at h; cases h
    rw [if_pos z21] at h
    obtain ⟨r22, ci23, cj24, cr25, z26, h⟩ := jpb_inv h
    refine ev_zV1 dX2_passes_22 vX2_74_21 z21.1 z21.2 (Nat.le_of_ble_eq_true rfl) (Nat.le_of_ble_eq_true rfl) rfl (metJ6_equals n _ _ _ _ _ _ hC20 z26 (fun hC27 => ?_))
    show Ev g _ _ 25 _ [.int r22] K15 ci23 cj24 cr25 _ _ Qr Qx
    refine ev_if_eq 30 dX2_passes_25 rfl (fun z28 => ?_) (fun z28 => ?_)
    · rw [if_pos z28] at h
      refine ev_aload_n dX2_passes_30 rfl ?_
      refine ev_iload_n dX2_passes_31 rfl ?_
      refine ev_putI dX2_passes_32 (pX2_36_2 _) (ck9 hC27) (cl9 hC27) rfl rfl rfl ?_
      refine ev_iconst (v := (nI 0)) dX2_passes_35 jc0 ?_
      cases h
      exact ev_iret dX2_passes_36 rfl (by decide) (hq hC27)
    · rw [if_neg z28] at h
      refine ev_iconst (v := (nI 1)) dX2_passes_28 jc1 ?_
      cases h
      exact ev_iret dX2_passes_29 rfl (by decide) (hq hC27)
  · rw [if_pos z13] at h
    refine ev_iconst (v := (nI 0)) dX2_passes_15 jc0 ?_
    cases h
    exact ev_iret dX2_passes_16 rfl (by decide) (hq hC12)
def fX2_fact_148 (n : Nat) (csum : jK → jI → jJ → jR → Option (jT Nat)) (catom : jK → jI → jJ → jR → Option (jT Nat)) (ctest : jK → jI → jJ → jR → Option (jT Nat)) (cfact : jK → jI → jJ → jR → Option (jT Nat)) (l1 : Nat) (l2 : Int32) (K : jK) (ci : jI) (cj : jJ) (cr : jR) : Option (jT Nat) := if K.2.2 < 1000000 then jal (jfn 18) (jxb (fX2_sum n csum catom  (jnK K 18 0) (ju ci 9 2 ((ci 9 2) + (nI 1))) cj cr) (fun r4 K5 ci6 cj7 cr8 => jpb (fX21_init n K.2.2 l1 l2 r4 K5 ci6 cj7 cr8) (fun r11 ci12 cj13 cr14 => some (some K.2.2, K5, ci12, cj13, cr14, 0, 0)))) else none
theorem wX2_fact_148 {g : jG} {d : Nat} {Qr : jQ} {Qx : jX} (n : Nat) (csum : jK → jI → jJ → jR → Option (jT Nat)) (catom : jK → jI → jJ → jR → Option (jT Nat)) (ctest : jK → jI → jJ → jR → Option (jT Nat)) (cfact : jK → jI → jJ → jR → Option (jT Nat)) (hcsum : jcb g d mX2_sum csum) (hcatom : jcb g d mX2_atom catom) (hctest : jcb g d mX2_test ctest) (hcfact : jcb g d mX2_fact cfact) (l1 : Nat) (l2 : Int32) (K : jK) (ci : jI) (cj : jJ) (cr : jR) {q} (hC : jCW K cr) (h : fX2_fact_148 n csum catom ctest cfact  l1 l2 K ci cj cr = some q) (hq : jqx wR q Qr Qx) : Ev g (d + 11) mX2_fact 148 [.ref 9, .ref l1, .int l2] [] K ci cj cr q.2.2.2.2.2.1 q.2.2.2.2.2.2 Qr Qx := by
  unfold fX2_fact_148 at h
  refine ev_aload_n dX2_fact_148 rfl ?_
  refine ev_dup dX2_fact_149 rfl ?_
  refine ev_getI dX2_fact_150 fX2_36_2 (ck9 hC) (Or.inl (cl9 hC)) rfl ?_
  refine ev_iconst (v := (nI 1)) dX2_fact_153 jc1 ?_
  refine ev_iadd dX2_fact_154 ?_
  refine ev_putI dX2_fact_155 (pX2_36_2 _) (ck9 hC) (cl9 hC) rfl rfl rfl ?_
  by_cases z1 : K.2.2 < 1000000
  rotate_left
  · rw [if_neg z1] at h; cases h
  rw [if_pos z1] at h
  refine jx_new (fun c sl z => ev_new dX2_fact_158 nX2_325 z1 z) h hq (fun w2 h hq => ?_)
  have hC3 := jCW.new hC 18 0
  show Ev g _ _ 161 _ [.ref K.2.2] (jnK K 18 0) (ju ci 9 2 ((ci 9 2) + (nI 1))) cj cr _ _ Qr Qx
  refine ev_dup dX2_fact_161 rfl ?_
  refine ev_aload_n dX2_fact_162 rfl ?_
  refine ev_iload_n dX2_fact_163 rfl ?_
  refine ev_aload_n dX2_fact_164 rfl ?_
  refine jx_inv (wf := wR) (fun c1 s1 c sl z => ev_invV0 dX2_fact_165 vX2_209_2 (ck9 hC3) (Or.inl (cl9 hC3)) (Nat.le_of_ble_eq_true rfl) (Nat.le_of_ble_eq_true rfl) rfl z) h hq (fun q Qr' z zq => metX2_sum n _ _ (jcb.up hcsum (by omega)) (jcb.up hcatom (by omega))  _ _ _ _ hC3 z zq) (fun r4 K5 ci6 cj7 cr8 w9 h hC10 hq => ?_)
  show Ev g _ _ 168 _ [.ref r4, .int l2, .ref l1, .ref K.2.2, .ref K.2.2] K5 ci6 cj7 cr8 _ _ Qr Qx
  obtain ⟨r11, ci12, cj13, cr14, z15, h⟩ := jpb_inv h
  refine ev_zI3 dX2_fact_168 iX2_327 (Nat.le_of_ble_eq_true rfl) (Nat.le_of_ble_eq_true rfl) rfl (metX21_init n _ _ _ _ _ _ _ _ hC10 z15 (fun hC16 => ?_))
  show Ev g _ _ 171 _ [.ref K.2.2] K5 ci12 cj13 cr14 _ _ Qr Qx
  cases h
  exact ev_aret dX2_fact_171 rfl rfl (hq hC16)
def fX2_fact (n : Nat) (csum : jK → jI → jJ → jR → Option (jT Nat)) (catom : jK → jI → jJ → jR → Option (jT Nat)) (ctest : jK → jI → jJ → jR → Option (jT Nat)) (cfact : jK → jI → jJ → jR → Option (jT Nat)) (K : jK) (ci : jI) (cj : jJ) (cr : jR) : Option (jT Nat) := jpb (fX2_here n  K ci cj cr) (fun r1 ci2 cj3 cr4 => if r1 = (nI 91) then jxb (fX2_opens n (ci2 9 2) K ci2 cj3 cr4) (fun r79 K80 ci81 cj82 cr83 => jxb (ctest K80 (ju ci81 9 2 ((ci81 9 2) + (nI 1))) cj82 cr83) (fun r86 K87 ci88 cj89 cr90 => jxb (fX2_must n (nI 93) K87 ci88 cj89 cr90) (fun r93 K94 ci95 cj96 cr97 => some (some r86, K94, (ju ci95 9 4 ((ci95 9 4) - (nI 1))), cj96, cr97, 0, 0)))) else jxb (fX2_passes n 1000158 K ci2 cj3 cr4) (fun r8 K9 ci10 cj11 cr12 => if r8 = 0 then jxb (fX2_passes n 1000160 K9 ci10 cj11 cr12) (fun r16 K17 ci18 cj19 cr20 => if r16 = 0 then jxb (fX2_sum n csum catom  K17 ci18 cj19 cr20) (fun r24 K25 ci26 cj27 cr28 => jpb (fX2_here n  K25 ci26 cj27 cr28) (fun r31 ci32 cj33 cr34 => if r31 = (nI 60) then fX2_fact_148 n csum catom ctest cfact  r24 r31 K25 ci32 cj33 cr34 else if r31 = (nI 62) then fX2_fact_148 n csum catom ctest cfact  r24 r31 K25 ci32 cj33 cr34 else if r31 = (nI 61) then fX2_fact_148 n csum catom ctest cfact  r24 r31 K25 ci32 cj33 cr34 else jpb (fX2_wrong n (nI 1) (ci32 9 2) K25 ci32 cj33 cr34) (fun r40 ci41 cj42 cr43 => if r40 = 10 then some (none, K25, ci41, cj42, cr43, 0, 0) else none))) else if K17.2.2 < 1000000 then jal (jfn 17) (jpb (fX20_init n K17.2.2 (jnK K17 17 0) ci18 cj19 cr20) (fun r50 ci51 cj52 cr53 => some (some K17.2.2, (jnK K17 17 0), ci51, cj52, cr53, 0, 0))) else none) else jxb (fX2_opens n (ci10 9 3) K9 ci10 cj11 cr12) (fun r56 K57 ci58 cj59 cr60 => if K57.2.2 < 1000000 then jal (jfn 16) (jxb (cfact (jnK K57 16 0) ci58 cj59 cr60) (fun r66 K67 ci68 cj69 cr70 => jpb (fX19_init n K57.2.2 r66 K67 ci68 cj69 cr70) (fun r73 ci74 cj75 cr76 => some (some K57.2.2, K67, (ju ci74 9 4 ((ci74 9 4) - (nI 1))), cj75, cr76, 0, 0)))) else none)))
theorem metX2_fact {g : jG} {d : Nat} {Qr : jQ} {Qx : jX} (n : Nat) (csum : jK → jI → jJ → jR → Option (jT Nat)) (catom : jK → jI → jJ → jR → Option (jT Nat)) (ctest : jK → jI → jJ → jR → Option (jT Nat)) (cfact : jK → jI → jJ → jR → Option (jT Nat)) (hcsum : jcb g d mX2_sum csum) (hcatom : jcb g d mX2_atom catom) (hctest : jcb g d mX2_test ctest) (hcfact : jcb g d mX2_fact cfact) (K : jK) (ci : jI) (cj : jJ) (cr : jR) {q} (hC : jCW K cr) (h : fX2_fact n csum catom ctest cfact  K ci cj cr = some q) (hq : jqx wR q Qr Qx) : EvM g (d + 11) mX2_fact [.ref 9] K ci cj cr q.2.2.2.2.2.1 q.2.2.2.2.2.2 Qr Qx := by
  unfold fX2_fact at h
  show Ev g (d + 11) mX2_fact 0 [.ref 9, jU, jU] [] K ci cj cr q.2.2.2.2.2.1 q.2.2.2.2.2.2 Qr Qx
  refine ev_aload_n dX2_fact_0 rfl ?_
  obtain ⟨r1, ci2, cj3, cr4, z5, h⟩ := jpb_inv h
  refine ev_zV0 dX2_fact_1 vX2_43_2 (ck9 hC) (Or.inl (cl9 hC)) (Nat.le_of_ble_eq_true rfl) (Nat.le_of_ble_eq_true rfl) rfl (metX2_here n  _ _ _ _ hC z5 (fun hC6 => ?_))
  show Ev g _ _ 4 _ [.int r1] K ci2 cj3 cr4 _ _ Qr Qx
  refine ev_bipush (v := (nI 91)) dX2_fact_4 jb91 ?_
  refine ev_icmp_ne 50 dX2_fact_6 rfl (fun z7 => ?_) (fun z7 => ?_)
  · rw [if_neg z7] at h
    refine ev_aload_n dX2_fact_50 rfl ?_
    refine ev_ldcSw "not" 1000158 dX2_fact_51 (by decide +kernel) ?_
    refine jx_inv (wf := wI) (fun c1 s1 c sl z => ev_invV1 dX2_fact_54 vX2_305_2 (ck9 hC6) (Or.inl (cl9 hC6)) (Nat.le_of_ble_eq_true rfl) (Nat.le_of_ble_eq_true rfl) rfl z) h hq (fun q Qr' z zq => metX2_passes n _ _ _ _ _ hC6 z zq) (fun r8 K9 ci10 cj11 cr12 w13 h hC14 hq => ?_)
    show Ev g _ _ 57 _ [.int r8] K9 ci10 cj11 cr12 _ _ Qr Qx
    refine ev_if_eq 92 dX2_fact_57 rfl (fun z15 => ?_) (fun z15 => ?_)
    · rw [if_pos z15] at h
      refine ev_aload_n dX2_fact_92 rfl ?_
      refine ev_ldcSw "all" 1000160 dX2_fact_93 (by decide +kernel) ?_
      refine jx_inv (wf := wI) (fun c1 s1 c sl z => ev_invV1 dX2_fact_96 vX2_305_2 (ck9 hC14) (Or.inl (cl9 hC14)) (Nat.le_of_ble_eq_true rfl) (Nat.le_of_ble_eq_true rfl) rfl z) h hq (fun q Qr' z zq => metX2_passes n _ _ _ _ _ hC14 z zq) (fun r16 K17 ci18 cj19 cr20 w21 h hC22 hq => ?_)
      show Ev g _ _ 99 _ [.int r16] K17 ci18 cj19 cr20 _ _ Qr Qx
      refine ev_if_eq 110 dX2_fact_99 rfl (fun z23 => ?_) (fun z23 => ?_)
      · rw [if_pos z23] at h
        refine ev_aload_n dX2_fact_110 rfl ?_
        refine jx_inv (wf := wR) (fun c1 s1 c sl z => ev_invV0 dX2_fact_111 vX2_209_2 (ck9 hC22) (Or.inl (cl9 hC22)) (Nat.le_of_ble_eq_true rfl) (Nat.le_of_ble_eq_true rfl) rfl z) h hq (fun q Qr' z zq => metX2_sum n _ _ (jcb.up hcsum (by omega)) (jcb.up hcatom (by omega))  _ _ _ _ hC22 z zq) (fun r24 K25 ci26 cj27 cr28 w29 h hC30 hq => ?_)
        show Ev g _ _ 114 _ [.ref r24] K25 ci26 cj27 cr28 _ _ Qr Qx
        refine ev_astore_n (L' := [_, _, _]) dX2_fact_114 (by decide) rfl ?_
        refine ev_aload_n dX2_fact_115 rfl ?_
        obtain ⟨r31, ci32, cj33, cr34, z35, h⟩ := jpb_inv h
        refine ev_zV0 dX2_fact_116 vX2_43_2 (ck9 hC30) (Or.inl (cl9 hC30)) (Nat.le_of_ble_eq_true rfl) (Nat.le_of_ble_eq_true rfl) rfl (metX2_here n  _ _ _ _ hC30 z35 (fun hC36 => ?_))
        show Ev g _ _ 119 _ [.int r31] K25 ci32 cj33 cr34 _ _ Qr Qx
        refine ev_istore_n (L' := [_, _, _]) dX2_fact_119 (by decide) rfl ?_
        refine ev_iload_n dX2_fact_120 rfl ?_
        refine ev_bipush (v := (nI 60)) dX2_fact_121 jb60 ?_
        refine ev_icmp_eq 148 dX2_fact_123 rfl (fun z37 => ?_) (fun z37 => ?_)
        · rw [if_pos z37] at h
          exact wX2_fact_148 n _ _ _ _ hcsum hcatom hctest hcfact   _ _ _ _ _ _ hC36 h hq
        · rw [if_neg z37] at h
          refine ev_iload_n dX2_fact_126 rfl ?_
          refine ev_bipush (v := (nI 62)) dX2_fact_127 jb62 ?_
          refine ev_icmp_eq 148 dX2_fact_129 rfl (fun z38 => ?_) (fun z38 => ?_)
          · rw [if_pos z38] at h
            exact wX2_fact_148 n _ _ _ _ hcsum hcatom hctest hcfact   _ _ _ _ _ _ hC36 h hq
          · rw [if_neg z38] at h
            refine ev_iload_n dX2_fact_132 rfl ?_
            refine ev_bipush (v := (nI 61)) dX2_fact_133 jb61 ?_
            refine ev_icmp_eq 148 dX2_fact_135 rfl (fun z39 => ?_) (fun z39 => ?_)
            · rw [if_pos z39] at h
              exact wX2_fact_148 n _ _ _ _ hcsum hcatom hctest hcfact   _ _ _ _ _ _ hC36 h hq
            · rw [if_neg z39] at h
              refine ev_aload_n dX2_fact_138 rfl ?_
              refine ev_iconst (v := (nI 1)) dX2_fact_139 jc1 ?_
              refine ev_aload_n dX2_fact_140 rfl ?_
              refine ev_getI dX2_fact_141 fX2_36_2 (ck9 hC36) (Or.inl (cl9 hC36)) rfl ?_
              obtain ⟨r40, ci41, cj42, cr43, z44, h⟩ := jpb_inv h
              refine ev_zV2 dX2_fact_144 vX2_47_2 (ck9 hC36) (Or.inl (cl9 hC36)) (Nat.le_of_ble_eq_true rfl) (Nat.le_of_ble_eq_true rfl) rfl (metX2_wrong n _ _ _ _ _ _ hC36 z44 (fun hC45 => ?_))
              show Ev g _ _ 147 _ [.ref r40] K25 ci41 cj42 cr43 _ _ Qr Qx
              by_cases z46 : r40 = 10
              rotate_left
              · rw [if_neg z46] at h; cases h
              rw [if_pos z46] at h
              subst z46
              cases h
              exact ev_athrow dX2_fact_147 (cl10 hC45) (ck10 hC45) rfl (hq hC45)
      · rw [if_neg z23] at h
        by_cases z47 : K17.2.2 < 1000000
        rotate_left
        · rw [if_neg z47] at h; cases h
        rw [if_pos z47] at h
        refine jx_new (fun c sl z => ev_new dX2_fact_102 nX2_322 z47 z) h hq (fun w48 h hq => ?_)
        have hC49 := jCW.new hC22 17 0
        show Ev g _ _ 105 _ [.ref K17.2.2] (jnK K17 17 0) ci18 cj19 cr20 _ _ Qr Qx
        refine ev_dup dX2_fact_105 rfl ?_
        obtain ⟨r50, ci51, cj52, cr53, z54, h⟩ := jpb_inv h
        refine ev_zI0 dX2_fact_106 iX2_324 (Nat.le_of_ble_eq_true rfl) (Nat.le_of_ble_eq_true rfl) rfl (metX20_init n _ _ _ _ _ hC49 z54 (fun hC55 => ?_))
        show Ev g _ _ 109 _ [.ref K17.2.2] (jnK K17 17 0) ci51 cj52 cr53 _ _ Qr Qx
        cases h
        exact ev_aret dX2_fact_109 rfl rfl (hq hC55)
    · rw [if_neg z15] at h
      refine ev_aload_n dX2_fact_60 rfl ?_
      refine ev_aload_n dX2_fact_61 rfl ?_
      refine ev_getI dX2_fact_62 fX2_61_2 (ck9 hC14) (Or.inl (cl9 hC14)) rfl ?_
      refine jx_inv (wf := wV) (fun c1 s1 c sl z => ev_invV1 dX2_fact_65 vX2_254_2 (ck9 hC14) (Or.inl (cl9 hC14)) (Nat.le_of_ble_eq_true rfl) (Nat.le_of_ble_eq_true rfl) rfl z) h hq (fun q Qr' z zq => metX2_opens n _ _ _ _ _ hC14 z zq) (fun r56 K57 ci58 cj59 cr60 w61 h hC62 hq => ?_)
      show Ev g _ _ 68 _ [] K57 ci58 cj59 cr60 _ _ Qr Qx
      by_cases z63 : K57.2.2 < 1000000
      rotate_left
      · rw [if_neg z63] at h; cases h
      rw [if_pos z63] at h
      refine jx_new (fun c sl z => ev_new dX2_fact_68 nX2_315 z63 z) h hq (fun w64 h hq => ?_)
      have hC65 := jCW.new hC62 16 0
      show Ev g _ _ 71 _ [.ref K57.2.2] (jnK K57 16 0) ci58 cj59 cr60 _ _ Qr Qx
      refine ev_dup dX2_fact_71 rfl ?_
      refine ev_aload_n dX2_fact_72 rfl ?_
      refine jx_inv (wf := wR) (fun c1 s1 c sl z => ev_invV0 dX2_fact_73 vX2_308_2 (ck9 hC65) (Or.inl (cl9 hC65)) (Nat.le_of_ble_eq_true rfl) (Nat.le_of_ble_eq_true rfl) rfl z) h hq (fun q Qr' z zq => hcfact _ (by omega) _ _ _ _ hC65 z zq) (fun r66 K67 ci68 cj69 cr70 w71 h hC72 hq => ?_)
      show Ev g _ _ 76 _ [.ref r66, .ref K57.2.2, .ref K57.2.2] K67 ci68 cj69 cr70 _ _ Qr Qx
      obtain ⟨r73, ci74, cj75, cr76, z77, h⟩ := jpb_inv h
      refine ev_zI1 dX2_fact_76 iX2_317 (Nat.le_of_ble_eq_true rfl) (Nat.le_of_ble_eq_true rfl) rfl (metX19_init n _ _ _ _ _ _ hC72 z77 (fun hC78 => ?_))
      show Ev g _ _ 79 _ [.ref K57.2.2] K67 ci74 cj75 cr76 _ _ Qr Qx
      refine ev_astore_n (L' := [_, _, _]) dX2_fact_79 (by decide) rfl ?_
      refine ev_aload_n dX2_fact_80 rfl ?_
      refine ev_dup dX2_fact_81 rfl ?_
      refine ev_getI dX2_fact_82 fX2_114_2 (ck9 hC78) (Or.inl (cl9 hC78)) rfl ?_
      refine ev_iconst (v := (nI 1)) dX2_fact_85 jc1 ?_
      refine ev_isub dX2_fact_86 ?_
      refine ev_putI dX2_fact_87 (pX2_114_2 _) (ck9 hC78) (cl9 hC78) rfl rfl rfl ?_
      refine ev_aload_n dX2_fact_90 rfl ?_
      cases h
      exact ev_aret dX2_fact_91 rfl rfl (hq hC78)
  · rw [if_pos z7] at h
    refine ev_aload_n dX2_fact_9 rfl ?_
    refine ev_aload_n dX2_fact_10 rfl ?_
    refine ev_getI dX2_fact_11 fX2_36_2 (ck9 hC6) (Or.inl (cl9 hC6)) rfl ?_
    refine jx_inv (wf := wV) (fun c1 s1 c sl z => ev_invV1 dX2_fact_14 vX2_254_2 (ck9 hC6) (Or.inl (cl9 hC6)) (Nat.le_of_ble_eq_true rfl) (Nat.le_of_ble_eq_true rfl) rfl z) h hq (fun q Qr' z zq => metX2_opens n _ _ _ _ _ hC6 z zq) (fun r79 K80 ci81 cj82 cr83 w84 h hC85 hq => ?_)
    show Ev g _ _ 17 _ [] K80 ci81 cj82 cr83 _ _ Qr Qx
    refine ev_aload_n dX2_fact_17 rfl ?_
    refine ev_dup dX2_fact_18 rfl ?_
    refine ev_getI dX2_fact_19 fX2_36_2 (ck9 hC85) (Or.inl (cl9 hC85)) rfl ?_
    refine ev_iconst (v := (nI 1)) dX2_fact_22 jc1 ?_
    refine ev_iadd dX2_fact_23 ?_
    refine ev_putI dX2_fact_24 (pX2_36_2 _) (ck9 hC85) (cl9 hC85) rfl rfl rfl ?_
    refine ev_aload_n dX2_fact_27 rfl ?_
    refine jx_inv (wf := wR) (fun c1 s1 c sl z => ev_invV0 dX2_fact_28 vX2_235_2 (ck9 hC85) (Or.inl (cl9 hC85)) (Nat.le_of_ble_eq_true rfl) (Nat.le_of_ble_eq_true rfl) rfl z) h hq (fun q Qr' z zq => hctest _ (by omega) _ _ _ _ hC85 z zq) (fun r86 K87 ci88 cj89 cr90 w91 h hC92 hq => ?_)
    show Ev g _ _ 31 _ [.ref r86] K87 ci88 cj89 cr90 _ _ Qr Qx
    refine ev_astore_n (L' := [_, _, _]) dX2_fact_31 (by decide) rfl ?_
    refine ev_aload_n dX2_fact_32 rfl ?_
    refine ev_bipush (v := (nI 93)) dX2_fact_33 jb93 ?_
    refine jx_inv (wf := wV) (fun c1 s1 c sl z => ev_invV1 dX2_fact_35 vX2_132_2 (ck9 hC92) (Or.inl (cl9 hC92)) (Nat.le_of_ble_eq_true rfl) (Nat.le_of_ble_eq_true rfl) rfl z) h hq (fun q Qr' z zq => metX2_must n _ _ _ _ _ hC92 z zq) (fun r93 K94 ci95 cj96 cr97 w98 h hC99 hq => ?_)
    show Ev g _ _ 38 _ [] K94 ci95 cj96 cr97 _ _ Qr Qx
    refine ev_aload_n dX2_fact_38 rfl ?_
    refine ev_dup dX2_fact_39 rfl ?_
    refine ev_getI dX2_fact_40 fX2_114_2 (ck9 hC99) (Or.inl (cl9 hC99)) rfl ?_
    refine ev_iconst (v := (nI 1)) dX2_fact_43 jc1 ?_
    refine ev_isub dX2_fact_44 ?_
    refine ev_putI dX2_fact_45 (pX2_114_2 _) (ck9 hC99) (cl9 hC99) rfl rfl rfl ?_
    refine ev_aload_n dX2_fact_48 rfl ?_
    cases h
    exact ev_aret dX2_fact_49 rfl rfl (hq hC99)
def fX2_both_23 (n : Nat) (csum : jK → jI → jJ → jR → Option (jT Nat)) (catom : jK → jI → jJ → jR → Option (jT Nat)) (ctest : jK → jI → jJ → jR → Option (jT Nat)) (cfact : jK → jI → jJ → jR → Option (jT Nat)) : Nat → Nat → jK → jI → jJ → jR → Option (jT Nat)
  | 0, _, _, _, _, _ => none
  | k + 1, l1, K, ci, cj, cr => jxb (fX2_passes n 1000156 K ci cj cr) (fun r1 K2 ci3 cj4 cr5 => if r1 = 0 then some (some l1, K2, ci3, cj4, cr5, 0, 0) else if K2.1 l1 = 15 ∧ l1 < K2.2.2 then Option.bind (cr5 l1 0) (fun r10 => jxb (fX2_fact n csum catom ctest cfact  K2 ci3 cj4 cr5) (fun r12 K13 ci14 cj15 cr16 => if K13.1 r10 = 20 ∧ r10 < K13.2.2 then jxb (fJ2_add n r10 r12 K13 ci14 cj15 cr16) (fun r20 K21 ci22 cj23 cr24 => fX2_both_23 n csum catom ctest cfact  k l1 K21 ci22 cj23 cr24) else none)) else none)
theorem wX2_both_23 {g : jG} {d : Nat} {Qr : jQ} {Qx : jX} (n : Nat) (csum : jK → jI → jJ → jR → Option (jT Nat)) (catom : jK → jI → jJ → jR → Option (jT Nat)) (ctest : jK → jI → jJ → jR → Option (jT Nat)) (cfact : jK → jI → jJ → jR → Option (jT Nat)) (hcsum : jcb g d mX2_sum csum) (hcatom : jcb g d mX2_atom catom) (hctest : jcb g d mX2_test ctest) (hcfact : jcb g d mX2_fact cfact) : ∀ (k : Nat) (l1 : Nat) (K : jK) (ci : jI) (cj : jJ) (cr : jR) {q}, jCW K cr → fX2_both_23 n csum catom ctest cfact  k l1 K ci cj cr = some q → jqx wR q Qr Qx → Ev g (d + 12) mX2_both 23 [.ref 9, .ref l1] [] K ci cj cr q.2.2.2.2.2.1 q.2.2.2.2.2.2 Qr Qx := by
  intro k
  induction k with
  | zero =>
    intro l1 K ci cj cr q hC h hq
    rw [fX2_both_23.eq_1] at h; cases h
  | succ k ih =>
    intro l1 K ci cj cr q hC h hq
    rw [fX2_both_23.eq_2] at h
    refine ev_aload_n dX2_both_23 rfl ?_
    refine ev_ldcSw "and" 1000156 dX2_both_24 (by decide +kernel) ?_
    refine jx_inv (wf := wI) (fun c1 s1 c sl z => ev_invV1 dX2_both_27 vX2_305_2 (ck9 hC) (Or.inl (cl9 hC)) (Nat.le_of_ble_eq_true rfl) (Nat.le_of_ble_eq_true rfl) rfl z) h hq (fun q Qr' z zq => metX2_passes n _ _ _ _ _ hC z zq) (fun r1 K2 ci3 cj4 cr5 w6 h hC7 hq => ?_)
    show Ev g _ _ 30 _ [.int r1] K2 ci3 cj4 cr5 _ _ Qr Qx
    refine ev_if_eq 50 dX2_both_30 rfl (fun z8 => ?_) (fun z8 => ?_)
    · rw [if_pos z8] at h
      refine ev_aload_n dX2_both_50 rfl ?_
      cases h
      exact ev_aret dX2_both_51 rfl rfl (hq hC7)
    · rw [if_neg z8] at h
      refine ev_aload_n dX2_both_33 rfl ?_
      by_cases z9 : K2.1 l1 = 15 ∧ l1 < K2.2.2
      rotate_left
      · rw [if_neg z9] at h; cases h
      rw [if_pos z9] at h
      obtain ⟨r10, z11, h⟩ := Option.bind_eq_some_iff.mp h
      refine ev_getR dX2_both_34 fX2_297_15 z9.1 (Or.inl z9.2) rfl z11 ?_
      refine ev_aload_n dX2_both_37 rfl ?_
      refine jx_inv (wf := wR) (fun c1 s1 c sl z => ev_invV0 dX2_both_38 vX2_308_2 (ck9 hC7) (Or.inl (cl9 hC7)) (Nat.le_of_ble_eq_true rfl) (Nat.le_of_ble_eq_true rfl) rfl z) h hq (fun q Qr' z zq => metX2_fact n _ _ _ _ (jcb.up hcsum (by omega)) (jcb.up hcatom (by omega)) (jcb.up hctest (by omega)) (jcb.up hcfact (by omega))  _ _ _ _ hC7 z zq) (fun r12 K13 ci14 cj15 cr16 w17 h hC18 hq => ?_)
      show Ev g _ _ 41 _ [.ref r12, .ref r10] K13 ci14 cj15 cr16 _ _ Qr Qx
      by_cases z19 : K13.1 r10 = 20 ∧ r10 < K13.2.2
      rotate_left
      · rw [if_neg z19] at h; cases h
      rw [if_pos z19] at h
      refine jx_inv (wf := wI) (fun c1 s1 c sl z => ev_invF1 dX2_both_41 vX2_159_20 z19.1 (Or.inl z19.2) (Nat.le_of_ble_eq_true rfl) (Nat.le_of_ble_eq_true rfl) rfl z) h hq (fun q Qr' z zq => metJ2_add n _ _ _ _ _ _ hC18 z zq) (fun r20 K21 ci22 cj23 cr24 w25 h hC26 hq => ?_)
      show Ev g _ _ 46 _ [.int r20] K21 ci22 cj23 cr24 _ _ Qr Qx
      refine ev_pop dX2_both_46 rfl ?_
      refine ev_goto 23 dX2_both_47 rfl ?_
      exact ih _ _ _ _ _ hC26 h hq
def fX2_both (n : Nat) (csum : jK → jI → jJ → jR → Option (jT Nat)) (catom : jK → jI → jJ → jR → Option (jT Nat)) (ctest : jK → jI → jJ → jR → Option (jT Nat)) (cfact : jK → jI → jJ → jR → Option (jT Nat)) (K : jK) (ci : jI) (cj : jJ) (cr : jR) : Option (jT Nat) := if K.2.2 < 1000000 then jal (jfn 15) (jxb (fX18_init n K.2.2 (nI 1) (jnK K 15 0) ci cj cr) (fun r4 K5 ci6 cj7 cr8 => if K5.1 K.2.2 = 15 ∧ K.2.2 < K5.2.2 then Option.bind (cr8 K.2.2 0) (fun r12 => jxb (fX2_fact n csum catom ctest cfact  K5 ci6 cj7 cr8) (fun r14 K15 ci16 cj17 cr18 => if K15.1 r12 = 20 ∧ r12 < K15.2.2 then jxb (fJ2_add n r12 r14 K15 ci16 cj17 cr18) (fun r22 K23 ci24 cj25 cr26 => fX2_both_23 n csum catom ctest cfact  n K.2.2 K23 ci24 cj25 cr26) else none)) else none)) else none
theorem metX2_both {g : jG} {d : Nat} {Qr : jQ} {Qx : jX} (n : Nat) (csum : jK → jI → jJ → jR → Option (jT Nat)) (catom : jK → jI → jJ → jR → Option (jT Nat)) (ctest : jK → jI → jJ → jR → Option (jT Nat)) (cfact : jK → jI → jJ → jR → Option (jT Nat)) (hcsum : jcb g d mX2_sum csum) (hcatom : jcb g d mX2_atom catom) (hctest : jcb g d mX2_test ctest) (hcfact : jcb g d mX2_fact cfact) (K : jK) (ci : jI) (cj : jJ) (cr : jR) {q} (hC : jCW K cr) (h : fX2_both n csum catom ctest cfact  K ci cj cr = some q) (hq : jqx wR q Qr Qx) : EvM g (d + 12) mX2_both [.ref 9] K ci cj cr q.2.2.2.2.2.1 q.2.2.2.2.2.2 Qr Qx := by
  unfold fX2_both at h
  show Ev g (d + 12) mX2_both 0 [.ref 9, jU] [] K ci cj cr q.2.2.2.2.2.1 q.2.2.2.2.2.2 Qr Qx
  by_cases z1 : K.2.2 < 1000000
  rotate_left
  · rw [if_neg z1] at h; cases h
  rw [if_pos z1] at h
  refine jx_new (fun c sl z => ev_new dX2_both_0 nX2_292 z1 z) h hq (fun w2 h hq => ?_)
  have hC3 := jCW.new hC 15 0
  show Ev g _ _ 3 _ [.ref K.2.2] (jnK K 15 0) ci cj cr _ _ Qr Qx
  refine ev_dup dX2_both_3 rfl ?_
  refine ev_iconst (v := (nI 1)) dX2_both_4 jc1 ?_
  refine jx_inv (wf := wV) (fun c1 s1 c sl z => ev_invI1 dX2_both_5 iX2_294 (Nat.le_of_ble_eq_true rfl) (Nat.le_of_ble_eq_true rfl) rfl z) h hq (fun q Qr' z zq => metX18_init n _ _ _ _ _ _ hC3 z zq) (fun r4 K5 ci6 cj7 cr8 w9 h hC10 hq => ?_)
  show Ev g _ _ 8 _ [.ref K.2.2] K5 ci6 cj7 cr8 _ _ Qr Qx
  refine ev_astore_n (L' := [_, _]) dX2_both_8 (by decide) rfl ?_
  refine ev_aload_n dX2_both_9 rfl ?_
  by_cases z11 : K5.1 K.2.2 = 15 ∧ K.2.2 < K5.2.2
  rotate_left
  · rw [if_neg z11] at h; cases h
  rw [if_pos z11] at h
  obtain ⟨r12, z13, h⟩ := Option.bind_eq_some_iff.mp h
  refine ev_getR dX2_both_10 fX2_297_15 z11.1 (Or.inl z11.2) rfl z13 ?_
  refine ev_aload_n dX2_both_13 rfl ?_
  refine jx_inv (wf := wR) (fun c1 s1 c sl z => ev_invV0 dX2_both_14 vX2_308_2 (ck9 hC10) (Or.inl (cl9 hC10)) (Nat.le_of_ble_eq_true rfl) (Nat.le_of_ble_eq_true rfl) rfl z) h hq (fun q Qr' z zq => metX2_fact n _ _ _ _ (jcb.up hcsum (by omega)) (jcb.up hcatom (by omega)) (jcb.up hctest (by omega)) (jcb.up hcfact (by omega))  _ _ _ _ hC10 z zq) (fun r14 K15 ci16 cj17 cr18 w19 h hC20 hq => ?_)
  show Ev g _ _ 17 _ [.ref r14, .ref r12] K15 ci16 cj17 cr18 _ _ Qr Qx
  by_cases z21 : K15.1 r12 = 20 ∧ r12 < K15.2.2
  rotate_left
  · rw [if_neg z21] at h; cases h
  rw [if_pos z21] at h
  refine jx_inv (wf := wI) (fun c1 s1 c sl z => ev_invF1 dX2_both_17 vX2_159_20 z21.1 (Or.inl z21.2) (Nat.le_of_ble_eq_true rfl) (Nat.le_of_ble_eq_true rfl) rfl z) h hq (fun q Qr' z zq => metJ2_add n _ _ _ _ _ _ hC20 z zq) (fun r22 K23 ci24 cj25 cr26 w27 h hC28 hq => ?_)
  show Ev g _ _ 22 _ [.int r22] K23 ci24 cj25 cr26 _ _ Qr Qx
  refine ev_pop dX2_both_22 rfl ?_
  exact wX2_both_23 n _ _ _ _ hcsum hcatom hctest hcfact   n _ _ _ _ _ hC28 h hq
def fX2_test_23 (n : Nat) (csum : jK → jI → jJ → jR → Option (jT Nat)) (catom : jK → jI → jJ → jR → Option (jT Nat)) (ctest : jK → jI → jJ → jR → Option (jT Nat)) (cfact : jK → jI → jJ → jR → Option (jT Nat)) : Nat → Nat → jK → jI → jJ → jR → Option (jT Nat)
  | 0, _, _, _, _, _ => none
  | k + 1, l1, K, ci, cj, cr => jxb (fX2_passes n 1000154 K ci cj cr) (fun r1 K2 ci3 cj4 cr5 => if r1 = 0 then some (some l1, K2, ci3, cj4, cr5, 0, 0) else if K2.1 l1 = 15 ∧ l1 < K2.2.2 then Option.bind (cr5 l1 0) (fun r10 => jxb (fX2_both n csum catom ctest cfact  K2 ci3 cj4 cr5) (fun r12 K13 ci14 cj15 cr16 => if K13.1 r10 = 20 ∧ r10 < K13.2.2 then jxb (fJ2_add n r10 r12 K13 ci14 cj15 cr16) (fun r20 K21 ci22 cj23 cr24 => fX2_test_23 n csum catom ctest cfact  k l1 K21 ci22 cj23 cr24) else none)) else none)
theorem wX2_test_23 {g : jG} {d : Nat} {Qr : jQ} {Qx : jX} (n : Nat) (csum : jK → jI → jJ → jR → Option (jT Nat)) (catom : jK → jI → jJ → jR → Option (jT Nat)) (ctest : jK → jI → jJ → jR → Option (jT Nat)) (cfact : jK → jI → jJ → jR → Option (jT Nat)) (hcsum : jcb g d mX2_sum csum) (hcatom : jcb g d mX2_atom catom) (hctest : jcb g d mX2_test ctest) (hcfact : jcb g d mX2_fact cfact) : ∀ (k : Nat) (l1 : Nat) (K : jK) (ci : jI) (cj : jJ) (cr : jR) {q}, jCW K cr → fX2_test_23 n csum catom ctest cfact  k l1 K ci cj cr = some q → jqx wR q Qr Qx → Ev g (d + 13) mX2_test 23 [.ref 9, .ref l1] [] K ci cj cr q.2.2.2.2.2.1 q.2.2.2.2.2.2 Qr Qx := by
  intro k
  induction k with
  | zero =>
    intro l1 K ci cj cr q hC h hq
    rw [fX2_test_23.eq_1] at h; cases h
  | succ k ih =>
    intro l1 K ci cj cr q hC h hq
    rw [fX2_test_23.eq_2] at h
    refine ev_aload_n dX2_test_23 rfl ?_
    refine ev_ldcSw "or" 1000154 dX2_test_24 (by decide +kernel) ?_
    refine jx_inv (wf := wI) (fun c1 s1 c sl z => ev_invV1 dX2_test_27 vX2_305_2 (ck9 hC) (Or.inl (cl9 hC)) (Nat.le_of_ble_eq_true rfl) (Nat.le_of_ble_eq_true rfl) rfl z) h hq (fun q Qr' z zq => metX2_passes n _ _ _ _ _ hC z zq) (fun r1 K2 ci3 cj4 cr5 w6 h hC7 hq => ?_)
    show Ev g _ _ 30 _ [.int r1] K2 ci3 cj4 cr5 _ _ Qr Qx
    refine ev_if_eq 50 dX2_test_30 rfl (fun z8 => ?_) (fun z8 => ?_)
    · rw [if_pos z8] at h
      refine ev_aload_n dX2_test_50 rfl ?_
      cases h
      exact ev_aret dX2_test_51 rfl rfl (hq hC7)
    · rw [if_neg z8] at h
      refine ev_aload_n dX2_test_33 rfl ?_
      by_cases z9 : K2.1 l1 = 15 ∧ l1 < K2.2.2
      rotate_left
      · rw [if_neg z9] at h; cases h
      rw [if_pos z9] at h
      obtain ⟨r10, z11, h⟩ := Option.bind_eq_some_iff.mp h
      refine ev_getR dX2_test_34 fX2_297_15 z9.1 (Or.inl z9.2) rfl z11 ?_
      refine ev_aload_n dX2_test_37 rfl ?_
      refine jx_inv (wf := wR) (fun c1 s1 c sl z => ev_invV0 dX2_test_38 vX2_300_2 (ck9 hC7) (Or.inl (cl9 hC7)) (Nat.le_of_ble_eq_true rfl) (Nat.le_of_ble_eq_true rfl) rfl z) h hq (fun q Qr' z zq => metX2_both n _ _ _ _ (jcb.up hcsum (by omega)) (jcb.up hcatom (by omega)) (jcb.up hctest (by omega)) (jcb.up hcfact (by omega))  _ _ _ _ hC7 z zq) (fun r12 K13 ci14 cj15 cr16 w17 h hC18 hq => ?_)
      show Ev g _ _ 41 _ [.ref r12, .ref r10] K13 ci14 cj15 cr16 _ _ Qr Qx
      by_cases z19 : K13.1 r10 = 20 ∧ r10 < K13.2.2
      rotate_left
      · rw [if_neg z19] at h; cases h
      rw [if_pos z19] at h
      refine jx_inv (wf := wI) (fun c1 s1 c sl z => ev_invF1 dX2_test_41 vX2_159_20 z19.1 (Or.inl z19.2) (Nat.le_of_ble_eq_true rfl) (Nat.le_of_ble_eq_true rfl) rfl z) h hq (fun q Qr' z zq => metJ2_add n _ _ _ _ _ _ hC18 z zq) (fun r20 K21 ci22 cj23 cr24 w25 h hC26 hq => ?_)
      show Ev g _ _ 46 _ [.int r20] K21 ci22 cj23 cr24 _ _ Qr Qx
      refine ev_pop dX2_test_46 rfl ?_
      refine ev_goto 23 dX2_test_47 rfl ?_
      exact ih _ _ _ _ _ hC26 h hq
def fX2_test (n : Nat) (csum : jK → jI → jJ → jR → Option (jT Nat)) (catom : jK → jI → jJ → jR → Option (jT Nat)) (ctest : jK → jI → jJ → jR → Option (jT Nat)) (cfact : jK → jI → jJ → jR → Option (jT Nat)) (K : jK) (ci : jI) (cj : jJ) (cr : jR) : Option (jT Nat) := if K.2.2 < 1000000 then jal (jfn 15) (jxb (fX18_init n K.2.2 (nI 0) (jnK K 15 0) ci cj cr) (fun r4 K5 ci6 cj7 cr8 => if K5.1 K.2.2 = 15 ∧ K.2.2 < K5.2.2 then Option.bind (cr8 K.2.2 0) (fun r12 => jxb (fX2_both n csum catom ctest cfact  K5 ci6 cj7 cr8) (fun r14 K15 ci16 cj17 cr18 => if K15.1 r12 = 20 ∧ r12 < K15.2.2 then jxb (fJ2_add n r12 r14 K15 ci16 cj17 cr18) (fun r22 K23 ci24 cj25 cr26 => fX2_test_23 n csum catom ctest cfact  n K.2.2 K23 ci24 cj25 cr26) else none)) else none)) else none
theorem metX2_test {g : jG} {d : Nat} {Qr : jQ} {Qx : jX} (n : Nat) (csum : jK → jI → jJ → jR → Option (jT Nat)) (catom : jK → jI → jJ → jR → Option (jT Nat)) (ctest : jK → jI → jJ → jR → Option (jT Nat)) (cfact : jK → jI → jJ → jR → Option (jT Nat)) (hcsum : jcb g d mX2_sum csum) (hcatom : jcb g d mX2_atom catom) (hctest : jcb g d mX2_test ctest) (hcfact : jcb g d mX2_fact cfact) (K : jK) (ci : jI) (cj : jJ) (cr : jR) {q} (hC : jCW K cr) (h : fX2_test n csum catom ctest cfact  K ci cj cr = some q) (hq : jqx wR q Qr Qx) : EvM g (d + 13) mX2_test [.ref 9] K ci cj cr q.2.2.2.2.2.1 q.2.2.2.2.2.2 Qr Qx := by
  unfold fX2_test at h
  show Ev g (d + 13) mX2_test 0 [.ref 9, jU] [] K ci cj cr q.2.2.2.2.2.1 q.2.2.2.2.2.2 Qr Qx
  by_cases z1 : K.2.2 < 1000000
  rotate_left
  · rw [if_neg z1] at h; cases h
  rw [if_pos z1] at h
  refine jx_new (fun c sl z => ev_new dX2_test_0 nX2_292 z1 z) h hq (fun w2 h hq => ?_)
  have hC3 := jCW.new hC 15 0
  show Ev g _ _ 3 _ [.ref K.2.2] (jnK K 15 0) ci cj cr _ _ Qr Qx
  refine ev_dup dX2_test_3 rfl ?_
  refine ev_iconst (v := (nI 0)) dX2_test_4 jc0 ?_
  refine jx_inv (wf := wV) (fun c1 s1 c sl z => ev_invI1 dX2_test_5 iX2_294 (Nat.le_of_ble_eq_true rfl) (Nat.le_of_ble_eq_true rfl) rfl z) h hq (fun q Qr' z zq => metX18_init n _ _ _ _ _ _ hC3 z zq) (fun r4 K5 ci6 cj7 cr8 w9 h hC10 hq => ?_)
  show Ev g _ _ 8 _ [.ref K.2.2] K5 ci6 cj7 cr8 _ _ Qr Qx
  refine ev_astore_n (L' := [_, _]) dX2_test_8 (by decide) rfl ?_
  refine ev_aload_n dX2_test_9 rfl ?_
  by_cases z11 : K5.1 K.2.2 = 15 ∧ K.2.2 < K5.2.2
  rotate_left
  · rw [if_neg z11] at h; cases h
  rw [if_pos z11] at h
  obtain ⟨r12, z13, h⟩ := Option.bind_eq_some_iff.mp h
  refine ev_getR dX2_test_10 fX2_297_15 z11.1 (Or.inl z11.2) rfl z13 ?_
  refine ev_aload_n dX2_test_13 rfl ?_
  refine jx_inv (wf := wR) (fun c1 s1 c sl z => ev_invV0 dX2_test_14 vX2_300_2 (ck9 hC10) (Or.inl (cl9 hC10)) (Nat.le_of_ble_eq_true rfl) (Nat.le_of_ble_eq_true rfl) rfl z) h hq (fun q Qr' z zq => metX2_both n _ _ _ _ (jcb.up hcsum (by omega)) (jcb.up hcatom (by omega)) (jcb.up hctest (by omega)) (jcb.up hcfact (by omega))  _ _ _ _ hC10 z zq) (fun r14 K15 ci16 cj17 cr18 w19 h hC20 hq => ?_)
  show Ev g _ _ 17 _ [.ref r14, .ref r12] K15 ci16 cj17 cr18 _ _ Qr Qx
  by_cases z21 : K15.1 r12 = 20 ∧ r12 < K15.2.2
  rotate_left
  · rw [if_neg z21] at h; cases h
  rw [if_pos z21] at h
  refine jx_inv (wf := wI) (fun c1 s1 c sl z => ev_invF1 dX2_test_17 vX2_159_20 z21.1 (Or.inl z21.2) (Nat.le_of_ble_eq_true rfl) (Nat.le_of_ble_eq_true rfl) rfl z) h hq (fun q Qr' z zq => metJ2_add n _ _ _ _ _ _ hC20 z zq) (fun r22 K23 ci24 cj25 cr26 w27 h hC28 hq => ?_)
  show Ev g _ _ 22 _ [.int r22] K23 ci24 cj25 cr26 _ _ Qr Qx
  refine ev_pop dX2_test_22 rfl ?_
  exact wX2_test_23 n _ _ _ _ hcsum hcatom hctest hcfact   n _ _ _ _ _ hC28 h hq
def fX0_bayOf (n : Nat) (a0 : Int32) (K : jK) (ci : jI) (cj : jJ) (cr : jR) : Option (jTp Nat) := Option.bind (cr 0 0) (fun r1 => if K.1 r1 = 1 ∧ r1 < K.2.2 then Option.bind (cr r1 2) (fun r4 => if K.1 r4 = 20 ∧ r4 < K.2.2 then jpb (fJ2_get n r4 a0 K ci cj cr) (fun r7 ci8 cj9 cr10 => if K.1 r7 = 7 ∧ r7 < K.2.2 then some (r7, ci8, cj9, cr10) else none) else none) else none)
theorem metX0_bayOf {g : jG} {d : Nat} {c sl : Nat} {Qr : jQ} {Qx : jX} (n : Nat) (a0 : Int32) (K : jK) (ci : jI) (cj : jJ) (cr : jR) {q} (hC : jCW K cr) (h : fX0_bayOf n a0 K ci cj cr = some q) (hq : jqp wR K q Qr) : EvM g (d + 4) mX0_bayOf [.ref 0, .int a0] K ci cj cr c sl Qr Qx := by
  unfold fX0_bayOf at h
  show Ev g (d + 4) mX0_bayOf 0 [.ref 0, .int a0] [] K ci cj cr c sl Qr Qx
  refine ev_aload_n dX0_bayOf_0 rfl ?_
  obtain ⟨r1, z2, h⟩ := Option.bind_eq_some_iff.mp h
  refine ev_getR dX0_bayOf_1 fX0_31_0 (ck0 hC) (Or.inl (cl0 hC)) rfl z2 ?_
  by_cases z3 : K.1 r1 = 1 ∧ r1 < K.2.2
  rotate_left
  · rw [if_neg z3] at h; cases h
  rw [if_pos z3] at h
  obtain ⟨r4, z5, h⟩ := Option.bind_eq_some_iff.mp h
  refine ev_getR dX0_bayOf_4 fX0_148_1 z3.1 (Or.inl z3.2) rfl z5 ?_
  refine ev_iload_n dX0_bayOf_7 rfl ?_
  by_cases z6 : K.1 r4 = 20 ∧ r4 < K.2.2
  rotate_left
  · rw [if_neg z6] at h; cases h
  rw [if_pos z6] at h
  obtain ⟨r7, ci8, cj9, cr10, z11, h⟩ := jpb_inv h
  refine ev_zF1 dX0_bayOf_8 vX0_169_20 z6.1 (Or.inl z6.2) (Nat.le_of_ble_eq_true rfl) (Nat.le_of_ble_eq_true rfl) rfl (metJ2_get n _ _ _ _ _ _ hC z11 (fun hC12 => ?_))
  show Ev g _ _ 13 _ [.ref r7] K ci8 cj9 cr10 _ _ Qr Qx
  by_cases z13 : K.1 r7 = 7 ∧ r7 < K.2.2
  rotate_left
  · rw [if_neg z13] at h; cases h
  rw [if_pos z13] at h
  refine ev_cast dX0_bayOf_13 kX0_173 (by rw [z13.1]; decide) (Or.inl z13.2) ?_
  cases h
  exact ev_aret dX0_bayOf_16 rfl rfl (hq hC12)
def fX0_bays (n : Nat) (K : jK) (ci : jI) (cj : jJ) (cr : jR) : Option (jTp Int32) := Option.bind (cr 0 0) (fun r1 => if K.1 r1 = 1 ∧ r1 < K.2.2 then Option.bind (cr r1 2) (fun r4 => if K.1 r4 = 20 ∧ r4 < K.2.2 then jpb (fJ2_size n r4 K ci cj cr) (fun r7 ci8 cj9 cr10 => some (r7, ci8, cj9, cr10)) else none) else none)
theorem metX0_bays {g : jG} {d : Nat} {c sl : Nat} {Qr : jQ} {Qx : jX} (n : Nat) (K : jK) (ci : jI) (cj : jJ) (cr : jR) {q} (hC : jCW K cr) (h : fX0_bays n  K ci cj cr = some q) (hq : jqp wI K q Qr) : EvM g (d + 2) mX0_bays [.ref 0] K ci cj cr c sl Qr Qx := by
  unfold fX0_bays at h
  show Ev g (d + 2) mX0_bays 0 [.ref 0] [] K ci cj cr c sl Qr Qx
  refine ev_aload_n dX0_bays_0 rfl ?_
  obtain ⟨r1, z2, h⟩ := Option.bind_eq_some_iff.mp h
  refine ev_getR dX0_bays_1 fX0_31_0 (ck0 hC) (Or.inl (cl0 hC)) rfl z2 ?_
  by_cases z3 : K.1 r1 = 1 ∧ r1 < K.2.2
  rotate_left
  · rw [if_neg z3] at h; cases h
  rw [if_pos z3] at h
  obtain ⟨r4, z5, h⟩ := Option.bind_eq_some_iff.mp h
  refine ev_getR dX0_bays_4 fX0_148_1 z3.1 (Or.inl z3.2) rfl z5 ?_
  by_cases z6 : K.1 r4 = 20 ∧ r4 < K.2.2
  rotate_left
  · rw [if_neg z6] at h; cases h
  rw [if_pos z6] at h
  obtain ⟨r7, ci8, cj9, cr10, z11, h⟩ := jpb_inv h
  refine ev_zF0 dX0_bays_7 vX0_152_20 z6.1 (Or.inl z6.2) (Nat.le_of_ble_eq_true rfl) (Nat.le_of_ble_eq_true rfl) rfl (metJ2_size n _ _ _ _ _ hC z11 (fun hC12 => ?_))
  show Ev g _ _ 12 _ [.int r7] K ci8 cj9 cr10 _ _ Qr Qx
  cases h
  exact ev_iret dX0_bays_12 rfl rfl (hq hC12)
def fX0_pairOf (n : Nat) (a0 : Int32) (K : jK) (ci : jI) (cj : jJ) (cr : jR) : Option (jTp Nat) := Option.bind (cr 0 0) (fun r1 => if K.1 r1 = 1 ∧ r1 < K.2.2 then Option.bind (cr r1 3) (fun r4 => if K.1 r4 = 20 ∧ r4 < K.2.2 then jpb (fJ2_get n r4 a0 K ci cj cr) (fun r7 ci8 cj9 cr10 => if K.1 r7 = 8 ∧ r7 < K.2.2 then some (r7, ci8, cj9, cr10) else none) else none) else none)
theorem metX0_pairOf {g : jG} {d : Nat} {c sl : Nat} {Qr : jQ} {Qx : jX} (n : Nat) (a0 : Int32) (K : jK) (ci : jI) (cj : jJ) (cr : jR) {q} (hC : jCW K cr) (h : fX0_pairOf n a0 K ci cj cr = some q) (hq : jqp wR K q Qr) : EvM g (d + 4) mX0_pairOf [.ref 0, .int a0] K ci cj cr c sl Qr Qx := by
  unfold fX0_pairOf at h
  show Ev g (d + 4) mX0_pairOf 0 [.ref 0, .int a0] [] K ci cj cr c sl Qr Qx
  refine ev_aload_n dX0_pairOf_0 rfl ?_
  obtain ⟨r1, z2, h⟩ := Option.bind_eq_some_iff.mp h
  refine ev_getR dX0_pairOf_1 fX0_31_0 (ck0 hC) (Or.inl (cl0 hC)) rfl z2 ?_
  by_cases z3 : K.1 r1 = 1 ∧ r1 < K.2.2
  rotate_left
  · rw [if_neg z3] at h; cases h
  rw [if_pos z3] at h
  obtain ⟨r4, z5, h⟩ := Option.bind_eq_some_iff.mp h
  refine ev_getR dX0_pairOf_4 fX0_157_1 z3.1 (Or.inl z3.2) rfl z5 ?_
  refine ev_iload_n dX0_pairOf_7 rfl ?_
  by_cases z6 : K.1 r4 = 20 ∧ r4 < K.2.2
  rotate_left
  · rw [if_neg z6] at h; cases h
  rw [if_pos z6] at h
  obtain ⟨r7, ci8, cj9, cr10, z11, h⟩ := jpb_inv h
  refine ev_zF1 dX0_pairOf_8 vX0_169_20 z6.1 (Or.inl z6.2) (Nat.le_of_ble_eq_true rfl) (Nat.le_of_ble_eq_true rfl) rfl (metJ2_get n _ _ _ _ _ _ hC z11 (fun hC12 => ?_))
  show Ev g _ _ 13 _ [.ref r7] K ci8 cj9 cr10 _ _ Qr Qx
  by_cases z13 : K.1 r7 = 8 ∧ r7 < K.2.2
  rotate_left
  · rw [if_neg z13] at h; cases h
  rw [if_pos z13] at h
  refine ev_cast dX0_pairOf_13 kX0_175 (by rw [z13.1]; decide) (Or.inl z13.2) ?_
  cases h
  exact ev_aret dX0_pairOf_16 rfl rfl (hq hC12)
def fX0_pairs (n : Nat) (K : jK) (ci : jI) (cj : jJ) (cr : jR) : Option (jTp Int32) := Option.bind (cr 0 0) (fun r1 => if K.1 r1 = 1 ∧ r1 < K.2.2 then Option.bind (cr r1 3) (fun r4 => if K.1 r4 = 20 ∧ r4 < K.2.2 then jpb (fJ2_size n r4 K ci cj cr) (fun r7 ci8 cj9 cr10 => some (r7, ci8, cj9, cr10)) else none) else none)
theorem metX0_pairs {g : jG} {d : Nat} {c sl : Nat} {Qr : jQ} {Qx : jX} (n : Nat) (K : jK) (ci : jI) (cj : jJ) (cr : jR) {q} (hC : jCW K cr) (h : fX0_pairs n  K ci cj cr = some q) (hq : jqp wI K q Qr) : EvM g (d + 2) mX0_pairs [.ref 0] K ci cj cr c sl Qr Qx := by
  unfold fX0_pairs at h
  show Ev g (d + 2) mX0_pairs 0 [.ref 0] [] K ci cj cr c sl Qr Qx
  refine ev_aload_n dX0_pairs_0 rfl ?_
  obtain ⟨r1, z2, h⟩ := Option.bind_eq_some_iff.mp h
  refine ev_getR dX0_pairs_1 fX0_31_0 (ck0 hC) (Or.inl (cl0 hC)) rfl z2 ?_
  by_cases z3 : K.1 r1 = 1 ∧ r1 < K.2.2
  rotate_left
  · rw [if_neg z3] at h; cases h
  rw [if_pos z3] at h
  obtain ⟨r4, z5, h⟩ := Option.bind_eq_some_iff.mp h
  refine ev_getR dX0_pairs_4 fX0_157_1 z3.1 (Or.inl z3.2) rfl z5 ?_
  by_cases z6 : K.1 r4 = 20 ∧ r4 < K.2.2
  rotate_left
  · rw [if_neg z6] at h; cases h
  rw [if_pos z6] at h
  obtain ⟨r7, ci8, cj9, cr10, z11, h⟩ := jpb_inv h
  refine ev_zF0 dX0_pairs_7 vX0_152_20 z6.1 (Or.inl z6.2) (Nat.le_of_ble_eq_true rfl) (Nat.le_of_ble_eq_true rfl) rfl (metJ2_size n _ _ _ _ _ hC z11 (fun hC12 => ?_))
  show Ev g _ _ 12 _ [.int r7] K ci8 cj9 cr10 _ _ Qr Qx
  cases h
  exact ev_iret dX0_pairs_12 rfl rfl (hq hC12)
def fX0_shoalOf (n : Nat) (a0 : Int32) (K : jK) (ci : jI) (cj : jJ) (cr : jR) : Option (jTp Nat) := Option.bind (cr 0 0) (fun r1 => if K.1 r1 = 1 ∧ r1 < K.2.2 then Option.bind (cr r1 4) (fun r4 => if K.1 r4 = 20 ∧ r4 < K.2.2 then jpb (fJ2_get n r4 a0 K ci cj cr) (fun r7 ci8 cj9 cr10 => if K.1 r7 = 9 ∧ r7 < K.2.2 then some (r7, ci8, cj9, cr10) else none) else none) else none)
theorem metX0_shoalOf {g : jG} {d : Nat} {c sl : Nat} {Qr : jQ} {Qx : jX} (n : Nat) (a0 : Int32) (K : jK) (ci : jI) (cj : jJ) (cr : jR) {q} (hC : jCW K cr) (h : fX0_shoalOf n a0 K ci cj cr = some q) (hq : jqp wR K q Qr) : EvM g (d + 4) mX0_shoalOf [.ref 0, .int a0] K ci cj cr c sl Qr Qx := by
  unfold fX0_shoalOf at h
  show Ev g (d + 4) mX0_shoalOf 0 [.ref 0, .int a0] [] K ci cj cr c sl Qr Qx
  refine ev_aload_n dX0_shoalOf_0 rfl ?_
  obtain ⟨r1, z2, h⟩ := Option.bind_eq_some_iff.mp h
  refine ev_getR dX0_shoalOf_1 fX0_31_0 (ck0 hC) (Or.inl (cl0 hC)) rfl z2 ?_
  by_cases z3 : K.1 r1 = 1 ∧ r1 < K.2.2
  rotate_left
  · rw [if_neg z3] at h; cases h
  rw [if_pos z3] at h
  obtain ⟨r4, z5, h⟩ := Option.bind_eq_some_iff.mp h
  refine ev_getR dX0_shoalOf_4 fX0_160_1 z3.1 (Or.inl z3.2) rfl z5 ?_
  refine ev_iload_n dX0_shoalOf_7 rfl ?_
  by_cases z6 : K.1 r4 = 20 ∧ r4 < K.2.2
  rotate_left
  · rw [if_neg z6] at h; cases h
  rw [if_pos z6] at h
  obtain ⟨r7, ci8, cj9, cr10, z11, h⟩ := jpb_inv h
  refine ev_zF1 dX0_shoalOf_8 vX0_169_20 z6.1 (Or.inl z6.2) (Nat.le_of_ble_eq_true rfl) (Nat.le_of_ble_eq_true rfl) rfl (metJ2_get n _ _ _ _ _ _ hC z11 (fun hC12 => ?_))
  show Ev g _ _ 13 _ [.ref r7] K ci8 cj9 cr10 _ _ Qr Qx
  by_cases z13 : K.1 r7 = 9 ∧ r7 < K.2.2
  rotate_left
  · rw [if_neg z13] at h; cases h
  rw [if_pos z13] at h
  refine ev_cast dX0_shoalOf_13 kX0_177 (by rw [z13.1]; decide) (Or.inl z13.2) ?_
  cases h
  exact ev_aret dX0_shoalOf_16 rfl rfl (hq hC12)
def fX0_shoals (n : Nat) (K : jK) (ci : jI) (cj : jJ) (cr : jR) : Option (jTp Int32) := Option.bind (cr 0 0) (fun r1 => if K.1 r1 = 1 ∧ r1 < K.2.2 then Option.bind (cr r1 4) (fun r4 => if K.1 r4 = 20 ∧ r4 < K.2.2 then jpb (fJ2_size n r4 K ci cj cr) (fun r7 ci8 cj9 cr10 => some (r7, ci8, cj9, cr10)) else none) else none)
theorem metX0_shoals {g : jG} {d : Nat} {c sl : Nat} {Qr : jQ} {Qx : jX} (n : Nat) (K : jK) (ci : jI) (cj : jJ) (cr : jR) {q} (hC : jCW K cr) (h : fX0_shoals n  K ci cj cr = some q) (hq : jqp wI K q Qr) : EvM g (d + 2) mX0_shoals [.ref 0] K ci cj cr c sl Qr Qx := by
  unfold fX0_shoals at h
  show Ev g (d + 2) mX0_shoals 0 [.ref 0] [] K ci cj cr c sl Qr Qx
  refine ev_aload_n dX0_shoals_0 rfl ?_
  obtain ⟨r1, z2, h⟩ := Option.bind_eq_some_iff.mp h
  refine ev_getR dX0_shoals_1 fX0_31_0 (ck0 hC) (Or.inl (cl0 hC)) rfl z2 ?_
  by_cases z3 : K.1 r1 = 1 ∧ r1 < K.2.2
  rotate_left
  · rw [if_neg z3] at h; cases h
  rw [if_pos z3] at h
  obtain ⟨r4, z5, h⟩ := Option.bind_eq_some_iff.mp h
  refine ev_getR dX0_shoals_4 fX0_160_1 z3.1 (Or.inl z3.2) rfl z5 ?_
  by_cases z6 : K.1 r4 = 20 ∧ r4 < K.2.2
  rotate_left
  · rw [if_neg z6] at h; cases h
  rw [if_pos z6] at h
  obtain ⟨r7, ci8, cj9, cr10, z11, h⟩ := jpb_inv h
  refine ev_zF0 dX0_shoals_7 vX0_152_20 z6.1 (Or.inl z6.2) (Nat.le_of_ble_eq_true rfl) (Nat.le_of_ble_eq_true rfl) rfl (metJ2_size n _ _ _ _ _ hC z11 (fun hC12 => ?_))
  show Ev g _ _ 12 _ [.int r7] K ci8 cj9 cr10 _ _ Qr Qx
  cases h
  exact ev_iret dX0_shoals_12 rfl rfl (hq hC12)
def fX5_begins_105 (n : Nat) (ah : Nat) : Nat → Int32 → jK → jI → jJ → jR → Option (jTp Unit)
  | 0, _, _, _, _, _ => none
  | k + 1, l1, K, ci, cj, cr => jpb (fX0_pairs n  K ci cj cr) (fun r1 ci2 cj3 cr4 => if r1 ≤ l1 then some ((), ci2, cj3, cr4) else jpb (fX0_pairOf n l1 K ci2 cj3 cr4) (fun r8 ci9 cj10 cr11 => if K.1 r8 = 8 ∧ r8 < K.2.2 then if jok l1 10 then if jok l1 10 then fX5_begins_105 n ah  k (l1 + (nI 1)) K (ju (ju ci9 (ah + 8) (l1).toNatClampNeg (ci9 r8 2)) (ah + 10) (l1).toNatClampNeg (nI 0)) cj10 cr11 else none else none else none))
theorem wX5_begins_105 {g : jG} {d : Nat} {c sl : Nat} {Qr : jQ} {Qx : jX} (n : Nat) (ah : Nat) (hs_ah : isSt ah) : ∀ (k : Nat) (l1 : Int32) (K : jK) (ci : jI) (cj : jJ) (cr : jR) {q}, jCW K cr → fX5_begins_105 n ah  k l1 K ci cj cr = some q → jqp wV K q Qr → Ev g (d + 5) mX5_begins 105 [.ref ah, .int l1] [] K ci cj cr c sl Qr Qx := by
  intro k
  induction k with
  | zero =>
    intro l1 K ci cj cr q hC h hq
    rw [fX5_begins_105.eq_1] at h; cases h
  | succ k ih =>
    intro l1 K ci cj cr q hC h hq
    rw [fX5_begins_105.eq_2] at h
    refine ev_iload_n dX5_begins_105 rfl ?_
    refine ev_aload_n dX5_begins_106 rfl ?_
    refine ev_getR dX5_begins_107 fX5_3_5 (sk0 hC hs_ah) (Or.inl (sl0 hC hs_ah)) rfl (sr12 hC hs_ah) ?_
    obtain ⟨r1, ci2, cj3, cr4, z5, h⟩ := jpb_inv h
    refine ev_zV0 dX5_begins_110 vX5_81_0 (ck0 hC) (Or.inl (cl0 hC)) (Nat.le_of_ble_eq_true rfl) (Nat.le_of_ble_eq_true rfl) rfl (metX0_pairs n  _ _ _ _ hC z5 (fun hC6 => ?_))
    show Ev g _ _ 113 _ [.int r1, .int l1] K ci2 cj3 cr4 _ _ Qr Qx
    refine ev_icmp_ge 146 dX5_begins_113 rfl (fun z7 => ?_) (fun z7 => ?_)
    · rw [if_pos z7] at h
      cases h
      exact ev_ret dX5_begins_146 rfl (hq hC6)
    · rw [if_neg z7] at h
      refine ev_aload_n dX5_begins_116 rfl ?_
      refine ev_getR dX5_begins_117 fX5_37_5 (sk0 hC6 hs_ah) (Or.inl (sl0 hC6 hs_ah)) rfl (sr8 hC6 hs_ah) ?_
      refine ev_iload_n dX5_begins_120 rfl ?_
      refine ev_aload_n dX5_begins_121 rfl ?_
      refine ev_getR dX5_begins_122 fX5_3_5 (sk0 hC6 hs_ah) (Or.inl (sl0 hC6 hs_ah)) rfl (sr12 hC6 hs_ah) ?_
      refine ev_iload_n dX5_begins_125 rfl ?_
      obtain ⟨r8, ci9, cj10, cr11, z12, h⟩ := jpb_inv h
      refine ev_zV1 dX5_begins_126 vX5_84_0 (ck0 hC6) (Or.inl (cl0 hC6)) (Nat.le_of_ble_eq_true rfl) (Nat.le_of_ble_eq_true rfl) rfl (metX0_pairOf n _ _ _ _ _ hC6 z12 (fun hC13 => ?_))
      show Ev g _ _ 129 _ [.ref r8, .int l1, .ref (ah + 8)] K ci9 cj10 cr11 _ _ Qr Qx
      by_cases z14 : K.1 r8 = 8 ∧ r8 < K.2.2
      rotate_left
      · rw [if_neg z14] at h; cases h
      rw [if_pos z14] at h
      refine ev_getI dX5_begins_129 fX5_88_8 z14.1 (Or.inl z14.2) rfl ?_
      by_cases z15 : jok l1 10
      rotate_left
      · rw [if_neg z15] at h; cases h
      rw [if_pos z15] at h
      refine ev_iastore dX5_begins_132 (sk8 hC13 hs_ah) (sl8 hC13 hs_ah) (jok.ix z15 (sn8 hC13 hs_ah)) ?_
      refine ev_aload_n dX5_begins_133 rfl ?_
      refine ev_getR dX5_begins_134 fX5_43_5 (sk0 hC13 hs_ah) (Or.inl (sl0 hC13 hs_ah)) rfl (sr10 hC13 hs_ah) ?_
      refine ev_iload_n dX5_begins_137 rfl ?_
      refine ev_iconst (v := (nI 0)) dX5_begins_138 jc0 ?_
      by_cases z16 : jok l1 10
      rotate_left
      · rw [if_neg z16] at h; cases h
      rw [if_pos z16] at h
      refine ev_iastore dX5_begins_139 (sk10 hC13 hs_ah) (sl10 hC13 hs_ah) (jok.ix z16 (sn10 hC13 hs_ah)) ?_
      refine ev_iinc (v := (l1 + (nI 1))) (L' := [_, _]) dX5_begins_140 rfl (by rw [ji_1]) (by decide) rfl ?_
      refine ev_goto 105 dX5_begins_143 rfl ?_
      exact ih _ _ _ _ _ hC13 h hq
def fX5_begins_55 (n : Nat) (ah : Nat) : Nat → Int32 → jK → jI → jJ → jR → Option (jTp Unit)
  | 0, _, _, _, _, _ => none
  | k + 1, l1, K, ci, cj, cr => jpb (fX0_bays n  K ci cj cr) (fun r1 ci2 cj3 cr4 => if r1 ≤ l1 then fX5_begins_105 n ah  n (nI 0) K ci2 cj3 cr4 else jpb (fX0_bayOf n l1 K ci2 cj3 cr4) (fun r8 ci9 cj10 cr11 => if K.1 r8 = 7 ∧ r8 < K.2.2 then if jok l1 6 then if jok l1 6 then if jok l1 6 then fX5_begins_55 n ah  k (l1 + (nI 1)) K (ju (ju (ju ci9 (ah + 4) (l1).toNatClampNeg (ci9 r8 2)) (ah + 5) (l1).toNatClampNeg (nI 0)) (ah + 6) (l1).toNatClampNeg (nI 0)) cj10 cr11 else none else none else none else none))
theorem wX5_begins_55 {g : jG} {d : Nat} {c sl : Nat} {Qr : jQ} {Qx : jX} (n : Nat) (ah : Nat) (hs_ah : isSt ah) : ∀ (k : Nat) (l1 : Int32) (K : jK) (ci : jI) (cj : jJ) (cr : jR) {q}, jCW K cr → fX5_begins_55 n ah  k l1 K ci cj cr = some q → jqp wV K q Qr → Ev g (d + 5) mX5_begins 55 [.ref ah, .int l1] [] K ci cj cr c sl Qr Qx := by
  intro k
  induction k with
  | zero =>
    intro l1 K ci cj cr q hC h hq
    rw [fX5_begins_55.eq_1] at h; cases h
  | succ k ih =>
    intro l1 K ci cj cr q hC h hq
    rw [fX5_begins_55.eq_2] at h
    refine ev_iload_n dX5_begins_55 rfl ?_
    refine ev_aload_n dX5_begins_56 rfl ?_
    refine ev_getR dX5_begins_57 fX5_3_5 (sk0 hC hs_ah) (Or.inl (sl0 hC hs_ah)) rfl (sr12 hC hs_ah) ?_
    obtain ⟨r1, ci2, cj3, cr4, z5, h⟩ := jpb_inv h
    refine ev_zV0 dX5_begins_60 vX5_70_0 (ck0 hC) (Or.inl (cl0 hC)) (Nat.le_of_ble_eq_true rfl) (Nat.le_of_ble_eq_true rfl) rfl (metX0_bays n  _ _ _ _ hC z5 (fun hC6 => ?_))
    show Ev g _ _ 63 _ [.int r1, .int l1] K ci2 cj3 cr4 _ _ Qr Qx
    refine ev_icmp_ge 103 dX5_begins_63 rfl (fun z7 => ?_) (fun z7 => ?_)
    · rw [if_pos z7] at h
      refine ev_iconst (v := (nI 0)) dX5_begins_103 jc0 ?_
      refine ev_istore_n (L' := [_, _]) dX5_begins_104 (by decide) rfl ?_
      exact wX5_begins_105 n _ hs_ah   n _ _ _ _ _ hC6 h hq
    · rw [if_neg z7] at h
      refine ev_aload_n dX5_begins_66 rfl ?_
      refine ev_getR dX5_begins_67 fX5_25_5 (sk0 hC6 hs_ah) (Or.inl (sl0 hC6 hs_ah)) rfl (sr4 hC6 hs_ah) ?_
      refine ev_iload_n dX5_begins_70 rfl ?_
      refine ev_aload_n dX5_begins_71 rfl ?_
      refine ev_getR dX5_begins_72 fX5_3_5 (sk0 hC6 hs_ah) (Or.inl (sl0 hC6 hs_ah)) rfl (sr12 hC6 hs_ah) ?_
      refine ev_iload_n dX5_begins_75 rfl ?_
      obtain ⟨r8, ci9, cj10, cr11, z12, h⟩ := jpb_inv h
      refine ev_zV1 dX5_begins_76 vX5_73_0 (ck0 hC6) (Or.inl (cl0 hC6)) (Nat.le_of_ble_eq_true rfl) (Nat.le_of_ble_eq_true rfl) rfl (metX0_bayOf n _ _ _ _ _ hC6 z12 (fun hC13 => ?_))
      show Ev g _ _ 79 _ [.ref r8, .int l1, .ref (ah + 4)] K ci9 cj10 cr11 _ _ Qr Qx
      by_cases z14 : K.1 r8 = 7 ∧ r8 < K.2.2
      rotate_left
      · rw [if_neg z14] at h; cases h
      rw [if_pos z14] at h
      refine ev_getI dX5_begins_79 fX5_77_7 z14.1 (Or.inl z14.2) rfl ?_
      by_cases z15 : jok l1 6
      rotate_left
      · rw [if_neg z15] at h; cases h
      rw [if_pos z15] at h
      refine ev_iastore dX5_begins_82 (sk4 hC13 hs_ah) (sl4 hC13 hs_ah) (jok.ix z15 (sn4 hC13 hs_ah)) ?_
      refine ev_aload_n dX5_begins_83 rfl ?_
      refine ev_getR dX5_begins_84 fX5_28_5 (sk0 hC13 hs_ah) (Or.inl (sl0 hC13 hs_ah)) rfl (sr5 hC13 hs_ah) ?_
      refine ev_iload_n dX5_begins_87 rfl ?_
      refine ev_iconst (v := (nI 0)) dX5_begins_88 jc0 ?_
      by_cases z16 : jok l1 6
      rotate_left
      · rw [if_neg z16] at h; cases h
      rw [if_pos z16] at h
      refine ev_iastore dX5_begins_89 (sk5 hC13 hs_ah) (sl5 hC13 hs_ah) (jok.ix z16 (sn5 hC13 hs_ah)) ?_
      refine ev_aload_n dX5_begins_90 rfl ?_
      refine ev_getR dX5_begins_91 fX5_31_5 (sk0 hC13 hs_ah) (Or.inl (sl0 hC13 hs_ah)) rfl (sr6 hC13 hs_ah) ?_
      refine ev_iload_n dX5_begins_94 rfl ?_
      refine ev_iconst (v := (nI 0)) dX5_begins_95 jc0 ?_
      by_cases z17 : jok l1 6
      rotate_left
      · rw [if_neg z17] at h; cases h
      rw [if_pos z17] at h
      refine ev_iastore dX5_begins_96 (sk6 hC13 hs_ah) (sl6 hC13 hs_ah) (jok.ix z17 (sn6 hC13 hs_ah)) ?_
      refine ev_iinc (v := (l1 + (nI 1))) (L' := [_, _]) dX5_begins_97 rfl (by rw [ji_1]) (by decide) rfl ?_
      refine ev_goto 55 dX5_begins_100 rfl ?_
      exact ih _ _ _ _ _ hC13 h hq
def fX5_begins_12 (n : Nat) (ah : Nat) : Nat → Int32 → jK → jI → jJ → jR → Option (jTp Unit)
  | 0, _, _, _, _, _ => none
  | k + 1, l1, K, ci, cj, cr => jpb (fX0_shoals n  K ci cj cr) (fun r1 ci2 cj3 cr4 => if r1 ≤ l1 then fX5_begins_55 n ah  n (nI 0) K ci2 cj3 cr4 else jpb (fX0_shoalOf n l1 K ci2 cj3 cr4) (fun r8 ci9 cj10 cr11 => if K.1 r8 = 9 ∧ r8 < K.2.2 then if jok l1 3 then if jok l1 3 then fX5_begins_12 n ah  k (l1 + (nI 1)) K (ju (ju ci9 (ah + 1) (l1).toNatClampNeg (ci9 r8 1)) (ah + 2) (l1).toNatClampNeg (-1)) cj10 cr11 else none else none else none))
theorem wX5_begins_12 {g : jG} {d : Nat} {c sl : Nat} {Qr : jQ} {Qx : jX} (n : Nat) (ah : Nat) (hs_ah : isSt ah) : ∀ (k : Nat) (l1 : Int32) (K : jK) (ci : jI) (cj : jJ) (cr : jR) {q}, jCW K cr → fX5_begins_12 n ah  k l1 K ci cj cr = some q → jqp wV K q Qr → Ev g (d + 5) mX5_begins 12 [.ref ah, .int l1] [] K ci cj cr c sl Qr Qx := by
  intro k
  induction k with
  | zero =>
    intro l1 K ci cj cr q hC h hq
    rw [fX5_begins_12.eq_1] at h; cases h
  | succ k ih =>
    intro l1 K ci cj cr q hC h hq
    rw [fX5_begins_12.eq_2] at h
    refine ev_iload_n dX5_begins_12 rfl ?_
    refine ev_aload_n dX5_begins_13 rfl ?_
    refine ev_getR dX5_begins_14 fX5_3_5 (sk0 hC hs_ah) (Or.inl (sl0 hC hs_ah)) rfl (sr12 hC hs_ah) ?_
    obtain ⟨r1, ci2, cj3, cr4, z5, h⟩ := jpb_inv h
    refine ev_zV0 dX5_begins_17 vX5_58_0 (ck0 hC) (Or.inl (cl0 hC)) (Nat.le_of_ble_eq_true rfl) (Nat.le_of_ble_eq_true rfl) rfl (metX0_shoals n  _ _ _ _ hC z5 (fun hC6 => ?_))
    show Ev g _ _ 20 _ [.int r1, .int l1] K ci2 cj3 cr4 _ _ Qr Qx
    refine ev_icmp_ge 53 dX5_begins_20 rfl (fun z7 => ?_) (fun z7 => ?_)
    · rw [if_pos z7] at h
      refine ev_iconst (v := (nI 0)) dX5_begins_53 jc0 ?_
      refine ev_istore_n (L' := [_, _]) dX5_begins_54 (by decide) rfl ?_
      exact wX5_begins_55 n _ hs_ah   n _ _ _ _ _ hC6 h hq
    · rw [if_neg z7] at h
      refine ev_aload_n dX5_begins_23 rfl ?_
      refine ev_getR dX5_begins_24 fX5_15_5 (sk0 hC6 hs_ah) (Or.inl (sl0 hC6 hs_ah)) rfl (sr1 hC6 hs_ah) ?_
      refine ev_iload_n dX5_begins_27 rfl ?_
      refine ev_aload_n dX5_begins_28 rfl ?_
      refine ev_getR dX5_begins_29 fX5_3_5 (sk0 hC6 hs_ah) (Or.inl (sl0 hC6 hs_ah)) rfl (sr12 hC6 hs_ah) ?_
      refine ev_iload_n dX5_begins_32 rfl ?_
      obtain ⟨r8, ci9, cj10, cr11, z12, h⟩ := jpb_inv h
      refine ev_zV1 dX5_begins_33 vX5_62_0 (ck0 hC6) (Or.inl (cl0 hC6)) (Nat.le_of_ble_eq_true rfl) (Nat.le_of_ble_eq_true rfl) rfl (metX0_shoalOf n _ _ _ _ _ hC6 z12 (fun hC13 => ?_))
      show Ev g _ _ 36 _ [.ref r8, .int l1, .ref (ah + 1)] K ci9 cj10 cr11 _ _ Qr Qx
      by_cases z14 : K.1 r8 = 9 ∧ r8 < K.2.2
      rotate_left
      · rw [if_neg z14] at h; cases h
      rw [if_pos z14] at h
      refine ev_getI dX5_begins_36 fX5_66_9 z14.1 (Or.inl z14.2) rfl ?_
      by_cases z15 : jok l1 3
      rotate_left
      · rw [if_neg z15] at h; cases h
      rw [if_pos z15] at h
      refine ev_iastore dX5_begins_39 (sk1 hC13 hs_ah) (sl1 hC13 hs_ah) (jok.ix z15 (sn1 hC13 hs_ah)) ?_
      refine ev_aload_n dX5_begins_40 rfl ?_
      refine ev_getR dX5_begins_41 fX5_19_5 (sk0 hC13 hs_ah) (Or.inl (sl0 hC13 hs_ah)) rfl (sr2 hC13 hs_ah) ?_
      refine ev_iload_n dX5_begins_44 rfl ?_
      refine ev_iconst (v := (-1)) dX5_begins_45 jcm1 ?_
      by_cases z16 : jok l1 3
      rotate_left
      · rw [if_neg z16] at h; cases h
      rw [if_pos z16] at h
      refine ev_iastore dX5_begins_46 (sk2 hC13 hs_ah) (sl2 hC13 hs_ah) (jok.ix z16 (sn2 hC13 hs_ah)) ?_
      refine ev_iinc (v := (l1 + (nI 1))) (L' := [_, _]) dX5_begins_47 rfl (by rw [ji_1]) (by decide) rfl ?_
      refine ev_goto 12 dX5_begins_50 rfl ?_
      exact ih _ _ _ _ _ hC13 h hq
def fX5_begins (n : Nat) (ah : Nat) (K : jK) (ci : jI) (cj : jJ) (cr : jR) : Option (jTp Unit) := if isSt ah then fX5_begins_12 n ah  n (nI 0) K (ju (ju ci ah 0 (nI 0)) ah 1 (nI 0)) cj cr else none
theorem metX5_begins {g : jG} {d : Nat} {c sl : Nat} {Qr : jQ} {Qx : jX} (n : Nat) (ah : Nat) (K : jK) (ci : jI) (cj : jJ) (cr : jR) {q} (hC : jCW K cr) (h : fX5_begins n ah K ci cj cr = some q) (hq : jqp wV K q Qr) : EvM g (d + 5) mX5_begins [.ref ah] K ci cj cr c sl Qr Qx := by
  unfold fX5_begins at h
  show Ev g (d + 5) mX5_begins 0 [.ref ah, jU] [] K ci cj cr c sl Qr Qx
  by_cases hs_ah : isSt ah
  rotate_left
  · rw [if_neg hs_ah] at h; cases h
  rw [if_pos hs_ah] at h
  refine ev_aload_n dX5_begins_0 rfl ?_
  refine ev_iconst (v := (nI 0)) dX5_begins_1 jc0 ?_
  refine ev_putI dX5_begins_2 (pX5_51_5 _) (sk0 hC hs_ah) (sl0 hC hs_ah) rfl rfl rfl ?_
  refine ev_aload_n dX5_begins_5 rfl ?_
  refine ev_iconst (v := (nI 0)) dX5_begins_6 jc0 ?_
  refine ev_putI dX5_begins_7 (pX5_55_5 _) (sk0 hC hs_ah) (sl0 hC hs_ah) rfl rfl rfl ?_
  refine ev_iconst (v := (nI 0)) dX5_begins_10 jc0 ?_
  refine ev_istore_n (L' := [_, _]) dX5_begins_11 (by decide) rfl ?_
  exact wX5_begins_12 n _ hs_ah   n _ _ _ _ _ hC h hq
