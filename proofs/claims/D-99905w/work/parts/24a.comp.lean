/-! STAGE A OF THE COMPONENT (printed by gen/comp.py) -/
set_option maxRecDepth 100000
def fJ0_init (n : Nat) (ah : Nat) (K : jK) (ci : jI) (cj : jJ) (cr : jR) : Option (jTp Unit) := some ((), ci, cj, cr)
theorem metJ0_init {g : jG} {d : Nat} {c sl : Nat} {Qr : jQ} {Qx : jX} (n : Nat) (ah : Nat) (K : jK) (ci : jI) (cj : jJ) (cr : jR) {q} (hC : jCW K cr) (h : fJ0_init n ah K ci cj cr = some q) (hq : jqp wV K q Qr) : EvM g (d + 1) mJ0_init [.ref ah] K ci cj cr c sl Qr Qx := by
  unfold fJ0_init at h
  show Ev g (d + 1) mJ0_init 0 [.ref ah] [] K ci cj cr c sl Qr Qx
  refine ev_aload_n dJ0_init_0 rfl ?_
  refine ev_objInit dJ0_init_1 q223 (Nat.le_of_ble_eq_true rfl) ?_
  cases h
  exact ev_ret dJ0_init_4 rfl (hq hC)
def fJ1_init (n : Nat) (ah : Nat) (K : jK) (ci : jI) (cj : jJ) (cr : jR) : Option (jTp Unit) := jpb (fJ0_init n ah K ci cj cr) (fun r1 ci2 cj3 cr4 => if K.1 ah = 20 ∧ ah < K.2.2 then some ((), (ju ci2 ah 0 (nI 0)), cj3, cr4) else none)
theorem metJ1_init {g : jG} {d : Nat} {c sl : Nat} {Qr : jQ} {Qx : jX} (n : Nat) (ah : Nat) (K : jK) (ci : jI) (cj : jJ) (cr : jR) {q} (hC : jCW K cr) (h : fJ1_init n ah K ci cj cr = some q) (hq : jqp wV K q Qr) : EvM g (d + 2) mJ1_init [.ref ah] K ci cj cr c sl Qr Qx := by
  unfold fJ1_init at h
  show Ev g (d + 2) mJ1_init 0 [.ref ah] [] K ci cj cr c sl Qr Qx
  refine ev_aload_n dJ1_init_0 rfl ?_
  obtain ⟨r1, ci2, cj3, cr4, z5, h⟩ := jpb_inv h
  refine ev_zI0 dJ1_init_1 iJ1_1 (Nat.le_of_ble_eq_true rfl) (Nat.le_of_ble_eq_true rfl) rfl (metJ0_init n _ _ _ _ _ hC z5 (fun hC6 => ?_))
  show Ev g _ _ 4 _ [] K ci2 cj3 cr4 _ _ Qr Qx
  refine ev_aload_n dJ1_init_4 rfl ?_
  refine ev_iconst (v := (nI 0)) dJ1_init_5 jc0 ?_
  by_cases z7 : K.1 ah = 20 ∧ ah < K.2.2
  rotate_left
  · rw [if_neg z7] at h; cases h
  rw [if_pos z7] at h
  refine ev_putI dJ1_init_6 (pJ1_7_20 _) z7.1 z7.2 rfl rfl rfl ?_
  cases h
  exact ev_ret dJ1_init_9 rfl (hq hC6)
def fJ10_signedHashCode_8 (n : Nat) : Nat → Int32 → Nat → Int32 → Int32 → jK → jI → jJ → jR → Option (jTp Int32)
  | 0, _, _, _, _, _, _, _, _ => none
  | k + 1, l0, l1, l4, l5, K, ci, cj, cr => if l4 ≤ l5 then some (l0, ci, cj, cr) else if K.1 l1 = 101 ∧ (l1 < K.2.2 ∨ 1000000 ≤ l1) then if jok l5 (K.2.1 l1) then fJ10_signedHashCode_8 n  k (((nI 31) * l0) + ((ci l1 (l5).toNatClampNeg) &&& (nI 255))) l1 l4 (l5 + (nI 1)) K ci cj cr else none else none
theorem wJ10_signedHashCode_8 {g : jG} {d : Nat} {c sl : Nat} {Qr : jQ} {Qx : jX} (n : Nat) : ∀ (k : Nat) (l0 : Int32) (l1 : Nat) (l4 : Int32) (l5 : Int32) (K : jK) (ci : jI) (cj : jJ) (cr : jR) {q}, jCW K cr → fJ10_signedHashCode_8 n  k l0 l1 l4 l5 K ci cj cr = some q → jqp wI K q Qr → Ev g (d + 1) mJ10_signedHashCode 8 [.int l0, .ref l1, jU, jU, .int l4, .int l5] [] K ci cj cr c sl Qr Qx := by
  intro k
  induction k with
  | zero =>
    intro l0 l1 l4 l5 K ci cj cr q hC h hq
    rw [fJ10_signedHashCode_8.eq_1] at h; cases h
  | succ k ih =>
    intro l0 l1 l4 l5 K ci cj cr q hC h hq
    rw [fJ10_signedHashCode_8.eq_2] at h
    refine ev_iload dJ10_signedHashCode_8 rfl ?_
    refine ev_iload dJ10_signedHashCode_10 rfl ?_
    refine ev_icmp_ge 35 dJ10_signedHashCode_12 rfl (fun z1 => ?_) (fun z1 => ?_)
    · rw [if_pos z1] at h
      refine ev_iload_n dJ10_signedHashCode_35 rfl ?_
      cases h
      exact ev_iret dJ10_signedHashCode_36 rfl rfl (hq hC)
    · rw [if_neg z1] at h
      refine ev_bipush (v := (nI 31)) dJ10_signedHashCode_15 jb31 ?_
      refine ev_iload_n dJ10_signedHashCode_17 rfl ?_
      refine ev_imul dJ10_signedHashCode_18 ?_
      refine ev_aload_n dJ10_signedHashCode_19 rfl ?_
      refine ev_iload dJ10_signedHashCode_20 rfl ?_
      by_cases z2 : K.1 l1 = 101 ∧ (l1 < K.2.2 ∨ 1000000 ≤ l1)
      rotate_left
      · rw [if_neg z2] at h; cases h
      rw [if_pos z2] at h
      by_cases z3 : jok l5 (K.2.1 l1)
      rotate_left
      · rw [if_neg z3] at h; cases h
      rw [if_pos z3] at h
      refine ev_baload dJ10_signedHashCode_22 z2.1 z2.2 (jok.ix z3 rfl) ?_
      refine ev_sipush (v := (nI 255)) dJ10_signedHashCode_23 js255 ?_
      refine ev_iand dJ10_signedHashCode_26 ?_
      refine ev_iadd dJ10_signedHashCode_27 ?_
      refine ev_istore_n (L' := [_, _, _, _, _, _]) dJ10_signedHashCode_28 (by decide) rfl ?_
      refine ev_iinc (v := (l5 + (nI 1))) (L' := [_, _, _, _, _, _]) dJ10_signedHashCode_29 rfl (by rw [ji_1]) (by decide) rfl ?_
      refine ev_goto 8 dJ10_signedHashCode_32 rfl ?_
      exact ih _ _ _ _ _ _ _ _ hC h hq
def fJ10_signedHashCode (n : Nat) (a0 : Int32) (a1 : Nat) (a2 : Int32) (a3 : Int32) (K : jK) (ci : jI) (cj : jJ) (cr : jR) : Option (jTp Int32) := fJ10_signedHashCode_8 n  n a0 a1 (a2 + a3) a2 K ci cj cr
theorem metJ10_signedHashCode {g : jG} {d : Nat} {c sl : Nat} {Qr : jQ} {Qx : jX} (n : Nat) (a0 : Int32) (a1 : Nat) (a2 : Int32) (a3 : Int32) (K : jK) (ci : jI) (cj : jJ) (cr : jR) {q} (hC : jCW K cr) (h : fJ10_signedHashCode n a0 a1 a2 a3 K ci cj cr = some q) (hq : jqp wI K q Qr) : EvM g (d + 1) mJ10_signedHashCode [.int a0, .ref a1, .int a2, .int a3] K ci cj cr c sl Qr Qx := by
  unfold fJ10_signedHashCode at h
  show Ev g (d + 1) mJ10_signedHashCode 0 [.int a0, .ref a1, .int a2, .int a3, jU, jU] [] K ci cj cr c sl Qr Qx
  refine ev_iload_n dJ10_signedHashCode_0 rfl ?_
  refine ev_iload_n dJ10_signedHashCode_1 rfl ?_
  refine ev_iadd dJ10_signedHashCode_2 ?_
  refine ev_istore (L' := [_, _, _, _, _, _]) dJ10_signedHashCode_3 (by decide) rfl ?_
  refine ev_iload_n dJ10_signedHashCode_5 rfl ?_
  refine ev_istore (L' := [_, _, _, _, _, _]) dJ10_signedHashCode_6 (by decide) rfl ?_
  exact ev_mask [true, true, false, false, true, true] (wJ10_signedHashCode_8 n   n _ _ _ _ _ _ _ _ hC h hq)
def fJ10_vectorizedHashCode_157 (n : Nat) (t0 : Int32) (K : jK) (ci : jI) (cj : jJ) (cr : jR) : Option (jTp Int32) := some (t0, ci, cj, cr)
theorem wJ10_vectorizedHashCode_157 {g : jG} {d : Nat} {c sl : Nat} {Qr : jQ} {Qx : jX} (n : Nat) (t0 : Int32) (K : jK) (ci : jI) (cj : jJ) (cr : jR) {q} (hC : jCW K cr) (h : fJ10_vectorizedHashCode_157 n  t0 K ci cj cr = some q) (hq : jqp wI K q Qr) : Ev g (d + 2) mJ10_vectorizedHashCode 157 [jU, jU, jU, jU, jU] [.int t0] K ci cj cr c sl Qr Qx := by
  unfold fJ10_vectorizedHashCode_157 at h
  cases h
  exact ev_iret dJ10_vectorizedHashCode_157 rfl rfl (hq hC)
def fJ10_vectorizedHashCode (n : Nat) (a0 : Nat) (a1 : Int32) (a2 : Int32) (a3 : Int32) (a4 : Int32) (K : jK) (ci : jI) (cj : jJ) (cr : jR) : Option (jTp Int32) := if a4 = (nI 4) then if K.1 a0 = 101 ∧ a0 < K.2.2 then jpb (fJ10_signedHashCode n a3 a0 a1 a2 K ci cj cr) (fun r3 ci4 cj5 cr6 => fJ10_vectorizedHashCode_157 n  r3 K ci4 cj5 cr6) else none else if a4 = (nI 5) then none else if a4 = (nI 8) then if K.1 a0 = 101 ∧ a0 < K.2.2 then none else none else if a4 = (nI 9) then none else if a4 = (nI 10) then if K.1 a0 = 100 ∧ a0 < K.2.2 then none else none else none
theorem metJ10_vectorizedHashCode {g : jG} {d : Nat} {c sl : Nat} {Qr : jQ} {Qx : jX} (n : Nat) (a0 : Nat) (a1 : Int32) (a2 : Int32) (a3 : Int32) (a4 : Int32) (K : jK) (ci : jI) (cj : jJ) (cr : jR) {q} (hC : jCW K cr) (h : fJ10_vectorizedHashCode n a0 a1 a2 a3 a4 K ci cj cr = some q) (hq : jqp wI K q Qr) : EvM g (d + 2) mJ10_vectorizedHashCode [.ref a0, .int a1, .int a2, .int a3, .int a4] K ci cj cr c sl Qr Qx := by
  unfold fJ10_vectorizedHashCode at h
  show Ev g (d + 2) mJ10_vectorizedHashCode 0 [.ref a0, .int a1, .int a2, .int a3, .int a4] [] K ci cj cr c sl Qr Qx
  refine ev_iload dJ10_vectorizedHashCode_0 rfl ?_
  by_cases z1 : a4 = (nI 4)
  · rw [if_pos z1] at h
    refine ev_tableIn 44 dJ10_vectorizedHashCode_2 (by rw [z1]; decide) (by rw [z1]; decide) (by rw [z1]; rfl) rfl ?_
    refine ev_iload_n dJ10_vectorizedHashCode_44 rfl ?_
    refine ev_aload_n dJ10_vectorizedHashCode_45 rfl ?_
    by_cases z2 : K.1 a0 = 101 ∧ a0 < K.2.2
    rotate_left
    · rw [if_neg z2] at h; cases h
    rw [if_pos z2] at h
    refine ev_castA (t := 1) dJ10_vectorizedHashCode_46 q691 z2.1 (by decide) z2.2 ?_
    refine ev_iload_n dJ10_vectorizedHashCode_49 rfl ?_
    refine ev_iload_n dJ10_vectorizedHashCode_50 rfl ?_
    obtain ⟨r3, ci4, cj5, cr6, z7, h⟩ := jpb_inv h
    refine ev_zS4 dJ10_vectorizedHashCode_51 sJ10_62 (Nat.le_of_ble_eq_true rfl) (Nat.le_of_ble_eq_true rfl) rfl (metJ10_signedHashCode n _ _ _ _ _ _ _ _ hC z7 (fun hC8 => ?_))
    show Ev g _ _ 54 _ [.int r3] K ci4 cj5 cr6 _ _ Qr Qx
    refine ev_goto 157 dJ10_vectorizedHashCode_54 rfl ?_
    exact ev_mask [false, false, false, false, false] (wJ10_vectorizedHashCode_157 n   _ _ _ _ _ hC8 h hq)
  rw [if_neg z1] at h
  by_cases z9 : a4 = (nI 5)
  · rw [if_pos z9] at h
    refine ev_tableIn 57 dJ10_vectorizedHashCode_2 (by rw [z9]; decide) (by rw [z9]; decide) (by rw [z9]; rfl) rfl ?_
    refine ev_aload_n dJ10_vectorizedHashCode_57 rfl ?_
    cases h
  rw [if_neg z9] at h
  by_cases z10 : a4 = (nI 8)
  · rw [if_pos z10] at h
    refine ev_tableIn 90 dJ10_vectorizedHashCode_2 (by rw [z10]; decide) (by rw [z10]; decide) (by rw [z10]; rfl) rfl ?_
    refine ev_iload_n dJ10_vectorizedHashCode_90 rfl ?_
    refine ev_aload_n dJ10_vectorizedHashCode_91 rfl ?_
    by_cases z11 : K.1 a0 = 101 ∧ a0 < K.2.2
    rotate_left
    · rw [if_neg z11] at h; cases h
    rw [if_pos z11] at h
    refine ev_castA (t := 1) dJ10_vectorizedHashCode_92 q691 z11.1 (by decide) z11.2 ?_
    refine ev_iload_n dJ10_vectorizedHashCode_95 rfl ?_
    refine ev_iload_n dJ10_vectorizedHashCode_96 rfl ?_
    cases h
  rw [if_neg z10] at h
  by_cases z12 : a4 = (nI 9)
  · rw [if_pos z12] at h
    refine ev_tableIn 103 dJ10_vectorizedHashCode_2 (by rw [z12]; decide) (by rw [z12]; decide) (by rw [z12]; rfl) rfl ?_
    refine ev_iload_n dJ10_vectorizedHashCode_103 rfl ?_
    refine ev_aload_n dJ10_vectorizedHashCode_104 rfl ?_
    cases h
  rw [if_neg z12] at h
  by_cases z13 : a4 = (nI 10)
  · rw [if_pos z13] at h
    refine ev_tableIn 116 dJ10_vectorizedHashCode_2 (by rw [z13]; decide) (by rw [z13]; decide) (by rw [z13]; rfl) rfl ?_
    refine ev_iload_n dJ10_vectorizedHashCode_116 rfl ?_
    refine ev_aload_n dJ10_vectorizedHashCode_117 rfl ?_
    by_cases z14 : K.1 a0 = 100 ∧ a0 < K.2.2
    rotate_left
    · rw [if_neg z14] at h; cases h
    rw [if_pos z14] at h
    refine ev_castA (t := 0) dJ10_vectorizedHashCode_118 q722 z14.1 (by decide) z14.2 ?_
    refine ev_iload_n dJ10_vectorizedHashCode_121 rfl ?_
    refine ev_iload_n dJ10_vectorizedHashCode_122 rfl ?_
    cases h
  rw [if_neg z13] at h
  by_cases z15 : a4 = (nI 6)
  · refine ev_tableIn 129 dJ10_vectorizedHashCode_2 (by rw [z15]; decide) (by rw [z15]; decide) (by rw [z15]; rfl) rfl ?_
    cases h
  by_cases z16 : a4 = (nI 7)
  · refine ev_tableIn 129 dJ10_vectorizedHashCode_2 (by rw [z16]; decide) (by rw [z16]; decide) (by rw [z16]; rfl) rfl ?_
    cases h
  refine ev_tableOut 129 dJ10_vectorizedHashCode_2 (jtab_4_10 z1 z9 z15 z16 z10 z12 z13) rfl ?_
  cases h
def fJ12_max_10 (n : Nat) (t0 : Int32) (K : jK) (ci : jI) (cj : jJ) (cr : jR) : Option (jTp Int32) := some (t0, ci, cj, cr)
theorem wJ12_max_10 {g : jG} {d : Nat} {c sl : Nat} {Qr : jQ} {Qx : jX} (n : Nat) (t0 : Int32) (K : jK) (ci : jI) (cj : jJ) (cr : jR) {q} (hC : jCW K cr) (h : fJ12_max_10 n  t0 K ci cj cr = some q) (hq : jqp wI K q Qr) : Ev g (d + 1) mJ12_max 10 [jU, jU] [.int t0] K ci cj cr c sl Qr Qx := by
  unfold fJ12_max_10 at h
  cases h
  exact ev_iret dJ12_max_10 rfl rfl (hq hC)
def fJ12_max (n : Nat) (a0 : Int32) (a1 : Int32) (K : jK) (ci : jI) (cj : jJ) (cr : jR) : Option (jTp Int32) := if a0 < a1 then fJ12_max_10 n  a1 K ci cj cr else fJ12_max_10 n  a0 K ci cj cr
theorem metJ12_max {g : jG} {d : Nat} {c sl : Nat} {Qr : jQ} {Qx : jX} (n : Nat) (a0 : Int32) (a1 : Int32) (K : jK) (ci : jI) (cj : jJ) (cr : jR) {q} (hC : jCW K cr) (h : fJ12_max n a0 a1 K ci cj cr = some q) (hq : jqp wI K q Qr) : EvM g (d + 1) mJ12_max [.int a0, .int a1] K ci cj cr c sl Qr Qx := by
  unfold fJ12_max at h
  show Ev g (d + 1) mJ12_max 0 [.int a0, .int a1] [] K ci cj cr c sl Qr Qx
  refine ev_iload_n dJ12_max_0 rfl ?_
  refine ev_iload_n dJ12_max_1 rfl ?_
  refine ev_icmp_lt 9 dJ12_max_2 rfl (fun z1 => ?_) (fun z1 => ?_)
  · rw [if_pos z1] at h
    refine ev_iload_n dJ12_max_9 rfl ?_
    exact ev_mask [false, false] (wJ12_max_10 n   _ _ _ _ _ hC h hq)
  · rw [if_neg z1] at h
    refine ev_iload_n dJ12_max_5 rfl ?_
    refine ev_goto 10 dJ12_max_6 rfl ?_
    exact ev_mask [false, false] (wJ12_max_10 n   _ _ _ _ _ hC h hq)
def fJ10_newLength_21 (n : Nat) (l0 : Int32) (l1 : Int32) (K : jK) (ci : jI) (cj : jJ) (cr : jR) : Option (jTp Int32) := none
theorem wJ10_newLength_21 {g : jG} {d : Nat} {c sl : Nat} {Qr : jQ} {Qx : jX} (n : Nat) (l0 : Int32) (l1 : Int32) (K : jK) (ci : jI) (cj : jJ) (cr : jR) {q} (hC : jCW K cr) (h : fJ10_newLength_21 n  l0 l1 K ci cj cr = some q) (hq : jqp wI K q Qr) : Ev g (d + 2) mJ10_newLength 21 [.int l0, .int l1, jU, jU] [] K ci cj cr c sl Qr Qx := by
  unfold fJ10_newLength_21 at h
  refine ev_iload_n dJ10_newLength_21 rfl ?_
  refine ev_iload_n dJ10_newLength_22 rfl ?_
  cases h
def fJ10_newLength (n : Nat) (a0 : Int32) (a1 : Int32) (a2 : Int32) (K : jK) (ci : jI) (cj : jJ) (cr : jR) : Option (jTp Int32) := jpb (fJ12_max n a1 a2 K ci cj cr) (fun r1 ci2 cj3 cr4 => if (a0 + r1) ≤ (nI 0) then fJ10_newLength_21 n  a0 a1 K ci2 cj3 cr4 else if (2147483639) < (a0 + r1) then fJ10_newLength_21 n  a0 a1 K ci2 cj3 cr4 else some ((a0 + r1), ci2, cj3, cr4))
theorem metJ10_newLength {g : jG} {d : Nat} {c sl : Nat} {Qr : jQ} {Qx : jX} (n : Nat) (a0 : Int32) (a1 : Int32) (a2 : Int32) (K : jK) (ci : jI) (cj : jJ) (cr : jR) {q} (hC : jCW K cr) (h : fJ10_newLength n a0 a1 a2 K ci cj cr = some q) (hq : jqp wI K q Qr) : EvM g (d + 2) mJ10_newLength [.int a0, .int a1, .int a2] K ci cj cr c sl Qr Qx := by
  unfold fJ10_newLength at h
  show Ev g (d + 2) mJ10_newLength 0 [.int a0, .int a1, .int a2, jU] [] K ci cj cr c sl Qr Qx
  refine ev_iload_n dJ10_newLength_0 rfl ?_
  refine ev_iload_n dJ10_newLength_1 rfl ?_
  refine ev_iload_n dJ10_newLength_2 rfl ?_
  obtain ⟨r1, ci2, cj3, cr4, z5, h⟩ := jpb_inv h
  refine ev_zS2 dJ10_newLength_3 sJ10_194 (Nat.le_of_ble_eq_true rfl) (Nat.le_of_ble_eq_true rfl) rfl (metJ12_max n _ _ _ _ _ _ hC z5 (fun hC6 => ?_))
  show Ev g _ _ 6 _ [.int r1, .int a0] K ci2 cj3 cr4 _ _ Qr Qx
  refine ev_iadd dJ10_newLength_6 ?_
  refine ev_istore_n (L' := [_, _, _, _]) dJ10_newLength_7 (by decide) rfl ?_
  refine ev_iconst (v := (nI 0)) dJ10_newLength_8 jc0 ?_
  refine ev_iload_n dJ10_newLength_9 rfl ?_
  refine ev_icmp_ge 21 dJ10_newLength_10 rfl (fun z7 => ?_) (fun z7 => ?_)
  · rw [if_pos z7] at h
    exact ev_mask [true, true, false, false] (wJ10_newLength_21 n   _ _ _ _ _ _ hC6 h hq)
  · rw [if_neg z7] at h
    refine ev_iload_n dJ10_newLength_13 rfl ?_
    refine ev_ldc dJ10_newLength_14 q875 ?_
    refine ev_icmp_gt 21 dJ10_newLength_16 rfl (fun z8 => ?_) (fun z8 => ?_)
    · rw [if_pos z8] at h
      exact ev_mask [true, true, false, false] (wJ10_newLength_21 n   _ _ _ _ _ _ hC6 h hq)
    · rw [if_neg z8] at h
      refine ev_iload_n dJ10_newLength_19 rfl ?_
      cases h
      exact ev_iret dJ10_newLength_20 rfl rfl (hq hC6)
def fJ8_checkIndex_9 (n : Nat) (l0 : Int32) (l1 : Int32) (K : jK) (ci : jI) (cj : jJ) (cr : jR) : Option (jTp Int32) := none
theorem wJ8_checkIndex_9 {g : jG} {d : Nat} {a2 : Option Nat} {c sl : Nat} {Qr : jQ} {Qx : jX} (n : Nat) (l0 : Int32) (l1 : Int32) (K : jK) (ci : jI) (cj : jJ) (cr : jR) {q} (hC : jCW K cr) (h : fJ8_checkIndex_9 n  l0 l1 K ci cj cr = some q) (hq : jqp wI K q Qr) : Ev g (d + 1) mJ8_checkIndex 9 [.int l0, .int l1, va_rf a2] [] K ci cj cr c sl Qr Qx := by
  unfold fJ8_checkIndex_9 at h
  refine ev_aload_nQ dJ8_checkIndex_9 rfl ?_
  refine ev_iload_n dJ8_checkIndex_10 rfl ?_
  refine ev_iload_n dJ8_checkIndex_11 rfl ?_
  cases h
def fJ8_checkIndex (n : Nat) (a0 : Int32) (a1 : Int32) (K : jK) (ci : jI) (cj : jJ) (cr : jR) : Option (jTp Int32) := if a0 < 0 then fJ8_checkIndex_9 n  a0 a1 K ci cj cr else if a0 < a1 then some (a0, ci, cj, cr) else fJ8_checkIndex_9 n  a0 a1 K ci cj cr
theorem metJ8_checkIndex {g : jG} {d : Nat} {a2 : Option Nat} {c sl : Nat} {Qr : jQ} {Qx : jX} (n : Nat) (a0 : Int32) (a1 : Int32) (K : jK) (ci : jI) (cj : jJ) (cr : jR) {q} (hC : jCW K cr) (h : fJ8_checkIndex n a0 a1 K ci cj cr = some q) (hq : jqp wI K q Qr) : EvM g (d + 1) mJ8_checkIndex [.int a0, .int a1, va_rf a2] K ci cj cr c sl Qr Qx := by
  unfold fJ8_checkIndex at h
  have e9 : jentP mJ8_checkIndex.2.2.1 [.int a0, .int a1, va_rf a2] = [.int a0, .int a1, va_rf a2] := by cases a2 <;>  rfl
  show Ev g (d + 1) mJ8_checkIndex 0 (jentP mJ8_checkIndex.2.2.1 [.int a0, .int a1, va_rf a2]) [] K ci cj cr c sl Qr Qx
  rw [e9]
  refine ev_iload_n dJ8_checkIndex_0 rfl ?_
  refine ev_if_lt 9 dJ8_checkIndex_1 rfl (fun z1 => ?_) (fun z1 => ?_)
  · rw [if_pos z1] at h
    exact wJ8_checkIndex_9 n   _ _ _ _ _ _ hC h hq
  · rw [if_neg z1] at h
    refine ev_iload_n dJ8_checkIndex_4 rfl ?_
    refine ev_iload_n dJ8_checkIndex_5 rfl ?_
    refine ev_icmp_lt 16 dJ8_checkIndex_6 rfl (fun z2 => ?_) (fun z2 => ?_)
    · rw [if_pos z2] at h
      refine ev_iload_n dJ8_checkIndex_16 rfl ?_
      cases h
      exact ev_iret dJ8_checkIndex_17 rfl rfl (hq hC)
    · rw [if_neg z2] at h
      exact wJ8_checkIndex_9 n   _ _ _ _ _ _ hC h hq
def fJ11_checkIndex (n : Nat) (a0 : Int32) (a1 : Int32) (K : jK) (ci : jI) (cj : jJ) (cr : jR) : Option (jTp Int32) := jpb (fJ8_checkIndex n a0 a1 K ci cj cr) (fun r1 ci2 cj3 cr4 => some (r1, ci2, cj3, cr4))
theorem metJ11_checkIndex {g : jG} {d : Nat} {c sl : Nat} {Qr : jQ} {Qx : jX} (n : Nat) (a0 : Int32) (a1 : Int32) (K : jK) (ci : jI) (cj : jJ) (cr : jR) {q} (hC : jCW K cr) (h : fJ11_checkIndex n a0 a1 K ci cj cr = some q) (hq : jqp wI K q Qr) : EvM g (d + 2) mJ11_checkIndex [.int a0, .int a1] K ci cj cr c sl Qr Qx := by
  unfold fJ11_checkIndex at h
  show Ev g (d + 2) mJ11_checkIndex 0 [.int a0, .int a1] [] K ci cj cr c sl Qr Qx
  refine ev_iload_n dJ11_checkIndex_0 rfl ?_
  refine ev_iload_n dJ11_checkIndex_1 rfl ?_
  refine ev_null dJ11_checkIndex_2 ?_
  obtain ⟨r1, ci2, cj3, cr4, z5, h⟩ := jpb_inv h
  refine ev_zS3 dJ11_checkIndex_3 sJ11_105 (Nat.le_of_ble_eq_true rfl) (Nat.le_of_ble_eq_true rfl) rfl (metJ8_checkIndex (a2 := none) n _ _ _ _ _ _ hC z5 (fun hC6 => ?_))
  show Ev g _ _ 6 _ [.int r1] K ci2 cj3 cr4 _ _ Qr Qx
  cases h
  exact ev_iret dJ11_checkIndex_6 rfl rfl (hq hC6)
def fJ12_min_10 (n : Nat) (t0 : Int32) (K : jK) (ci : jI) (cj : jJ) (cr : jR) : Option (jTp Int32) := some (t0, ci, cj, cr)
theorem wJ12_min_10 {g : jG} {d : Nat} {c sl : Nat} {Qr : jQ} {Qx : jX} (n : Nat) (t0 : Int32) (K : jK) (ci : jI) (cj : jJ) (cr : jR) {q} (hC : jCW K cr) (h : fJ12_min_10 n  t0 K ci cj cr = some q) (hq : jqp wI K q Qr) : Ev g (d + 1) mJ12_min 10 [jU, jU] [.int t0] K ci cj cr c sl Qr Qx := by
  unfold fJ12_min_10 at h
  cases h
  exact ev_iret dJ12_min_10 rfl rfl (hq hC)
def fJ12_min (n : Nat) (a0 : Int32) (a1 : Int32) (K : jK) (ci : jI) (cj : jJ) (cr : jR) : Option (jTp Int32) := if a1 < a0 then fJ12_min_10 n  a1 K ci cj cr else fJ12_min_10 n  a0 K ci cj cr
theorem metJ12_min {g : jG} {d : Nat} {c sl : Nat} {Qr : jQ} {Qx : jX} (n : Nat) (a0 : Int32) (a1 : Int32) (K : jK) (ci : jI) (cj : jJ) (cr : jR) {q} (hC : jCW K cr) (h : fJ12_min n a0 a1 K ci cj cr = some q) (hq : jqp wI K q Qr) : EvM g (d + 1) mJ12_min [.int a0, .int a1] K ci cj cr c sl Qr Qx := by
  unfold fJ12_min at h
  show Ev g (d + 1) mJ12_min 0 [.int a0, .int a1] [] K ci cj cr c sl Qr Qx
  refine ev_iload_n dJ12_min_0 rfl ?_
  refine ev_iload_n dJ12_min_1 rfl ?_
  refine ev_icmp_gt 9 dJ12_min_2 rfl (fun z1 => ?_) (fun z1 => ?_)
  · rw [if_pos z1] at h
    refine ev_iload_n dJ12_min_9 rfl ?_
    exact ev_mask [false, false] (wJ12_min_10 n   _ _ _ _ _ hC h hq)
  · rw [if_neg z1] at h
    refine ev_iload_n dJ12_min_5 rfl ?_
    refine ev_goto 10 dJ12_min_6 rfl ?_
    exact ev_mask [false, false] (wJ12_min_10 n   _ _ _ _ _ hC h hq)
def fJ12_min_2_11 (n : Nat) (t0 : Int64) (K : jK) (ci : jI) (cj : jJ) (cr : jR) : Option (jTp Int64) := some (t0, ci, cj, cr)
theorem wJ12_min_2_11 {g : jG} {d : Nat} {c sl : Nat} {Qr : jQ} {Qx : jX} (n : Nat) (t0 : Int64) (K : jK) (ci : jI) (cj : jJ) (cr : jR) {q} (hC : jCW K cr) (h : fJ12_min_2_11 n  t0 K ci cj cr = some q) (hq : jqp wJ K q Qr) : Ev g (d + 1) mJ12_min_2 11 [jU, jU, jU, jU] [.long t0] K ci cj cr c sl Qr Qx := by
  unfold fJ12_min_2_11 at h
  cases h
  exact ev_lret dJ12_min_2_11 rfl (hq hC)
def fJ12_min_2 (n : Nat) (a0 : Int64) (a1 : Int64) (K : jK) (ci : jI) (cj : jJ) (cr : jR) : Option (jTp Int64) := if a1 < a0 then fJ12_min_2_11 n  a1 K ci cj cr else fJ12_min_2_11 n  a0 K ci cj cr
theorem metJ12_min_2 {g : jG} {d : Nat} {c sl : Nat} {Qr : jQ} {Qx : jX} (n : Nat) (a0 : Int64) (a1 : Int64) (K : jK) (ci : jI) (cj : jJ) (cr : jR) {q} (hC : jCW K cr) (h : fJ12_min_2 n a0 a1 K ci cj cr = some q) (hq : jqp wJ K q Qr) : EvM g (d + 1) mJ12_min_2 [.long a0, .long a1] K ci cj cr c sl Qr Qx := by
  unfold fJ12_min_2 at h
  show Ev g (d + 1) mJ12_min_2 0 [.long a0, jU, .long a1, jU] [] K ci cj cr c sl Qr Qx
  refine ev_lload_n dJ12_min_2_0 rfl ?_
  refine ev_lload_n dJ12_min_2_1 rfl ?_
  refine ev_lcif_gt 10 dJ12_min_2_2 dJ12_min_2_3 rfl (fun z1 => ?_) (fun z1 => ?_)
  · rw [if_pos z1] at h
    refine ev_lload_n dJ12_min_2_10 rfl ?_
    exact ev_mask [false, false, false, false] (wJ12_min_2_11 n   _ _ _ _ _ hC h hq)
  · rw [if_neg z1] at h
    refine ev_lload_n dJ12_min_2_6 rfl ?_
    refine ev_goto 11 dJ12_min_2_7 rfl ?_
    exact ev_mask [false, false, false, false] (wJ12_min_2_11 n   _ _ _ _ _ hC h hq)
def fJ12_max_2_11 (n : Nat) (t0 : Int64) (K : jK) (ci : jI) (cj : jJ) (cr : jR) : Option (jTp Int64) := some (t0, ci, cj, cr)
theorem wJ12_max_2_11 {g : jG} {d : Nat} {c sl : Nat} {Qr : jQ} {Qx : jX} (n : Nat) (t0 : Int64) (K : jK) (ci : jI) (cj : jJ) (cr : jR) {q} (hC : jCW K cr) (h : fJ12_max_2_11 n  t0 K ci cj cr = some q) (hq : jqp wJ K q Qr) : Ev g (d + 1) mJ12_max_2 11 [jU, jU, jU, jU] [.long t0] K ci cj cr c sl Qr Qx := by
  unfold fJ12_max_2_11 at h
  cases h
  exact ev_lret dJ12_max_2_11 rfl (hq hC)
def fJ12_max_2 (n : Nat) (a0 : Int64) (a1 : Int64) (K : jK) (ci : jI) (cj : jJ) (cr : jR) : Option (jTp Int64) := if a0 < a1 then fJ12_max_2_11 n  a1 K ci cj cr else fJ12_max_2_11 n  a0 K ci cj cr
theorem metJ12_max_2 {g : jG} {d : Nat} {c sl : Nat} {Qr : jQ} {Qx : jX} (n : Nat) (a0 : Int64) (a1 : Int64) (K : jK) (ci : jI) (cj : jJ) (cr : jR) {q} (hC : jCW K cr) (h : fJ12_max_2 n a0 a1 K ci cj cr = some q) (hq : jqp wJ K q Qr) : EvM g (d + 1) mJ12_max_2 [.long a0, .long a1] K ci cj cr c sl Qr Qx := by
  unfold fJ12_max_2 at h
  show Ev g (d + 1) mJ12_max_2 0 [.long a0, jU, .long a1, jU] [] K ci cj cr c sl Qr Qx
  refine ev_lload_n dJ12_max_2_0 rfl ?_
  refine ev_lload_n dJ12_max_2_1 rfl ?_
  refine ev_lcif_lt 10 dJ12_max_2_2 dJ12_max_2_3 rfl (fun z1 => ?_) (fun z1 => ?_)
  · rw [if_pos z1] at h
    refine ev_lload_n dJ12_max_2_10 rfl ?_
    exact ev_mask [false, false, false, false] (wJ12_max_2_11 n   _ _ _ _ _ hC h hq)
  · rw [if_neg z1] at h
    refine ev_lload_n dJ12_max_2_6 rfl ?_
    refine ev_goto 11 dJ12_max_2_7 rfl ?_
    exact ev_mask [false, false, false, false] (wJ12_max_2_11 n   _ _ _ _ _ hC h hq)
def fJ12_floorDiv_27 (n : Nat) (l4 : Int64) (K : jK) (ci : jI) (cj : jJ) (cr : jR) : Option (jTp Int64) := some (l4, ci, cj, cr)
theorem wJ12_floorDiv_27 {g : jG} {d : Nat} {c sl : Nat} {Qr : jQ} {Qx : jX} (n : Nat) (l4 : Int64) (K : jK) (ci : jI) (cj : jJ) (cr : jR) {q} (hC : jCW K cr) (h : fJ12_floorDiv_27 n  l4 K ci cj cr = some q) (hq : jqp wJ K q Qr) : Ev g (d + 1) mJ12_floorDiv 27 [jU, jU, jU, jU, .long l4, jU] [] K ci cj cr c sl Qr Qx := by
  unfold fJ12_floorDiv_27 at h
  refine ev_lload dJ12_floorDiv_27 rfl ?_
  cases h
  exact ev_lret dJ12_floorDiv_29 rfl (hq hC)
def fJ12_floorDiv (n : Nat) (a0 : Int64) (a1 : Int64) (K : jK) (ci : jI) (cj : jJ) (cr : jR) : Option (jTp Int64) := if ¬ a1 = 0 then if (lN 0) ≤ (a0 ^^^ a1) then fJ12_floorDiv_27 n  (a0 / a1) K ci cj cr else if ((a0 / a1) * a1) = a0 then fJ12_floorDiv_27 n  (a0 / a1) K ci cj cr else some (((a0 / a1) - (lN 1)), ci, cj, cr) else none
theorem metJ12_floorDiv {g : jG} {d : Nat} {c sl : Nat} {Qr : jQ} {Qx : jX} (n : Nat) (a0 : Int64) (a1 : Int64) (K : jK) (ci : jI) (cj : jJ) (cr : jR) {q} (hC : jCW K cr) (h : fJ12_floorDiv n a0 a1 K ci cj cr = some q) (hq : jqp wJ K q Qr) : EvM g (d + 1) mJ12_floorDiv [.long a0, .long a1] K ci cj cr c sl Qr Qx := by
  unfold fJ12_floorDiv at h
  show Ev g (d + 1) mJ12_floorDiv 0 [.long a0, jU, .long a1, jU, jU, jU] [] K ci cj cr c sl Qr Qx
  refine ev_lload_n dJ12_floorDiv_0 rfl ?_
  refine ev_lload_n dJ12_floorDiv_1 rfl ?_
  by_cases z1 : ¬ a1 = 0
  rotate_left
  · rw [if_neg z1] at h; cases h
  rw [if_pos z1] at h
  refine ev_ldiv dJ12_floorDiv_2 z1 ?_
  refine ev_lstore (L' := [_, _, _, _, _, _]) dJ12_floorDiv_3 (by decide) rfl ?_
  refine ev_lload_n dJ12_floorDiv_5 rfl ?_
  refine ev_lload_n dJ12_floorDiv_6 rfl ?_
  refine ev_lxor dJ12_floorDiv_7 ?_
  refine ev_lconst (v := lN 0) dJ12_floorDiv_8 rfl ?_
  refine ev_lcif_ge 27 dJ12_floorDiv_9 dJ12_floorDiv_10 rfl (fun z2 => ?_) (fun z2 => ?_)
  · rw [if_pos z2] at h
    exact ev_mask [false, false, false, false, true, false] (wJ12_floorDiv_27 n   _ _ _ _ _ hC h hq)
  · rw [if_neg z2] at h
    refine ev_lload dJ12_floorDiv_13 rfl ?_
    refine ev_lload_n dJ12_floorDiv_15 rfl ?_
    refine ev_lmul dJ12_floorDiv_16 ?_
    refine ev_lload_n dJ12_floorDiv_17 rfl ?_
    refine ev_lcif_eq 27 dJ12_floorDiv_18 dJ12_floorDiv_19 rfl (fun z3 => ?_) (fun z3 => ?_)
    · rw [if_pos z3] at h
      exact ev_mask [false, false, false, false, true, false] (wJ12_floorDiv_27 n   _ _ _ _ _ hC h hq)
    · rw [if_neg z3] at h
      refine ev_lload dJ12_floorDiv_22 rfl ?_
      refine ev_lconst (v := lN 1) dJ12_floorDiv_24 rfl ?_
      refine ev_lsub dJ12_floorDiv_25 ?_
      cases h
      exact ev_lret dJ12_floorDiv_26 rfl (hq hC)
def fJ12_abs_10 (n : Nat) (t0 : Int32) (K : jK) (ci : jI) (cj : jJ) (cr : jR) : Option (jTp Int32) := some (t0, ci, cj, cr)
theorem wJ12_abs_10 {g : jG} {d : Nat} {c sl : Nat} {Qr : jQ} {Qx : jX} (n : Nat) (t0 : Int32) (K : jK) (ci : jI) (cj : jJ) (cr : jR) {q} (hC : jCW K cr) (h : fJ12_abs_10 n  t0 K ci cj cr = some q) (hq : jqp wI K q Qr) : Ev g (d + 1) mJ12_abs 10 [jU] [.int t0] K ci cj cr c sl Qr Qx := by
  unfold fJ12_abs_10 at h
  cases h
  exact ev_iret dJ12_abs_10 rfl rfl (hq hC)
def fJ12_abs (n : Nat) (a0 : Int32) (K : jK) (ci : jI) (cj : jJ) (cr : jR) : Option (jTp Int32) := if 0 ≤ a0 then fJ12_abs_10 n  a0 K ci cj cr else fJ12_abs_10 n  (-a0) K ci cj cr
theorem metJ12_abs {g : jG} {d : Nat} {c sl : Nat} {Qr : jQ} {Qx : jX} (n : Nat) (a0 : Int32) (K : jK) (ci : jI) (cj : jJ) (cr : jR) {q} (hC : jCW K cr) (h : fJ12_abs n a0 K ci cj cr = some q) (hq : jqp wI K q Qr) : EvM g (d + 1) mJ12_abs [.int a0] K ci cj cr c sl Qr Qx := by
  unfold fJ12_abs at h
  show Ev g (d + 1) mJ12_abs 0 [.int a0] [] K ci cj cr c sl Qr Qx
  refine ev_iload_n dJ12_abs_0 rfl ?_
  refine ev_if_ge 9 dJ12_abs_1 rfl (fun z1 => ?_) (fun z1 => ?_)
  · rw [if_pos z1] at h
    refine ev_iload_n dJ12_abs_9 rfl ?_
    exact ev_mask [false] (wJ12_abs_10 n   _ _ _ _ _ hC h hq)
  · rw [if_neg z1] at h
    refine ev_iload_n dJ12_abs_4 rfl ?_
    refine ev_ineg dJ12_abs_5 ?_
    refine ev_goto 10 dJ12_abs_6 rfl ?_
    exact ev_mask [false] (wJ12_abs_10 n   _ _ _ _ _ hC h hq)
def fJ13_copyOf_2_24 (n : Nat) (l0 : Nat) (l1 : Int32) (t0 : Nat) (K : jK) (ci : jI) (cj : jJ) (cr : jR) : Option (jT Nat) := if K.1 l0 = 104 ∧ (l0 < K.2.2 ∨ 1000000 ≤ l0) then jpb (fJ12_min n (nI (K.2.1 l0)) l1 K ci cj cr) (fun r2 ci3 cj4 cr5 => if K.1 t0 = 104 ∧ t0 < K.2.2 then if K.1 l0 = 104 ∧ l0 < K.2.2 then if ¬ (nI 0) < 0 ∧ ¬ (nI 0) < 0 ∧ ¬ r2 < 0 ∧ ((nI 0)).toNatClampNeg + (r2).toNatClampNeg ≤ K.2.1 l0 ∧ ((nI 0)).toNatClampNeg + (r2).toNatClampNeg ≤ K.2.1 t0 ∧ jobs K (cr5 l0) ((nI 0)).toNatClampNeg (r2).toNatClampNeg = true then some (some t0, K, ci3, cj4, (jcpy cr5 l0 t0 ((nI 0)).toNatClampNeg ((nI 0)).toNatClampNeg (r2).toNatClampNeg), 0, 0) else none else none else none) else none
theorem wJ13_copyOf_2_24 {g : jG} {d : Nat} {Qr : jQ} {Qx : jX} (n : Nat) (l0 : Nat) (l1 : Int32) (t0 : Nat) (K : jK) (ci : jI) (cj : jJ) (cr : jR) {q} (hC : jCW K cr) (h : fJ13_copyOf_2_24 n  l0 l1 t0 K ci cj cr = some q) (hq : jqx wR q Qr Qx) : Ev g (d + 2) mJ13_copyOf_2 24 [.ref l0, .int l1, jU, jU] [.ref t0] K ci cj cr q.2.2.2.2.2.1 q.2.2.2.2.2.2 Qr Qx := by
  unfold fJ13_copyOf_2_24 at h
  refine ev_astore_n (L' := [_, _, _, _]) dJ13_copyOf_2_24 (by decide) rfl ?_
  refine ev_aload_n dJ13_copyOf_2_25 rfl ?_
  refine ev_iconst (v := (nI 0)) dJ13_copyOf_2_26 jc0 ?_
  refine ev_aload_n dJ13_copyOf_2_27 rfl ?_
  refine ev_iconst (v := (nI 0)) dJ13_copyOf_2_28 jc0 ?_
  refine ev_aload_n dJ13_copyOf_2_29 rfl ?_
  by_cases z1 : K.1 l0 = 104 ∧ (l0 < K.2.2 ∨ 1000000 ≤ l0)
  rotate_left
  · rw [if_neg z1] at h; cases h
  rw [if_pos z1] at h
  refine ev_alen dJ13_copyOf_2_30 (t := 4) z1.1 (by decide) z1.2 ?_
  refine ev_iload_n dJ13_copyOf_2_31 rfl ?_
  obtain ⟨r2, ci3, cj4, cr5, z6, h⟩ := jpb_inv h
  refine ev_zS2 dJ13_copyOf_2_32 sJ13_304 (Nat.le_of_ble_eq_true rfl) (Nat.le_of_ble_eq_true rfl) rfl (metJ12_min n _ _ _ _ _ _ hC z6 (fun hC7 => ?_))
  show Ev g _ _ 35 _ [.int r2, .int (nI 0), .ref t0, .int (nI 0), .ref l0] K ci3 cj4 cr5 _ _ Qr Qx
  by_cases z8 : K.1 t0 = 104 ∧ t0 < K.2.2
  rotate_left
  · rw [if_neg z8] at h; cases h
  rw [if_pos z8] at h
  by_cases z9 : K.1 l0 = 104 ∧ l0 < K.2.2
  rotate_left
  · rw [if_neg z9] at h; cases h
  rw [if_pos z9] at h
  by_cases z10 : ¬ (nI 0) < 0 ∧ ¬ (nI 0) < 0 ∧ ¬ r2 < 0 ∧ ((nI 0)).toNatClampNeg + (r2).toNatClampNeg ≤ K.2.1 l0 ∧ ((nI 0)).toNatClampNeg + (r2).toNatClampNeg ≤ K.2.1 t0 ∧ jobs K (cr5 l0) ((nI 0)).toNatClampNeg (r2).toNatClampNeg = true
  rotate_left
  · rw [if_neg z10] at h; cases h
  rw [if_pos z10] at h
  refine ev_copyR dJ13_copyOf_2_35 q918 (Nat.le_of_ble_eq_true rfl) z9.1 z8.1 z9.2 z8.2 z10.1 z10.2.1 z10.2.2.1 z10.2.2.2.1 z10.2.2.2.2.1 z10.2.2.2.2.2 ?_
  have hC11 := jCW.cpy hC7 (a0 := l0) (sp := ((nI 0)).toNatClampNeg) (dp := ((nI 0)).toNatClampNeg) (n := (r2).toNatClampNeg) z8.1 (by decide)
  refine ev_aload_n dJ13_copyOf_2_38 rfl ?_
  cases h
  exact ev_aret dJ13_copyOf_2_39 rfl rfl (hq hC11)
def fJ13_copyOf_2 (n : Nat) (a0 : Nat) (a1 : Int32) (a2 : Nat) (K : jK) (ci : jI) (cj : jJ) (cr : jR) : Option (jT Nat) := if a2 = 1000010 then if K.2.2 < 1000000 then if ¬ a1 < 0 ∧ (a1).toNatClampNeg ≤ 65536 then jal (a1).toNatClampNeg (fJ13_copyOf_2_24 n  a0 a1 K.2.2 (jnK K 104 (a1).toNatClampNeg) ci cj cr) else none else none else none
theorem metJ13_copyOf_2 {g : jG} {d : Nat} {Qr : jQ} {Qx : jX} (n : Nat) (a0 : Nat) (a1 : Int32) (a2 : Nat) (K : jK) (ci : jI) (cj : jJ) (cr : jR) {q} (hC : jCW K cr) (h : fJ13_copyOf_2 n a0 a1 a2 K ci cj cr = some q) (hq : jqx wR q Qr Qx) : EvM g (d + 2) mJ13_copyOf_2 [.ref a0, .int a1, .ref a2] K ci cj cr q.2.2.2.2.2.1 q.2.2.2.2.2.2 Qr Qx := by
  unfold fJ13_copyOf_2 at h
  show Ev g (d + 2) mJ13_copyOf_2 0 [.ref a0, .int a1, .ref a2, jU] [] K ci cj cr q.2.2.2.2.2.1 q.2.2.2.2.2.2 Qr Qx
  refine ev_aload_n dJ13_copyOf_2_0 rfl ?_
  refine ev_ldcM dJ13_copyOf_2_1 q913 ?_
  by_cases z1 : a2 = 1000010
  rotate_left
  · rw [if_neg z1] at h; cases h
  rw [if_pos z1] at h
  subst z1
  refine ev_acmp_neS dJ13_copyOf_2_3 ⟨_, (rfl : _ = ((13 : Nat) : Int))⟩ ?_
  refine ev_iload_n dJ13_copyOf_2_6 rfl ?_
  by_cases z2 : K.2.2 < 1000000
  rotate_left
  · rw [if_neg z2] at h; cases h
  rw [if_pos z2] at h
  by_cases z3 : ¬ a1 < 0 ∧ (a1).toNatClampNeg ≤ 65536
  rotate_left
  · rw [if_neg z3] at h; cases h
  rw [if_pos z3] at h
  refine jx_new (fun c sl z => ev_anewO dJ13_copyOf_2_7 q914 z3.1 rfl z3.2 z2 z) h hq (fun w4 h hq => ?_)
  have hC5 := jCW.new hC 104 (a1).toNatClampNeg
  show Ev g _ _ 10 _ [.ref K.2.2] (jnK K 104 (a1).toNatClampNeg) ci cj cr _ _ Qr Qx
  refine ev_goto 24 dJ13_copyOf_2_10 rfl ?_
  exact ev_mask [true, true, false, false] (wJ13_copyOf_2_24 n   _ _ _ _ _ _ _ hC5 h hq)
def fJ13_copyOf (n : Nat) (a0 : Nat) (a1 : Int32) (K : jK) (ci : jI) (cj : jJ) (cr : jR) : Option (jT Nat) := if K.1 a0 = 104 ∧ a0 < K.2.2 then jxb (fJ13_copyOf_2 n a0 a1 1000010 K ci cj cr) (fun r2 K3 ci4 cj5 cr6 => some (some r2, K3, ci4, cj5, cr6, 0, 0)) else none
theorem metJ13_copyOf {g : jG} {d : Nat} {Qr : jQ} {Qx : jX} (n : Nat) (a0 : Nat) (a1 : Int32) (K : jK) (ci : jI) (cj : jJ) (cr : jR) {q} (hC : jCW K cr) (h : fJ13_copyOf n a0 a1 K ci cj cr = some q) (hq : jqx wR q Qr Qx) : EvM g (d + 3) mJ13_copyOf [.ref a0, .int a1] K ci cj cr q.2.2.2.2.2.1 q.2.2.2.2.2.2 Qr Qx := by
  unfold fJ13_copyOf at h
  show Ev g (d + 3) mJ13_copyOf 0 [.ref a0, .int a1] [] K ci cj cr q.2.2.2.2.2.1 q.2.2.2.2.2.2 Qr Qx
  refine ev_aload_n dJ13_copyOf_0 rfl ?_
  refine ev_iload_n dJ13_copyOf_1 rfl ?_
  refine ev_aload_n dJ13_copyOf_2 rfl ?_
  by_cases z1 : K.1 a0 = 104 ∧ a0 < K.2.2
  rotate_left
  · rw [if_neg z1] at h; cases h
  rw [if_pos z1] at h
  refine ev_getC dJ13_copyOf_3 q882 (Nat.le_of_ble_eq_true rfl) z1.1 z1.2 ?_
  refine jx_inv (wf := wR) (fun c1 s1 c sl z => ev_invS3 dJ13_copyOf_6 sJ13_300 (Nat.le_of_ble_eq_true rfl) (Nat.le_of_ble_eq_true rfl) rfl z) h hq (fun q Qr' z zq => metJ13_copyOf_2 n _ _ _ _ _ _ _ hC z zq) (fun r2 K3 ci4 cj5 cr6 w7 h hC8 hq => ?_)
  show Ev g _ _ 9 _ [.ref r2] K3 ci4 cj5 cr6 _ _ Qr Qx
  cases h
  exact ev_aret dJ13_copyOf_9 rfl rfl (hq hC8)
def fJ13_copyOf_3 (n : Nat) (a0 : Nat) (a1 : Int32) (K : jK) (ci : jI) (cj : jJ) (cr : jR) : Option (jT Nat) := if K.1 a0 = 101 ∧ (a0 < K.2.2 ∨ 1000000 ≤ a0) then if a1 = (nI (K.2.1 a0)) then none else if K.2.2 < 1000000 then if ¬ a1 < 0 ∧ (a1).toNatClampNeg ≤ 65536 then jal (a1).toNatClampNeg (if (jnK K 101 (a1).toNatClampNeg).1 a0 = 101 ∧ (a0 < (jnK K 101 (a1).toNatClampNeg).2.2 ∨ 1000000 ≤ a0) then jpb (fJ12_min n (nI ((jnK K 101 (a1).toNatClampNeg).2.1 a0)) a1 (jnK K 101 (a1).toNatClampNeg) ci cj cr) (fun r8 ci9 cj10 cr11 => if (jnK K 101 (a1).toNatClampNeg).1 a0 = 101 ∧ a0 < (jnK K 101 (a1).toNatClampNeg).2.2 then if ¬ (nI 0) < 0 ∧ ¬ (nI 0) < 0 ∧ ¬ r8 < 0 ∧ ((nI 0)).toNatClampNeg + (r8).toNatClampNeg ≤ (jnK K 101 (a1).toNatClampNeg).2.1 a0 ∧ ((nI 0)).toNatClampNeg + (r8).toNatClampNeg ≤ (jnK K 101 (a1).toNatClampNeg).2.1 K.2.2 ∧ jbyt (ci9 a0) ((nI 0)).toNatClampNeg (r8).toNatClampNeg = true then some (some K.2.2, (jnK K 101 (a1).toNatClampNeg), (jcpy ci9 a0 K.2.2 ((nI 0)).toNatClampNeg ((nI 0)).toNatClampNeg (r8).toNatClampNeg), cj10, cr11, 0, 0) else none else none) else none) else none else none else none
theorem metJ13_copyOf_3 {g : jG} {d : Nat} {Qr : jQ} {Qx : jX} (n : Nat) (a0 : Nat) (a1 : Int32) (K : jK) (ci : jI) (cj : jJ) (cr : jR) {q} (hC : jCW K cr) (h : fJ13_copyOf_3 n a0 a1 K ci cj cr = some q) (hq : jqx wR q Qr Qx) : EvM g (d + 2) mJ13_copyOf_3 [.ref a0, .int a1] K ci cj cr q.2.2.2.2.2.1 q.2.2.2.2.2.2 Qr Qx := by
  unfold fJ13_copyOf_3 at h
  show Ev g (d + 2) mJ13_copyOf_3 0 [.ref a0, .int a1, jU] [] K ci cj cr q.2.2.2.2.2.1 q.2.2.2.2.2.2 Qr Qx
  refine ev_iload_n dJ13_copyOf_3_0 rfl ?_
  refine ev_aload_n dJ13_copyOf_3_1 rfl ?_
  by_cases z1 : K.1 a0 = 101 ∧ (a0 < K.2.2 ∨ 1000000 ≤ a0)
  rotate_left
  · rw [if_neg z1] at h; cases h
  rw [if_pos z1] at h
  refine ev_alen dJ13_copyOf_3_2 (t := 1) z1.1 (by decide) z1.2 ?_
  refine ev_icmp_ne 14 dJ13_copyOf_3_3 rfl (fun z2 => ?_) (fun z2 => ?_)
  · rw [if_neg z2] at h
    refine ev_iload_n dJ13_copyOf_3_14 rfl ?_
    by_cases z3 : K.2.2 < 1000000
    rotate_left
    · rw [if_neg z3] at h; cases h
    rw [if_pos z3] at h
    by_cases z4 : ¬ a1 < 0 ∧ (a1).toNatClampNeg ≤ 65536
    rotate_left
    · rw [if_neg z4] at h; cases h
    rw [if_pos z4] at h
    refine jx_new (fun c sl z => ev_newa_byte dJ13_copyOf_3_15 z4.1 rfl z4.2 z3 z) h hq (fun w5 h hq => ?_)
    have hC6 := jCW.new hC 101 (a1).toNatClampNeg
    show Ev g _ _ 17 _ [.ref K.2.2] (jnK K 101 (a1).toNatClampNeg) ci cj cr _ _ Qr Qx
    refine ev_astore_n (L' := [_, _, _]) dJ13_copyOf_3_17 (by decide) rfl ?_
    refine ev_aload_n dJ13_copyOf_3_18 rfl ?_
    refine ev_iconst (v := (nI 0)) dJ13_copyOf_3_19 jc0 ?_
    refine ev_aload_n dJ13_copyOf_3_20 rfl ?_
    refine ev_iconst (v := (nI 0)) dJ13_copyOf_3_21 jc0 ?_
    refine ev_aload_n dJ13_copyOf_3_22 rfl ?_
    by_cases z7 : (jnK K 101 (a1).toNatClampNeg).1 a0 = 101 ∧ (a0 < (jnK K 101 (a1).toNatClampNeg).2.2 ∨ 1000000 ≤ a0)
    rotate_left
    · rw [if_neg z7] at h; cases h
    rw [if_pos z7] at h
    refine ev_alen dJ13_copyOf_3_23 (t := 1) z7.1 (by decide) z7.2 ?_
    refine ev_iload_n dJ13_copyOf_3_24 rfl ?_
    obtain ⟨r8, ci9, cj10, cr11, z12, h⟩ := jpb_inv h
    refine ev_zS2 dJ13_copyOf_3_25 sJ13_304 (Nat.le_of_ble_eq_true rfl) (Nat.le_of_ble_eq_true rfl) rfl (metJ12_min n _ _ _ _ _ _ hC6 z12 (fun hC13 => ?_))
    show Ev g _ _ 28 _ [.int r8, .int (nI 0), .ref K.2.2, .int (nI 0), .ref a0] (jnK K 101 (a1).toNatClampNeg) ci9 cj10 cr11 _ _ Qr Qx
    by_cases z14 : (jnK K 101 (a1).toNatClampNeg).1 a0 = 101 ∧ a0 < (jnK K 101 (a1).toNatClampNeg).2.2
    rotate_left
    · rw [if_neg z14] at h; cases h
    rw [if_pos z14] at h
    by_cases z15 : ¬ (nI 0) < 0 ∧ ¬ (nI 0) < 0 ∧ ¬ r8 < 0 ∧ ((nI 0)).toNatClampNeg + (r8).toNatClampNeg ≤ (jnK K 101 (a1).toNatClampNeg).2.1 a0 ∧ ((nI 0)).toNatClampNeg + (r8).toNatClampNeg ≤ (jnK K 101 (a1).toNatClampNeg).2.1 K.2.2 ∧ jbyt (ci9 a0) ((nI 0)).toNatClampNeg (r8).toNatClampNeg = true
    rotate_left
    · rw [if_neg z15] at h; cases h
    rw [if_pos z15] at h
    refine ev_copyB dJ13_copyOf_3_28 q918 (Nat.le_of_ble_eq_true rfl) z14.1 (jnK_k K 101 (a1).toNatClampNeg) z14.2 (jnK_l K 101 (a1).toNatClampNeg) z15.1 z15.2.1 z15.2.2.1 z15.2.2.2.1 z15.2.2.2.2.1 z15.2.2.2.2.2 ?_
    refine ev_aload_n dJ13_copyOf_3_31 rfl ?_
    cases h
    exact ev_aret dJ13_copyOf_3_32 rfl rfl (hq hC13)
  · rw [if_pos z2] at h
    refine ev_aload_n dJ13_copyOf_3_6 rfl ?_
    cases h
def fJ14_init_38 (n : Nat) (K : jK) (ci : jI) (cj : jJ) (cr : jR) : Option (jT Unit) := some (some (), K, ci, cj, cr, 0, 0)
theorem wJ14_init_38 {g : jG} {d : Nat} {Qr : jQ} {Qx : jX} (n : Nat) (K : jK) (ci : jI) (cj : jJ) (cr : jR) {q} (hC : jCW K cr) (h : fJ14_init_38 n   K ci cj cr = some q) (hq : jqx wV q Qr Qx) : Ev g (d + 1) mJ14_init 38 [jU, jU] [] K ci cj cr q.2.2.2.2.2.1 q.2.2.2.2.2.2 Qr Qx := by
  unfold fJ14_init_38 at h
  cases h
  exact ev_ret dJ14_init_38 rfl (hq hC)
def fJ14_init (n : Nat) (ah : Nat) (a0 : Int32) (K : jK) (ci : jI) (cj : jJ) (cr : jR) : Option (jT Unit) := if K.2.2 < 1000000 then if ¬ a0 < 0 ∧ (a0).toNatClampNeg ≤ 65536 then jal (a0).toNatClampNeg (if (jnK K 101 (a0).toNatClampNeg).1 ah = 22 ∧ ah < (jnK K 101 (a0).toNatClampNeg).2.2 then fJ14_init_38 n   (jnK K 101 (a0).toNatClampNeg) (ju ci ah 1 (nI 0)) cj (ju cr ah 0 (some K.2.2)) else none) else none else none
theorem metJ14_init {g : jG} {d : Nat} {Qr : jQ} {Qx : jX} (n : Nat) (ah : Nat) (a0 : Int32) (K : jK) (ci : jI) (cj : jJ) (cr : jR) {q} (hC : jCW K cr) (h : fJ14_init n ah a0 K ci cj cr = some q) (hq : jqx wV q Qr Qx) : EvM g (d + 1) mJ14_init [.ref ah, .int a0] K ci cj cr q.2.2.2.2.2.1 q.2.2.2.2.2.2 Qr Qx := by
  unfold fJ14_init at h
  show Ev g (d + 1) mJ14_init 0 [.ref ah, .int a0] [] K ci cj cr q.2.2.2.2.2.1 q.2.2.2.2.2.2 Qr Qx
  refine ev_aload_n dJ14_init_0 rfl ?_
  refine ev_objInit dJ14_init_1 q1003 (Nat.le_of_ble_eq_true rfl) ?_
  refine ev_gets ("java/lang/String", "COMPACT_STRINGS", "Z", .int 1) dJ14_init_4 q1004 (by decide +kernel) ?_
  refine ev_if_eq 25 dJ14_init_7 rfl (fun z => ?_) (fun z => ?_)
  · exact absurd z (by decide)
  refine ev_aload_n dJ14_init_10 rfl ?_
  refine ev_iload_n dJ14_init_11 rfl ?_
  by_cases z1 : K.2.2 < 1000000
  rotate_left
  · rw [if_neg z1] at h; cases h
  rw [if_pos z1] at h
  by_cases z2 : ¬ a0 < 0 ∧ (a0).toNatClampNeg ≤ 65536
  rotate_left
  · rw [if_neg z2] at h; cases h
  rw [if_pos z2] at h
  refine jx_new (fun c sl z => ev_newa_byte dJ14_init_12 z2.1 rfl z2.2 z1 z) h hq (fun w3 h hq => ?_)
  have hC4 := jCW.new hC 101 (a0).toNatClampNeg
  show Ev g _ _ 14 _ [.ref K.2.2, .ref ah] (jnK K 101 (a0).toNatClampNeg) ci cj cr _ _ Qr Qx
  by_cases z5 : (jnK K 101 (a0).toNatClampNeg).1 ah = 22 ∧ ah < (jnK K 101 (a0).toNatClampNeg).2.2
  rotate_left
  · rw [if_neg z5] at h; cases h
  rw [if_pos z5] at h
  refine ev_putR dJ14_init_14 (pJ14_15_22 _) z5.1 z5.2 rfl ?_
  have hC6 := jCW.upd hC4 (k := 0) (v := (some K.2.2)) z5.1 (by decide)
  refine ev_aload_n dJ14_init_17 rfl ?_
  refine ev_iconst (v := (nI 0)) dJ14_init_18 jc0 ?_
  refine ev_putI dJ14_init_19 (pJ14_22_22 _) z5.1 z5.2 rfl (by decide) (by decide) ?_
  refine ev_goto 38 dJ14_init_22 rfl ?_
  exact ev_mask [false, false] (wJ14_init_38 n    _ _ _ _ hC6 h hq)
def fJ14_newCapacity (n : Nat) (ah : Nat) (a0 : Int32) (K : jK) (ci : jI) (cj : jJ) (cr : jR) : Option (jTp Int32) := if K.1 ah = 22 ∧ ah < K.2.2 then Option.bind (cr ah 0) (fun r2 => if K.1 r2 = 101 ∧ (r2 < K.2.2 ∨ 1000000 ≤ r2) then jpb (fJ10_newLength n (nI (K.2.1 r2)) ((a0 <<< ((ci ah 1) &&& 31)) - (nI (K.2.1 r2))) ((nI (K.2.1 r2)) + ((nI 2) <<< ((ci ah 1) &&& 31))) K ci cj cr) (fun r5 ci6 cj7 cr8 => if r5 = (2147483647) then none else some ((r5 >>> ((ci6 ah 1) &&& 31)), ci6, cj7, cr8)) else none) else none
theorem metJ14_newCapacity {g : jG} {d : Nat} {c sl : Nat} {Qr : jQ} {Qx : jX} (n : Nat) (ah : Nat) (a0 : Int32) (K : jK) (ci : jI) (cj : jJ) (cr : jR) {q} (hC : jCW K cr) (h : fJ14_newCapacity n ah a0 K ci cj cr = some q) (hq : jqp wI K q Qr) : EvM g (d + 3) mJ14_newCapacity [.ref ah, .int a0] K ci cj cr c sl Qr Qx := by
  unfold fJ14_newCapacity at h
  show Ev g (d + 3) mJ14_newCapacity 0 [.ref ah, .int a0, jU, jU, jU, jU] [] K ci cj cr c sl Qr Qx
  refine ev_aload_n dJ14_newCapacity_0 rfl ?_
  by_cases z1 : K.1 ah = 22 ∧ ah < K.2.2
  rotate_left
  · rw [if_neg z1] at h; cases h
  rw [if_pos z1] at h
  obtain ⟨r2, z3, h⟩ := Option.bind_eq_some_iff.mp h
  refine ev_getR dJ14_newCapacity_1 fJ14_15_22 z1.1 (Or.inl z1.2) rfl z3 ?_
  by_cases z4 : K.1 r2 = 101 ∧ (r2 < K.2.2 ∨ 1000000 ≤ r2)
  rotate_left
  · rw [if_neg z4] at h; cases h
  rw [if_pos z4] at h
  refine ev_alen dJ14_newCapacity_4 (t := 1) z4.1 (by decide) z4.2 ?_
  refine ev_istore_n (L' := [_, _, _, _, _, _]) dJ14_newCapacity_5 (by decide) rfl ?_
  refine ev_iload_n dJ14_newCapacity_6 rfl ?_
  refine ev_aload_n dJ14_newCapacity_7 rfl ?_
  refine ev_getI dJ14_newCapacity_8 fJ14_22_22 z1.1 (Or.inl z1.2) rfl ?_
  refine ev_ishl dJ14_newCapacity_11 ?_
  refine ev_istore_n (L' := [_, _, _, _, _, _]) dJ14_newCapacity_12 (by decide) rfl ?_
  refine ev_iload_n dJ14_newCapacity_13 rfl ?_
  refine ev_iload_n dJ14_newCapacity_14 rfl ?_
  refine ev_isub dJ14_newCapacity_15 ?_
  refine ev_istore (L' := [_, _, _, _, _, _]) dJ14_newCapacity_16 (by decide) rfl ?_
  refine ev_iload_n dJ14_newCapacity_18 rfl ?_
  refine ev_iload dJ14_newCapacity_19 rfl ?_
  refine ev_iload_n dJ14_newCapacity_21 rfl ?_
  refine ev_iconst (v := (nI 2)) dJ14_newCapacity_22 jc2 ?_
  refine ev_aload_n dJ14_newCapacity_23 rfl ?_
  refine ev_getI dJ14_newCapacity_24 fJ14_22_22 z1.1 (Or.inl z1.2) rfl ?_
  refine ev_ishl dJ14_newCapacity_27 ?_
  refine ev_iadd dJ14_newCapacity_28 ?_
  obtain ⟨r5, ci6, cj7, cr8, z9, h⟩ := jpb_inv h
  refine ev_zS3 dJ14_newCapacity_29 sJ14_114 (Nat.le_of_ble_eq_true rfl) (Nat.le_of_ble_eq_true rfl) rfl (metJ10_newLength n _ _ _ _ _ _ _ hC z9 (fun hC10 => ?_))
  show Ev g _ _ 32 _ [.int r5] K ci6 cj7 cr8 _ _ Qr Qx
  refine ev_istore (L' := [_, _, _, _, _, _]) dJ14_newCapacity_32 (by decide) rfl ?_
  refine ev_iload dJ14_newCapacity_34 rfl ?_
  refine ev_ldc dJ14_newCapacity_36 q1130 ?_
  refine ev_icmp_ne 51 dJ14_newCapacity_38 rfl (fun z11 => ?_) (fun z11 => ?_)
  · rw [if_neg z11] at h
    refine ev_iload dJ14_newCapacity_51 rfl ?_
    refine ev_aload_n dJ14_newCapacity_53 rfl ?_
    refine ev_getI dJ14_newCapacity_54 fJ14_22_22 z1.1 (Or.inl z1.2) rfl ?_
    refine ev_ishr dJ14_newCapacity_57 ?_
    cases h
    exact ev_iret dJ14_newCapacity_58 rfl rfl (hq hC10)
  · rw [if_pos z11] at h
    cases h
def fJ14_ensureCapacityInternal_38 (n : Nat) (K : jK) (ci : jI) (cj : jJ) (cr : jR) : Option (jT Unit) := some (some (), K, ci, cj, cr, 0, 0)
theorem wJ14_ensureCapacityInternal_38 {g : jG} {d : Nat} {Qr : jQ} {Qx : jX} (n : Nat) (K : jK) (ci : jI) (cj : jJ) (cr : jR) {q} (hC : jCW K cr) (h : fJ14_ensureCapacityInternal_38 n   K ci cj cr = some q) (hq : jqx wV q Qr Qx) : Ev g (d + 4) mJ14_ensureCapacityInternal 38 [jU, jU, jU] [] K ci cj cr q.2.2.2.2.2.1 q.2.2.2.2.2.2 Qr Qx := by
  unfold fJ14_ensureCapacityInternal_38 at h
  cases h
  exact ev_ret dJ14_ensureCapacityInternal_38 rfl (hq hC)
def fJ14_ensureCapacityInternal (n : Nat) (ah : Nat) (a0 : Int32) (K : jK) (ci : jI) (cj : jJ) (cr : jR) : Option (jT Unit) := if K.1 ah = 22 ∧ ah < K.2.2 then Option.bind (cr ah 0) (fun r2 => if K.1 r2 = 101 ∧ (r2 < K.2.2 ∨ 1000000 ≤ r2) then if (a0 - ((nI (K.2.1 r2)) >>> ((ci ah 1) &&& 31))) ≤ 0 then fJ14_ensureCapacityInternal_38 n   K ci cj cr else Option.bind (cr ah 0) (fun r6 => jpb (fJ14_newCapacity n ah a0 K ci cj cr) (fun r8 ci9 cj10 cr11 => jxb (fJ13_copyOf_3 n r6 (r8 <<< ((ci9 ah 1) &&& 31)) K ci9 cj10 cr11) (fun r14 K15 ci16 cj17 cr18 => if K15.1 ah = 22 ∧ ah < K15.2.2 then fJ14_ensureCapacityInternal_38 n   K15 ci16 cj17 (ju cr18 ah 0 (some r14)) else none))) else none) else none
theorem metJ14_ensureCapacityInternal {g : jG} {d : Nat} {Qr : jQ} {Qx : jX} (n : Nat) (ah : Nat) (a0 : Int32) (K : jK) (ci : jI) (cj : jJ) (cr : jR) {q} (hC : jCW K cr) (h : fJ14_ensureCapacityInternal n ah a0 K ci cj cr = some q) (hq : jqx wV q Qr Qx) : EvM g (d + 4) mJ14_ensureCapacityInternal [.ref ah, .int a0] K ci cj cr q.2.2.2.2.2.1 q.2.2.2.2.2.2 Qr Qx := by
  unfold fJ14_ensureCapacityInternal at h
  show Ev g (d + 4) mJ14_ensureCapacityInternal 0 [.ref ah, .int a0, jU] [] K ci cj cr q.2.2.2.2.2.1 q.2.2.2.2.2.2 Qr Qx
  refine ev_aload_n dJ14_ensureCapacityInternal_0 rfl ?_
  by_cases z1 : K.1 ah = 22 ∧ ah < K.2.2
  rotate_left
  · rw [if_neg z1] at h; cases h
  rw [if_pos z1] at h
  obtain ⟨r2, z3, h⟩ := Option.bind_eq_some_iff.mp h
  refine ev_getR dJ14_ensureCapacityInternal_1 fJ14_15_22 z1.1 (Or.inl z1.2) rfl z3 ?_
  by_cases z4 : K.1 r2 = 101 ∧ (r2 < K.2.2 ∨ 1000000 ≤ r2)
  rotate_left
  · rw [if_neg z4] at h; cases h
  rw [if_pos z4] at h
  refine ev_alen dJ14_ensureCapacityInternal_4 (t := 1) z4.1 (by decide) z4.2 ?_
  refine ev_aload_n dJ14_ensureCapacityInternal_5 rfl ?_
  refine ev_getI dJ14_ensureCapacityInternal_6 fJ14_22_22 z1.1 (Or.inl z1.2) rfl ?_
  refine ev_ishr dJ14_ensureCapacityInternal_9 ?_
  refine ev_istore_n (L' := [_, _, _]) dJ14_ensureCapacityInternal_10 (by decide) rfl ?_
  refine ev_iload_n dJ14_ensureCapacityInternal_11 rfl ?_
  refine ev_iload_n dJ14_ensureCapacityInternal_12 rfl ?_
  refine ev_isub dJ14_ensureCapacityInternal_13 ?_
  refine ev_if_le 38 dJ14_ensureCapacityInternal_14 rfl (fun z5 => ?_) (fun z5 => ?_)
  · rw [if_pos z5] at h
    exact ev_mask [false, false, false] (wJ14_ensureCapacityInternal_38 n    _ _ _ _ hC h hq)
  · rw [if_neg z5] at h
    refine ev_aload_n dJ14_ensureCapacityInternal_17 rfl ?_
    refine ev_aload_n dJ14_ensureCapacityInternal_18 rfl ?_
    obtain ⟨r6, z7, h⟩ := Option.bind_eq_some_iff.mp h
    refine ev_getR dJ14_ensureCapacityInternal_19 fJ14_15_22 z1.1 (Or.inl z1.2) rfl z7 ?_
    refine ev_aload_n dJ14_ensureCapacityInternal_22 rfl ?_
    refine ev_iload_n dJ14_ensureCapacityInternal_23 rfl ?_
    obtain ⟨r8, ci9, cj10, cr11, z12, h⟩ := jpb_inv h
    refine ev_zV1 dJ14_ensureCapacityInternal_24 vJ14_104_22 z1.1 (Or.inl z1.2) (Nat.le_of_ble_eq_true rfl) (Nat.le_of_ble_eq_true rfl) rfl (metJ14_newCapacity n _ _ _ _ _ _ hC z12 (fun hC13 => ?_))
    show Ev g _ _ 27 _ [.int r8, .ref r6, .ref ah] K ci9 cj10 cr11 _ _ Qr Qx
    refine ev_aload_n dJ14_ensureCapacityInternal_27 rfl ?_
    refine ev_getI dJ14_ensureCapacityInternal_28 fJ14_22_22 z1.1 (Or.inl z1.2) rfl ?_
    refine ev_ishl dJ14_ensureCapacityInternal_31 ?_
    refine jx_inv (wf := wR) (fun c1 s1 c sl z => ev_invS2 dJ14_ensureCapacityInternal_32 sJ14_108 (Nat.le_of_ble_eq_true rfl) (Nat.le_of_ble_eq_true rfl) rfl z) h hq (fun q Qr' z zq => metJ13_copyOf_3 n _ _ _ _ _ _ hC13 z zq) (fun r14 K15 ci16 cj17 cr18 w19 h hC20 hq => ?_)
    show Ev g _ _ 35 _ [.ref r14, .ref ah] K15 ci16 cj17 cr18 _ _ Qr Qx
    by_cases z21 : K15.1 ah = 22 ∧ ah < K15.2.2
    rotate_left
    · rw [if_neg z21] at h; cases h
    rw [if_pos z21] at h
    refine ev_putR dJ14_ensureCapacityInternal_35 (pJ14_15_22 _) z21.1 z21.2 rfl ?_
    have hC22 := jCW.upd hC20 (k := 0) (v := (some r14)) z21.1 (by decide)
    exact ev_mask [false, false, false] (wJ14_ensureCapacityInternal_38 n    _ _ _ _ hC22 h hq)
def fJ14_isLatin1_18 (n : Nat) (t0 : Int32) (K : jK) (ci : jI) (cj : jJ) (cr : jR) : Option (jTp Int32) := if t0 = 0 ∨ t0 = 1 then some (t0, ci, cj, cr) else none
theorem wJ14_isLatin1_18 {g : jG} {d : Nat} {c sl : Nat} {Qr : jQ} {Qx : jX} (n : Nat) (t0 : Int32) (K : jK) (ci : jI) (cj : jJ) (cr : jR) {q} (hC : jCW K cr) (h : fJ14_isLatin1_18 n  t0 K ci cj cr = some q) (hq : jqp wI K q Qr) : Ev g (d + 1) mJ14_isLatin1 18 [jU] [.int t0] K ci cj cr c sl Qr Qx := by
  unfold fJ14_isLatin1_18 at h
  by_cases z1 : t0 = 0 ∨ t0 = 1
  rotate_left
  · rw [if_neg z1] at h; cases h
  rw [if_pos z1] at h
  cases h
  exact ev_iret dJ14_isLatin1_18 rfl (jbool z1) (hq hC)
def fJ14_isLatin1_17 (n : Nat) (K : jK) (ci : jI) (cj : jJ) (cr : jR) : Option (jTp Int32) := fJ14_isLatin1_18 n  (nI 0) K ci cj cr
theorem wJ14_isLatin1_17 {g : jG} {d : Nat} {c sl : Nat} {Qr : jQ} {Qx : jX} (n : Nat) (K : jK) (ci : jI) (cj : jJ) (cr : jR) {q} (hC : jCW K cr) (h : fJ14_isLatin1_17 n   K ci cj cr = some q) (hq : jqp wI K q Qr) : Ev g (d + 1) mJ14_isLatin1 17 [jU] [] K ci cj cr c sl Qr Qx := by
  unfold fJ14_isLatin1_17 at h
  refine ev_iconst (v := (nI 0)) dJ14_isLatin1_17 jc0 ?_
  exact wJ14_isLatin1_18 n   _ _ _ _ _ hC h hq
def fJ14_isLatin1 (n : Nat) (ah : Nat) (K : jK) (ci : jI) (cj : jJ) (cr : jR) : Option (jTp Int32) := if K.1 ah = 22 ∧ ah < K.2.2 then if (ci ah 1) = 0 then fJ14_isLatin1_18 n  (nI 1) K ci cj cr else fJ14_isLatin1_17 n   K ci cj cr else none
theorem metJ14_isLatin1 {g : jG} {d : Nat} {c sl : Nat} {Qr : jQ} {Qx : jX} (n : Nat) (ah : Nat) (K : jK) (ci : jI) (cj : jJ) (cr : jR) {q} (hC : jCW K cr) (h : fJ14_isLatin1 n ah K ci cj cr = some q) (hq : jqp wI K q Qr) : EvM g (d + 1) mJ14_isLatin1 [.ref ah] K ci cj cr c sl Qr Qx := by
  unfold fJ14_isLatin1 at h
  show Ev g (d + 1) mJ14_isLatin1 0 [.ref ah] [] K ci cj cr c sl Qr Qx
  refine ev_gets ("java/lang/String", "COMPACT_STRINGS", "Z", .int 1) dJ14_isLatin1_0 q1004 (by decide +kernel) ?_
  refine ev_if_eq 17 dJ14_isLatin1_3 rfl (fun z => ?_) (fun z => ?_)
  · exact absurd z (by decide)
  refine ev_aload_n dJ14_isLatin1_6 rfl ?_
  by_cases z1 : K.1 ah = 22 ∧ ah < K.2.2
  rotate_left
  · rw [if_neg z1] at h; cases h
  rw [if_pos z1] at h
  refine ev_getI dJ14_isLatin1_7 fJ14_22_22 z1.1 (Or.inl z1.2) rfl ?_
  refine ev_if_ne 17 dJ14_isLatin1_10 rfl (fun z2 => ?_) (fun z2 => ?_)
  · rw [if_neg z2] at h
    exact ev_mask [false] (wJ14_isLatin1_17 n    _ _ _ _ hC h hq)
  · rw [if_pos z2] at h
    refine ev_iconst (v := (nI 1)) dJ14_isLatin1_13 jc1 ?_
    refine ev_goto 18 dJ14_isLatin1_14 rfl ?_
    exact ev_mask [false] (wJ14_isLatin1_18 n   _ _ _ _ _ hC h hq)
def fJ9_canEncode_12 (n : Nat) (t0 : Int32) (K : jK) (ci : jI) (cj : jJ) (cr : jR) : Option (jTp Int32) := if t0 = 0 ∨ t0 = 1 then some (t0, ci, cj, cr) else none
theorem wJ9_canEncode_12 {g : jG} {d : Nat} {c sl : Nat} {Qr : jQ} {Qx : jX} (n : Nat) (t0 : Int32) (K : jK) (ci : jI) (cj : jJ) (cr : jR) {q} (hC : jCW K cr) (h : fJ9_canEncode_12 n  t0 K ci cj cr = some q) (hq : jqp wI K q Qr) : Ev g (d + 1) mJ9_canEncode 12 [jU] [.int t0] K ci cj cr c sl Qr Qx := by
  unfold fJ9_canEncode_12 at h
  by_cases z1 : t0 = 0 ∨ t0 = 1
  rotate_left
  · rw [if_neg z1] at h; cases h
  rw [if_pos z1] at h
  cases h
  exact ev_iret dJ9_canEncode_12 rfl (jbool z1) (hq hC)
def fJ9_canEncode (n : Nat) (a0 : Int32) (K : jK) (ci : jI) (cj : jJ) (cr : jR) : Option (jTp Int32) := if (nI 255) < a0 then fJ9_canEncode_12 n  (nI 0) K ci cj cr else fJ9_canEncode_12 n  (nI 1) K ci cj cr
theorem metJ9_canEncode {g : jG} {d : Nat} {c sl : Nat} {Qr : jQ} {Qx : jX} (n : Nat) (a0 : Int32) (K : jK) (ci : jI) (cj : jJ) (cr : jR) {q} (hC : jCW K cr) (h : fJ9_canEncode n a0 K ci cj cr = some q) (hq : jqp wI K q Qr) : EvM g (d + 1) mJ9_canEncode [.int a0] K ci cj cr c sl Qr Qx := by
  unfold fJ9_canEncode at h
  show Ev g (d + 1) mJ9_canEncode 0 [.int a0] [] K ci cj cr c sl Qr Qx
  refine ev_iload_n dJ9_canEncode_0 rfl ?_
  refine ev_sipush (v := (nI 255)) dJ9_canEncode_1 js255 ?_
  refine ev_icmp_gt 11 dJ9_canEncode_4 rfl (fun z1 => ?_) (fun z1 => ?_)
  · rw [if_pos z1] at h
    refine ev_iconst (v := (nI 0)) dJ9_canEncode_11 jc0 ?_
    exact ev_mask [false] (wJ9_canEncode_12 n   _ _ _ _ _ hC h hq)
  · rw [if_neg z1] at h
    refine ev_iconst (v := (nI 1)) dJ9_canEncode_7 jc1 ?_
    refine ev_goto 12 dJ9_canEncode_8 rfl ?_
    exact ev_mask [false] (wJ9_canEncode_12 n   _ _ _ _ _ hC h hq)
def fJ14_append_75 (n : Nat) (l0 : Nat) (K : jK) (ci : jI) (cj : jJ) (cr : jR) : Option (jT Nat) := some (some l0, K, ci, cj, cr, 0, 0)
theorem wJ14_append_75 {g : jG} {d : Nat} {Qr : jQ} {Qx : jX} (n : Nat) (l0 : Nat) (K : jK) (ci : jI) (cj : jJ) (cr : jR) {q} (hC : jCW K cr) (h : fJ14_append_75 n  l0 K ci cj cr = some q) (hq : jqx wR q Qr Qx) : Ev g (d + 5) mJ14_append 75 [.ref l0, jU] [] K ci cj cr q.2.2.2.2.2.1 q.2.2.2.2.2.2 Qr Qx := by
  unfold fJ14_append_75 at h
  refine ev_aload_n dJ14_append_75 rfl ?_
  cases h
  exact ev_aret dJ14_append_76 rfl rfl (hq hC)
def fJ14_append_56 (n : Nat) (l0 : Nat) (l1 : Int32) (K : jK) (ci : jI) (cj : jJ) (cr : jR) : Option (jT Nat) := if K.1 l0 = 22 ∧ l0 < K.2.2 then Option.bind (cr l0 0) (fun r2 => none) else none
theorem wJ14_append_56 {g : jG} {d : Nat} {Qr : jQ} {Qx : jX} (n : Nat) (l0 : Nat) (l1 : Int32) (K : jK) (ci : jI) (cj : jJ) (cr : jR) {q} (hC : jCW K cr) (h : fJ14_append_56 n  l0 l1 K ci cj cr = some q) (hq : jqx wR q Qr Qx) : Ev g (d + 5) mJ14_append 56 [.ref l0, .int l1] [] K ci cj cr q.2.2.2.2.2.1 q.2.2.2.2.2.2 Qr Qx := by
  unfold fJ14_append_56 at h
  refine ev_aload_n dJ14_append_56 rfl ?_
  by_cases z1 : K.1 l0 = 22 ∧ l0 < K.2.2
  rotate_left
  · rw [if_neg z1] at h; cases h
  rw [if_pos z1] at h
  obtain ⟨r2, z3, h⟩ := Option.bind_eq_some_iff.mp h
  refine ev_getR dJ14_append_57 fJ14_15_22 z1.1 (Or.inl z1.2) rfl z3 ?_
  refine ev_aload_n dJ14_append_60 rfl ?_
  refine ev_dup dJ14_append_61 rfl ?_
  refine ev_getI dJ14_append_62 fJ14_79_22 z1.1 (Or.inl z1.2) rfl ?_
  refine ev_dup_x1 dJ14_append_65 rfl rfl ?_
  refine ev_iconst (v := (nI 1)) dJ14_append_66 jc1 ?_
  refine ev_iadd dJ14_append_67 ?_
  refine ev_putI dJ14_append_68 (pJ14_79_22 _) z1.1 z1.2 rfl rfl rfl ?_
  refine ev_iload_n dJ14_append_71 rfl ?_
  cases h
def fJ14_append_45 (n : Nat) (l0 : Nat) (l1 : Int32) (K : jK) (ci : jI) (cj : jJ) (cr : jR) : Option (jT Nat) := if K.1 l0 = 22 ∧ l0 < K.2.2 then jpb (fJ14_isLatin1 n l0 K ci cj cr) (fun r2 ci3 cj4 cr5 => if r2 = 0 then fJ14_append_56 n  l0 l1 K ci3 cj4 cr5 else none) else none
theorem wJ14_append_45 {g : jG} {d : Nat} {Qr : jQ} {Qx : jX} (n : Nat) (l0 : Nat) (l1 : Int32) (K : jK) (ci : jI) (cj : jJ) (cr : jR) {q} (hC : jCW K cr) (h : fJ14_append_45 n  l0 l1 K ci cj cr = some q) (hq : jqx wR q Qr Qx) : Ev g (d + 5) mJ14_append 45 [.ref l0, .int l1] [] K ci cj cr q.2.2.2.2.2.1 q.2.2.2.2.2.2 Qr Qx := by
  unfold fJ14_append_45 at h
  refine ev_aload_n dJ14_append_45 rfl ?_
  by_cases z1 : K.1 l0 = 22 ∧ l0 < K.2.2
  rotate_left
  · rw [if_neg z1] at h; cases h
  rw [if_pos z1] at h
  obtain ⟨r2, ci3, cj4, cr5, z6, h⟩ := jpb_inv h
  refine ev_zU0 dJ14_append_46 vJ14_83_22 z1.1 (Or.inl z1.2) (Nat.le_of_ble_eq_true rfl) (Nat.le_of_ble_eq_true rfl) rfl (metJ14_isLatin1 n _ _ _ _ _ hC z6 (fun hC7 => ?_))
  show Ev g _ _ 49 _ [.int r2] K ci3 cj4 cr5 _ _ Qr Qx
  refine ev_if_eq 56 dJ14_append_49 rfl (fun z8 => ?_) (fun z8 => ?_)
  · rw [if_pos z8] at h
    exact wJ14_append_56 n   _ _ _ _ _ _ hC7 h hq
  · rw [if_neg z8] at h
    refine ev_aload_n dJ14_append_52 rfl ?_
    cases h
def fJ14_append (n : Nat) (ah : Nat) (a0 : Int32) (K : jK) (ci : jI) (cj : jJ) (cr : jR) : Option (jT Nat) := if K.1 ah = 22 ∧ ah < K.2.2 then jxb (fJ14_ensureCapacityInternal n ah ((ci ah 3) + (nI 1)) K ci cj cr) (fun r2 K3 ci4 cj5 cr6 => if K3.1 ah = 22 ∧ ah < K3.2.2 then jpb (fJ14_isLatin1 n ah K3 ci4 cj5 cr6) (fun r10 ci11 cj12 cr13 => if r10 = 0 then fJ14_append_45 n  ah a0 K3 ci11 cj12 cr13 else jpb (fJ9_canEncode n a0 K3 ci11 cj12 cr13) (fun r17 ci18 cj19 cr20 => if r17 = 0 then fJ14_append_45 n  ah a0 K3 ci18 cj19 cr20 else Option.bind (cr20 ah 0) (fun r24 => if K3.1 r24 = 101 ∧ r24 < K3.2.2 then if jok (ci18 ah 3) (K3.2.1 r24) then fJ14_append_75 n  ah K3 (ju (ju ci18 ah 3 ((ci18 ah 3) + (nI 1))) r24 ((ci18 ah 3)).toNatClampNeg ((a0).toInt8.toInt32).toInt8.toInt32) cj19 cr20 else none else none))) else none) else none
theorem metJ14_append {g : jG} {d : Nat} {Qr : jQ} {Qx : jX} (n : Nat) (ah : Nat) (a0 : Int32) (K : jK) (ci : jI) (cj : jJ) (cr : jR) {q} (hC : jCW K cr) (h : fJ14_append n ah a0 K ci cj cr = some q) (hq : jqx wR q Qr Qx) : EvM g (d + 5) mJ14_append [.ref ah, .int a0] K ci cj cr q.2.2.2.2.2.1 q.2.2.2.2.2.2 Qr Qx := by
  unfold fJ14_append at h
  show Ev g (d + 5) mJ14_append 0 [.ref ah, .int a0] [] K ci cj cr q.2.2.2.2.2.1 q.2.2.2.2.2.2 Qr Qx
  refine ev_aload_n dJ14_append_0 rfl ?_
  refine ev_aload_n dJ14_append_1 rfl ?_
  by_cases z1 : K.1 ah = 22 ∧ ah < K.2.2
  rotate_left
  · rw [if_neg z1] at h; cases h
  rw [if_pos z1] at h
  refine ev_getI dJ14_append_2 fJ14_79_22 z1.1 (Or.inl z1.2) rfl ?_
  refine ev_iconst (v := (nI 1)) dJ14_append_5 jc1 ?_
  refine ev_iadd dJ14_append_6 ?_
  refine jx_inv (wf := wV) (fun c1 s1 c sl z => ev_invV1 dJ14_append_7 vJ14_100_22 z1.1 (Or.inl z1.2) (Nat.le_of_ble_eq_true rfl) (Nat.le_of_ble_eq_true rfl) rfl z) h hq (fun q Qr' z zq => metJ14_ensureCapacityInternal n _ _ _ _ _ _ hC z zq) (fun r2 K3 ci4 cj5 cr6 w7 h hC8 hq => ?_)
  show Ev g _ _ 10 _ [] K3 ci4 cj5 cr6 _ _ Qr Qx
  refine ev_aload_n dJ14_append_10 rfl ?_
  by_cases z9 : K3.1 ah = 22 ∧ ah < K3.2.2
  rotate_left
  · rw [if_neg z9] at h; cases h
  rw [if_pos z9] at h
  obtain ⟨r10, ci11, cj12, cr13, z14, h⟩ := jpb_inv h
  refine ev_zU0 dJ14_append_11 vJ14_83_22 z9.1 (Or.inl z9.2) (Nat.le_of_ble_eq_true rfl) (Nat.le_of_ble_eq_true rfl) rfl (metJ14_isLatin1 n _ _ _ _ _ hC8 z14 (fun hC15 => ?_))
  show Ev g _ _ 14 _ [.int r10] K3 ci11 cj12 cr13 _ _ Qr Qx
  refine ev_if_eq 45 dJ14_append_14 rfl (fun z16 => ?_) (fun z16 => ?_)
  · rw [if_pos z16] at h
    exact wJ14_append_45 n   _ _ _ _ _ _ hC15 h hq
  · rw [if_neg z16] at h
    refine ev_iload_n dJ14_append_17 rfl ?_
    obtain ⟨r17, ci18, cj19, cr20, z21, h⟩ := jpb_inv h
    refine ev_zS1 dJ14_append_18 sJ14_191 (Nat.le_of_ble_eq_true rfl) (Nat.le_of_ble_eq_true rfl) rfl (metJ9_canEncode n _ _ _ _ _ hC15 z21 (fun hC22 => ?_))
    show Ev g _ _ 21 _ [.int r17] K3 ci18 cj19 cr20 _ _ Qr Qx
    refine ev_if_eq 45 dJ14_append_21 rfl (fun z23 => ?_) (fun z23 => ?_)
    · rw [if_pos z23] at h
      exact wJ14_append_45 n   _ _ _ _ _ _ hC22 h hq
    · rw [if_neg z23] at h
      refine ev_aload_n dJ14_append_24 rfl ?_
      obtain ⟨r24, z25, h⟩ := Option.bind_eq_some_iff.mp h
      refine ev_getR dJ14_append_25 fJ14_15_22 z9.1 (Or.inl z9.2) rfl z25 ?_
      refine ev_aload_n dJ14_append_28 rfl ?_
      refine ev_dup dJ14_append_29 rfl ?_
      refine ev_getI dJ14_append_30 fJ14_79_22 z9.1 (Or.inl z9.2) rfl ?_
      refine ev_dup_x1 dJ14_append_33 rfl rfl ?_
      refine ev_iconst (v := (nI 1)) dJ14_append_34 jc1 ?_
      refine ev_iadd dJ14_append_35 ?_
      refine ev_putI dJ14_append_36 (pJ14_79_22 _) z9.1 z9.2 rfl rfl rfl ?_
      refine ev_iload_n dJ14_append_39 rfl ?_
      refine ev_i2b dJ14_append_40 ?_
      by_cases z26 : K3.1 r24 = 101 ∧ r24 < K3.2.2
      rotate_left
      · rw [if_neg z26] at h; cases h
      rw [if_pos z26] at h
      by_cases z27 : jok (ci18 ah 3) (K3.2.1 r24)
      rotate_left
      · rw [if_neg z27] at h; cases h
      rw [if_pos z27] at h
      refine ev_bastore dJ14_append_41 z26.1 z26.2 (jok.ix z27 rfl) ?_
      refine ev_goto 75 dJ14_append_42 rfl ?_
      exact ev_mask [true, false] (wJ14_append_75 n   _ _ _ _ _ hC22 h hq)
def fJ6_checkIndex (n : Nat) (a0 : Int32) (a1 : Int32) (K : jK) (ci : jI) (cj : jJ) (cr : jR) : Option (jTp Unit) := jpb (fJ8_checkIndex n a0 a1 K ci cj cr) (fun r2 ci3 cj4 cr5 => some ((), ci3, cj4, cr5))
theorem metJ6_checkIndex {g : jG} {d : Nat} {c sl : Nat} {Qr : jQ} {Qx : jX} (n : Nat) (a0 : Int32) (a1 : Int32) (K : jK) (ci : jI) (cj : jJ) (cr : jR) {q} (hC : jCW K cr) (h : fJ6_checkIndex n a0 a1 K ci cj cr = some q) (hq : jqp wV K q Qr) : EvM g (d + 2) mJ6_checkIndex [.int a0, .int a1] K ci cj cr c sl Qr Qx := by
  unfold fJ6_checkIndex at h
  show Ev g (d + 2) mJ6_checkIndex 0 [.int a0, .int a1] [] K ci cj cr c sl Qr Qx
  refine ev_iload_n dJ6_checkIndex_0 rfl ?_
  refine ev_iload_n dJ6_checkIndex_1 rfl ?_
  refine ev_getsQ ("jdk/internal/util/Preconditions", "SIOOBE_FORMATTER", "Ljava/util/function/BiFunction;", 1000008) dJ6_checkIndex_2 q650 (by decide +kernel) (fun x1 => ?_)
  obtain ⟨r2, ci3, cj4, cr5, z6, h⟩ := jpb_inv h
  refine ev_zS3 dJ6_checkIndex_5 sJ6_1059 (by rcases x1 with _ | _ <;>  exact Nat.le_of_ble_eq_true rfl) (Nat.le_of_ble_eq_true rfl) rfl (metJ8_checkIndex (a2 := x1) n _ _ _ _ _ _ hC z6 (fun hC7 => ?_))
  show Ev g _ _ 8 _ [.int r2] K ci3 cj4 cr5 _ _ Qr Qx
  refine ev_pop dJ6_checkIndex_8 rfl ?_
  cases h
  exact ev_ret dJ6_checkIndex_9 rfl (hq hC7)
def fJ14_charAt (n : Nat) (ah : Nat) (a0 : Int32) (K : jK) (ci : jI) (cj : jJ) (cr : jR) : Option (jTp Int32) := if K.1 ah = 22 ∧ ah < K.2.2 then Option.bind (cr ah 0) (fun r2 => if K.1 r2 = 101 ∧ (r2 < K.2.2 ∨ 1000000 ≤ r2) then jpb (fJ12_min n (ci ah 3) ((nI (K.2.1 r2)) >>> ((ci ah 1) &&& 31)) K ci cj cr) (fun r5 ci6 cj7 cr8 => jpb (fJ6_checkIndex n a0 r5 K ci6 cj7 cr8) (fun r11 ci12 cj13 cr14 => if (ci ah 1) = 0 then if jok a0 (K.2.1 r2) then if ((((ci12 r2 (a0).toNatClampNeg) &&& (nI 255))).toUInt32.toUInt16.toUInt32.toInt32).toUInt32.toUInt16.toUInt32.toInt32 = (((ci12 r2 (a0).toNatClampNeg) &&& (nI 255))).toUInt32.toUInt16.toUInt32.toInt32 then some ((((ci12 r2 (a0).toNatClampNeg) &&& (nI 255))).toUInt32.toUInt16.toUInt32.toInt32, ci12, cj13, cr14) else none else none else none)) else none) else none
theorem metJ14_charAt {g : jG} {d : Nat} {c sl : Nat} {Qr : jQ} {Qx : jX} (n : Nat) (ah : Nat) (a0 : Int32) (K : jK) (ci : jI) (cj : jJ) (cr : jR) {q} (hC : jCW K cr) (h : fJ14_charAt n ah a0 K ci cj cr = some q) (hq : jqp wI K q Qr) : EvM g (d + 3) mJ14_charAt [.ref ah, .int a0] K ci cj cr c sl Qr Qx := by
  unfold fJ14_charAt at h
  show Ev g (d + 3) mJ14_charAt 0 [.ref ah, .int a0, jU, jU, jU] [] K ci cj cr c sl Qr Qx
  refine ev_aload_n dJ14_charAt_0 rfl ?_
  by_cases z1 : K.1 ah = 22 ∧ ah < K.2.2
  rotate_left
  · rw [if_neg z1] at h; cases h
  rw [if_pos z1] at h
  refine ev_getI dJ14_charAt_1 fJ14_22_22 z1.1 (Or.inl z1.2) rfl ?_
  refine ev_istore_n (L' := [_, _, _, _, _]) dJ14_charAt_4 (by decide) rfl ?_
  refine ev_aload_n dJ14_charAt_5 rfl ?_
  obtain ⟨r2, z3, h⟩ := Option.bind_eq_some_iff.mp h
  refine ev_getR dJ14_charAt_6 fJ14_15_22 z1.1 (Or.inl z1.2) rfl z3 ?_
  refine ev_astore_n (L' := [_, _, _, _, _]) dJ14_charAt_9 (by decide) rfl ?_
  refine ev_aload_n dJ14_charAt_10 rfl ?_
  refine ev_getI dJ14_charAt_11 fJ14_79_22 z1.1 (Or.inl z1.2) rfl ?_
  refine ev_aload_n dJ14_charAt_14 rfl ?_
  by_cases z4 : K.1 r2 = 101 ∧ (r2 < K.2.2 ∨ 1000000 ≤ r2)
  rotate_left
  · rw [if_neg z4] at h; cases h
  rw [if_pos z4] at h
  refine ev_alen dJ14_charAt_15 (t := 1) z4.1 (by decide) z4.2 ?_
  refine ev_iload_n dJ14_charAt_16 rfl ?_
  refine ev_ishr dJ14_charAt_17 ?_
  obtain ⟨r5, ci6, cj7, cr8, z9, h⟩ := jpb_inv h
  refine ev_zS2 dJ14_charAt_18 sJ14_138 (Nat.le_of_ble_eq_true rfl) (Nat.le_of_ble_eq_true rfl) rfl (metJ12_min n _ _ _ _ _ _ hC z9 (fun hC10 => ?_))
  show Ev g _ _ 21 _ [.int r5] K ci6 cj7 cr8 _ _ Qr Qx
  refine ev_istore (L' := [_, _, _, _, _]) dJ14_charAt_21 (by decide) rfl ?_
  refine ev_iload_n dJ14_charAt_23 rfl ?_
  refine ev_iload dJ14_charAt_24 rfl ?_
  obtain ⟨r11, ci12, cj13, cr14, z15, h⟩ := jpb_inv h
  refine ev_zS2 dJ14_charAt_26 sJ14_144 (Nat.le_of_ble_eq_true rfl) (Nat.le_of_ble_eq_true rfl) rfl (metJ6_checkIndex n _ _ _ _ _ _ hC10 z15 (fun hC16 => ?_))
  show Ev g _ _ 29 _ [] K ci12 cj13 cr14 _ _ Qr Qx
  refine ev_iload_n dJ14_charAt_29 rfl ?_
  refine ev_if_ne 42 dJ14_charAt_30 rfl (fun z17 => ?_) (fun z17 => ?_)
  · rw [if_neg z17] at h
    refine ev_aload_n dJ14_charAt_42 rfl ?_
    refine ev_iload_n dJ14_charAt_43 rfl ?_
    cases h
  · rw [if_pos z17] at h
    refine ev_aload_n dJ14_charAt_33 rfl ?_
    refine ev_iload_n dJ14_charAt_34 rfl ?_
    by_cases z18 : jok a0 (K.2.1 r2)
    rotate_left
    · rw [if_neg z18] at h; cases h
    rw [if_pos z18] at h
    refine ev_baload dJ14_charAt_35 z4.1 z4.2 (jok.ix z18 rfl) ?_
    refine ev_sipush (v := (nI 255)) dJ14_charAt_36 js255 ?_
    refine ev_iand dJ14_charAt_39 ?_
    refine ev_i2c dJ14_charAt_40 ?_
    by_cases z19 : ((((ci12 r2 (a0).toNatClampNeg) &&& (nI 255))).toUInt32.toUInt16.toUInt32.toInt32).toUInt32.toUInt16.toUInt32.toInt32 = (((ci12 r2 (a0).toNatClampNeg) &&& (nI 255))).toUInt32.toUInt16.toUInt32.toInt32
    rotate_left
    · rw [if_neg z19] at h; cases h
    rw [if_pos z19] at h
    cases h
    exact ev_iret dJ14_charAt_41 rfl (jchr1 z19) (hq hC16)
def fJ15_init (n : Nat) (ah : Nat) (K : jK) (ci : jI) (cj : jJ) (cr : jR) : Option (jT Unit) := jxb (fJ14_init n ah (nI 16) K ci cj cr) (fun r1 K2 ci3 cj4 cr5 => some (some (), K2, ci3, cj4, cr5, 0, 0))
theorem metJ15_init {g : jG} {d : Nat} {Qr : jQ} {Qx : jX} (n : Nat) (ah : Nat) (K : jK) (ci : jI) (cj : jJ) (cr : jR) {q} (hC : jCW K cr) (h : fJ15_init n ah K ci cj cr = some q) (hq : jqx wV q Qr Qx) : EvM g (d + 2) mJ15_init [.ref ah] K ci cj cr q.2.2.2.2.2.1 q.2.2.2.2.2.2 Qr Qx := by
  unfold fJ15_init at h
  show Ev g (d + 2) mJ15_init 0 [.ref ah] [] K ci cj cr q.2.2.2.2.2.1 q.2.2.2.2.2.2 Qr Qx
  refine ev_aload_n dJ15_init_0 rfl ?_
  refine ev_bipush (v := (nI 16)) dJ15_init_1 jb16 ?_
  refine jx_inv (wf := wV) (fun c1 s1 c sl z => ev_invI1 dJ15_init_3 iJ15_1 (Nat.le_of_ble_eq_true rfl) (Nat.le_of_ble_eq_true rfl) rfl z) h hq (fun q Qr' z zq => metJ14_init n _ _ _ _ _ _ hC z zq) (fun r1 K2 ci3 cj4 cr5 w6 h hC7 hq => ?_)
  show Ev g _ _ 6 _ [] K2 ci3 cj4 cr5 _ _ Qr Qx
  cases h
  exact ev_ret dJ15_init_6 rfl (hq hC7)
def fJ15_append (n : Nat) (ah : Nat) (a0 : Int32) (K : jK) (ci : jI) (cj : jJ) (cr : jR) : Option (jT Nat) := if K.1 ah = 22 ∧ ah < K.2.2 then jxb (fJ14_append n ah a0 K ci cj cr) (fun r2 K3 ci4 cj5 cr6 => some (some ah, K3, ci4, cj5, cr6, 0, 0)) else none
theorem metJ15_append {g : jG} {d : Nat} {Qr : jQ} {Qx : jX} (n : Nat) (ah : Nat) (a0 : Int32) (K : jK) (ci : jI) (cj : jJ) (cr : jR) {q} (hC : jCW K cr) (h : fJ15_append n ah a0 K ci cj cr = some q) (hq : jqx wR q Qr Qx) : EvM g (d + 6) mJ15_append [.ref ah, .int a0] K ci cj cr q.2.2.2.2.2.1 q.2.2.2.2.2.2 Qr Qx := by
  unfold fJ15_append at h
  show Ev g (d + 6) mJ15_append 0 [.ref ah, .int a0] [] K ci cj cr q.2.2.2.2.2.1 q.2.2.2.2.2.2 Qr Qx
  refine ev_aload_n dJ15_append_0 rfl ?_
  refine ev_iload_n dJ15_append_1 rfl ?_
  by_cases z1 : K.1 ah = 22 ∧ ah < K.2.2
  rotate_left
  · rw [if_neg z1] at h; cases h
  rw [if_pos z1] at h
  refine jx_inv (wf := wR) (fun c1 s1 c sl z => ev_invSu1 dJ15_append_2 uJ15_50_22 z1.1 (Or.inl z1.2) (Nat.le_of_ble_eq_true rfl) (Nat.le_of_ble_eq_true rfl) rfl z) h hq (fun q Qr' z zq => metJ14_append n _ _ _ _ _ _ hC z zq) (fun r2 K3 ci4 cj5 cr6 w7 h hC8 hq => ?_)
  show Ev g _ _ 5 _ [.ref r2] K3 ci4 cj5 cr6 _ _ Qr Qx
  refine ev_pop dJ15_append_5 rfl ?_
  refine ev_aload_n dJ15_append_6 rfl ?_
  cases h
  exact ev_aret dJ15_append_7 rfl rfl (hq hC8)
def fJ15_charAt (n : Nat) (ah : Nat) (a0 : Int32) (K : jK) (ci : jI) (cj : jJ) (cr : jR) : Option (jTp Int32) := if K.1 ah = 22 ∧ ah < K.2.2 then jpb (fJ14_charAt n ah a0 K ci cj cr) (fun r2 ci3 cj4 cr5 => if (r2).toUInt32.toUInt16.toUInt32.toInt32 = r2 then some (r2, ci3, cj4, cr5) else none) else none
theorem metJ15_charAt {g : jG} {d : Nat} {c sl : Nat} {Qr : jQ} {Qx : jX} (n : Nat) (ah : Nat) (a0 : Int32) (K : jK) (ci : jI) (cj : jJ) (cr : jR) {q} (hC : jCW K cr) (h : fJ15_charAt n ah a0 K ci cj cr = some q) (hq : jqp wI K q Qr) : EvM g (d + 4) mJ15_charAt [.ref ah, .int a0] K ci cj cr c sl Qr Qx := by
  unfold fJ15_charAt at h
  show Ev g (d + 4) mJ15_charAt 0 [.ref ah, .int a0] [] K ci cj cr c sl Qr Qx
  refine ev_aload_n dJ15_charAt_0 rfl ?_
  refine ev_iload_n dJ15_charAt_1 rfl ?_
  by_cases z1 : K.1 ah = 22 ∧ ah < K.2.2
  rotate_left
  · rw [if_neg z1] at h; cases h
  rw [if_pos z1] at h
  obtain ⟨r2, ci3, cj4, cr5, z6, h⟩ := jpb_inv h
  refine ev_zSu1 dJ15_charAt_2 uJ15_329_22 z1.1 (Or.inl z1.2) (Nat.le_of_ble_eq_true rfl) (Nat.le_of_ble_eq_true rfl) rfl (metJ14_charAt n _ _ _ _ _ _ hC z6 (fun hC7 => ?_))
  show Ev g _ _ 5 _ [.int r2] K ci3 cj4 cr5 _ _ Qr Qx
  by_cases z8 : (r2).toUInt32.toUInt16.toUInt32.toInt32 = r2
  rotate_left
  · rw [if_neg z8] at h; cases h
  rw [if_pos z8] at h
  cases h
  exact ev_iret dJ15_charAt_5 rfl (jchr1 z8) (hq hC7)
def fJ16_bitCount (n : Nat) (a0 : Int32) (K : jK) (ci : jI) (cj : jJ) (cr : jR) : Option (jTp Int32) := some (((((((((a0 - (((a0).toUInt32 >>> (((nI 1)) &&& 31).toUInt32).toInt32 &&& (1431655765))) &&& (858993459)) + ((((a0 - (((a0).toUInt32 >>> (((nI 1)) &&& 31).toUInt32).toInt32 &&& (1431655765)))).toUInt32 >>> (((nI 2)) &&& 31).toUInt32).toInt32 &&& (858993459))) + (((((a0 - (((a0).toUInt32 >>> (((nI 1)) &&& 31).toUInt32).toInt32 &&& (1431655765))) &&& (858993459)) + ((((a0 - (((a0).toUInt32 >>> (((nI 1)) &&& 31).toUInt32).toInt32 &&& (1431655765)))).toUInt32 >>> (((nI 2)) &&& 31).toUInt32).toInt32 &&& (858993459)))).toUInt32 >>> (((nI 4)) &&& 31).toUInt32).toInt32) &&& (252645135)) + (((((((a0 - (((a0).toUInt32 >>> (((nI 1)) &&& 31).toUInt32).toInt32 &&& (1431655765))) &&& (858993459)) + ((((a0 - (((a0).toUInt32 >>> (((nI 1)) &&& 31).toUInt32).toInt32 &&& (1431655765)))).toUInt32 >>> (((nI 2)) &&& 31).toUInt32).toInt32 &&& (858993459))) + (((((a0 - (((a0).toUInt32 >>> (((nI 1)) &&& 31).toUInt32).toInt32 &&& (1431655765))) &&& (858993459)) + ((((a0 - (((a0).toUInt32 >>> (((nI 1)) &&& 31).toUInt32).toInt32 &&& (1431655765)))).toUInt32 >>> (((nI 2)) &&& 31).toUInt32).toInt32 &&& (858993459)))).toUInt32 >>> (((nI 4)) &&& 31).toUInt32).toInt32) &&& (252645135))).toUInt32 >>> (((nI 8)) &&& 31).toUInt32).toInt32) + ((((((((a0 - (((a0).toUInt32 >>> (((nI 1)) &&& 31).toUInt32).toInt32 &&& (1431655765))) &&& (858993459)) + ((((a0 - (((a0).toUInt32 >>> (((nI 1)) &&& 31).toUInt32).toInt32 &&& (1431655765)))).toUInt32 >>> (((nI 2)) &&& 31).toUInt32).toInt32 &&& (858993459))) + (((((a0 - (((a0).toUInt32 >>> (((nI 1)) &&& 31).toUInt32).toInt32 &&& (1431655765))) &&& (858993459)) + ((((a0 - (((a0).toUInt32 >>> (((nI 1)) &&& 31).toUInt32).toInt32 &&& (1431655765)))).toUInt32 >>> (((nI 2)) &&& 31).toUInt32).toInt32 &&& (858993459)))).toUInt32 >>> (((nI 4)) &&& 31).toUInt32).toInt32) &&& (252645135)) + (((((((a0 - (((a0).toUInt32 >>> (((nI 1)) &&& 31).toUInt32).toInt32 &&& (1431655765))) &&& (858993459)) + ((((a0 - (((a0).toUInt32 >>> (((nI 1)) &&& 31).toUInt32).toInt32 &&& (1431655765)))).toUInt32 >>> (((nI 2)) &&& 31).toUInt32).toInt32 &&& (858993459))) + (((((a0 - (((a0).toUInt32 >>> (((nI 1)) &&& 31).toUInt32).toInt32 &&& (1431655765))) &&& (858993459)) + ((((a0 - (((a0).toUInt32 >>> (((nI 1)) &&& 31).toUInt32).toInt32 &&& (1431655765)))).toUInt32 >>> (((nI 2)) &&& 31).toUInt32).toInt32 &&& (858993459)))).toUInt32 >>> (((nI 4)) &&& 31).toUInt32).toInt32) &&& (252645135))).toUInt32 >>> (((nI 8)) &&& 31).toUInt32).toInt32)).toUInt32 >>> (((nI 16)) &&& 31).toUInt32).toInt32) &&& (nI 63)), ci, cj, cr)
theorem metJ16_bitCount {g : jG} {d : Nat} {c sl : Nat} {Qr : jQ} {Qx : jX} (n : Nat) (a0 : Int32) (K : jK) (ci : jI) (cj : jJ) (cr : jR) {q} (hC : jCW K cr) (h : fJ16_bitCount n a0 K ci cj cr = some q) (hq : jqp wI K q Qr) : EvM g (d + 1) mJ16_bitCount [.int a0] K ci cj cr c sl Qr Qx := by
  unfold fJ16_bitCount at h
  show Ev g (d + 1) mJ16_bitCount 0 [.int a0] [] K ci cj cr c sl Qr Qx
  refine ev_iload_n dJ16_bitCount_0 rfl ?_
  refine ev_iload_n dJ16_bitCount_1 rfl ?_
  refine ev_iconst (v := (nI 1)) dJ16_bitCount_2 jc1 ?_
  refine ev_iushr dJ16_bitCount_3 ?_
  refine ev_ldcw dJ16_bitCount_4 q1533 ?_
  refine ev_iand dJ16_bitCount_7 ?_
  refine ev_isub dJ16_bitCount_8 ?_
  refine ev_istore_n (L' := [_]) dJ16_bitCount_9 (by decide) rfl ?_
  refine ev_iload_n dJ16_bitCount_10 rfl ?_
  refine ev_ldcw dJ16_bitCount_11 q1534 ?_
  refine ev_iand dJ16_bitCount_14 ?_
  refine ev_iload_n dJ16_bitCount_15 rfl ?_
  refine ev_iconst (v := (nI 2)) dJ16_bitCount_16 jc2 ?_
  refine ev_iushr dJ16_bitCount_17 ?_
  refine ev_ldcw dJ16_bitCount_18 q1534 ?_
  refine ev_iand dJ16_bitCount_21 ?_
  refine ev_iadd dJ16_bitCount_22 ?_
  refine ev_istore_n (L' := [_]) dJ16_bitCount_23 (by decide) rfl ?_
  refine ev_iload_n dJ16_bitCount_24 rfl ?_
  refine ev_iload_n dJ16_bitCount_25 rfl ?_
  refine ev_iconst (v := (nI 4)) dJ16_bitCount_26 jc4 ?_
  refine ev_iushr dJ16_bitCount_27 ?_
  refine ev_iadd dJ16_bitCount_28 ?_
  refine ev_ldcw dJ16_bitCount_29 q1535 ?_
  refine ev_iand dJ16_bitCount_32 ?_
  refine ev_istore_n (L' := [_]) dJ16_bitCount_33 (by decide) rfl ?_
  refine ev_iload_n dJ16_bitCount_34 rfl ?_
  refine ev_iload_n dJ16_bitCount_35 rfl ?_
  refine ev_bipush (v := (nI 8)) dJ16_bitCount_36 jb8 ?_
  refine ev_iushr dJ16_bitCount_38 ?_
  refine ev_iadd dJ16_bitCount_39 ?_
  refine ev_istore_n (L' := [_]) dJ16_bitCount_40 (by decide) rfl ?_
  refine ev_iload_n dJ16_bitCount_41 rfl ?_
  refine ev_iload_n dJ16_bitCount_42 rfl ?_
  refine ev_bipush (v := (nI 16)) dJ16_bitCount_43 jb16 ?_
  refine ev_iushr dJ16_bitCount_45 ?_
  refine ev_iadd dJ16_bitCount_46 ?_
  refine ev_istore_n (L' := [_]) dJ16_bitCount_47 (by decide) rfl ?_
  refine ev_iload_n dJ16_bitCount_48 rfl ?_
  refine ev_bipush (v := (nI 63)) dJ16_bitCount_49 jb63 ?_
  refine ev_iand dJ16_bitCount_51 ?_
  cases h
  exact ev_iret dJ16_bitCount_52 rfl rfl (hq hC)
def fJ2_init_60 (n : Nat) (K : jK) (ci : jI) (cj : jJ) (cr : jR) : Option (jT Unit) := some (some (), K, ci, cj, cr, 0, 0)
theorem wJ2_init_60 {g : jG} {d : Nat} {Qr : jQ} {Qx : jX} (n : Nat) (K : jK) (ci : jI) (cj : jJ) (cr : jR) {q} (hC : jCW K cr) (h : fJ2_init_60 n   K ci cj cr = some q) (hq : jqx wV q Qr Qx) : Ev g (d + 3) mJ2_init 60 [jU, jU] [] K ci cj cr q.2.2.2.2.2.1 q.2.2.2.2.2.2 Qr Qx := by
  unfold fJ2_init_60 at h
  cases h
  exact ev_ret dJ2_init_60 rfl (hq hC)
def fJ2_init (n : Nat) (ah : Nat) (a0 : Int32) (K : jK) (ci : jI) (cj : jJ) (cr : jR) : Option (jT Unit) := jpb (fJ1_init n ah K ci cj cr) (fun r1 ci2 cj3 cr4 => if a0 ≤ 0 then if a0 = 0 then none else none else if K.2.2 < 1000000 then if ¬ a0 < 0 ∧ (a0).toNatClampNeg ≤ 65536 then jal (a0).toNatClampNeg (if (jnK K 104 (a0).toNatClampNeg).1 ah = 20 ∧ ah < (jnK K 104 (a0).toNatClampNeg).2.2 then fJ2_init_60 n   (jnK K 104 (a0).toNatClampNeg) ci2 cj3 (ju cr4 ah 1 (some K.2.2)) else none) else none else none)
theorem metJ2_init {g : jG} {d : Nat} {Qr : jQ} {Qx : jX} (n : Nat) (ah : Nat) (a0 : Int32) (K : jK) (ci : jI) (cj : jJ) (cr : jR) {q} (hC : jCW K cr) (h : fJ2_init n ah a0 K ci cj cr = some q) (hq : jqx wV q Qr Qx) : EvM g (d + 3) mJ2_init [.ref ah, .int a0] K ci cj cr q.2.2.2.2.2.1 q.2.2.2.2.2.2 Qr Qx := by
  unfold fJ2_init at h
  show Ev g (d + 3) mJ2_init 0 [.ref ah, .int a0] [] K ci cj cr q.2.2.2.2.2.1 q.2.2.2.2.2.2 Qr Qx
  refine ev_aload_n dJ2_init_0 rfl ?_
  obtain ⟨r1, ci2, cj3, cr4, z5, h⟩ := jpb_inv h
  refine ev_zI0 dJ2_init_1 iJ2_1 (Nat.le_of_ble_eq_true rfl) (Nat.le_of_ble_eq_true rfl) rfl (metJ1_init n _ _ _ _ _ hC z5 (fun hC6 => ?_))
  show Ev g _ _ 4 _ [] K ci2 cj3 cr4 _ _ Qr Qx
  refine ev_iload_n dJ2_init_4 rfl ?_
  refine ev_if_le 19 dJ2_init_5 rfl (fun z7 => ?_) (fun z7 => ?_)
  · rw [if_pos z7] at h
    refine ev_iload_n dJ2_init_19 rfl ?_
    refine ev_if_ne 33 dJ2_init_20 rfl (fun z8 => ?_) (fun z8 => ?_)
    · rw [if_neg z8] at h
      cases h
    · rw [if_pos z8] at h
      refine ev_aload_n dJ2_init_23 rfl ?_
      cases h
  · rw [if_neg z7] at h
    refine ev_aload_n dJ2_init_8 rfl ?_
    refine ev_iload_n dJ2_init_9 rfl ?_
    by_cases z9 : K.2.2 < 1000000
    rotate_left
    · rw [if_neg z9] at h; cases h
    rw [if_pos z9] at h
    by_cases z10 : ¬ a0 < 0 ∧ (a0).toNatClampNeg ≤ 65536
    rotate_left
    · rw [if_neg z10] at h; cases h
    rw [if_pos z10] at h
    refine jx_new (fun c sl z => ev_anewO dJ2_init_10 q224 z10.1 rfl z10.2 z9 z) h hq (fun w11 h hq => ?_)
    have hC12 := jCW.new hC6 104 (a0).toNatClampNeg
    show Ev g _ _ 13 _ [.ref K.2.2, .ref ah] (jnK K 104 (a0).toNatClampNeg) ci2 cj3 cr4 _ _ Qr Qx
    by_cases z13 : (jnK K 104 (a0).toNatClampNeg).1 ah = 20 ∧ ah < (jnK K 104 (a0).toNatClampNeg).2.2
    rotate_left
    · rw [if_neg z13] at h; cases h
    rw [if_pos z13] at h
    refine ev_putR dJ2_init_13 (pJ2_9_20 _) z13.1 z13.2 rfl ?_
    have hC14 := jCW.upd hC12 (k := 1) (v := (some K.2.2)) z13.1 (by decide)
    refine ev_goto 60 dJ2_init_16 rfl ?_
    exact ev_mask [false, false] (wJ2_init_60 n    _ _ _ _ hC14 h hq)
def fJ2_size (n : Nat) (ah : Nat) (K : jK) (ci : jI) (cj : jJ) (cr : jR) : Option (jTp Int32) := if K.1 ah = 20 ∧ ah < K.2.2 then some ((ci ah 2), ci, cj, cr) else none
theorem metJ2_size {g : jG} {d : Nat} {c sl : Nat} {Qr : jQ} {Qx : jX} (n : Nat) (ah : Nat) (K : jK) (ci : jI) (cj : jJ) (cr : jR) {q} (hC : jCW K cr) (h : fJ2_size n ah K ci cj cr = some q) (hq : jqp wI K q Qr) : EvM g (d + 1) mJ2_size [.ref ah] K ci cj cr c sl Qr Qx := by
  unfold fJ2_size at h
  show Ev g (d + 1) mJ2_size 0 [.ref ah] [] K ci cj cr c sl Qr Qx
  refine ev_aload_n dJ2_size_0 rfl ?_
  by_cases z1 : K.1 ah = 20 ∧ ah < K.2.2
  rotate_left
  · rw [if_neg z1] at h; cases h
  rw [if_pos z1] at h
  refine ev_getI dJ2_size_1 fJ2_48_20 z1.1 (Or.inl z1.2) rfl ?_
  cases h
  exact ev_iret dJ2_size_4 rfl rfl (hq hC)
def fJ2_elementData (n : Nat) (ah : Nat) (a0 : Int32) (K : jK) (ci : jI) (cj : jJ) (cr : jR) : Option (jTp Nat) := if K.1 ah = 20 ∧ ah < K.2.2 then Option.bind (cr ah 1) (fun r2 => if K.1 r2 = 104 ∧ (r2 < K.2.2 ∨ 1000000 ≤ r2) then if jok a0 (K.2.1 r2) then Option.bind (cr r2 (a0).toNatClampNeg) (fun r6 => some (r6, ci, cj, cr)) else none else none) else none
theorem metJ2_elementData {g : jG} {d : Nat} {c sl : Nat} {Qr : jQ} {Qx : jX} (n : Nat) (ah : Nat) (a0 : Int32) (K : jK) (ci : jI) (cj : jJ) (cr : jR) {q} (hC : jCW K cr) (h : fJ2_elementData n ah a0 K ci cj cr = some q) (hq : jqp wR K q Qr) : EvM g (d + 1) mJ2_elementData [.ref ah, .int a0] K ci cj cr c sl Qr Qx := by
  unfold fJ2_elementData at h
  show Ev g (d + 1) mJ2_elementData 0 [.ref ah, .int a0] [] K ci cj cr c sl Qr Qx
  refine ev_aload_n dJ2_elementData_0 rfl ?_
  by_cases z1 : K.1 ah = 20 ∧ ah < K.2.2
  rotate_left
  · rw [if_neg z1] at h; cases h
  rw [if_pos z1] at h
  obtain ⟨r2, z3, h⟩ := Option.bind_eq_some_iff.mp h
  refine ev_getR dJ2_elementData_1 fJ2_9_20 z1.1 (Or.inl z1.2) rfl z3 ?_
  refine ev_iload_n dJ2_elementData_4 rfl ?_
  by_cases z4 : K.1 r2 = 104 ∧ (r2 < K.2.2 ∨ 1000000 ≤ r2)
  rotate_left
  · rw [if_neg z4] at h; cases h
  rw [if_pos z4] at h
  by_cases z5 : jok a0 (K.2.1 r2)
  rotate_left
  · rw [if_neg z5] at h; cases h
  rw [if_pos z5] at h
  obtain ⟨r6, z7, h⟩ := Option.bind_eq_some_iff.mp h
  refine ev_aaload (t := 4) dJ2_elementData_5 z4.1 (by decide) (by decide) z4.2 (jok.ix z5 rfl) z7 ?_
  cases h
  exact ev_aret dJ2_elementData_6 rfl rfl (hq hC)
def fJ2_get (n : Nat) (ah : Nat) (a0 : Int32) (K : jK) (ci : jI) (cj : jJ) (cr : jR) : Option (jTp Nat) := if K.1 ah = 20 ∧ ah < K.2.2 then jpb (fJ11_checkIndex n a0 (ci ah 2) K ci cj cr) (fun r2 ci3 cj4 cr5 => jpb (fJ2_elementData n ah a0 K ci3 cj4 cr5) (fun r8 ci9 cj10 cr11 => some (r8, ci9, cj10, cr11))) else none
theorem metJ2_get {g : jG} {d : Nat} {c sl : Nat} {Qr : jQ} {Qx : jX} (n : Nat) (ah : Nat) (a0 : Int32) (K : jK) (ci : jI) (cj : jJ) (cr : jR) {q} (hC : jCW K cr) (h : fJ2_get n ah a0 K ci cj cr = some q) (hq : jqp wR K q Qr) : EvM g (d + 3) mJ2_get [.ref ah, .int a0] K ci cj cr c sl Qr Qx := by
  unfold fJ2_get at h
  show Ev g (d + 3) mJ2_get 0 [.ref ah, .int a0] [] K ci cj cr c sl Qr Qx
  refine ev_iload_n dJ2_get_0 rfl ?_
  refine ev_aload_n dJ2_get_1 rfl ?_
  by_cases z1 : K.1 ah = 20 ∧ ah < K.2.2
  rotate_left
  · rw [if_neg z1] at h; cases h
  rw [if_pos z1] at h
  refine ev_getI dJ2_get_2 fJ2_48_20 z1.1 (Or.inl z1.2) rfl ?_
  obtain ⟨r2, ci3, cj4, cr5, z6, h⟩ := jpb_inv h
  refine ev_zS2 dJ2_get_5 sJ2_118 (Nat.le_of_ble_eq_true rfl) (Nat.le_of_ble_eq_true rfl) rfl (metJ11_checkIndex n _ _ _ _ _ _ hC z6 (fun hC7 => ?_))
  show Ev g _ _ 8 _ [.int r2] K ci3 cj4 cr5 _ _ Qr Qx
  refine ev_pop dJ2_get_8 rfl ?_
  refine ev_aload_n dJ2_get_9 rfl ?_
  refine ev_iload_n dJ2_get_10 rfl ?_
  obtain ⟨r8, ci9, cj10, cr11, z12, h⟩ := jpb_inv h
  refine ev_zV1 dJ2_get_11 vJ2_123_20 z1.1 (Or.inl z1.2) (Nat.le_of_ble_eq_true rfl) (Nat.le_of_ble_eq_true rfl) rfl (metJ2_elementData n _ _ _ _ _ _ hC7 z12 (fun hC13 => ?_))
  show Ev g _ _ 14 _ [.ref r8] K ci9 cj10 cr11 _ _ Qr Qx
  cases h
  exact ev_aret dJ2_get_14 rfl rfl (hq hC13)
def fJ2_grow_2_20 (n : Nat) (l0 : Nat) (l1 : Int32) (l2 : Int32) (K : jK) (ci : jI) (cj : jJ) (cr : jR) : Option (jT Nat) := jpb (fJ10_newLength n l2 (l1 - l2) (l2 >>> ((nI 1) &&& 31)) K ci cj cr) (fun r1 ci2 cj3 cr4 => if K.1 l0 = 20 ∧ l0 < K.2.2 then Option.bind (cr4 l0 1) (fun r8 => jxb (fJ13_copyOf n r8 r1 K ci2 cj3 cr4) (fun r10 K11 ci12 cj13 cr14 => if K11.1 l0 = 20 ∧ l0 < K11.2.2 then some (some r10, K11, ci12, cj13, (ju cr14 l0 1 (some r10)), 0, 0) else none)) else none)
theorem wJ2_grow_2_20 {g : jG} {d : Nat} {Qr : jQ} {Qx : jX} (n : Nat) (l0 : Nat) (l1 : Int32) (l2 : Int32) (K : jK) (ci : jI) (cj : jJ) (cr : jR) {q} (hC : jCW K cr) (h : fJ2_grow_2_20 n  l0 l1 l2 K ci cj cr = some q) (hq : jqx wR q Qr Qx) : Ev g (d + 4) mJ2_grow_2 20 [.ref l0, .int l1, .int l2, jU] [] K ci cj cr q.2.2.2.2.2.1 q.2.2.2.2.2.2 Qr Qx := by
  unfold fJ2_grow_2_20 at h
  refine ev_iload_n dJ2_grow_2_20 rfl ?_
  refine ev_iload_n dJ2_grow_2_21 rfl ?_
  refine ev_iload_n dJ2_grow_2_22 rfl ?_
  refine ev_isub dJ2_grow_2_23 ?_
  refine ev_iload_n dJ2_grow_2_24 rfl ?_
  refine ev_iconst (v := (nI 1)) dJ2_grow_2_25 jc1 ?_
  refine ev_ishr dJ2_grow_2_26 ?_
  obtain ⟨r1, ci2, cj3, cr4, z5, h⟩ := jpb_inv h
  refine ev_zS3 dJ2_grow_2_27 sJ2_73 (Nat.le_of_ble_eq_true rfl) (Nat.le_of_ble_eq_true rfl) rfl (metJ10_newLength n _ _ _ _ _ _ _ hC z5 (fun hC6 => ?_))
  show Ev g _ _ 30 _ [.int r1] K ci2 cj3 cr4 _ _ Qr Qx
  refine ev_istore_n (L' := [_, _, _, _]) dJ2_grow_2_30 (by decide) rfl ?_
  refine ev_aload_n dJ2_grow_2_31 rfl ?_
  refine ev_aload_n dJ2_grow_2_32 rfl ?_
  by_cases z7 : K.1 l0 = 20 ∧ l0 < K.2.2
  rotate_left
  · rw [if_neg z7] at h; cases h
  rw [if_pos z7] at h
  obtain ⟨r8, z9, h⟩ := Option.bind_eq_some_iff.mp h
  refine ev_getR dJ2_grow_2_33 fJ2_9_20 z7.1 (Or.inl z7.2) rfl z9 ?_
  refine ev_iload_n dJ2_grow_2_36 rfl ?_
  refine jx_inv (wf := wR) (fun c1 s1 c sl z => ev_invS2 dJ2_grow_2_37 sJ2_66 (Nat.le_of_ble_eq_true rfl) (Nat.le_of_ble_eq_true rfl) rfl z) h hq (fun q Qr' z zq => metJ13_copyOf n _ _ _ _ _ _ hC6 z zq) (fun r10 K11 ci12 cj13 cr14 w15 h hC16 hq => ?_)
  show Ev g _ _ 40 _ [.ref r10, .ref l0] K11 ci12 cj13 cr14 _ _ Qr Qx
  refine ev_dup_x1 dJ2_grow_2_40 rfl rfl ?_
  by_cases z17 : K11.1 l0 = 20 ∧ l0 < K11.2.2
  rotate_left
  · rw [if_neg z17] at h; cases h
  rw [if_pos z17] at h
  refine ev_putR dJ2_grow_2_41 (pJ2_9_20 _) z17.1 z17.2 rfl ?_
  have hC18 := jCW.upd hC16 (k := 1) (v := (some r10)) z17.1 (by decide)
  cases h
  exact ev_aret dJ2_grow_2_44 rfl rfl (hq hC18)
def fJ2_grow_2 (n : Nat) (ah : Nat) (a0 : Int32) (K : jK) (ci : jI) (cj : jJ) (cr : jR) : Option (jT Nat) := if K.1 ah = 20 ∧ ah < K.2.2 then Option.bind (cr ah 1) (fun r2 => if K.1 r2 = 104 ∧ (r2 < K.2.2 ∨ 1000000 ≤ r2) then if 0 < (nI (K.2.1 r2)) then fJ2_grow_2_20 n  ah a0 (nI (K.2.1 r2)) K ci cj cr else Option.bind (cr ah 1) (fun r6 => none) else none) else none
theorem metJ2_grow_2 {g : jG} {d : Nat} {Qr : jQ} {Qx : jX} (n : Nat) (ah : Nat) (a0 : Int32) (K : jK) (ci : jI) (cj : jJ) (cr : jR) {q} (hC : jCW K cr) (h : fJ2_grow_2 n ah a0 K ci cj cr = some q) (hq : jqx wR q Qr Qx) : EvM g (d + 4) mJ2_grow_2 [.ref ah, .int a0] K ci cj cr q.2.2.2.2.2.1 q.2.2.2.2.2.2 Qr Qx := by
  unfold fJ2_grow_2 at h
  show Ev g (d + 4) mJ2_grow_2 0 [.ref ah, .int a0, jU, jU] [] K ci cj cr q.2.2.2.2.2.1 q.2.2.2.2.2.2 Qr Qx
  refine ev_aload_n dJ2_grow_2_0 rfl ?_
  by_cases z1 : K.1 ah = 20 ∧ ah < K.2.2
  rotate_left
  · rw [if_neg z1] at h; cases h
  rw [if_pos z1] at h
  obtain ⟨r2, z3, h⟩ := Option.bind_eq_some_iff.mp h
  refine ev_getR dJ2_grow_2_1 fJ2_9_20 z1.1 (Or.inl z1.2) rfl z3 ?_
  by_cases z4 : K.1 r2 = 104 ∧ (r2 < K.2.2 ∨ 1000000 ≤ r2)
  rotate_left
  · rw [if_neg z4] at h; cases h
  rw [if_pos z4] at h
  refine ev_alen dJ2_grow_2_4 (t := 4) z4.1 (by decide) z4.2 ?_
  refine ev_istore_n (L' := [_, _, _, _]) dJ2_grow_2_5 (by decide) rfl ?_
  refine ev_iload_n dJ2_grow_2_6 rfl ?_
  refine ev_if_gt 20 dJ2_grow_2_7 rfl (fun z5 => ?_) (fun z5 => ?_)
  · rw [if_pos z5] at h
    exact wJ2_grow_2_20 n   _ _ _ _ _ _ _ hC h hq
  · rw [if_neg z5] at h
    refine ev_aload_n dJ2_grow_2_10 rfl ?_
    obtain ⟨r6, z7, h⟩ := Option.bind_eq_some_iff.mp h
    refine ev_getR dJ2_grow_2_11 fJ2_9_20 z1.1 (Or.inl z1.2) rfl z7 ?_
    cases h
def fJ2_grow (n : Nat) (ah : Nat) (K : jK) (ci : jI) (cj : jJ) (cr : jR) : Option (jT Nat) := if K.1 ah = 20 ∧ ah < K.2.2 then jxb (fJ2_grow_2 n ah ((ci ah 2) + (nI 1)) K ci cj cr) (fun r2 K3 ci4 cj5 cr6 => some (some r2, K3, ci4, cj5, cr6, 0, 0)) else none
theorem metJ2_grow {g : jG} {d : Nat} {Qr : jQ} {Qx : jX} (n : Nat) (ah : Nat) (K : jK) (ci : jI) (cj : jJ) (cr : jR) {q} (hC : jCW K cr) (h : fJ2_grow n ah K ci cj cr = some q) (hq : jqx wR q Qr Qx) : EvM g (d + 5) mJ2_grow [.ref ah] K ci cj cr q.2.2.2.2.2.1 q.2.2.2.2.2.2 Qr Qx := by
  unfold fJ2_grow at h
  show Ev g (d + 5) mJ2_grow 0 [.ref ah] [] K ci cj cr q.2.2.2.2.2.1 q.2.2.2.2.2.2 Qr Qx
  refine ev_aload_n dJ2_grow_0 rfl ?_
  refine ev_aload_n dJ2_grow_1 rfl ?_
  by_cases z1 : K.1 ah = 20 ∧ ah < K.2.2
  rotate_left
  · rw [if_neg z1] at h; cases h
  rw [if_pos z1] at h
  refine ev_getI dJ2_grow_2 fJ2_48_20 z1.1 (Or.inl z1.2) rfl ?_
  refine ev_iconst (v := (nI 1)) dJ2_grow_5 jc1 ?_
  refine ev_iadd dJ2_grow_6 ?_
  refine jx_inv (wf := wR) (fun c1 s1 c sl z => ev_invV1 dJ2_grow_7 vJ2_69_20 z1.1 (Or.inl z1.2) (Nat.le_of_ble_eq_true rfl) (Nat.le_of_ble_eq_true rfl) rfl z) h hq (fun q Qr' z zq => metJ2_grow_2 n _ _ _ _ _ _ hC z zq) (fun r2 K3 ci4 cj5 cr6 w7 h hC8 hq => ?_)
  show Ev g _ _ 10 _ [.ref r2] K3 ci4 cj5 cr6 _ _ Qr Qx
  cases h
  exact ev_aret dJ2_grow_10 rfl rfl (hq hC8)
def fJ2_add_2_11 (n : Nat) (l0 : Nat) (l1 : Nat) (l2 : Nat) (l3 : Int32) (K : jK) (ci : jI) (cj : jJ) (cr : jR) : Option (jT Unit) := if K.1 l2 = 104 ∧ l2 < K.2.2 then if jok l3 (K.2.1 l2) then if K.1 l1 < 23 ∧ l1 < K.2.2 then if K.1 l0 = 20 ∧ l0 < K.2.2 then some (some (), K, (ju ci l0 2 (l3 + (nI 1))), cj, (ju cr l2 (l3).toNatClampNeg (some l1)), 0, 0) else none else none else none else none
theorem wJ2_add_2_11 {g : jG} {d : Nat} {Qr : jQ} {Qx : jX} (n : Nat) (l0 : Nat) (l1 : Nat) (l2 : Nat) (l3 : Int32) (K : jK) (ci : jI) (cj : jJ) (cr : jR) {q} (hC : jCW K cr) (h : fJ2_add_2_11 n  l0 l1 l2 l3 K ci cj cr = some q) (hq : jqx wV q Qr Qx) : Ev g (d + 6) mJ2_add_2 11 [.ref l0, .ref l1, .ref l2, .int l3] [] K ci cj cr q.2.2.2.2.2.1 q.2.2.2.2.2.2 Qr Qx := by
  unfold fJ2_add_2_11 at h
  refine ev_aload_n dJ2_add_2_11 rfl ?_
  refine ev_iload_n dJ2_add_2_12 rfl ?_
  refine ev_aload_n dJ2_add_2_13 rfl ?_
  by_cases z1 : K.1 l2 = 104 ∧ l2 < K.2.2
  rotate_left
  · rw [if_neg z1] at h; cases h
  rw [if_pos z1] at h
  by_cases z2 : jok l3 (K.2.1 l2)
  rotate_left
  · rw [if_neg z2] at h; cases h
  rw [if_pos z2] at h
  by_cases z3 : K.1 l1 < 23 ∧ l1 < K.2.2
  rotate_left
  · rw [if_neg z3] at h; cases h
  rw [if_pos z3] at h
  refine ev_aastO dJ2_add_2_14 z1.1 z1.2 (jok.ix z2 rfl) z3.1 (Or.inl z3.2) ?_
  have hC4 := jCW.upd hC (k := (l3).toNatClampNeg) (v := some l1) z1.1 (by decide)
  refine ev_aload_n dJ2_add_2_15 rfl ?_
  refine ev_iload_n dJ2_add_2_16 rfl ?_
  refine ev_iconst (v := (nI 1)) dJ2_add_2_17 jc1 ?_
  refine ev_iadd dJ2_add_2_18 ?_
  by_cases z5 : K.1 l0 = 20 ∧ l0 < K.2.2
  rotate_left
  · rw [if_neg z5] at h; cases h
  rw [if_pos z5] at h
  refine ev_putI dJ2_add_2_19 (pJ2_48_20 _) z5.1 z5.2 rfl rfl rfl ?_
  cases h
  exact ev_ret dJ2_add_2_22 rfl (hq hC4)
def fJ2_add_2 (n : Nat) (ah : Nat) (a0 : Nat) (a1 : Nat) (a2 : Int32) (K : jK) (ci : jI) (cj : jJ) (cr : jR) : Option (jT Unit) := if K.1 a1 = 104 ∧ (a1 < K.2.2 ∨ 1000000 ≤ a1) then if a2 = (nI (K.2.1 a1)) then if K.1 ah = 20 ∧ ah < K.2.2 then jxb (fJ2_grow n ah K ci cj cr) (fun r4 K5 ci6 cj7 cr8 => fJ2_add_2_11 n  ah a0 r4 a2 K5 ci6 cj7 cr8) else none else fJ2_add_2_11 n  ah a0 a1 a2 K ci cj cr else none
theorem metJ2_add_2 {g : jG} {d : Nat} {Qr : jQ} {Qx : jX} (n : Nat) (ah : Nat) (a0 : Nat) (a1 : Nat) (a2 : Int32) (K : jK) (ci : jI) (cj : jJ) (cr : jR) {q} (hC : jCW K cr) (h : fJ2_add_2 n ah a0 a1 a2 K ci cj cr = some q) (hq : jqx wV q Qr Qx) : EvM g (d + 6) mJ2_add_2 [.ref ah, .ref a0, .ref a1, .int a2] K ci cj cr q.2.2.2.2.2.1 q.2.2.2.2.2.2 Qr Qx := by
  unfold fJ2_add_2 at h
  show Ev g (d + 6) mJ2_add_2 0 [.ref ah, .ref a0, .ref a1, .int a2] [] K ci cj cr q.2.2.2.2.2.1 q.2.2.2.2.2.2 Qr Qx
  refine ev_iload_n dJ2_add_2_0 rfl ?_
  refine ev_aload_n dJ2_add_2_1 rfl ?_
  by_cases z1 : K.1 a1 = 104 ∧ (a1 < K.2.2 ∨ 1000000 ≤ a1)
  rotate_left
  · rw [if_neg z1] at h; cases h
  rw [if_pos z1] at h
  refine ev_alen dJ2_add_2_2 (t := 4) z1.1 (by decide) z1.2 ?_
  refine ev_icmp_ne 11 dJ2_add_2_3 rfl (fun z2 => ?_) (fun z2 => ?_)
  · rw [if_neg z2] at h
    exact wJ2_add_2_11 n   _ _ _ _ _ _ _ _ hC h hq
  · rw [if_pos z2] at h
    refine ev_aload_n dJ2_add_2_6 rfl ?_
    by_cases z3 : K.1 ah = 20 ∧ ah < K.2.2
    rotate_left
    · rw [if_neg z3] at h; cases h
    rw [if_pos z3] at h
    refine jx_inv (wf := wR) (fun c1 s1 c sl z => ev_invV0 dJ2_add_2_7 vJ2_129_20 z3.1 (Or.inl z3.2) (Nat.le_of_ble_eq_true rfl) (Nat.le_of_ble_eq_true rfl) rfl z) h hq (fun q Qr' z zq => metJ2_grow n _ _ _ _ _ hC z zq) (fun r4 K5 ci6 cj7 cr8 w9 h hC10 hq => ?_)
    show Ev g _ _ 10 _ [.ref r4] K5 ci6 cj7 cr8 _ _ Qr Qx
    refine ev_astore_n (L' := [_, _, _, _]) dJ2_add_2_10 (by decide) rfl ?_
    exact wJ2_add_2_11 n   _ _ _ _ _ _ _ _ hC10 h hq
def fJ2_add (n : Nat) (ah : Nat) (a0 : Nat) (K : jK) (ci : jI) (cj : jJ) (cr : jR) : Option (jT Int32) := if K.1 ah = 20 ∧ ah < K.2.2 then Option.bind (cr ah 1) (fun r2 => jxb (fJ2_add_2 n ah a0 r2 ((ju ci ah 0 ((ci ah 0) + (nI 1))) ah 2) K (ju ci ah 0 ((ci ah 0) + (nI 1))) cj cr) (fun r4 K5 ci6 cj7 cr8 => some (some (nI 1), K5, ci6, cj7, cr8, 0, 0))) else none
theorem metJ2_add {g : jG} {d : Nat} {Qr : jQ} {Qx : jX} (n : Nat) (ah : Nat) (a0 : Nat) (K : jK) (ci : jI) (cj : jJ) (cr : jR) {q} (hC : jCW K cr) (h : fJ2_add n ah a0 K ci cj cr = some q) (hq : jqx wI q Qr Qx) : EvM g (d + 7) mJ2_add [.ref ah, .ref a0] K ci cj cr q.2.2.2.2.2.1 q.2.2.2.2.2.2 Qr Qx := by
  unfold fJ2_add at h
  show Ev g (d + 7) mJ2_add 0 [.ref ah, .ref a0] [] K ci cj cr q.2.2.2.2.2.1 q.2.2.2.2.2.2 Qr Qx
  refine ev_aload_n dJ2_add_0 rfl ?_
  refine ev_dup dJ2_add_1 rfl ?_
  by_cases z1 : K.1 ah = 20 ∧ ah < K.2.2
  rotate_left
  · rw [if_neg z1] at h; cases h
  rw [if_pos z1] at h
  refine ev_getI dJ2_add_2 fJ2_63_20 z1.1 (Or.inl z1.2) rfl ?_
  refine ev_iconst (v := (nI 1)) dJ2_add_5 jc1 ?_
  refine ev_iadd dJ2_add_6 ?_
  refine ev_putI dJ2_add_7 (pJ2_63_20 _) z1.1 z1.2 rfl rfl rfl ?_
  refine ev_aload_n dJ2_add_10 rfl ?_
  refine ev_aload_n dJ2_add_11 rfl ?_
  refine ev_aload_n dJ2_add_12 rfl ?_
  obtain ⟨r2, z3, h⟩ := Option.bind_eq_some_iff.mp h
  refine ev_getR dJ2_add_13 fJ2_9_20 z1.1 (Or.inl z1.2) rfl z3 ?_
  refine ev_aload_n dJ2_add_16 rfl ?_
  refine ev_getI dJ2_add_17 fJ2_48_20 z1.1 (Or.inl z1.2) rfl ?_
  refine jx_inv (wf := wV) (fun c1 s1 c sl z => ev_invV3 dJ2_add_20 vJ2_131_20 z1.1 (Or.inl z1.2) (Nat.le_of_ble_eq_true rfl) (Nat.le_of_ble_eq_true rfl) rfl z) h hq (fun q Qr' z zq => metJ2_add_2 n _ _ _ _ _ _ _ _ hC z zq) (fun r4 K5 ci6 cj7 cr8 w9 h hC10 hq => ?_)
  show Ev g _ _ 23 _ [] K5 ci6 cj7 cr8 _ _ Qr Qx
  refine ev_iconst (v := (nI 1)) dJ2_add_23 jc1 ?_
  cases h
  exact ev_iret dJ2_add_24 rfl (by decide) (hq hC10)
def fJ7_coderFromArrayLen (n : Nat) (a0 : Nat) (a1 : Int32) (K : jK) (ci : jI) (cj : jJ) (cr : jR) : Option (jTp Int32) := if K.1 a0 = 101 ∧ (a0 < K.2.2 ∨ 1000000 ≤ a0) then if (((((a1 - (nI (K.2.1 a0)))).toUInt32 >>> (((nI 31)) &&& 31).toUInt32).toInt32).toInt8.toInt32).toInt8.toInt32 = ((((a1 - (nI (K.2.1 a0)))).toUInt32 >>> (((nI 31)) &&& 31).toUInt32).toInt32).toInt8.toInt32 then some (((((a1 - (nI (K.2.1 a0)))).toUInt32 >>> (((nI 31)) &&& 31).toUInt32).toInt32).toInt8.toInt32, ci, cj, cr) else none else none
theorem metJ7_coderFromArrayLen {g : jG} {d : Nat} {c sl : Nat} {Qr : jQ} {Qx : jX} (n : Nat) (a0 : Nat) (a1 : Int32) (K : jK) (ci : jI) (cj : jJ) (cr : jR) {q} (hC : jCW K cr) (h : fJ7_coderFromArrayLen n a0 a1 K ci cj cr = some q) (hq : jqp wI K q Qr) : EvM g (d + 1) mJ7_coderFromArrayLen [.ref a0, .int a1] K ci cj cr c sl Qr Qx := by
  unfold fJ7_coderFromArrayLen at h
  show Ev g (d + 1) mJ7_coderFromArrayLen 0 [.ref a0, .int a1] [] K ci cj cr c sl Qr Qx
  refine ev_iload_n dJ7_coderFromArrayLen_0 rfl ?_
  refine ev_aload_n dJ7_coderFromArrayLen_1 rfl ?_
  by_cases z1 : K.1 a0 = 101 ∧ (a0 < K.2.2 ∨ 1000000 ≤ a0)
  rotate_left
  · rw [if_neg z1] at h; cases h
  rw [if_pos z1] at h
  refine ev_alen dJ7_coderFromArrayLen_2 (t := 1) z1.1 (by decide) z1.2 ?_
  refine ev_isub dJ7_coderFromArrayLen_3 ?_
  refine ev_bipush (v := (nI 31)) dJ7_coderFromArrayLen_4 jb31 ?_
  refine ev_iushr dJ7_coderFromArrayLen_6 ?_
  refine ev_i2b dJ7_coderFromArrayLen_7 ?_
  by_cases z2 : (((((a1 - (nI (K.2.1 a0)))).toUInt32 >>> (((nI 31)) &&& 31).toUInt32).toInt32).toInt8.toInt32).toInt8.toInt32 = ((((a1 - (nI (K.2.1 a0)))).toUInt32 >>> (((nI 31)) &&& 31).toUInt32).toInt32).toInt8.toInt32
  rotate_left
  · rw [if_neg z2] at h; cases h
  rw [if_pos z2] at h
  cases h
  exact ev_iret dJ7_coderFromArrayLen_8 rfl (jbyt1 z2) (hq hC)
def fJ7_compress_2_3 (n : Nat) : Nat → Nat → Int32 → Nat → Int32 → Int32 → Int32 → jK → jI → jJ → jR → Option (jTp Int32)
  | 0, _, _, _, _, _, _, _, _, _, _ => none
  | k + 1, l0, l1, l2, l3, l4, l5, K, ci, cj, cr => if l4 ≤ l5 then some (l4, ci, cj, cr) else if K.1 l0 = 102 ∧ l0 < K.2.2 then if jok l1 (K.2.1 l0) then if (ci l0 (l1).toNatClampNeg) ≤ (nI 255) then if K.1 l2 = 101 ∧ l2 < K.2.2 then if jok l3 (K.2.1 l2) then fJ7_compress_2_3 n  k l0 (l1 + (nI 1)) l2 (l3 + (nI 1)) l4 (l5 + (nI 1)) K (ju ci l2 (l3).toNatClampNeg (((ci l0 (l1).toNatClampNeg)).toInt8.toInt32).toInt8.toInt32) cj cr else none else none else some (l5, ci, cj, cr) else none else none
theorem wJ7_compress_2_3 {g : jG} {d : Nat} {c sl : Nat} {Qr : jQ} {Qx : jX} (n : Nat) : ∀ (k : Nat) (l0 : Nat) (l1 : Int32) (l2 : Nat) (l3 : Int32) (l4 : Int32) (l5 : Int32) (K : jK) (ci : jI) (cj : jJ) (cr : jR) {q}, jCW K cr → fJ7_compress_2_3 n  k l0 l1 l2 l3 l4 l5 K ci cj cr = some q → jqp wI K q Qr → Ev g (d + 1) mJ7_compress_2 3 [.ref l0, .int l1, .ref l2, .int l3, .int l4, .int l5, jU] [] K ci cj cr c sl Qr Qx := by
  intro k
  induction k with
  | zero =>
    intro l0 l1 l2 l3 l4 l5 K ci cj cr q hC h hq
    rw [fJ7_compress_2_3.eq_1] at h; cases h
  | succ k ih =>
    intro l0 l1 l2 l3 l4 l5 K ci cj cr q hC h hq
    rw [fJ7_compress_2_3.eq_2] at h
    refine ev_iload dJ7_compress_2_3 rfl ?_
    refine ev_iload dJ7_compress_2_5 rfl ?_
    refine ev_icmp_ge 44 dJ7_compress_2_7 rfl (fun z1 => ?_) (fun z1 => ?_)
    · rw [if_pos z1] at h
      refine ev_iload dJ7_compress_2_44 rfl ?_
      cases h
      exact ev_iret dJ7_compress_2_46 rfl rfl (hq hC)
    · rw [if_neg z1] at h
      refine ev_aload_n dJ7_compress_2_10 rfl ?_
      refine ev_iload_n dJ7_compress_2_11 rfl ?_
      by_cases z2 : K.1 l0 = 102 ∧ l0 < K.2.2
      rotate_left
      · rw [if_neg z2] at h; cases h
      rw [if_pos z2] at h
      by_cases z3 : jok l1 (K.2.1 l0)
      rotate_left
      · rw [if_neg z3] at h; cases h
      rw [if_pos z3] at h
      refine ev_caload dJ7_compress_2_12 z2.1 (Or.inl z2.2) (jok.ix z3 rfl) ?_
      refine ev_istore (L' := [_, _, _, _, _, _, _]) dJ7_compress_2_13 (by decide) rfl ?_
      refine ev_iload dJ7_compress_2_15 rfl ?_
      refine ev_sipush (v := (nI 255)) dJ7_compress_2_17 js255 ?_
      refine ev_icmp_le 26 dJ7_compress_2_20 rfl (fun z4 => ?_) (fun z4 => ?_)
      · rw [if_pos z4] at h
        refine ev_aload_n dJ7_compress_2_26 rfl ?_
        refine ev_iload_n dJ7_compress_2_27 rfl ?_
        refine ev_iload dJ7_compress_2_28 rfl ?_
        refine ev_i2b dJ7_compress_2_30 ?_
        by_cases z5 : K.1 l2 = 101 ∧ l2 < K.2.2
        rotate_left
        · rw [if_neg z5] at h; cases h
        rw [if_pos z5] at h
        by_cases z6 : jok l3 (K.2.1 l2)
        rotate_left
        · rw [if_neg z6] at h; cases h
        rw [if_pos z6] at h
        refine ev_bastore dJ7_compress_2_31 z5.1 z5.2 (jok.ix z6 rfl) ?_
        refine ev_iinc (v := (l1 + (nI 1))) (L' := [_, _, _, _, _, _, _]) dJ7_compress_2_32 rfl (by rw [ji_1]) (by decide) rfl ?_
        refine ev_iinc (v := (l3 + (nI 1))) (L' := [_, _, _, _, _, _, _]) dJ7_compress_2_35 rfl (by rw [ji_1]) (by decide) rfl ?_
        refine ev_iinc (v := (l5 + (nI 1))) (L' := [_, _, _, _, _, _, _]) dJ7_compress_2_38 rfl (by rw [ji_1]) (by decide) rfl ?_
        refine ev_goto 3 dJ7_compress_2_41 rfl ?_
        exact ev_mask [true, true, true, true, true, true, false] (ih _ _ _ _ _ _ _ _ _ _ hC h hq)
      · rw [if_neg z4] at h
        refine ev_iload dJ7_compress_2_23 rfl ?_
        cases h
        exact ev_iret dJ7_compress_2_25 rfl rfl (hq hC)
def fJ7_compress_2 (n : Nat) (a0 : Nat) (a1 : Int32) (a2 : Nat) (a3 : Int32) (a4 : Int32) (K : jK) (ci : jI) (cj : jJ) (cr : jR) : Option (jTp Int32) := fJ7_compress_2_3 n  n a0 a1 a2 a3 a4 (nI 0) K ci cj cr
theorem metJ7_compress_2 {g : jG} {d : Nat} {c sl : Nat} {Qr : jQ} {Qx : jX} (n : Nat) (a0 : Nat) (a1 : Int32) (a2 : Nat) (a3 : Int32) (a4 : Int32) (K : jK) (ci : jI) (cj : jJ) (cr : jR) {q} (hC : jCW K cr) (h : fJ7_compress_2 n a0 a1 a2 a3 a4 K ci cj cr = some q) (hq : jqp wI K q Qr) : EvM g (d + 1) mJ7_compress_2 [.ref a0, .int a1, .ref a2, .int a3, .int a4] K ci cj cr c sl Qr Qx := by
  unfold fJ7_compress_2 at h
  show Ev g (d + 1) mJ7_compress_2 0 [.ref a0, .int a1, .ref a2, .int a3, .int a4, jU, jU] [] K ci cj cr c sl Qr Qx
  refine ev_iconst (v := (nI 0)) dJ7_compress_2_0 jc0 ?_
  refine ev_istore (L' := [_, _, _, _, _, _, _]) dJ7_compress_2_1 (by decide) rfl ?_
  exact wJ7_compress_2_3 n   n _ _ _ _ _ _ _ _ _ _ hC h hq
def fJ7_compress_57 (n : Nat) (l3 : Nat) (K : jK) (ci : jI) (cj : jJ) (cr : jR) : Option (jT Nat) := some (some l3, K, ci, cj, cr, 0, 0)
theorem wJ7_compress_57 {g : jG} {d : Nat} {Qr : jQ} {Qx : jX} (n : Nat) (l3 : Nat) (K : jK) (ci : jI) (cj : jJ) (cr : jR) {q} (hC : jCW K cr) (h : fJ7_compress_57 n  l3 K ci cj cr = some q) (hq : jqx wR q Qr Qx) : Ev g (d + 2) mJ7_compress 57 [jU, jU, jU, .ref l3, jU, jU] [] K ci cj cr q.2.2.2.2.2.1 q.2.2.2.2.2.2 Qr Qx := by
  unfold fJ7_compress_57 at h
  refine ev_aload_n dJ7_compress_57 rfl ?_
  cases h
  exact ev_aret dJ7_compress_58 rfl rfl (hq hC)
def fJ7_compress (n : Nat) (a0 : Nat) (a1 : Int32) (a2 : Int32) (K : jK) (ci : jI) (cj : jJ) (cr : jR) : Option (jT Nat) := if K.2.2 < 1000000 then if ¬ a2 < 0 ∧ (a2).toNatClampNeg ≤ 65536 then jal (a2).toNatClampNeg (jpb (fJ7_compress_2 n a0 a1 K.2.2 (nI 0) a2 (jnK K 101 (a2).toNatClampNeg) ci cj cr) (fun r5 ci6 cj7 cr8 => if r5 = a2 then fJ7_compress_57 n  K.2.2 (jnK K 101 (a2).toNatClampNeg) ci6 cj7 cr8 else none)) else none else none
theorem metJ7_compress {g : jG} {d : Nat} {Qr : jQ} {Qx : jX} (n : Nat) (a0 : Nat) (a1 : Int32) (a2 : Int32) (K : jK) (ci : jI) (cj : jJ) (cr : jR) {q} (hC : jCW K cr) (h : fJ7_compress n a0 a1 a2 K ci cj cr = some q) (hq : jqx wR q Qr Qx) : EvM g (d + 2) mJ7_compress [.ref a0, .int a1, .int a2] K ci cj cr q.2.2.2.2.2.1 q.2.2.2.2.2.2 Qr Qx := by
  unfold fJ7_compress at h
  show Ev g (d + 2) mJ7_compress 0 [.ref a0, .int a1, .int a2, jU, jU, jU] [] K ci cj cr q.2.2.2.2.2.1 q.2.2.2.2.2.2 Qr Qx
  refine ev_iload_n dJ7_compress_0 rfl ?_
  by_cases z1 : K.2.2 < 1000000
  rotate_left
  · rw [if_neg z1] at h; cases h
  rw [if_pos z1] at h
  by_cases z2 : ¬ a2 < 0 ∧ (a2).toNatClampNeg ≤ 65536
  rotate_left
  · rw [if_neg z2] at h; cases h
  rw [if_pos z2] at h
  refine jx_new (fun c sl z => ev_newa_byte dJ7_compress_1 z2.1 rfl z2.2 z1 z) h hq (fun w3 h hq => ?_)
  have hC4 := jCW.new hC 101 (a2).toNatClampNeg
  show Ev g _ _ 3 _ [.ref K.2.2] (jnK K 101 (a2).toNatClampNeg) ci cj cr _ _ Qr Qx
  refine ev_astore_n (L' := [_, _, _, _, _, _]) dJ7_compress_3 (by decide) rfl ?_
  refine ev_aload_n dJ7_compress_4 rfl ?_
  refine ev_iload_n dJ7_compress_5 rfl ?_
  refine ev_aload_n dJ7_compress_6 rfl ?_
  refine ev_iconst (v := (nI 0)) dJ7_compress_7 jc0 ?_
  refine ev_iload_n dJ7_compress_8 rfl ?_
  obtain ⟨r5, ci6, cj7, cr8, z9, h⟩ := jpb_inv h
  refine ev_zS5 dJ7_compress_9 sJ7_115 (Nat.le_of_ble_eq_true rfl) (Nat.le_of_ble_eq_true rfl) rfl (metJ7_compress_2 n _ _ _ _ _ _ _ _ _ hC4 z9 (fun hC10 => ?_))
  show Ev g _ _ 12 _ [.int r5] (jnK K 101 (a2).toNatClampNeg) ci6 cj7 cr8 _ _ Qr Qx
  refine ev_istore (L' := [_, _, _, _, _, _]) dJ7_compress_12 (by decide) rfl ?_
  refine ev_iload dJ7_compress_14 rfl ?_
  refine ev_iload_n dJ7_compress_16 rfl ?_
  refine ev_icmp_eq 57 dJ7_compress_17 rfl (fun z11 => ?_) (fun z11 => ?_)
  · rw [if_pos z11] at h
    exact ev_mask [false, false, false, true, false, false] (wJ7_compress_57 n   _ _ _ _ _ hC10 h hq)
  · rw [if_neg z11] at h
    refine ev_aload_n dJ7_compress_20 rfl ?_
    refine ev_iload_n dJ7_compress_21 rfl ?_
    refine ev_iload_n dJ7_compress_22 rfl ?_
    cases h
def fJ6_init_2 (n : Nat) (ah : Nat) (a0 : Nat) (a1 : Int32) (a2 : Int32) (K : jK) (ci : jI) (cj : jJ) (cr : jR) : Option (jT Unit) := if a2 = 0 then none else jxb (fJ7_compress n a0 a1 a2 K ci cj cr) (fun r2 K3 ci4 cj5 cr6 => jpb (fJ7_coderFromArrayLen n r2 a2 K3 ci4 cj5 cr6) (fun r9 ci10 cj11 cr12 => if K3.1 ah = 21 ∧ ah < K3.2.2 then if (r9).toInt8.toInt32 = r9 ∧ fits .byte (.int r9) = true then some (some (), K3, (ju ci10 ah 1 r9), cj11, (ju cr12 ah 0 (some r2)), 0, 0) else none else none))
theorem metJ6_init_2 {g : jG} {d : Nat} {Qr : jQ} {Qx : jX} (n : Nat) (ah : Nat) (a0 : Nat) (a1 : Int32) (a2 : Int32) (K : jK) (ci : jI) (cj : jJ) (cr : jR) {q} (hC : jCW K cr) (h : fJ6_init_2 n ah a0 a1 a2 K ci cj cr = some q) (hq : jqx wV q Qr Qx) : EvM g (d + 3) mJ6_init_2 [.ref ah, .ref a0, .int a1, .int a2, .null] K ci cj cr q.2.2.2.2.2.1 q.2.2.2.2.2.2 Qr Qx := by
  unfold fJ6_init_2 at h
  show Ev g (d + 3) mJ6_init_2 0 [.ref ah, .ref a0, .int a1, .int a2, .null, jU] [] K ci cj cr q.2.2.2.2.2.1 q.2.2.2.2.2.2 Qr Qx
  refine ev_aload_n dJ6_init_2_0 rfl ?_
  refine ev_objInit dJ6_init_2_1 q606 (Nat.le_of_ble_eq_true rfl) ?_
  refine ev_iload_n dJ6_init_2_4 rfl ?_
  refine ev_if_ne 27 dJ6_init_2_5 rfl (fun z1 => ?_) (fun z1 => ?_)
  · rw [if_neg z1] at h
    refine ev_gets ("java/lang/String", "COMPACT_STRINGS", "Z", .int 1) dJ6_init_2_27 q608 (by decide +kernel) ?_
    refine ev_if_eq 58 dJ6_init_2_30 rfl (fun z => ?_) (fun z => ?_)
    · exact absurd z (by decide)
    refine ev_aload_n dJ6_init_2_33 rfl ?_
    refine ev_iload_n dJ6_init_2_34 rfl ?_
    refine ev_iload_n dJ6_init_2_35 rfl ?_
    refine jx_inv (wf := wR) (fun c1 s1 c sl z => ev_invS3 dJ6_init_2_36 sJ6_177 (Nat.le_of_ble_eq_true rfl) (Nat.le_of_ble_eq_true rfl) rfl z) h hq (fun q Qr' z zq => metJ7_compress n _ _ _ _ _ _ _ hC z zq) (fun r2 K3 ci4 cj5 cr6 w7 h hC8 hq => ?_)
    show Ev g _ _ 39 _ [.ref r2] K3 ci4 cj5 cr6 _ _ Qr Qx
    refine ev_astore (L' := [_, _, _, _, _, _]) dJ6_init_2_39 (by decide) rfl ?_
    refine ev_aload_n dJ6_init_2_41 rfl ?_
    refine ev_aload dJ6_init_2_42 rfl ?_
    refine ev_iload_n dJ6_init_2_44 rfl ?_
    obtain ⟨r9, ci10, cj11, cr12, z13, h⟩ := jpb_inv h
    refine ev_zS2 dJ6_init_2_45 sJ6_47 (Nat.le_of_ble_eq_true rfl) (Nat.le_of_ble_eq_true rfl) rfl (metJ7_coderFromArrayLen n _ _ _ _ _ _ hC8 z13 (fun hC14 => ?_))
    show Ev g _ _ 48 _ [.int r9, .ref ah] K3 ci10 cj11 cr12 _ _ Qr Qx
    by_cases z15 : K3.1 ah = 21 ∧ ah < K3.2.2
    rotate_left
    · rw [if_neg z15] at h; cases h
    rw [if_pos z15] at h
    by_cases z16 : (r9).toInt8.toInt32 = r9 ∧ fits .byte (.int r9) = true
    rotate_left
    · rw [if_neg z16] at h; cases h
    rw [if_pos z16] at h
    refine ev_putI dJ6_init_2_48 pJ6_15_21 z15.1 z15.2 rfl (jbyt1 z16.1) z16.2 ?_
    refine ev_aload_n dJ6_init_2_51 rfl ?_
    refine ev_aload dJ6_init_2_52 rfl ?_
    refine ev_putR dJ6_init_2_54 pJ6_9_21 z15.1 z15.2 rfl ?_
    have hC17 := jCW.upd hC14 (k := 0) (v := (some r2)) z15.1 (by decide)
    cases h
    exact ev_ret dJ6_init_2_57 rfl (hq hC17)
  · rw [if_pos z1] at h
    refine ev_aload_n dJ6_init_2_8 rfl ?_
    cases h
def fJ6_init (n : Nat) (ah : Nat) (a0 : Nat) (K : jK) (ci : jI) (cj : jJ) (cr : jR) : Option (jT Unit) := if K.1 a0 = 102 ∧ a0 < K.2.2 then jxb (fJ6_init_2 n ah a0 (nI 0) (nI (K.2.1 a0)) K ci cj cr) (fun r2 K3 ci4 cj5 cr6 => some (some (), K3, ci4, cj5, cr6, 0, 0)) else none
theorem metJ6_init {g : jG} {d : Nat} {Qr : jQ} {Qx : jX} (n : Nat) (ah : Nat) (a0 : Nat) (K : jK) (ci : jI) (cj : jJ) (cr : jR) {q} (hC : jCW K cr) (h : fJ6_init n ah a0 K ci cj cr = some q) (hq : jqx wV q Qr Qx) : EvM g (d + 4) mJ6_init [.ref ah, .ref a0] K ci cj cr q.2.2.2.2.2.1 q.2.2.2.2.2.2 Qr Qx := by
  unfold fJ6_init at h
  show Ev g (d + 4) mJ6_init 0 [.ref ah, .ref a0] [] K ci cj cr q.2.2.2.2.2.1 q.2.2.2.2.2.2 Qr Qx
  refine ev_aload_n dJ6_init_0 rfl ?_
  refine ev_aload_n dJ6_init_1 rfl ?_
  refine ev_iconst (v := (nI 0)) dJ6_init_2 jc0 ?_
  refine ev_aload_n dJ6_init_3 rfl ?_
  by_cases z1 : K.1 a0 = 102 ∧ a0 < K.2.2
  rotate_left
  · rw [if_neg z1] at h; cases h
  rw [if_pos z1] at h
  refine ev_alen dJ6_init_4 (t := 2) z1.1 (by decide) (Or.inl z1.2) ?_
  refine ev_null dJ6_init_5 ?_
  refine jx_inv (wf := wV) (fun c1 s1 c sl z => ev_invI4 dJ6_init_6 iJ6_27 (Nat.le_of_ble_eq_true rfl) (Nat.le_of_ble_eq_true rfl) rfl z) h hq (fun q Qr' z zq => metJ6_init_2 n _ _ _ _ _ _ _ _ hC z zq) (fun r2 K3 ci4 cj5 cr6 w7 h hC8 hq => ?_)
  show Ev g _ _ 9 _ [] K3 ci4 cj5 cr6 _ _ Qr Qx
  cases h
  exact ev_ret dJ6_init_9 rfl (hq hC8)
def fJ6_valueOf (n : Nat) (a0 : Nat) (K : jK) (ci : jI) (cj : jJ) (cr : jR) : Option (jT Nat) := if K.2.2 < 1000000 then jal (jfn 21) (jxb (fJ6_init n K.2.2 a0 (jnK K 21 0) ci cj cr) (fun r4 K5 ci6 cj7 cr8 => some (some K.2.2, K5, ci6, cj7, cr8, 0, 0))) else none
theorem metJ6_valueOf {g : jG} {d : Nat} {Qr : jQ} {Qx : jX} (n : Nat) (a0 : Nat) (K : jK) (ci : jI) (cj : jJ) (cr : jR) {q} (hC : jCW K cr) (h : fJ6_valueOf n a0 K ci cj cr = some q) (hq : jqx wR q Qr Qx) : EvM g (d + 5) mJ6_valueOf [.ref a0] K ci cj cr q.2.2.2.2.2.1 q.2.2.2.2.2.2 Qr Qx := by
  unfold fJ6_valueOf at h
  show Ev g (d + 5) mJ6_valueOf 0 [.ref a0] [] K ci cj cr q.2.2.2.2.2.1 q.2.2.2.2.2.2 Qr Qx
  by_cases z1 : K.2.2 < 1000000
  rotate_left
  · rw [if_neg z1] at h; cases h
  rw [if_pos z1] at h
  refine jx_new (fun c sl z => ev_new dJ6_valueOf_0 nJ6_10 z1 z) h hq (fun w2 h hq => ?_)
  have hC3 := jCW.new hC 21 0
  show Ev g _ _ 3 _ [.ref K.2.2] (jnK K 21 0) ci cj cr _ _ Qr Qx
  refine ev_dup dJ6_valueOf_3 rfl ?_
  refine ev_aload_n dJ6_valueOf_4 rfl ?_
  refine jx_inv (wf := wV) (fun c1 s1 c sl z => ev_invI1 dJ6_valueOf_5 iJ6_1008 (Nat.le_of_ble_eq_true rfl) (Nat.le_of_ble_eq_true rfl) rfl z) h hq (fun q Qr' z zq => metJ6_init n _ _ _ _ _ _ hC3 z zq) (fun r4 K5 ci6 cj7 cr8 w9 h hC10 hq => ?_)
  show Ev g _ _ 8 _ [.ref K.2.2] K5 ci6 cj7 cr8 _ _ Qr Qx
  cases h
  exact ev_aret dJ6_valueOf_8 rfl rfl (hq hC10)
def fJ8_checkFromIndexSize_15 (n : Nat) (l0 : Int32) (l1 : Int32) (l2 : Int32) (K : jK) (ci : jI) (cj : jJ) (cr : jR) : Option (jTp Int32) := none
theorem wJ8_checkFromIndexSize_15 {g : jG} {d : Nat} {a3 : Option Nat} {c sl : Nat} {Qr : jQ} {Qx : jX} (n : Nat) (l0 : Int32) (l1 : Int32) (l2 : Int32) (K : jK) (ci : jI) (cj : jJ) (cr : jR) {q} (hC : jCW K cr) (h : fJ8_checkFromIndexSize_15 n  l0 l1 l2 K ci cj cr = some q) (hq : jqp wI K q Qr) : Ev g (d + 1) mJ8_checkFromIndexSize 15 [.int l0, .int l1, .int l2, va_rf a3] [] K ci cj cr c sl Qr Qx := by
  unfold fJ8_checkFromIndexSize_15 at h
  refine ev_aload_nQ dJ8_checkFromIndexSize_15 rfl ?_
  refine ev_iload_n dJ8_checkFromIndexSize_16 rfl ?_
  refine ev_iload_n dJ8_checkFromIndexSize_17 rfl ?_
  refine ev_iload_n dJ8_checkFromIndexSize_18 rfl ?_
  cases h
def fJ8_checkFromIndexSize (n : Nat) (a0 : Int32) (a1 : Int32) (a2 : Int32) (K : jK) (ci : jI) (cj : jJ) (cr : jR) : Option (jTp Int32) := if ((a2 ||| a0) ||| a1) < 0 then fJ8_checkFromIndexSize_15 n  a0 a1 a2 K ci cj cr else if a1 ≤ (a2 - a0) then some (a0, ci, cj, cr) else fJ8_checkFromIndexSize_15 n  a0 a1 a2 K ci cj cr
theorem metJ8_checkFromIndexSize {g : jG} {d : Nat} {a3 : Option Nat} {c sl : Nat} {Qr : jQ} {Qx : jX} (n : Nat) (a0 : Int32) (a1 : Int32) (a2 : Int32) (K : jK) (ci : jI) (cj : jJ) (cr : jR) {q} (hC : jCW K cr) (h : fJ8_checkFromIndexSize n a0 a1 a2 K ci cj cr = some q) (hq : jqp wI K q Qr) : EvM g (d + 1) mJ8_checkFromIndexSize [.int a0, .int a1, .int a2, va_rf a3] K ci cj cr c sl Qr Qx := by
  unfold fJ8_checkFromIndexSize at h
  have e9 : jentP mJ8_checkFromIndexSize.2.2.1 [.int a0, .int a1, .int a2, va_rf a3] = [.int a0, .int a1, .int a2, va_rf a3] := by cases a3 <;>  rfl
  show Ev g (d + 1) mJ8_checkFromIndexSize 0 (jentP mJ8_checkFromIndexSize.2.2.1 [.int a0, .int a1, .int a2, va_rf a3]) [] K ci cj cr c sl Qr Qx
  rw [e9]
  refine ev_iload_n dJ8_checkFromIndexSize_0 rfl ?_
  refine ev_iload_n dJ8_checkFromIndexSize_1 rfl ?_
  refine ev_ior dJ8_checkFromIndexSize_2 ?_
  refine ev_iload_n dJ8_checkFromIndexSize_3 rfl ?_
  refine ev_ior dJ8_checkFromIndexSize_4 ?_
  refine ev_if_lt 15 dJ8_checkFromIndexSize_5 rfl (fun z1 => ?_) (fun z1 => ?_)
  · rw [if_pos z1] at h
    exact wJ8_checkFromIndexSize_15 n   _ _ _ _ _ _ _ hC h hq
  · rw [if_neg z1] at h
    refine ev_iload_n dJ8_checkFromIndexSize_8 rfl ?_
    refine ev_iload_n dJ8_checkFromIndexSize_9 rfl ?_
    refine ev_iload_n dJ8_checkFromIndexSize_10 rfl ?_
    refine ev_isub dJ8_checkFromIndexSize_11 ?_
    refine ev_icmp_le 23 dJ8_checkFromIndexSize_12 rfl (fun z2 => ?_) (fun z2 => ?_)
    · rw [if_pos z2] at h
      refine ev_iload_n dJ8_checkFromIndexSize_23 rfl ?_
      cases h
      exact ev_iret dJ8_checkFromIndexSize_24 rfl rfl (hq hC)
    · rw [if_neg z2] at h
      exact wJ8_checkFromIndexSize_15 n   _ _ _ _ _ _ _ hC h hq
def fJ6_checkBoundsOffCount (n : Nat) (a0 : Int32) (a1 : Int32) (a2 : Int32) (K : jK) (ci : jI) (cj : jJ) (cr : jR) : Option (jTp Int32) := jpb (fJ8_checkFromIndexSize n a0 a1 a2 K ci cj cr) (fun r2 ci3 cj4 cr5 => some (r2, ci3, cj4, cr5))
theorem metJ6_checkBoundsOffCount {g : jG} {d : Nat} {c sl : Nat} {Qr : jQ} {Qx : jX} (n : Nat) (a0 : Int32) (a1 : Int32) (a2 : Int32) (K : jK) (ci : jI) (cj : jJ) (cr : jR) {q} (hC : jCW K cr) (h : fJ6_checkBoundsOffCount n a0 a1 a2 K ci cj cr = some q) (hq : jqp wI K q Qr) : EvM g (d + 2) mJ6_checkBoundsOffCount [.int a0, .int a1, .int a2] K ci cj cr c sl Qr Qx := by
  unfold fJ6_checkBoundsOffCount at h
  show Ev g (d + 2) mJ6_checkBoundsOffCount 0 [.int a0, .int a1, .int a2] [] K ci cj cr c sl Qr Qx
  refine ev_iload_n dJ6_checkBoundsOffCount_0 rfl ?_
  refine ev_iload_n dJ6_checkBoundsOffCount_1 rfl ?_
  refine ev_iload_n dJ6_checkBoundsOffCount_2 rfl ?_
  refine ev_getsQ ("jdk/internal/util/Preconditions", "SIOOBE_FORMATTER", "Ljava/util/function/BiFunction;", 1000008) dJ6_checkBoundsOffCount_3 q650 (by decide +kernel) (fun x1 => ?_)
  obtain ⟨r2, ci3, cj4, cr5, z6, h⟩ := jpb_inv h
  refine ev_zS4 dJ6_checkBoundsOffCount_6 sJ6_1065 (by rcases x1 with _ | _ <;>  exact Nat.le_of_ble_eq_true rfl) (Nat.le_of_ble_eq_true rfl) rfl (metJ8_checkFromIndexSize (a3 := x1) n _ _ _ _ _ _ _ hC z6 (fun hC7 => ?_))
  show Ev g _ _ 9 _ [.int r2] K ci3 cj4 cr5 _ _ Qr Qx
  cases h
  exact ev_iret dJ6_checkBoundsOffCount_9 rfl rfl (hq hC7)
def fJ6_isLatin1_18 (n : Nat) (t0 : Int32) (K : jK) (ci : jI) (cj : jJ) (cr : jR) : Option (jTp Int32) := if t0 = 0 ∨ t0 = 1 then some (t0, ci, cj, cr) else none
theorem wJ6_isLatin1_18 {g : jG} {d : Nat} {c sl : Nat} {Qr : jQ} {Qx : jX} (n : Nat) (t0 : Int32) (K : jK) (ci : jI) (cj : jJ) (cr : jR) {q} (hC : jCW K cr) (h : fJ6_isLatin1_18 n  t0 K ci cj cr = some q) (hq : jqp wI K q Qr) : Ev g (d + 1) mJ6_isLatin1 18 [jU] [.int t0] K ci cj cr c sl Qr Qx := by
  unfold fJ6_isLatin1_18 at h
  by_cases z1 : t0 = 0 ∨ t0 = 1
  rotate_left
  · rw [if_neg z1] at h; cases h
  rw [if_pos z1] at h
  cases h
  exact ev_iret dJ6_isLatin1_18 rfl (jbool z1) (hq hC)
def fJ6_isLatin1_17 (n : Nat) (K : jK) (ci : jI) (cj : jJ) (cr : jR) : Option (jTp Int32) := fJ6_isLatin1_18 n  (nI 0) K ci cj cr
theorem wJ6_isLatin1_17 {g : jG} {d : Nat} {c sl : Nat} {Qr : jQ} {Qx : jX} (n : Nat) (K : jK) (ci : jI) (cj : jJ) (cr : jR) {q} (hC : jCW K cr) (h : fJ6_isLatin1_17 n   K ci cj cr = some q) (hq : jqp wI K q Qr) : Ev g (d + 1) mJ6_isLatin1 17 [jU] [] K ci cj cr c sl Qr Qx := by
  unfold fJ6_isLatin1_17 at h
  refine ev_iconst (v := (nI 0)) dJ6_isLatin1_17 jc0 ?_
  exact wJ6_isLatin1_18 n   _ _ _ _ _ hC h hq
def fJ6_isLatin1 (n : Nat) (ah : Nat) (K : jK) (ci : jI) (cj : jJ) (cr : jR) : Option (jTp Int32) := if K.1 ah = 21 ∧ (ah < K.2.2 ∨ 1000000 ≤ ah) then if (ci ah 1) = 0 then fJ6_isLatin1_18 n  (nI 1) K ci cj cr else fJ6_isLatin1_17 n   K ci cj cr else none
theorem metJ6_isLatin1 {g : jG} {d : Nat} {c sl : Nat} {Qr : jQ} {Qx : jX} (n : Nat) (ah : Nat) (K : jK) (ci : jI) (cj : jJ) (cr : jR) {q} (hC : jCW K cr) (h : fJ6_isLatin1 n ah K ci cj cr = some q) (hq : jqp wI K q Qr) : EvM g (d + 1) mJ6_isLatin1 [.ref ah] K ci cj cr c sl Qr Qx := by
  unfold fJ6_isLatin1 at h
  show Ev g (d + 1) mJ6_isLatin1 0 [.ref ah] [] K ci cj cr c sl Qr Qx
  refine ev_gets ("java/lang/String", "COMPACT_STRINGS", "Z", .int 1) dJ6_isLatin1_0 q608 (by decide +kernel) ?_
  refine ev_if_eq 17 dJ6_isLatin1_3 rfl (fun z => ?_) (fun z => ?_)
  · exact absurd z (by decide)
  refine ev_aload_n dJ6_isLatin1_6 rfl ?_
  by_cases z1 : K.1 ah = 21 ∧ (ah < K.2.2 ∨ 1000000 ≤ ah)
  rotate_left
  · rw [if_neg z1] at h; cases h
  rw [if_pos z1] at h
  refine ev_getI dJ6_isLatin1_7 fJ6_15_21 z1.1 z1.2 rfl ?_
  refine ev_if_ne 17 dJ6_isLatin1_10 rfl (fun z2 => ?_) (fun z2 => ?_)
  · rw [if_neg z2] at h
    exact ev_mask [false] (wJ6_isLatin1_17 n    _ _ _ _ hC h hq)
  · rw [if_pos z2] at h
    refine ev_iconst (v := (nI 1)) dJ6_isLatin1_13 jc1 ?_
    refine ev_goto 18 dJ6_isLatin1_14 rfl ?_
    exact ev_mask [false] (wJ6_isLatin1_18 n   _ _ _ _ _ hC h hq)
def fJ9_hashCode_51 (n : Nat) (t0 : Int32) (K : jK) (ci : jI) (cj : jJ) (cr : jR) : Option (jTp Int32) := some (t0, ci, cj, cr)
theorem wJ9_hashCode_51 {g : jG} {d : Nat} {c sl : Nat} {Qr : jQ} {Qx : jX} (n : Nat) (t0 : Int32) (K : jK) (ci : jI) (cj : jJ) (cr : jR) {q} (hC : jCW K cr) (h : fJ9_hashCode_51 n  t0 K ci cj cr = some q) (hq : jqp wI K q Qr) : Ev g (d + 3) mJ9_hashCode 51 [jU] [.int t0] K ci cj cr c sl Qr Qx := by
  unfold fJ9_hashCode_51 at h
  cases h
  exact ev_iret dJ9_hashCode_51 rfl rfl (hq hC)
def fJ9_hashCode (n : Nat) (a0 : Nat) (K : jK) (ci : jI) (cj : jJ) (cr : jR) : Option (jTp Int32) := if K.1 a0 = 101 ∧ (a0 < K.2.2 ∨ 1000000 ≤ a0) then if (nI (K.2.1 a0)) = (nI 0) then fJ9_hashCode_51 n  (nI 0) K ci cj cr else if (nI (K.2.1 a0)) = (nI 1) then if jok (nI 0) (K.2.1 a0) then fJ9_hashCode_51 n  ((ci a0 ((nI 0)).toNatClampNeg) &&& (nI 255)) K ci cj cr else none else jpb (fJ10_vectorizedHashCode n a0 (nI 0) (nI (K.2.1 a0)) (nI 0) (nI 4) K ci cj cr) (fun r5 ci6 cj7 cr8 => fJ9_hashCode_51 n  r5 K ci6 cj7 cr8) else none
theorem metJ9_hashCode {g : jG} {d : Nat} {c sl : Nat} {Qr : jQ} {Qx : jX} (n : Nat) (a0 : Nat) (K : jK) (ci : jI) (cj : jJ) (cr : jR) {q} (hC : jCW K cr) (h : fJ9_hashCode n a0 K ci cj cr = some q) (hq : jqp wI K q Qr) : EvM g (d + 3) mJ9_hashCode [.ref a0] K ci cj cr c sl Qr Qx := by
  unfold fJ9_hashCode at h
  show Ev g (d + 3) mJ9_hashCode 0 [.ref a0] [] K ci cj cr c sl Qr Qx
  refine ev_aload_n dJ9_hashCode_0 rfl ?_
  by_cases z1 : K.1 a0 = 101 ∧ (a0 < K.2.2 ∨ 1000000 ≤ a0)
  rotate_left
  · rw [if_neg z1] at h; cases h
  rw [if_pos z1] at h
  refine ev_alen dJ9_hashCode_1 (t := 1) z1.1 (by decide) z1.2 ?_
  by_cases z2 : (nI (K.2.1 a0)) = (nI 0)
  · rw [if_pos z2] at h
    refine ev_lookup 28 dJ9_hashCode_2 (by decide) (off := 26) (by rw [z2]; decide) rfl ?_
    refine ev_iconst (v := (nI 0)) dJ9_hashCode_28 jc0 ?_
    refine ev_goto 51 dJ9_hashCode_29 rfl ?_
    exact ev_mask [false] (wJ9_hashCode_51 n   _ _ _ _ _ hC h hq)
  rw [if_neg z2] at h
  by_cases z3 : (nI (K.2.1 a0)) = (nI 1)
  · rw [if_pos z3] at h
    refine ev_lookup 32 dJ9_hashCode_2 (by decide) (off := 30) (by rw [z3]; decide) rfl ?_
    refine ev_aload_n dJ9_hashCode_32 rfl ?_
    refine ev_iconst (v := (nI 0)) dJ9_hashCode_33 jc0 ?_
    by_cases z4 : jok (nI 0) (K.2.1 a0)
    rotate_left
    · rw [if_neg z4] at h; cases h
    rw [if_pos z4] at h
    refine ev_baload dJ9_hashCode_34 z1.1 z1.2 (jok.ix z4 rfl) ?_
    refine ev_sipush (v := (nI 255)) dJ9_hashCode_35 js255 ?_
    refine ev_iand dJ9_hashCode_38 ?_
    refine ev_goto 51 dJ9_hashCode_39 rfl ?_
    exact ev_mask [false] (wJ9_hashCode_51 n   _ _ _ _ _ hC h hq)
  rw [if_neg z3] at h
  refine ev_lookup 42 dJ9_hashCode_2 (by decide) (off := 40) (by show Op.lookupswitch.offset [(0, 26), (1, 30)] 40 _ = 40; rw [lv_osw z2 (by decide : ((nI 0) : Int32).toInt = 0), lv_osw z3 (by decide : ((nI 1) : Int32).toInt = 1)]; rfl) rfl ?_
  refine ev_aload_n dJ9_hashCode_42 rfl ?_
  refine ev_iconst (v := (nI 0)) dJ9_hashCode_43 jc0 ?_
  refine ev_aload_n dJ9_hashCode_44 rfl ?_
  refine ev_alen dJ9_hashCode_45 (t := 1) z1.1 (by decide) z1.2 ?_
  refine ev_iconst (v := (nI 0)) dJ9_hashCode_46 jc0 ?_
  refine ev_iconst (v := (nI 4)) dJ9_hashCode_47 jc4 ?_
  obtain ⟨r5, ci6, cj7, cr8, z9, h⟩ := jpb_inv h
  refine ev_zS5 dJ9_hashCode_48 sJ9_84 (Nat.le_of_ble_eq_true rfl) (Nat.le_of_ble_eq_true rfl) rfl (metJ10_vectorizedHashCode n _ _ _ _ _ _ _ _ _ hC z9 (fun hC10 => ?_))
  show Ev g _ _ 51 _ [.int r5] K ci6 cj7 cr8 _ _ Qr Qx
  exact ev_mask [false] (wJ9_hashCode_51 n   _ _ _ _ _ hC10 h hq)
def fJ6_hashCode_58 (n : Nat) (l1 : Int32) (K : jK) (ci : jI) (cj : jJ) (cr : jR) : Option (jTp Int32) := some (l1, ci, cj, cr)
theorem wJ6_hashCode_58 {g : jG} {d : Nat} {c sl : Nat} {Qr : jQ} {Qx : jX} (n : Nat) (l1 : Int32) (K : jK) (ci : jI) (cj : jJ) (cr : jR) {q} (hC : jCW K cr) (h : fJ6_hashCode_58 n  l1 K ci cj cr = some q) (hq : jqp wI K q Qr) : Ev g (d + 4) mJ6_hashCode 58 [jU, .int l1] [] K ci cj cr c sl Qr Qx := by
  unfold fJ6_hashCode_58 at h
  refine ev_iload_n dJ6_hashCode_58 rfl ?_
  cases h
  exact ev_iret dJ6_hashCode_59 rfl rfl (hq hC)
def fJ6_hashCode_40 (n : Nat) (l0 : Nat) (t0 : Int32) (K : jK) (ci : jI) (cj : jJ) (cr : jR) : Option (jTp Int32) := if t0 = 0 then if K.1 l0 = 21 ∧ l0 < K.2.2 then fJ6_hashCode_58 n  t0 K (ju ci l0 3 (nI 1)) cj cr else none else if K.1 l0 = 21 ∧ l0 < K.2.2 then fJ6_hashCode_58 n  t0 K (ju ci l0 2 t0) cj cr else none
theorem wJ6_hashCode_40 {g : jG} {d : Nat} {c sl : Nat} {Qr : jQ} {Qx : jX} (n : Nat) (l0 : Nat) (t0 : Int32) (K : jK) (ci : jI) (cj : jJ) (cr : jR) {q} (hC : jCW K cr) (h : fJ6_hashCode_40 n  l0 t0 K ci cj cr = some q) (hq : jqp wI K q Qr) : Ev g (d + 4) mJ6_hashCode 40 [.ref l0, jU] [.int t0] K ci cj cr c sl Qr Qx := by
  unfold fJ6_hashCode_40 at h
  refine ev_istore_n (L' := [_, _]) dJ6_hashCode_40 (by decide) rfl ?_
  refine ev_iload_n dJ6_hashCode_41 rfl ?_
  refine ev_if_ne 53 dJ6_hashCode_42 rfl (fun z1 => ?_) (fun z1 => ?_)
  · rw [if_neg z1] at h
    refine ev_aload_n dJ6_hashCode_53 rfl ?_
    refine ev_iload_n dJ6_hashCode_54 rfl ?_
    by_cases z2 : K.1 l0 = 21 ∧ l0 < K.2.2
    rotate_left
    · rw [if_neg z2] at h; cases h
    rw [if_pos z2] at h
    refine ev_putI dJ6_hashCode_55 (pJ6_19_21 _) z2.1 z2.2 rfl rfl rfl ?_
    exact ev_mask [false, true] (wJ6_hashCode_58 n   _ _ _ _ _ hC h hq)
  · rw [if_pos z1] at h
    refine ev_aload_n dJ6_hashCode_45 rfl ?_
    refine ev_iconst (v := (nI 1)) dJ6_hashCode_46 jc1 ?_
    by_cases z3 : K.1 l0 = 21 ∧ l0 < K.2.2
    rotate_left
    · rw [if_neg z3] at h; cases h
    rw [if_pos z3] at h
    refine ev_putI dJ6_hashCode_47 (pJ6_23_21 _) z3.1 z3.2 rfl (by decide) (by decide) ?_
    refine ev_goto 58 dJ6_hashCode_50 rfl ?_
    exact ev_mask [false, true] (wJ6_hashCode_58 n   _ _ _ _ _ hC h hq)
def fJ6_hashCode (n : Nat) (ah : Nat) (K : jK) (ci : jI) (cj : jJ) (cr : jR) : Option (jTp Int32) := if K.1 ah = 21 ∧ (ah < K.2.2 ∨ 1000000 ≤ ah) then if (ci ah 2) = 0 then if (ci ah 3) = 0 then jpb (fJ6_isLatin1 n ah K ci cj cr) (fun r4 ci5 cj6 cr7 => if r4 = 0 then Option.bind (cr7 ah 0) (fun r11 => none) else Option.bind (cr7 ah 0) (fun r13 => jpb (fJ9_hashCode n r13 K ci5 cj6 cr7) (fun r15 ci16 cj17 cr18 => fJ6_hashCode_40 n  ah r15 K ci16 cj17 cr18))) else fJ6_hashCode_58 n  (ci ah 2) K ci cj cr else fJ6_hashCode_58 n  (ci ah 2) K ci cj cr else none
theorem metJ6_hashCode {g : jG} {d : Nat} {c sl : Nat} {Qr : jQ} {Qx : jX} (n : Nat) (ah : Nat) (K : jK) (ci : jI) (cj : jJ) (cr : jR) {q} (hC : jCW K cr) (h : fJ6_hashCode n ah K ci cj cr = some q) (hq : jqp wI K q Qr) : EvM g (d + 4) mJ6_hashCode [.ref ah] K ci cj cr c sl Qr Qx := by
  unfold fJ6_hashCode at h
  show Ev g (d + 4) mJ6_hashCode 0 [.ref ah, jU] [] K ci cj cr c sl Qr Qx
  refine ev_aload_n dJ6_hashCode_0 rfl ?_
  by_cases z1 : K.1 ah = 21 ∧ (ah < K.2.2 ∨ 1000000 ≤ ah)
  rotate_left
  · rw [if_neg z1] at h; cases h
  rw [if_pos z1] at h
  refine ev_getI dJ6_hashCode_1 fJ6_19_21 z1.1 z1.2 rfl ?_
  refine ev_istore_n (L' := [_, _]) dJ6_hashCode_4 (by decide) rfl ?_
  refine ev_iload_n dJ6_hashCode_5 rfl ?_
  refine ev_if_ne 58 dJ6_hashCode_6 rfl (fun z2 => ?_) (fun z2 => ?_)
  · rw [if_neg z2] at h
    exact ev_mask [false, true] (wJ6_hashCode_58 n   _ _ _ _ _ hC h hq)
  · rw [if_pos z2] at h
    refine ev_aload_n dJ6_hashCode_9 rfl ?_
    refine ev_getI dJ6_hashCode_10 fJ6_23_21 z1.1 z1.2 rfl ?_
    refine ev_if_ne 58 dJ6_hashCode_13 rfl (fun z3 => ?_) (fun z3 => ?_)
    · rw [if_neg z3] at h
      exact ev_mask [false, true] (wJ6_hashCode_58 n   _ _ _ _ _ hC h hq)
    · rw [if_pos z3] at h
      refine ev_aload_n dJ6_hashCode_16 rfl ?_
      obtain ⟨r4, ci5, cj6, cr7, z8, h⟩ := jpb_inv h
      refine ev_zV0 dJ6_hashCode_17 vJ6_492_21 z1.1 z1.2 (Nat.le_of_ble_eq_true rfl) (Nat.le_of_ble_eq_true rfl) rfl (metJ6_isLatin1 n _ _ _ _ _ hC z8 (fun hC9 => ?_))
      show Ev g _ _ 20 _ [.int r4] K ci5 cj6 cr7 _ _ Qr Qx
      refine ev_if_eq 33 dJ6_hashCode_20 rfl (fun z10 => ?_) (fun z10 => ?_)
      · rw [if_pos z10] at h
        refine ev_aload_n dJ6_hashCode_33 rfl ?_
        obtain ⟨r11, z12, h⟩ := Option.bind_eq_some_iff.mp h
        refine ev_getR dJ6_hashCode_34 fJ6_9_21 z1.1 z1.2 rfl z12 ?_
        cases h
      · rw [if_neg z10] at h
        refine ev_aload_n dJ6_hashCode_23 rfl ?_
        obtain ⟨r13, z14, h⟩ := Option.bind_eq_some_iff.mp h
        refine ev_getR dJ6_hashCode_24 fJ6_9_21 z1.1 z1.2 rfl z14 ?_
        obtain ⟨r15, ci16, cj17, cr18, z19, h⟩ := jpb_inv h
        refine ev_zS1 dJ6_hashCode_27 sJ6_628 (Nat.le_of_ble_eq_true rfl) (Nat.le_of_ble_eq_true rfl) rfl (metJ9_hashCode n _ _ _ _ _ hC9 z19 (fun hC20 => ?_))
        show Ev g _ _ 30 _ [.int r15] K ci16 cj17 cr18 _ _ Qr Qx
        refine ev_goto 40 dJ6_hashCode_30 rfl ?_
        exact ev_mask [true, false] (wJ6_hashCode_40 n   _ _ _ _ _ _ hC20 h hq)
def fJ9_equals_9 (n : Nat) : Nat → Nat → Nat → Int32 → jK → jI → jJ → jR → Option (jTp Int32)
  | 0, _, _, _, _, _, _, _ => none
  | k + 1, l0, l1, l2, K, ci, cj, cr => if K.1 l0 = 101 ∧ (l0 < K.2.2 ∨ 1000000 ≤ l0) then if (nI (K.2.1 l0)) ≤ l2 then some ((nI 1), ci, cj, cr) else if jok l2 (K.2.1 l0) then if K.1 l1 = 101 ∧ (l1 < K.2.2 ∨ 1000000 ≤ l1) then if jok l2 (K.2.1 l1) then if (ci l0 (l2).toNatClampNeg) = (ci l1 (l2).toNatClampNeg) then fJ9_equals_9 n  k l0 l1 (l2 + (nI 1)) K ci cj cr else some ((nI 0), ci, cj, cr) else none else none else none else none
theorem wJ9_equals_9 {g : jG} {d : Nat} {c sl : Nat} {Qr : jQ} {Qx : jX} (n : Nat) : ∀ (k : Nat) (l0 : Nat) (l1 : Nat) (l2 : Int32) (K : jK) (ci : jI) (cj : jJ) (cr : jR) {q}, jCW K cr → fJ9_equals_9 n  k l0 l1 l2 K ci cj cr = some q → jqp wI K q Qr → Ev g (d + 1) mJ9_equals 9 [.ref l0, .ref l1, .int l2] [] K ci cj cr c sl Qr Qx := by
  intro k
  induction k with
  | zero =>
    intro l0 l1 l2 K ci cj cr q hC h hq
    rw [fJ9_equals_9.eq_1] at h; cases h
  | succ k ih =>
    intro l0 l1 l2 K ci cj cr q hC h hq
    rw [fJ9_equals_9.eq_2] at h
    refine ev_iload_n dJ9_equals_9 rfl ?_
    refine ev_aload_n dJ9_equals_10 rfl ?_
    by_cases z1 : K.1 l0 = 101 ∧ (l0 < K.2.2 ∨ 1000000 ≤ l0)
    rotate_left
    · rw [if_neg z1] at h; cases h
    rw [if_pos z1] at h
    refine ev_alen dJ9_equals_11 (t := 1) z1.1 (by decide) z1.2 ?_
    refine ev_icmp_ge 32 dJ9_equals_12 rfl (fun z2 => ?_) (fun z2 => ?_)
    · rw [if_pos z2] at h
      refine ev_iconst (v := (nI 1)) dJ9_equals_32 jc1 ?_
      cases h
      exact ev_iret dJ9_equals_33 rfl (by decide) (hq hC)
    · rw [if_neg z2] at h
      refine ev_aload_n dJ9_equals_15 rfl ?_
      refine ev_iload_n dJ9_equals_16 rfl ?_
      by_cases z3 : jok l2 (K.2.1 l0)
      rotate_left
      · rw [if_neg z3] at h; cases h
      rw [if_pos z3] at h
      refine ev_baload dJ9_equals_17 z1.1 z1.2 (jok.ix z3 rfl) ?_
      refine ev_aload_n dJ9_equals_18 rfl ?_
      refine ev_iload_n dJ9_equals_19 rfl ?_
      by_cases z4 : K.1 l1 = 101 ∧ (l1 < K.2.2 ∨ 1000000 ≤ l1)
      rotate_left
      · rw [if_neg z4] at h; cases h
      rw [if_pos z4] at h
      by_cases z5 : jok l2 (K.2.1 l1)
      rotate_left
      · rw [if_neg z5] at h; cases h
      rw [if_pos z5] at h
      refine ev_baload dJ9_equals_20 z4.1 z4.2 (jok.ix z5 rfl) ?_
      refine ev_icmp_eq 26 dJ9_equals_21 rfl (fun z6 => ?_) (fun z6 => ?_)
      · rw [if_pos z6] at h
        refine ev_iinc (v := (l2 + (nI 1))) (L' := [_, _, _]) dJ9_equals_26 rfl (by rw [ji_1]) (by decide) rfl ?_
        refine ev_goto 9 dJ9_equals_29 rfl ?_
        exact ih _ _ _ _ _ _ _ hC h hq
      · rw [if_neg z6] at h
        refine ev_iconst (v := (nI 0)) dJ9_equals_24 jc0 ?_
        cases h
        exact ev_iret dJ9_equals_25 rfl (by decide) (hq hC)
def fJ9_equals (n : Nat) (a0 : Nat) (a1 : Nat) (K : jK) (ci : jI) (cj : jJ) (cr : jR) : Option (jTp Int32) := if K.1 a0 = 101 ∧ (a0 < K.2.2 ∨ 1000000 ≤ a0) then if K.1 a1 = 101 ∧ (a1 < K.2.2 ∨ 1000000 ≤ a1) then if (nI (K.2.1 a0)) = (nI (K.2.1 a1)) then fJ9_equals_9 n  n a0 a1 (nI 0) K ci cj cr else some ((nI 0), ci, cj, cr) else none else none
theorem metJ9_equals {g : jG} {d : Nat} {c sl : Nat} {Qr : jQ} {Qx : jX} (n : Nat) (a0 : Nat) (a1 : Nat) (K : jK) (ci : jI) (cj : jJ) (cr : jR) {q} (hC : jCW K cr) (h : fJ9_equals n a0 a1 K ci cj cr = some q) (hq : jqp wI K q Qr) : EvM g (d + 1) mJ9_equals [.ref a0, .ref a1] K ci cj cr c sl Qr Qx := by
  unfold fJ9_equals at h
  show Ev g (d + 1) mJ9_equals 0 [.ref a0, .ref a1, jU] [] K ci cj cr c sl Qr Qx
  refine ev_aload_n dJ9_equals_0 rfl ?_
  by_cases z1 : K.1 a0 = 101 ∧ (a0 < K.2.2 ∨ 1000000 ≤ a0)
  rotate_left
  · rw [if_neg z1] at h; cases h
  rw [if_pos z1] at h
  refine ev_alen dJ9_equals_1 (t := 1) z1.1 (by decide) z1.2 ?_
  refine ev_aload_n dJ9_equals_2 rfl ?_
  by_cases z2 : K.1 a1 = 101 ∧ (a1 < K.2.2 ∨ 1000000 ≤ a1)
  rotate_left
  · rw [if_neg z2] at h; cases h
  rw [if_pos z2] at h
  refine ev_alen dJ9_equals_3 (t := 1) z2.1 (by decide) z2.2 ?_
  refine ev_icmp_ne 34 dJ9_equals_4 rfl (fun z3 => ?_) (fun z3 => ?_)
  · rw [if_neg z3] at h
    refine ev_iconst (v := (nI 0)) dJ9_equals_34 jc0 ?_
    cases h
    exact ev_iret dJ9_equals_35 rfl (by decide) (hq hC)
  · rw [if_pos z3] at h
    refine ev_iconst (v := (nI 0)) dJ9_equals_7 jc0 ?_
    refine ev_istore_n (L' := [_, _, _]) dJ9_equals_8 (by decide) rfl ?_
    exact wJ9_equals_9 n   n _ _ _ _ _ _ _ hC h hq
def fJ6_equals_55 (n : Nat) (t0 : Int32) (K : jK) (ci : jI) (cj : jJ) (cr : jR) : Option (jTp Int32) := if t0 = 0 ∨ t0 = 1 then some (t0, ci, cj, cr) else none
theorem wJ6_equals_55 {g : jG} {d : Nat} {c sl : Nat} {Qr : jQ} {Qx : jX} (n : Nat) (t0 : Int32) (K : jK) (ci : jI) (cj : jJ) (cr : jR) {q} (hC : jCW K cr) (h : fJ6_equals_55 n  t0 K ci cj cr = some q) (hq : jqp wI K q Qr) : Ev g (d + 2) mJ6_equals 55 [jU, jU, jU] [.int t0] K ci cj cr c sl Qr Qx := by
  unfold fJ6_equals_55 at h
  by_cases z1 : t0 = 0 ∨ t0 = 1
  rotate_left
  · rw [if_neg z1] at h; cases h
  rw [if_pos z1] at h
  cases h
  exact ev_iret dJ6_equals_55 rfl (jbool z1) (hq hC)
def fJ6_equals_54 (n : Nat) (K : jK) (ci : jI) (cj : jJ) (cr : jR) : Option (jTp Int32) := fJ6_equals_55 n  (nI 0) K ci cj cr
theorem wJ6_equals_54 {g : jG} {d : Nat} {c sl : Nat} {Qr : jQ} {Qx : jX} (n : Nat) (K : jK) (ci : jI) (cj : jJ) (cr : jR) {q} (hC : jCW K cr) (h : fJ6_equals_54 n   K ci cj cr = some q) (hq : jqp wI K q Qr) : Ev g (d + 2) mJ6_equals 54 [jU, jU, jU] [] K ci cj cr c sl Qr Qx := by
  unfold fJ6_equals_54 at h
  refine ev_iconst (v := (nI 0)) dJ6_equals_54 jc0 ?_
  exact wJ6_equals_55 n   _ _ _ _ _ hC h hq
def fJ6_equals_36 (n : Nat) (l0 : Nat) (l2 : Nat) (K : jK) (ci : jI) (cj : jJ) (cr : jR) : Option (jTp Int32) := if K.1 l0 = 21 ∧ (l0 < K.2.2 ∨ 1000000 ≤ l0) then Option.bind (cr l0 0) (fun r2 => if K.1 l2 = 21 ∧ (l2 < K.2.2 ∨ 1000000 ≤ l2) then Option.bind (cr l2 0) (fun r5 => jpb (fJ9_equals n r2 r5 K ci cj cr) (fun r7 ci8 cj9 cr10 => if r7 = 0 then fJ6_equals_54 n   K ci8 cj9 cr10 else fJ6_equals_55 n  (nI 1) K ci8 cj9 cr10)) else none) else none
theorem wJ6_equals_36 {g : jG} {d : Nat} {c sl : Nat} {Qr : jQ} {Qx : jX} (n : Nat) (l0 : Nat) (l2 : Nat) (K : jK) (ci : jI) (cj : jJ) (cr : jR) {q} (hC : jCW K cr) (h : fJ6_equals_36 n  l0 l2 K ci cj cr = some q) (hq : jqp wI K q Qr) : Ev g (d + 2) mJ6_equals 36 [.ref l0, jU, .ref l2] [] K ci cj cr c sl Qr Qx := by
  unfold fJ6_equals_36 at h
  refine ev_aload_n dJ6_equals_36 rfl ?_
  by_cases z1 : K.1 l0 = 21 ∧ (l0 < K.2.2 ∨ 1000000 ≤ l0)
  rotate_left
  · rw [if_neg z1] at h; cases h
  rw [if_pos z1] at h
  obtain ⟨r2, z3, h⟩ := Option.bind_eq_some_iff.mp h
  refine ev_getR dJ6_equals_37 fJ6_9_21 z1.1 z1.2 rfl z3 ?_
  refine ev_aload_n dJ6_equals_40 rfl ?_
  by_cases z4 : K.1 l2 = 21 ∧ (l2 < K.2.2 ∨ 1000000 ≤ l2)
  rotate_left
  · rw [if_neg z4] at h; cases h
  rw [if_pos z4] at h
  obtain ⟨r5, z6, h⟩ := Option.bind_eq_some_iff.mp h
  refine ev_getR dJ6_equals_41 fJ6_9_21 z4.1 z4.2 rfl z6 ?_
  obtain ⟨r7, ci8, cj9, cr10, z11, h⟩ := jpb_inv h
  refine ev_zS2 dJ6_equals_44 sJ6_541 (Nat.le_of_ble_eq_true rfl) (Nat.le_of_ble_eq_true rfl) rfl (metJ9_equals n _ _ _ _ _ _ hC z11 (fun hC12 => ?_))
  show Ev g _ _ 47 _ [.int r7] K ci8 cj9 cr10 _ _ Qr Qx
  refine ev_if_eq 54 dJ6_equals_47 rfl (fun z13 => ?_) (fun z13 => ?_)
  · rw [if_pos z13] at h
    exact ev_mask [false, false, false] (wJ6_equals_54 n    _ _ _ _ hC12 h hq)
  · rw [if_neg z13] at h
    refine ev_iconst (v := (nI 1)) dJ6_equals_50 jc1 ?_
    refine ev_goto 55 dJ6_equals_51 rfl ?_
    exact ev_mask [false, false, false] (wJ6_equals_55 n   _ _ _ _ _ hC12 h hq)
def fJ6_equals (n : Nat) (ah : Nat) (a0 : Nat) (K : jK) (ci : jI) (cj : jJ) (cr : jR) : Option (jTp Int32) := if K.1 ah = 21 ∧ (ah < K.2.2 ∨ 1000000 ≤ ah) then if K.1 a0 = 21 ∧ (a0 < K.2.2 ∨ 1000000 ≤ a0) then if ah < K.2.2 ∧ (a0 < K.2.2 ∨ 1000000 ≤ a0) ∨ a0 < K.2.2 ∧ (ah < K.2.2 ∨ 1000000 ≤ ah) then if ah = a0 then some ((nI 1), ci, cj, cr) else if (ci ah 1) = (ci a0 1) then fJ6_equals_36 n  ah a0 K ci cj cr else fJ6_equals_54 n   K ci cj cr else none else none else none
theorem metJ6_equals {g : jG} {d : Nat} {c sl : Nat} {Qr : jQ} {Qx : jX} (n : Nat) (ah : Nat) (a0 : Nat) (K : jK) (ci : jI) (cj : jJ) (cr : jR) {q} (hC : jCW K cr) (h : fJ6_equals n ah a0 K ci cj cr = some q) (hq : jqp wI K q Qr) : EvM g (d + 2) mJ6_equals [.ref ah, .ref a0] K ci cj cr c sl Qr Qx := by
  unfold fJ6_equals at h
  show Ev g (d + 2) mJ6_equals 0 [.ref ah, .ref a0, jU] [] K ci cj cr c sl Qr Qx
  refine ev_aload_n dJ6_equals_0 rfl ?_
  refine ev_aload_n dJ6_equals_1 rfl ?_
  by_cases z1 : K.1 ah = 21 ∧ (ah < K.2.2 ∨ 1000000 ≤ ah)
  rotate_left
  · rw [if_neg z1] at h; cases h
  rw [if_pos z1] at h
  by_cases z2 : K.1 a0 = 21 ∧ (a0 < K.2.2 ∨ 1000000 ≤ a0)
  rotate_left
  · rw [if_neg z2] at h; cases h
  rw [if_pos z2] at h
  by_cases z3 : ah < K.2.2 ∧ (a0 < K.2.2 ∨ 1000000 ≤ a0) ∨ a0 < K.2.2 ∧ (ah < K.2.2 ∨ 1000000 ≤ ah)
  rotate_left
  · rw [if_neg z3] at h; cases h
  rw [if_pos z3] at h
  refine ev_acmp_ne 7 dJ6_equals_2 rfl z1.1 z2.1 z3 (fun z4 => ?_) (fun z4 => ?_)
  · rw [if_neg z4] at h
    refine ev_aload_n dJ6_equals_7 rfl ?_
    refine ev_inst dJ6_equals_8 kJ6_10 (by rw [z2.1]; decide) z2.2 ?_
    refine ev_if_eq 54 dJ6_equals_11 rfl (fun z => ?_) (fun z => ?_)
    · exact absurd z (by decide)
    refine ev_aload_n dJ6_equals_14 rfl ?_
    refine ev_cast dJ6_equals_15 kJ6_10 (by rw [z2.1]; decide) z2.2 ?_
    refine ev_astore_n (L' := [_, _, _]) dJ6_equals_18 (by decide) rfl ?_
    refine ev_gets ("java/lang/String", "COMPACT_STRINGS", "Z", .int 1) dJ6_equals_19 q608 (by decide +kernel) ?_
    refine ev_if_eq 36 dJ6_equals_22 rfl (fun z => ?_) (fun z => ?_)
    · exact absurd z (by decide)
    refine ev_aload_n dJ6_equals_25 rfl ?_
    refine ev_getI dJ6_equals_26 fJ6_15_21 z1.1 z1.2 rfl ?_
    refine ev_aload_n dJ6_equals_29 rfl ?_
    refine ev_getI dJ6_equals_30 fJ6_15_21 z2.1 z2.2 rfl ?_
    refine ev_icmp_ne 54 dJ6_equals_33 rfl (fun z5 => ?_) (fun z5 => ?_)
    · rw [if_neg z5] at h
      exact ev_mask [false, false, false] (wJ6_equals_54 n    _ _ _ _ hC h hq)
    · rw [if_pos z5] at h
      exact ev_mask [true, false, true] (wJ6_equals_36 n   _ _ _ _ _ _ hC h hq)
  · rw [if_pos z4] at h
    refine ev_iconst (v := (nI 1)) dJ6_equals_5 jc1 ?_
    cases h
    exact ev_iret dJ6_equals_6 rfl (by decide) (hq hC)
