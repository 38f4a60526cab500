/-! THE SMALL CONSTRUCTORS -/
section
variable {g : jG} {d t : Nat} {K : jK} {ci : jI} {cj : jJ} {cr : jR} {c sl : Nat} {Qr : jQ} {Qx : jX}
theorem ctor4 (hk : K.1 t = 4) (ht : t < K.2.2) (h6 : K.2.2 < 1000000) (hq : Qr none (jnK K 103 11) ci cj (ju cr t 0 (some K.2.2))) : EvM g (d + 1) mX4_init [.ref t] K ci cj cr 1 11 Qr Qx := by
  show Ev g (d + 1) mX4_init 0 [.ref t] [] K ci cj cr 1 11 Qr Qx
  refine ev_aload_n dX4_init_0 rfl ?_
  refine ev_objInit dX4_init_1 q389 (Nat.le_of_ble_eq_true rfl) ?_
  refine ev_aload_n dX4_init_4 rfl ?_
  refine ev_bipush (v := nI 11) dX4_init_5 jb11 ?_
  refine ev_newa_long (c := 0) (sl := 0) dX4_init_7 (by decide) (by decide : (nI 11).toNatClampNeg = 11) (by decide) h6 ?_
  refine ev_putR dX4_init_9 pX4_7_4 ((va_up_ne _ _ (by omega)).trans hk) (by show t < K.2.2 + 1; omega) rfl ?_
  exact ev_ret dX4_init_12 rfl hq
theorem ctorT (hk : K.1 t = 3) (ht : t < K.2.2) (hq : ∀ cr' : jR, (∀ a, a ≠ t → ∀ k, cr' a k = cr a k) → Qr none K ci cj cr') : EvM g (d + 1) mJ3_init_2 [.ref t, .null, .null, .int (nI 0), .int (nI 0)] K ci cj cr c sl Qr Qx := by
  show Ev g (d + 1) mJ3_init_2 0 [.ref t, .null, .null, .int (nI 0), .int (nI 0)] [] K ci cj cr c sl Qr Qx
  refine ev_aload_n dJ3_init_2_0 rfl ?_
  refine ev_objInit dJ3_init_2_1 q311 (Nat.le_of_ble_eq_true rfl) ?_
  refine ev_aload_n dJ3_init_2_4 rfl ?_
  refine ev_aload_n dJ3_init_2_5 rfl ?_
  refine ev_putR dJ3_init_2_6 (pJ3_7_3 _) hk ht rfl ?_
  refine ev_aload_n dJ3_init_2_9 rfl ?_
  refine ev_getsQ ("java/lang/Throwable", "UNASSIGNED_STACK", "[Ljava/lang/StackTraceElement;", 1000006) dJ3_init_2_10 q312 (by decide +kernel) (fun x1 => ?_)
  refine ev_putQ dJ3_init_2_13 (pJ3_17_3 _) hk ht rfl ?_
  refine ev_aload_n dJ3_init_2_16 rfl ?_
  refine ev_getsQ ("java/lang/Throwable", "SUPPRESSED_SENTINEL", "Ljava/util/List;", 1000007) dJ3_init_2_17 q314 (by decide +kernel) (fun x2 => ?_)
  refine ev_putQ dJ3_init_2_20 (pJ3_24_3 _) hk ht rfl ?_
  refine ev_iload dJ3_init_2_23 rfl ?_
  refine ev_if_eq 36 dJ3_init_2_25 rfl (fun z => ?_) (fun z => absurd (by decide) z)
  refine ev_aload_n dJ3_init_2_36 rfl ?_
  refine ev_null dJ3_init_2_37 ?_
  refine ev_putN dJ3_init_2_38 (pJ3_17_3 _) hk ht rfl ?_
  refine ev_aload_n dJ3_init_2_41 rfl ?_
  refine ev_aload_nN dJ3_init_2_42 rfl ?_
  refine ev_putN dJ3_init_2_43 (pJ3_31_3 _) hk ht rfl ?_
  refine ev_aload_n dJ3_init_2_46 rfl ?_
  refine ev_aload_nN dJ3_init_2_47 rfl ?_
  refine ev_putN dJ3_init_2_48 (pJ3_7_3 _) hk ht rfl ?_
  refine ev_iload_n dJ3_init_2_51 rfl ?_
  refine ev_if_ne 60 dJ3_init_2_52 rfl (fun z => absurd (by decide) z) (fun z => ?_)
  refine ev_aload_n dJ3_init_2_55 rfl ?_
  refine ev_null dJ3_init_2_56 ?_
  refine ev_putN dJ3_init_2_57 (pJ3_24_3 _) hk ht rfl ?_
  refine ev_ret dJ3_init_2_60 rfl (hq _ (fun a ha k => ?_))
  simp only [ju, if_neg ha]
theorem ctorE (hk : K.1 t = 3) (ht : t < K.2.2) (hq : ∀ cr' : jR, (∀ a, a ≠ t → ∀ k, cr' a k = cr a k) → Qr none K ci cj cr') : EvM g (d + 2) mJ4_init [.ref t, .null, .null, .int (nI 0), .int (nI 0)] K ci cj cr c sl Qr Qx := by
  show Ev g (d + 2) mJ4_init 0 [.ref t, .null, .null, .int (nI 0), .int (nI 0)] [] K ci cj cr c sl Qr Qx
  refine ev_aload_n dJ4_init_0 rfl ?_
  refine ev_aload_nN dJ4_init_1 rfl ?_
  refine ev_aload_nN dJ4_init_2 rfl ?_
  refine ev_iload_n dJ4_init_3 rfl ?_
  refine ev_iload dJ4_init_4 rfl ?_
  refine ev_zI4 dJ4_init_6 iJ4_16 (Nat.le_of_ble_eq_true rfl) (Nat.le_of_ble_eq_true rfl) rfl (ctorT hk ht (fun cr' h => ?_))
  exact ev_ret dJ4_init_9 rfl (hq cr' h)
theorem ctorRT (hk : K.1 t = 3) (ht : t < K.2.2) (hq : ∀ cr' : jR, (∀ a, a ≠ t → ∀ k, cr' a k = cr a k) → Qr none K ci cj cr') : EvM g (d + 3) mJ5_init [.ref t, .null, .null, .int (nI 0), .int (nI 0)] K ci cj cr c sl Qr Qx := by
  show Ev g (d + 3) mJ5_init 0 [.ref t, .null, .null, .int (nI 0), .int (nI 0)] [] K ci cj cr c sl Qr Qx
  refine ev_aload_n dJ5_init_0 rfl ?_
  refine ev_aload_nN dJ5_init_1 rfl ?_
  refine ev_aload_nN dJ5_init_2 rfl ?_
  refine ev_iload_n dJ5_init_3 rfl ?_
  refine ev_iload dJ5_init_4 rfl ?_
  refine ev_zI4 dJ5_init_6 iJ5_16 (Nat.le_of_ble_eq_true rfl) (Nat.le_of_ble_eq_true rfl) rfl (ctorE hk ht (fun cr' h => ?_))
  exact ev_ret dJ5_init_9 rfl (hq cr' h)
theorem ctor3 (hk : K.1 t = 3) (ht : t < K.2.2) (hq : ∀ cr' : jR, (∀ a, a ≠ t → ∀ k, cr' a k = cr a k) → Qr none K ci cj cr') : EvM g (d + 4) mX3_init [.ref t] K ci cj cr c sl Qr Qx := by
  show Ev g (d + 4) mX3_init 0 [.ref t] [] K ci cj cr c sl Qr Qx
  refine ev_aload_n dX3_init_0 rfl ?_
  refine ev_null dX3_init_1 ?_
  refine ev_null dX3_init_2 ?_
  refine ev_iconst (v := nI 0) dX3_init_3 jc0 ?_
  refine ev_iconst (v := nI 0) dX3_init_4 jc0 ?_
  refine ev_zI4 dX3_init_5 iX3_1 (Nat.le_of_ble_eq_true rfl) (Nat.le_of_ble_eq_true rfl) rfl (ctorRT hk ht (fun cr' h => ?_))
  exact ev_ret dX3_init_8 rfl (hq cr' h)
theorem ctor2 (hk : K.1 t = 2) (ht : t < K.2.2) (h6 : K.2.2 < 1000000) (hq : ∀ cr' : jR, cr' t 7 = some 0 → cr' t 0 = some K.2.2 → (∀ a, a ≠ t → a ≠ K.2.2 → ∀ k, cr' a k = cr a k) → (∀ k, k ≠ 0 → k ≠ 7 → cr' t k = cr t k) → Qr none (jnK K 3 0) ci cj cr') : EvM g (d + 5) mX2_init [.ref t, .ref 0] K ci cj cr 1 8 Qr Qx := by
  show Ev g (d + 5) mX2_init 0 [.ref t, .ref 0] [] K ci cj cr 1 8 Qr Qx
  refine ev_aload_n dX2_init_0 rfl ?_
  refine ev_aload_n dX2_init_1 rfl ?_
  refine ev_putR dX2_init_2 pX2_3_2 hk ht rfl ?_
  refine ev_aload_n dX2_init_5 rfl ?_
  refine ev_objInit dX2_init_6 q285 (Nat.le_of_ble_eq_true rfl) ?_
  refine ev_aload_n dX2_init_9 rfl ?_
  refine ev_new (c := 0) (sl := 0) (cN := 3) dX2_init_10 nX2_15 h6 ?_
  refine ev_dup dX2_init_13 rfl ?_
  refine ev_zI0 dX2_init_14 iX2_17 (Nat.le_of_ble_eq_true rfl) (Nat.le_of_ble_eq_true rfl) rfl (ctor3 (va_up_self _ _ _) (Nat.lt_succ_self _) (fun cr' h => ?_))
  show Ev g _ _ 17 _ [.ref K.2.2, .ref t] (jnK K 3 0) ci cj cr' _ _ Qr Qx
  refine ev_putR dX2_init_17 pX2_18_2 ((va_up_ne _ _ (by omega)).trans hk) (by show t < K.2.2 + 1; omega) rfl ?_
  refine ev_ret dX2_init_20 rfl (hq _ ?_ (ju_eq _ _ _ _) (fun a h1 h2 k => ?_) (fun k h1 h2 => ?_))
  · rw [ju_ne2 _ _ (by decide), h t (by omega)]
    exact ju_eq _ _ _ _
  · rw [ju_ne _ _ h1, h a h2, ju_ne _ _ h1]
  · rw [ju_ne2 _ _ h1, h t (by omega), ju_ne2 _ _ h2]
/-! lists -/
theorem ctorC0 (hq : Qr none K ci cj cr) : EvM g (d + 1) mJ0_init [.ref t] K ci cj cr c sl Qr Qx := by
  show Ev g (d + 1) mJ0_init 0 [.ref t] [] K ci cj cr c sl Qr Qx
  refine ev_aload_n dJ0_init_0 rfl ?_
  refine ev_objInit dJ0_init_1 q223 (Nat.le_of_ble_eq_true rfl) ?_
  exact ev_ret dJ0_init_4 rfl hq
theorem ctorC1 (hk : K.1 t = 20) (ht : t < K.2.2) (hq : Qr none K (ju ci t 0 (nI 0)) cj cr) : EvM g (d + 2) mJ1_init [.ref t] K ci cj cr c sl Qr Qx := by
  show Ev g (d + 2) mJ1_init 0 [.ref t] [] K ci cj cr c sl Qr Qx
  refine ev_aload_n dJ1_init_0 rfl ?_
  refine ev_zI0 dJ1_init_1 iJ1_1 (Nat.le_of_ble_eq_true rfl) (Nat.le_of_ble_eq_true rfl) rfl (ctorC0 ?_)
  show Ev g _ _ 4 _ [] K ci cj cr c sl Qr Qx
  refine ev_aload_n dJ1_init_4 rfl ?_
  refine ev_iconst (v := nI 0) dJ1_init_5 jc0 ?_
  refine ev_putI dJ1_init_6 (pJ1_7_20 _) hk ht rfl rfl rfl ?_
  exact ev_ret dJ1_init_9 rfl hq
theorem ctorL {n : Nat} {i : Int32} (hi : ¬ i ≤ 0) (hin : i.toNatClampNeg = n) (hs : n ≤ 65536) (hk : K.1 t = 20) (ht : t < K.2.2) (h6 : K.2.2 < 1000000) (hq : Qr none (jnK K 104 n) (ju ci t 0 (nI 0)) cj (ju cr t 1 (some K.2.2))) : EvM g (d + 3) mJ2_init [.ref t, .int i] K ci cj cr (c + 1) (sl + n) Qr Qx := by
  show Ev g (d + 3) mJ2_init 0 [.ref t, .int i] [] K ci cj cr (c + 1) (sl + n) Qr Qx
  refine ev_aload_n dJ2_init_0 rfl ?_
  refine ev_zI0 dJ2_init_1 iJ2_1 (Nat.le_of_ble_eq_true rfl) (Nat.le_of_ble_eq_true rfl) rfl (ctorC1 hk ht ?_)
  show Ev g _ _ 4 _ [] K (ju ci t 0 (nI 0)) cj cr _ _ Qr Qx
  refine ev_iload_n dJ2_init_4 rfl ?_
  refine ev_if_le 19 dJ2_init_5 rfl (fun z => absurd z hi) (fun z => ?_)
  refine ev_aload_n dJ2_init_8 rfl ?_
  refine ev_iload_n dJ2_init_9 rfl ?_
  refine ev_anewO dJ2_init_10 q224 (fun h => hi (by rw [Int32.le_iff_toInt_le]; rw [Int32.lt_iff_toInt_lt] at h; omega)) hin hs h6 ?_
  refine ev_putR dJ2_init_13 (pJ2_9_20 _) ((va_up_ne _ _ (by omega)).trans hk) (by show t < K.2.2 + 1; omega) rfl ?_
  refine ev_goto 60 dJ2_init_16 rfl ?_
  exact ev_ret dJ2_init_60 rfl hq
end
