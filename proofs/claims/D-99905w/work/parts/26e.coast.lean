/-! THE COAST'S CONSTRUCTOR, as the first is made -/
section
variable {g : jG} {d : Nat} {M M' : jM} {pc : Nat} {L st : List Value} {K : jK} {ci : jI} {cj : jJ} {cr : jR} {c sl c1 s1 : Nat} {Qr : jQ} {Qx : jX} {z : Nat} {rl : List (Nat × Nat × Option Nat)} {sts : List Nat}
theorem ff_lst {index n : Nat} {i : Int32} (hd : decode M.2.1 pc = .ok (.invokespecial index, 3)) (hi : jI1 M.1.cls index 1 mJ2_init) (hst : (st.map fun v => v.category).sum ≤ 8) (hh : M.2.2.2.2 = []) (hi0 : ¬ i ≤ 0) (hin : i.toNatClampNeg = n) (hs : n ≤ 65536) (h : FF (z + 1) rl sts K cr) (h6 : z + 2 < 1000000) (hk : ckd z = 20 ∧ ckd (z + 1) = 104 ∧ cln (z + 1) = n) (hr : ∀ q ∈ rl, q.1 ≠ z ∨ q.2.1 ≠ 1) (hss : ∀ t ∈ sts, z ≠ t ∧ z ≠ t + 11)
    (kk : ∀ K' cr', FF (z + 2) ((z, 1, some (z + 1)) :: rl) sts K' cr' → Ev g (d + 4) M (pc + 3) L st K' (ju ci z 0 (nI 0)) cj cr' c sl Qr Qx) : Ev g (d + 4) M pc L (.int i :: .ref z :: st) K ci cj cr (1 + c) (n + sl) Qr Qx := by
  have e9 : K.2.2 = z + 1 := h.1
  have h9 := kk _ _ ((h.new hk.2.1 hk.2.2).put (v := z + 1) hr hss)
  rw [← e9] at h9
  have h8 := ctorL (g := g) (d := d) (c := 0) (sl := 0) (Qr := fun w K' ci' cj' cr' => Ev g (d + 4) M (pc + 3) L (w.toList ++ st) K' ci' cj' cr' c sl Qr Qx) (Qx := Qx) (ci := ci) (cj := cj) (cr := cr) hi0 hin hs (h.k (Nat.lt_succ_self z) hk.1) (by omega) (by omega) h9
  rw [Nat.zero_add, Nat.zero_add] at h8
  exact ev_invI1 hd hi (Nat.le_of_ble_eq_true rfl) hst hh h8
theorem ctor1 (h : FF 2 [(1, 5, none), (1, 6, none), (1, 7, none), (1, 8, none)] [] K cr) (hq : ∀ K' cr', FF 8 [(1, 4, some 6), (6, 1, some 7), (1, 3, some 4), (4, 1, some 5), (1, 2, some 2), (2, 1, some 3), (1, 5, none), (1, 6, none), (1, 7, none), (1, 8, none)] [] K' cr' → Qr none K' (ju (ju (ju ci 2 0 (nI 0)) 4 0 (nI 0)) 6 0 (nI 0)) cj cr') : EvM g (d + 4) mX1_init [.ref 1] K ci cj cr 6 19 Qr Qx := by
  show Ev g (d + 4) mX1_init 0 [.ref 1] [] K ci cj cr 6 19 Qr Qx
  refine ev_aload_n dX1_init_0 rfl ?_
  refine ev_objInit dX1_init_1 q211 (Nat.le_of_ble_eq_true rfl) ?_
  refine ev_aload_n dX1_init_4 rfl ?_
  refine ff_new (c := 5) (sl := 16) (cN := 20) dX1_init_5 nX1_9 h (by decide) (by decide) (fun K h => ?_)
  refine ev_dup dX1_init_8 rfl ?_
  refine ev_iconst (v := nI 4) dX1_init_9 jc4 ?_
  refine ff_lst (c := 4) (sl := 12) (n := 4) dX1_init_10 iX1_11 (Nat.le_of_ble_eq_true rfl) rfl (by decide) (by decide) (by decide) h (by decide) (by decide) (by decide) (by decide) (fun K cr h => ?_)
  refine ff_put dX1_init_13 pX1_14_1 h (by decide) (by decide) rfl (by decide) (by decide) (fun cr h _ => ?_)
  refine ev_aload_n dX1_init_16 rfl ?_
  refine ff_new (c := 3) (sl := 9) (cN := 20) dX1_init_17 nX1_9 h (by decide) (by decide) (fun K h => ?_)
  refine ev_dup dX1_init_20 rfl ?_
  refine ev_iconst (v := nI 4) dX1_init_21 jc4 ?_
  refine ff_lst (c := 2) (sl := 5) (n := 4) dX1_init_22 iX1_11 (Nat.le_of_ble_eq_true rfl) rfl (by decide) (by decide) (by decide) h (by decide) (by decide) (by decide) (by decide) (fun K cr h => ?_)
  refine ff_put dX1_init_25 pX1_20_1 h (by decide) (by decide) rfl (by decide) (by decide) (fun cr h _ => ?_)
  refine ev_aload_n dX1_init_28 rfl ?_
  refine ff_new (c := 1) (sl := 2) (cN := 20) dX1_init_29 nX1_9 h (by decide) (by decide) (fun K h => ?_)
  refine ev_dup dX1_init_32 rfl ?_
  refine ev_iconst (v := nI 2) dX1_init_33 jc2 ?_
  refine ff_lst (c := 0) (sl := 0) (n := 2) dX1_init_34 iX1_11 (Nat.le_of_ble_eq_true rfl) rfl (by decide) (by decide) (by decide) h (by decide) (by decide) (by decide) (by decide) (fun K cr h => ?_)
  refine ff_put dX1_init_37 pX1_23_1 h (by decide) (by decide) rfl (by decide) (by decide) (fun cr h _ => ?_)
  exact ev_ret dX1_init_40 rfl (hq _ _ h)
end
