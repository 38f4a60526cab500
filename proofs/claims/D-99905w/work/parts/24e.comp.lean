/-! STAGE A OF THE COMPONENT (printed by gen/comp.py) -/
set_option maxRecDepth 100000
def fX0_mostBy_76 (n : Nat) (rec6 : Int32 → Int32 → Int32 → Int32 → Int32 → jK → jI → jJ → jR → Option (jTp Int32)) (rec19 : Int32 → Int32 → Int32 → Int32 → Int32 → Int32 → Int32 → jK → jI → jJ → jR → Option (jTp Int32)) (l1 : Int32) (l2 : Int32) (l3 : Int32) (l4 : Int32) (l5 : Int32) (l7 : Int32) (t0 : Int32) (t1 : Int32) (K : jK) (ci : jI) (cj : jJ) (cr : jR) : Option (jTp Int32) := rec19 l1 l2 l3 l4 l5 (t1 + t0) (l7 + (nI 1)) K ci cj cr
theorem wX0_mostBy_76 {g : jG} {d : Nat} {c sl : Nat} {Qr : jQ} {Qx : jX} (n : Nat) (rec6 : Int32 → Int32 → Int32 → Int32 → Int32 → jK → jI → jJ → jR → Option (jTp Int32)) (rec19 : Int32 → Int32 → Int32 → Int32 → Int32 → Int32 → Int32 → jK → jI → jJ → jR → Option (jTp Int32)) (hrec6 : (∀ (l1 : Int32) (l2 : Int32) (l3 : Int32) (l4 : Int32) (l5 : Int32) (K : jK) (ci : jI) (cj : jJ) (cr : jR) {q}, jCW K cr → rec6 l1 l2 l3 l4 l5 K ci cj cr = some q → jqp wI K q Qr → Ev g (d + 2) mX0_mostBy 6 [.ref 0, .int l1, .int l2, .int l3, .int l4, .int l5, jU, jU] [] K ci cj cr c sl Qr Qx)) (hrec19 : (∀ (l1 : Int32) (l2 : Int32) (l3 : Int32) (l4 : Int32) (l5 : Int32) (l6 : Int32) (l7 : Int32) (K : jK) (ci : jI) (cj : jJ) (cr : jR) {q}, jCW K cr → rec19 l1 l2 l3 l4 l5 l6 l7 K ci cj cr = some q → jqp wI K q Qr → Ev g (d + 2) mX0_mostBy 19 [.ref 0, .int l1, .int l2, .int l3, .int l4, .int l5, .int l6, .int l7] [] K ci cj cr c sl Qr Qx)) (l1 : Int32) (l2 : Int32) (l3 : Int32) (l4 : Int32) (l5 : Int32) (l7 : Int32) (t0 : Int32) (t1 : Int32) (K : jK) (ci : jI) (cj : jJ) (cr : jR) {q} (hC : jCW K cr) (h : fX0_mostBy_76 n rec6 rec19 l1 l2 l3 l4 l5 l7 t0 t1 K ci cj cr = some q) (hq : jqp wI K q Qr) : Ev g (d + 2) mX0_mostBy 76 [.ref 0, .int l1, .int l2, .int l3, .int l4, .int l5, jU, .int l7] [.int t0, .int t1] K ci cj cr c sl Qr Qx := by
  unfold fX0_mostBy_76 at h
  refine ev_iadd dX0_mostBy_76 ?_
  refine ev_istore (L' := [_, _, _, _, _, _, _, _]) dX0_mostBy_77 (by decide) rfl ?_
  refine ev_iinc (v := (l7 + (nI 1))) (L' := [_, _, _, _, _, _, _, _]) dX0_mostBy_79 rfl (by rw [ji_1]) (by decide) rfl ?_
  refine ev_goto 19 dX0_mostBy_82 rfl ?_
  exact hrec19 _ _ _ _ _ _ _ _ _ _ _ hC h hq
def fX0_mostBy_75 (n : Nat) (rec6 : Int32 → Int32 → Int32 → Int32 → Int32 → jK → jI → jJ → jR → Option (jTp Int32)) (rec19 : Int32 → Int32 → Int32 → Int32 → Int32 → Int32 → Int32 → jK → jI → jJ → jR → Option (jTp Int32)) (l1 : Int32) (l2 : Int32) (l3 : Int32) (l4 : Int32) (l5 : Int32) (l7 : Int32) (t0 : Int32) (K : jK) (ci : jI) (cj : jJ) (cr : jR) : Option (jTp Int32) := fX0_mostBy_76 n rec6 rec19 l1 l2 l3 l4 l5 l7 (nI 0) t0 K ci cj cr
theorem wX0_mostBy_75 {g : jG} {d : Nat} {c sl : Nat} {Qr : jQ} {Qx : jX} (n : Nat) (rec6 : Int32 → Int32 → Int32 → Int32 → Int32 → jK → jI → jJ → jR → Option (jTp Int32)) (rec19 : Int32 → Int32 → Int32 → Int32 → Int32 → Int32 → Int32 → jK → jI → jJ → jR → Option (jTp Int32)) (hrec6 : (∀ (l1 : Int32) (l2 : Int32) (l3 : Int32) (l4 : Int32) (l5 : Int32) (K : jK) (ci : jI) (cj : jJ) (cr : jR) {q}, jCW K cr → rec6 l1 l2 l3 l4 l5 K ci cj cr = some q → jqp wI K q Qr → Ev g (d + 2) mX0_mostBy 6 [.ref 0, .int l1, .int l2, .int l3, .int l4, .int l5, jU, jU] [] K ci cj cr c sl Qr Qx)) (hrec19 : (∀ (l1 : Int32) (l2 : Int32) (l3 : Int32) (l4 : Int32) (l5 : Int32) (l6 : Int32) (l7 : Int32) (K : jK) (ci : jI) (cj : jJ) (cr : jR) {q}, jCW K cr → rec19 l1 l2 l3 l4 l5 l6 l7 K ci cj cr = some q → jqp wI K q Qr → Ev g (d + 2) mX0_mostBy 19 [.ref 0, .int l1, .int l2, .int l3, .int l4, .int l5, .int l6, .int l7] [] K ci cj cr c sl Qr Qx)) (l1 : Int32) (l2 : Int32) (l3 : Int32) (l4 : Int32) (l5 : Int32) (l7 : Int32) (t0 : Int32) (K : jK) (ci : jI) (cj : jJ) (cr : jR) {q} (hC : jCW K cr) (h : fX0_mostBy_75 n rec6 rec19 l1 l2 l3 l4 l5 l7 t0 K ci cj cr = some q) (hq : jqp wI K q Qr) : Ev g (d + 2) mX0_mostBy 75 [.ref 0, .int l1, .int l2, .int l3, .int l4, .int l5, jU, .int l7] [.int t0] K ci cj cr c sl Qr Qx := by
  unfold fX0_mostBy_75 at h
  refine ev_iconst (v := (nI 0)) dX0_mostBy_75 jc0 ?_
  exact wX0_mostBy_76 n _ _ (hrec6) (hrec19) _ _ _ _ _ _ _ _ _ _ _ _ hC h hq
def fX0_mostBy_19 (n : Nat) (rec6 : Int32 → Int32 → Int32 → Int32 → Int32 → jK → jI → jJ → jR → Option (jTp Int32)) : Nat → Int32 → Int32 → Int32 → Int32 → Int32 → Int32 → Int32 → jK → jI → jJ → jR → Option (jTp Int32)
  | 0, _, _, _, _, _, _, _, _, _, _, _ => none
  | k + 1, l1, l2, l3, l4, l5, l6, l7, K, ci, cj, cr => if (nI 10) ≤ l7 then jpb (fJ12_max n l4 l6 K ci cj cr) (fun r2 ci3 cj4 cr5 => rec6 l1 l2 l3 r2 (l5 + (nI 1)) K ci3 cj4 cr5) else jpb (fX0_has n l1 l5 K ci cj cr) (fun r8 ci9 cj10 cr11 => if r8 = 0 then fX0_mostBy_75 n rec6 (fX0_mostBy_19 n rec6 k) l1 l2 l3 l4 l5 l7 l6 K ci9 cj10 cr11 else jpb (fX0_has n l1 l7 K ci9 cj10 cr11) (fun r15 ci16 cj17 cr18 => if r15 = 0 then fX0_mostBy_75 n rec6 (fX0_mostBy_19 n rec6 k) l1 l2 l3 l4 l5 l7 l6 K ci16 cj17 cr18 else if jok l5 10 then Option.bind (cr18 184 (l5).toNatClampNeg) (fun r23 => if K.1 r23 = 106 ∧ r23 < K.2.2 then if jok l2 (K.2.1 r23) then Option.bind (cr18 r23 (l2).toNatClampNeg) (fun r27 => if K.1 r27 = 100 ∧ r27 < K.2.2 then if jok l3 (K.2.1 r27) then if jok l7 10 then Option.bind (cr18 184 (l7).toNatClampNeg) (fun r32 => if K.1 r32 = 106 ∧ r32 < K.2.2 then if jok l2 (K.2.1 r32) then Option.bind (cr18 r32 (l2).toNatClampNeg) (fun r36 => if K.1 r36 = 100 ∧ r36 < K.2.2 then if jok l3 (K.2.1 r36) then if (ci16 r27 (l3).toNatClampNeg) = (ci16 r36 (l3).toNatClampNeg) then fX0_mostBy_76 n rec6 (fX0_mostBy_19 n rec6 k) l1 l2 l3 l4 l5 l7 (nI 1) l6 K ci16 cj17 cr18 else fX0_mostBy_75 n rec6 (fX0_mostBy_19 n rec6 k) l1 l2 l3 l4 l5 l7 l6 K ci16 cj17 cr18 else none else none) else none else none) else none else none else none) else none else none) else none))
theorem wX0_mostBy_19 {g : jG} {d : Nat} {c sl : Nat} {Qr : jQ} {Qx : jX} (n : Nat) (rec6 : Int32 → Int32 → Int32 → Int32 → Int32 → jK → jI → jJ → jR → Option (jTp Int32)) (hrec6 : (∀ (l1 : Int32) (l2 : Int32) (l3 : Int32) (l4 : Int32) (l5 : Int32) (K : jK) (ci : jI) (cj : jJ) (cr : jR) {q}, jCW K cr → rec6 l1 l2 l3 l4 l5 K ci cj cr = some q → jqp wI K q Qr → Ev g (d + 2) mX0_mostBy 6 [.ref 0, .int l1, .int l2, .int l3, .int l4, .int l5, jU, jU] [] K ci cj cr c sl Qr Qx)) : ∀ (k : Nat) (l1 : Int32) (l2 : Int32) (l3 : Int32) (l4 : Int32) (l5 : Int32) (l6 : Int32) (l7 : Int32) (K : jK) (ci : jI) (cj : jJ) (cr : jR) {q}, jCW K cr → fX0_mostBy_19 n rec6 k l1 l2 l3 l4 l5 l6 l7 K ci cj cr = some q → jqp wI K q Qr → Ev g (d + 2) mX0_mostBy 19 [.ref 0, .int l1, .int l2, .int l3, .int l4, .int l5, .int l6, .int l7] [] K ci cj cr c sl Qr Qx := by
  intro k
  induction k with
  | zero =>
    intro l1 l2 l3 l4 l5 l6 l7 K ci cj cr q hC h hq
    rw [fX0_mostBy_19.eq_1] at h; cases h
  | succ k ih =>
    intro l1 l2 l3 l4 l5 l6 l7 K ci cj cr q hC h hq
    rw [fX0_mostBy_19.eq_2] at h
    refine ev_iload dX0_mostBy_19 rfl ?_
    refine ev_bipush (v := (nI 10)) dX0_mostBy_21 jb10 ?_
    refine ev_icmp_ge 85 dX0_mostBy_23 rfl (fun z1 => ?_) (fun z1 => ?_)
    · rw [if_pos z1] at h
      refine ev_iload dX0_mostBy_85 rfl ?_
      refine ev_iload dX0_mostBy_87 rfl ?_
      obtain ⟨r2, ci3, cj4, cr5, z6, h⟩ := jpb_inv h
      refine ev_zS2 dX0_mostBy_89 sX0_305 (Nat.le_of_ble_eq_true rfl) (Nat.le_of_ble_eq_true rfl) rfl (metJ12_max n _ _ _ _ _ _ hC z6 (fun hC7 => ?_))
      show Ev g _ _ 92 _ [.int r2] K ci3 cj4 cr5 _ _ Qr Qx
      refine ev_istore (L' := [_, _, _, _, _, _, _, _]) dX0_mostBy_92 (by decide) rfl ?_
      refine ev_iinc (v := (l5 + (nI 1))) (L' := [_, _, _, _, _, _, _, _]) dX0_mostBy_94 rfl (by rw [ji_1]) (by decide) rfl ?_
      refine ev_goto 6 dX0_mostBy_97 rfl ?_
      exact ev_mask [true, true, true, true, true, true, false, false] (hrec6 _ _ _ _ _ _ _ _ _ hC7 h hq)
    · rw [if_neg z1] at h
      refine ev_iload dX0_mostBy_26 rfl ?_
      refine ev_iload_n dX0_mostBy_28 rfl ?_
      refine ev_iload dX0_mostBy_29 rfl ?_
      obtain ⟨r8, ci9, cj10, cr11, z12, h⟩ := jpb_inv h
      refine ev_zS2 dX0_mostBy_31 sX0_278 (Nat.le_of_ble_eq_true rfl) (Nat.le_of_ble_eq_true rfl) rfl (metX0_has n _ _ _ _ _ _ hC z12 (fun hC13 => ?_))
      show Ev g _ _ 34 _ [.int r8, .int l6] K ci9 cj10 cr11 _ _ Qr Qx
      refine ev_if_eq 75 dX0_mostBy_34 rfl (fun z14 => ?_) (fun z14 => ?_)
      · rw [if_pos z14] at h
        exact ev_mask [true, true, true, true, true, true, false, true] (wX0_mostBy_75 n _ _ (hrec6) (ih) _ _ _ _ _ _ _ _ _ _ _ hC13 h hq)
      · rw [if_neg z14] at h
        refine ev_iload_n dX0_mostBy_37 rfl ?_
        refine ev_iload dX0_mostBy_38 rfl ?_
        obtain ⟨r15, ci16, cj17, cr18, z19, h⟩ := jpb_inv h
        refine ev_zS2 dX0_mostBy_40 sX0_278 (Nat.le_of_ble_eq_true rfl) (Nat.le_of_ble_eq_true rfl) rfl (metX0_has n _ _ _ _ _ _ hC13 z19 (fun hC20 => ?_))
        show Ev g _ _ 43 _ [.int r15, .int l6] K ci16 cj17 cr18 _ _ Qr Qx
        refine ev_if_eq 75 dX0_mostBy_43 rfl (fun z21 => ?_) (fun z21 => ?_)
        · rw [if_pos z21] at h
          exact ev_mask [true, true, true, true, true, true, false, true] (wX0_mostBy_75 n _ _ (hrec6) (ih) _ _ _ _ _ _ _ _ _ _ _ hC20 h hq)
        · rw [if_neg z21] at h
          refine ev_aload_n dX0_mostBy_46 rfl ?_
          refine ev_getR dX0_mostBy_47 fX0_92_0 (ck0 hC20) (Or.inl (cl0 hC20)) rfl (cq0_16 hC20) ?_
          refine ev_iload dX0_mostBy_50 rfl ?_
          by_cases z22 : jok l5 10
          rotate_left
          · rw [if_neg z22] at h; cases h
          rw [if_pos z22] at h
          obtain ⟨r23, z24, h⟩ := Option.bind_eq_some_iff.mp h
          refine ev_aaload (t := 7) dX0_mostBy_52 (ck184 hC20) (by decide) (by decide) (Or.inl (cl184 hC20)) (jok.ix z22 (cn184 hC20)) z24 ?_
          refine ev_iload_n dX0_mostBy_53 rfl ?_
          by_cases z25 : K.1 r23 = 106 ∧ r23 < K.2.2
          rotate_left
          · rw [if_neg z25] at h; cases h
          rw [if_pos z25] at h
          by_cases z26 : jok l2 (K.2.1 r23)
          rotate_left
          · rw [if_neg z26] at h; cases h
          rw [if_pos z26] at h
          obtain ⟨r27, z28, h⟩ := Option.bind_eq_some_iff.mp h
          refine ev_aaload (t := 6) dX0_mostBy_54 z25.1 (by decide) (by decide) (Or.inl z25.2) (jok.ix z26 rfl) z28 ?_
          refine ev_iload_n dX0_mostBy_55 rfl ?_
          by_cases z29 : K.1 r27 = 100 ∧ r27 < K.2.2
          rotate_left
          · rw [if_neg z29] at h; cases h
          rw [if_pos z29] at h
          by_cases z30 : jok l3 (K.2.1 r27)
          rotate_left
          · rw [if_neg z30] at h; cases h
          rw [if_pos z30] at h
          refine ev_iaload dX0_mostBy_56 z29.1 (Or.inl z29.2) (jok.ix z30 rfl) ?_
          refine ev_aload_n dX0_mostBy_57 rfl ?_
          refine ev_getR dX0_mostBy_58 fX0_92_0 (ck0 hC20) (Or.inl (cl0 hC20)) rfl (cq0_16 hC20) ?_
          refine ev_iload dX0_mostBy_61 rfl ?_
          by_cases z31 : jok l7 10
          rotate_left
          · rw [if_neg z31] at h; cases h
          rw [if_pos z31] at h
          obtain ⟨r32, z33, h⟩ := Option.bind_eq_some_iff.mp h
          refine ev_aaload (t := 7) dX0_mostBy_63 (ck184 hC20) (by decide) (by decide) (Or.inl (cl184 hC20)) (jok.ix z31 (cn184 hC20)) z33 ?_
          refine ev_iload_n dX0_mostBy_64 rfl ?_
          by_cases z34 : K.1 r32 = 106 ∧ r32 < K.2.2
          rotate_left
          · rw [if_neg z34] at h; cases h
          rw [if_pos z34] at h
          by_cases z35 : jok l2 (K.2.1 r32)
          rotate_left
          · rw [if_neg z35] at h; cases h
          rw [if_pos z35] at h
          obtain ⟨r36, z37, h⟩ := Option.bind_eq_some_iff.mp h
          refine ev_aaload (t := 6) dX0_mostBy_65 z34.1 (by decide) (by decide) (Or.inl z34.2) (jok.ix z35 rfl) z37 ?_
          refine ev_iload_n dX0_mostBy_66 rfl ?_
          by_cases z38 : K.1 r36 = 100 ∧ r36 < K.2.2
          rotate_left
          · rw [if_neg z38] at h; cases h
          rw [if_pos z38] at h
          by_cases z39 : jok l3 (K.2.1 r36)
          rotate_left
          · rw [if_neg z39] at h; cases h
          rw [if_pos z39] at h
          refine ev_iaload dX0_mostBy_67 z38.1 (Or.inl z38.2) (jok.ix z39 rfl) ?_
          refine ev_icmp_ne 75 dX0_mostBy_68 rfl (fun z40 => ?_) (fun z40 => ?_)
          · rw [if_neg z40] at h
            exact ev_mask [true, true, true, true, true, true, false, true] (wX0_mostBy_75 n _ _ (hrec6) (ih) _ _ _ _ _ _ _ _ _ _ _ hC20 h hq)
          · rw [if_pos z40] at h
            refine ev_iconst (v := (nI 1)) dX0_mostBy_71 jc1 ?_
            refine ev_goto 76 dX0_mostBy_72 rfl ?_
            exact ev_mask [true, true, true, true, true, true, false, true] (wX0_mostBy_76 n _ _ (hrec6) (ih) _ _ _ _ _ _ _ _ _ _ _ _ hC20 h hq)
def fX0_mostBy_6 (n : Nat) : Nat → Int32 → Int32 → Int32 → Int32 → Int32 → jK → jI → jJ → jR → Option (jTp Int32)
  | 0, _, _, _, _, _, _, _, _, _ => none
  | k + 1, l1, l2, l3, l4, l5, K, ci, cj, cr => if (nI 10) ≤ l5 then some (l4, ci, cj, cr) else fX0_mostBy_19 n (fX0_mostBy_6 n  k) n l1 l2 l3 l4 l5 (nI 0) (nI 0) K ci cj cr
theorem wX0_mostBy_6 {g : jG} {d : Nat} {c sl : Nat} {Qr : jQ} {Qx : jX} (n : Nat) : ∀ (k : Nat) (l1 : Int32) (l2 : Int32) (l3 : Int32) (l4 : Int32) (l5 : Int32) (K : jK) (ci : jI) (cj : jJ) (cr : jR) {q}, jCW K cr → fX0_mostBy_6 n  k l1 l2 l3 l4 l5 K ci cj cr = some q → jqp wI K q Qr → Ev g (d + 2) mX0_mostBy 6 [.ref 0, .int l1, .int l2, .int l3, .int l4, .int l5, jU, jU] [] K ci cj cr c sl Qr Qx := by
  intro k
  induction k with
  | zero =>
    intro l1 l2 l3 l4 l5 K ci cj cr q hC h hq
    rw [fX0_mostBy_6.eq_1] at h; cases h
  | succ k ih =>
    intro l1 l2 l3 l4 l5 K ci cj cr q hC h hq
    rw [fX0_mostBy_6.eq_2] at h
    refine ev_iload dX0_mostBy_6 rfl ?_
    refine ev_bipush (v := (nI 10)) dX0_mostBy_8 jb10 ?_
    refine ev_icmp_ge 100 dX0_mostBy_10 rfl (fun z1 => ?_) (fun z1 => ?_)
    · rw [if_pos z1] at h
      refine ev_iload dX0_mostBy_100 rfl ?_
      cases h
      exact ev_iret dX0_mostBy_102 rfl rfl (hq hC)
    · rw [if_neg z1] at h
      refine ev_iconst (v := (nI 0)) dX0_mostBy_13 jc0 ?_
      refine ev_istore (L' := [_, _, _, _, _, _, _, _]) dX0_mostBy_14 (by decide) rfl ?_
      refine ev_iconst (v := (nI 0)) dX0_mostBy_16 jc0 ?_
      refine ev_istore (L' := [_, _, _, _, _, _, _, _]) dX0_mostBy_17 (by decide) rfl ?_
      exact wX0_mostBy_19 n _ (ih) n _ _ _ _ _ _ _ _ _ _ _ hC h hq
def fX0_mostBy (n : Nat) (a0 : Int32) (a1 : Int32) (a2 : Int32) (K : jK) (ci : jI) (cj : jJ) (cr : jR) : Option (jTp Int32) := fX0_mostBy_6 n  n a0 a1 a2 (nI 0) (nI 0) K ci cj cr
theorem metX0_mostBy {g : jG} {d : Nat} {c sl : Nat} {Qr : jQ} {Qx : jX} (n : Nat) (a0 : Int32) (a1 : Int32) (a2 : Int32) (K : jK) (ci : jI) (cj : jJ) (cr : jR) {q} (hC : jCW K cr) (h : fX0_mostBy n a0 a1 a2 K ci cj cr = some q) (hq : jqp wI K q Qr) : EvM g (d + 2) mX0_mostBy [.ref 0, .int a0, .int a1, .int a2] K ci cj cr c sl Qr Qx := by
  unfold fX0_mostBy at h
  show Ev g (d + 2) mX0_mostBy 0 [.ref 0, .int a0, .int a1, .int a2, jU, jU, jU, jU] [] K ci cj cr c sl Qr Qx
  refine ev_iconst (v := (nI 0)) dX0_mostBy_0 jc0 ?_
  refine ev_istore (L' := [_, _, _, _, _, _, _, _]) dX0_mostBy_1 (by decide) rfl ?_
  refine ev_iconst (v := (nI 0)) dX0_mostBy_3 jc0 ?_
  refine ev_istore (L' := [_, _, _, _, _, _, _, _]) dX0_mostBy_4 (by decide) rfl ?_
  exact wX0_mostBy_6 n   n _ _ _ _ _ _ _ _ _ hC h hq
def fX0_undo_20 (n : Nat) (t0 : Int32) (K : jK) (ci : jI) (cj : jJ) (cr : jR) : Option (jTp Int32) := if t0 = 0 ∨ t0 = 1 then some (t0, ci, cj, cr) else none
theorem wX0_undo_20 {g : jG} {d : Nat} {c sl : Nat} {Qr : jQ} {Qx : jX} (n : Nat) (t0 : Int32) (K : jK) (ci : jI) (cj : jJ) (cr : jR) {q} (hC : jCW K cr) (h : fX0_undo_20 n  t0 K ci cj cr = some q) (hq : jqp wI K q Qr) : Ev g (d + 2) mX0_undo 20 [jU] [.int t0] K ci cj cr c sl Qr Qx := by
  unfold fX0_undo_20 at h
  by_cases z1 : t0 = 0 ∨ t0 = 1
  rotate_left
  · rw [if_neg z1] at h; cases h
  rw [if_pos z1] at h
  cases h
  exact ev_iret dX0_undo_20 rfl (jbool z1) (hq hC)
def fX0_undo (n : Nat) (K : jK) (ci : jI) (cj : jJ) (cr : jR) : Option (jTp Int32) := if (ci 0 18) = 0 then jpb (fX0_refuses n (nI 4) K ci cj cr) (fun r11 ci12 cj13 cr14 => if r11 < 0 then fX0_undo_20 n  (nI 0) K ci12 cj13 cr14 else fX0_undo_20 n  (nI 1) K ci12 cj13 cr14) else if jok ((ju ci 0 18 ((ci 0 18) - (nI 1))) 0 18) 20 then Option.bind (cr 505 (((ju ci 0 18 ((ci 0 18) - (nI 1))) 0 18)).toNatClampNeg) (fun r3 => jpb (fX5_copy n 16 r3 K (ju ci 0 18 ((ci 0 18) - (nI 1))) cj cr) (fun r5 ci6 cj7 cr8 => some ((nI 1), ci6, cj7, cr8))) else none
theorem metX0_undo {g : jG} {d : Nat} {c sl : Nat} {Qr : jQ} {Qx : jX} (n : Nat) (K : jK) (ci : jI) (cj : jJ) (cr : jR) {q} (hC : jCW K cr) (h : fX0_undo n  K ci cj cr = some q) (hq : jqp wI K q Qr) : EvM g (d + 2) mX0_undo [.ref 0] K ci cj cr c sl Qr Qx := by
  unfold fX0_undo at h
  show Ev g (d + 2) mX0_undo 0 [.ref 0] [] K ci cj cr c sl Qr Qx
  refine ev_aload_n dX0_undo_0 rfl ?_
  refine ev_getI dX0_undo_1 fX0_139_0 (ck0 hC) (Or.inl (cl0 hC)) rfl ?_
  refine ev_if_ne 21 dX0_undo_4 rfl (fun z1 => ?_) (fun z1 => ?_)
  · rw [if_neg z1] at h
    refine ev_aload_n dX0_undo_21 rfl ?_
    refine ev_dup dX0_undo_22 rfl ?_
    refine ev_getI dX0_undo_23 fX0_139_0 (ck0 hC) (Or.inl (cl0 hC)) rfl ?_
    refine ev_iconst (v := (nI 1)) dX0_undo_26 jc1 ?_
    refine ev_isub dX0_undo_27 ?_
    refine ev_putI dX0_undo_28 (pX0_139_0 _) (ck0 hC) (cl0 hC) rfl rfl rfl ?_
    refine ev_aload_n dX0_undo_31 rfl ?_
    refine ev_getR dX0_undo_32 fX0_69_0 (ck0 hC) (Or.inl (cl0 hC)) rfl (cq0_9 hC) ?_
    refine ev_aload_n dX0_undo_35 rfl ?_
    refine ev_getR dX0_undo_36 fX0_95_0 (ck0 hC) (Or.inl (cl0 hC)) rfl (cq0_17 hC) ?_
    refine ev_aload_n dX0_undo_39 rfl ?_
    refine ev_getI dX0_undo_40 fX0_139_0 (ck0 hC) (Or.inl (cl0 hC)) rfl ?_
    by_cases z2 : jok ((ju ci 0 18 ((ci 0 18) - (nI 1))) 0 18) 20
    rotate_left
    · rw [if_neg z2] at h; cases h
    rw [if_pos z2] at h
    obtain ⟨r3, z4, h⟩ := Option.bind_eq_some_iff.mp h
    refine ev_aaload (t := 8) dX0_undo_43 (ck505 hC) (by decide) (by decide) (Or.inl (cl505 hC)) (jok.ix z2 (cn505 hC)) z4 ?_
    obtain ⟨r5, ci6, cj7, cr8, z9, h⟩ := jpb_inv h
    refine ev_zV1 dX0_undo_44 vX0_264_5 (sk0 hC is16) (Or.inl (sl0 hC is16)) (Nat.le_of_ble_eq_true rfl) (Nat.le_of_ble_eq_true rfl) rfl (metX5_copy n _ _ _ _ _ _ hC z9 (fun hC10 => ?_))
    show Ev g _ _ 47 _ [.ref r5] K ci6 cj7 cr8 _ _ Qr Qx
    refine ev_pop dX0_undo_47 rfl ?_
    refine ev_iconst (v := (nI 1)) dX0_undo_48 jc1 ?_
    cases h
    exact ev_iret dX0_undo_49 rfl (by decide) (hq hC10)
  · rw [if_pos z1] at h
    refine ev_aload_n dX0_undo_7 rfl ?_
    refine ev_iconst (v := (nI 4)) dX0_undo_8 jc4 ?_
    obtain ⟨r11, ci12, cj13, cr14, z15, h⟩ := jpb_inv h
    refine ev_zV1 dX0_undo_9 vX0_109_0 (ck0 hC) (Or.inl (cl0 hC)) (Nat.le_of_ble_eq_true rfl) (Nat.le_of_ble_eq_true rfl) rfl (metX0_refuses n _ _ _ _ _ hC z15 (fun hC16 => ?_))
    show Ev g _ _ 12 _ [.int r11] K ci12 cj13 cr14 _ _ Qr Qx
    refine ev_if_lt 19 dX0_undo_12 rfl (fun z17 => ?_) (fun z17 => ?_)
    · rw [if_pos z17] at h
      refine ev_iconst (v := (nI 0)) dX0_undo_19 jc0 ?_
      exact ev_mask [false] (wX0_undo_20 n   _ _ _ _ _ hC16 h hq)
    · rw [if_neg z17] at h
      refine ev_iconst (v := (nI 1)) dX0_undo_15 jc1 ?_
      refine ev_goto 20 dX0_undo_16 rfl ?_
      exact ev_mask [false] (wX0_undo_20 n   _ _ _ _ _ hC16 h hq)
def fX0_remembers_62 (n : Nat) (K : jK) (ci : jI) (cj : jJ) (cr : jR) : Option (jTp Unit) := if jok (ci 0 18) 20 then Option.bind (cr 505 ((ci 0 18)).toNatClampNeg) (fun r2 => if isSt r2 then jpb (fX5_copy n r2 16 K ci cj cr) (fun r5 ci6 cj7 cr8 => some ((), (ju ci6 0 18 ((ci6 0 18) + (nI 1))), cj7, cr8)) else none) else none
theorem wX0_remembers_62 {g : jG} {d : Nat} {c sl : Nat} {Qr : jQ} {Qx : jX} (n : Nat) (K : jK) (ci : jI) (cj : jJ) (cr : jR) {q} (hC : jCW K cr) (h : fX0_remembers_62 n   K ci cj cr = some q) (hq : jqp wV K q Qr) : Ev g (d + 2) mX0_remembers 62 [.ref 0, jU, jU] [] K ci cj cr c sl Qr Qx := by
  unfold fX0_remembers_62 at h
  refine ev_aload_n dX0_remembers_62 rfl ?_
  refine ev_getR dX0_remembers_63 fX0_95_0 (ck0 hC) (Or.inl (cl0 hC)) rfl (cq0_17 hC) ?_
  refine ev_aload_n dX0_remembers_66 rfl ?_
  refine ev_getI dX0_remembers_67 fX0_139_0 (ck0 hC) (Or.inl (cl0 hC)) rfl ?_
  by_cases z1 : jok (ci 0 18) 20
  rotate_left
  · rw [if_neg z1] at h; cases h
  rw [if_pos z1] at h
  obtain ⟨r2, z3, h⟩ := Option.bind_eq_some_iff.mp h
  refine ev_aaload (t := 8) dX0_remembers_70 (ck505 hC) (by decide) (by decide) (Or.inl (cl505 hC)) (jok.ix z1 (cn505 hC)) z3 ?_
  refine ev_aload_n dX0_remembers_71 rfl ?_
  refine ev_getR dX0_remembers_72 fX0_69_0 (ck0 hC) (Or.inl (cl0 hC)) rfl (cq0_9 hC) ?_
  by_cases z4 : isSt r2
  rotate_left
  · rw [if_neg z4] at h; cases h
  rw [if_pos z4] at h
  obtain ⟨r5, ci6, cj7, cr8, z9, h⟩ := jpb_inv h
  refine ev_zV1 dX0_remembers_75 vX0_264_5 (sk0 hC z4) (Or.inl (sl0 hC z4)) (Nat.le_of_ble_eq_true rfl) (Nat.le_of_ble_eq_true rfl) rfl (metX5_copy n _ _ _ _ _ _ hC z9 (fun hC10 => ?_))
  show Ev g _ _ 78 _ [.ref r5] K ci6 cj7 cr8 _ _ Qr Qx
  refine ev_pop dX0_remembers_78 rfl ?_
  refine ev_aload_n dX0_remembers_79 rfl ?_
  refine ev_dup dX0_remembers_80 rfl ?_
  refine ev_getI dX0_remembers_81 fX0_139_0 (ck0 hC10) (Or.inl (cl0 hC10)) rfl ?_
  refine ev_iconst (v := (nI 1)) dX0_remembers_84 jc1 ?_
  refine ev_iadd dX0_remembers_85 ?_
  refine ev_putI dX0_remembers_86 (pX0_139_0 _) (ck0 hC10) (cl0 hC10) rfl rfl rfl ?_
  cases h
  exact ev_ret dX0_remembers_89 rfl (hq hC10)
def fX0_remembers_18 (n : Nat) : Nat → Nat → Int32 → jK → jI → jJ → jR → Option (jTp Unit)
  | 0, _, _, _, _, _, _ => none
  | k + 1, l1, l2, K, ci, cj, cr => if (nI 20) ≤ l2 then if jok (nI 19) 20 then if K.1 l1 = 5 ∧ l1 < K.2.2 then fX0_remembers_62 n   K (ju ci 0 18 ((ci 0 18) - (nI 1))) cj (ju cr 505 ((nI 19)).toNatClampNeg (some l1)) else none else none else if jok l2 20 then Option.bind (cr 505 (l2).toNatClampNeg) (fun r6 => if jok (l2 - (nI 1)) 20 then if K.1 r6 = 5 ∧ r6 < K.2.2 then fX0_remembers_18 n  k l1 (l2 + (nI 1)) K ci cj (ju cr 505 ((l2 - (nI 1))).toNatClampNeg (some r6)) else none else none) else none
theorem wX0_remembers_18 {g : jG} {d : Nat} {c sl : Nat} {Qr : jQ} {Qx : jX} (n : Nat) : ∀ (k : Nat) (l1 : Nat) (l2 : Int32) (K : jK) (ci : jI) (cj : jJ) (cr : jR) {q}, jCW K cr → fX0_remembers_18 n  k l1 l2 K ci cj cr = some q → jqp wV K q Qr → Ev g (d + 2) mX0_remembers 18 [.ref 0, .ref l1, .int l2] [] K ci cj cr c sl Qr Qx := by
  intro k
  induction k with
  | zero =>
    intro l1 l2 K ci cj cr q hC h hq
    rw [fX0_remembers_18.eq_1] at h; cases h
  | succ k ih =>
    intro l1 l2 K ci cj cr q hC h hq
    rw [fX0_remembers_18.eq_2] at h
    refine ev_iload_n dX0_remembers_18 rfl ?_
    refine ev_bipush (v := (nI 20)) dX0_remembers_19 jb20 ?_
    refine ev_icmp_ge 44 dX0_remembers_21 rfl (fun z1 => ?_) (fun z1 => ?_)
    · rw [if_pos z1] at h
      refine ev_aload_n dX0_remembers_44 rfl ?_
      refine ev_getR dX0_remembers_45 fX0_95_0 (ck0 hC) (Or.inl (cl0 hC)) rfl (cq0_17 hC) ?_
      refine ev_bipush (v := (nI 19)) dX0_remembers_48 jb19 ?_
      refine ev_aload_n dX0_remembers_50 rfl ?_
      by_cases z2 : jok (nI 19) 20
      rotate_left
      · rw [if_neg z2] at h; cases h
      rw [if_pos z2] at h
      by_cases z3 : K.1 l1 = 5 ∧ l1 < K.2.2
      rotate_left
      · rw [if_neg z3] at h; cases h
      rw [if_pos z3] at h
      refine ev_aastS dX0_remembers_51 (ck505 hC) (cl505 hC) (jok.ix z2 (cn505 hC)) z3.1 (Or.inl z3.2) ?_
      have hC4 := jCW.upd hC (k := ((nI 19)).toNatClampNeg) (v := some l1) (ck505 hC) (by decide)
      refine ev_aload_n dX0_remembers_52 rfl ?_
      refine ev_dup dX0_remembers_53 rfl ?_
      refine ev_getI dX0_remembers_54 fX0_139_0 (ck0 hC4) (Or.inl (cl0 hC4)) rfl ?_
      refine ev_iconst (v := (nI 1)) dX0_remembers_57 jc1 ?_
      refine ev_isub dX0_remembers_58 ?_
      refine ev_putI dX0_remembers_59 (pX0_139_0 _) (ck0 hC4) (cl0 hC4) rfl rfl rfl ?_
      exact ev_mask [true, false, false] (wX0_remembers_62 n    _ _ _ _ hC4 h hq)
    · rw [if_neg z1] at h
      refine ev_aload_n dX0_remembers_24 rfl ?_
      refine ev_getR dX0_remembers_25 fX0_95_0 (ck0 hC) (Or.inl (cl0 hC)) rfl (cq0_17 hC) ?_
      refine ev_iload_n dX0_remembers_28 rfl ?_
      refine ev_iconst (v := (nI 1)) dX0_remembers_29 jc1 ?_
      refine ev_isub dX0_remembers_30 ?_
      refine ev_aload_n dX0_remembers_31 rfl ?_
      refine ev_getR dX0_remembers_32 fX0_95_0 (ck0 hC) (Or.inl (cl0 hC)) rfl (cq0_17 hC) ?_
      refine ev_iload_n dX0_remembers_35 rfl ?_
      by_cases z5 : jok l2 20
      rotate_left
      · rw [if_neg z5] at h; cases h
      rw [if_pos z5] at h
      obtain ⟨r6, z7, h⟩ := Option.bind_eq_some_iff.mp h
      refine ev_aaload (t := 8) dX0_remembers_36 (ck505 hC) (by decide) (by decide) (Or.inl (cl505 hC)) (jok.ix z5 (cn505 hC)) z7 ?_
      by_cases z8 : jok (l2 - (nI 1)) 20
      rotate_left
      · rw [if_neg z8] at h; cases h
      rw [if_pos z8] at h
      by_cases z9 : K.1 r6 = 5 ∧ r6 < K.2.2
      rotate_left
      · rw [if_neg z9] at h; cases h
      rw [if_pos z9] at h
      refine ev_aastS dX0_remembers_37 (ck505 hC) (cl505 hC) (jok.ix z8 (cn505 hC)) z9.1 (Or.inl z9.2) ?_
      have hC10 := jCW.upd hC (k := ((l2 - (nI 1))).toNatClampNeg) (v := some r6) (ck505 hC) (by decide)
      refine ev_iinc (v := (l2 + (nI 1))) (L' := [_, _, _]) dX0_remembers_38 rfl (by rw [ji_1]) (by decide) rfl ?_
      refine ev_goto 18 dX0_remembers_41 rfl ?_
      exact ih _ _ _ _ _ _ hC10 h hq
def fX0_remembers (n : Nat) (K : jK) (ci : jI) (cj : jJ) (cr : jR) : Option (jTp Unit) := if (ci 0 18) = (nI 20) then if jok (nI 0) 20 then Option.bind (cr 505 ((nI 0)).toNatClampNeg) (fun r3 => fX0_remembers_18 n  n r3 (nI 1) K ci cj cr) else none else fX0_remembers_62 n   K ci cj cr
theorem metX0_remembers {g : jG} {d : Nat} {c sl : Nat} {Qr : jQ} {Qx : jX} (n : Nat) (K : jK) (ci : jI) (cj : jJ) (cr : jR) {q} (hC : jCW K cr) (h : fX0_remembers n  K ci cj cr = some q) (hq : jqp wV K q Qr) : EvM g (d + 2) mX0_remembers [.ref 0] K ci cj cr c sl Qr Qx := by
  unfold fX0_remembers at h
  show Ev g (d + 2) mX0_remembers 0 [.ref 0, jU, jU] [] K ci cj cr c sl Qr Qx
  refine ev_aload_n dX0_remembers_0 rfl ?_
  refine ev_getI dX0_remembers_1 fX0_139_0 (ck0 hC) (Or.inl (cl0 hC)) rfl ?_
  refine ev_bipush (v := (nI 20)) dX0_remembers_4 jb20 ?_
  refine ev_icmp_ne 62 dX0_remembers_6 rfl (fun z1 => ?_) (fun z1 => ?_)
  · rw [if_neg z1] at h
    exact wX0_remembers_62 n    _ _ _ _ hC h hq
  · rw [if_pos z1] at h
    refine ev_aload_n dX0_remembers_9 rfl ?_
    refine ev_getR dX0_remembers_10 fX0_95_0 (ck0 hC) (Or.inl (cl0 hC)) rfl (cq0_17 hC) ?_
    refine ev_iconst (v := (nI 0)) dX0_remembers_13 jc0 ?_
    by_cases z2 : jok (nI 0) 20
    rotate_left
    · rw [if_neg z2] at h; cases h
    rw [if_pos z2] at h
    obtain ⟨r3, z4, h⟩ := Option.bind_eq_some_iff.mp h
    refine ev_aaload (t := 8) dX0_remembers_14 (ck505 hC) (by decide) (by decide) (Or.inl (cl505 hC)) (jok.ix z2 (cn505 hC)) z4 ?_
    refine ev_astore_n (L' := [_, _, _]) dX0_remembers_15 (by decide) rfl ?_
    refine ev_iconst (v := (nI 1)) dX0_remembers_16 jc1 ?_
    refine ev_istore_n (L' := [_, _, _]) dX0_remembers_17 (by decide) rfl ?_
    exact wX0_remembers_18 n   n _ _ _ _ _ _ hC h hq
def fX0_sit_60 (n : Nat) (t0 : Int32) (K : jK) (ci : jI) (cj : jJ) (cr : jR) : Option (jTp Int32) := if t0 = 0 ∨ t0 = 1 then some (t0, ci, cj, cr) else none
theorem wX0_sit_60 {g : jG} {d : Nat} {c sl : Nat} {Qr : jQ} {Qx : jX} (n : Nat) (t0 : Int32) (K : jK) (ci : jI) (cj : jJ) (cr : jR) {q} (hC : jCW K cr) (h : fX0_sit_60 n  t0 K ci cj cr = some q) (hq : jqp wI K q Qr) : Ev g (d + 4) mX0_sit 60 [jU, jU, jU] [.int t0] K ci cj cr c sl Qr Qx := by
  unfold fX0_sit_60 at h
  by_cases z1 : t0 = 0 ∨ t0 = 1
  rotate_left
  · rw [if_neg z1] at h; cases h
  rw [if_pos z1] at h
  cases h
  exact ev_iret dX0_sit_60 rfl (jbool z1) (hq hC)
def fX0_sit_47 (n : Nat) (K : jK) (ci : jI) (cj : jJ) (cr : jR) : Option (jTp Int32) := jpb (fX0_refuses n (nI 2) K ci cj cr) (fun r1 ci2 cj3 cr4 => if r1 < 0 then fX0_sit_60 n  (nI 0) K ci2 cj3 cr4 else fX0_sit_60 n  (nI 1) K ci2 cj3 cr4)
theorem wX0_sit_47 {g : jG} {d : Nat} {c sl : Nat} {Qr : jQ} {Qx : jX} (n : Nat) (K : jK) (ci : jI) (cj : jJ) (cr : jR) {q} (hC : jCW K cr) (h : fX0_sit_47 n   K ci cj cr = some q) (hq : jqp wI K q Qr) : Ev g (d + 4) mX0_sit 47 [.ref 0, jU, jU] [] K ci cj cr c sl Qr Qx := by
  unfold fX0_sit_47 at h
  refine ev_aload_n dX0_sit_47 rfl ?_
  refine ev_iconst (v := (nI 2)) dX0_sit_48 jc2 ?_
  obtain ⟨r1, ci2, cj3, cr4, z5, h⟩ := jpb_inv h
  refine ev_zV1 dX0_sit_49 vX0_109_0 (ck0 hC) (Or.inl (cl0 hC)) (Nat.le_of_ble_eq_true rfl) (Nat.le_of_ble_eq_true rfl) rfl (metX0_refuses n _ _ _ _ _ hC z5 (fun hC6 => ?_))
  show Ev g _ _ 52 _ [.int r1] K ci2 cj3 cr4 _ _ Qr Qx
  refine ev_if_lt 59 dX0_sit_52 rfl (fun z7 => ?_) (fun z7 => ?_)
  · rw [if_pos z7] at h
    refine ev_iconst (v := (nI 0)) dX0_sit_59 jc0 ?_
    exact ev_mask [false, false, false] (wX0_sit_60 n   _ _ _ _ _ hC6 h hq)
  · rw [if_neg z7] at h
    refine ev_iconst (v := (nI 1)) dX0_sit_55 jc1 ?_
    refine ev_goto 60 dX0_sit_56 rfl ?_
    exact ev_mask [false, false, false] (wX0_sit_60 n   _ _ _ _ _ hC6 h hq)
def fX0_sit_89 (n : Nat) (K : jK) (ci : jI) (cj : jJ) (cr : jR) : Option (jTp Int32) := some ((nI 1), ci, cj, cr)
theorem wX0_sit_89 {g : jG} {d : Nat} {c sl : Nat} {Qr : jQ} {Qx : jX} (n : Nat) (K : jK) (ci : jI) (cj : jJ) (cr : jR) {q} (hC : jCW K cr) (h : fX0_sit_89 n   K ci cj cr = some q) (hq : jqp wI K q Qr) : Ev g (d + 4) mX0_sit 89 [jU, jU, jU] [] K ci cj cr c sl Qr Qx := by
  unfold fX0_sit_89 at h
  refine ev_iconst (v := (nI 1)) dX0_sit_89 jc1 ?_
  cases h
  exact ev_iret dX0_sit_90 rfl (by decide) (hq hC)
def fX0_sit_61 (n : Nat) (l1 : Int32) (l2 : Int32) (K : jK) (ci : jI) (cj : jJ) (cr : jR) : Option (jTp Int32) := jpb (fX0_remembers n  K ci cj cr) (fun r1 ci2 cj3 cr4 => if jok l1 10 then if l2 ≤ 0 then fX0_sit_89 n   K (ju ci2 (16 + 8) (l1).toNatClampNeg l2) cj3 cr4 else if jok l1 10 then fX0_sit_89 n   K (ju (ju ci2 (16 + 8) (l1).toNatClampNeg l2) (16 + 10) (l1).toNatClampNeg (nI 0)) cj3 cr4 else none else none)
theorem wX0_sit_61 {g : jG} {d : Nat} {c sl : Nat} {Qr : jQ} {Qx : jX} (n : Nat) (l1 : Int32) (l2 : Int32) (K : jK) (ci : jI) (cj : jJ) (cr : jR) {q} (hC : jCW K cr) (h : fX0_sit_61 n  l1 l2 K ci cj cr = some q) (hq : jqp wI K q Qr) : Ev g (d + 4) mX0_sit 61 [.ref 0, .int l1, .int l2] [] K ci cj cr c sl Qr Qx := by
  unfold fX0_sit_61 at h
  refine ev_aload_n dX0_sit_61 rfl ?_
  obtain ⟨r1, ci2, cj3, cr4, z5, h⟩ := jpb_inv h
  refine ev_zV0 dX0_sit_62 vX0_315_0 (ck0 hC) (Or.inl (cl0 hC)) (Nat.le_of_ble_eq_true rfl) (Nat.le_of_ble_eq_true rfl) rfl (metX0_remembers n  _ _ _ _ hC z5 (fun hC6 => ?_))
  show Ev g _ _ 65 _ [] K ci2 cj3 cr4 _ _ Qr Qx
  refine ev_aload_n dX0_sit_65 rfl ?_
  refine ev_getR dX0_sit_66 fX0_69_0 (ck0 hC6) (Or.inl (cl0 hC6)) rfl (cq0_9 hC6) ?_
  refine ev_getR dX0_sit_69 fX0_236_5 (sk0 hC6 is16) (Or.inl (sl0 hC6 is16)) rfl (sr8 hC6 is16) ?_
  refine ev_iload_n dX0_sit_72 rfl ?_
  refine ev_iload_n dX0_sit_73 rfl ?_
  by_cases z7 : jok l1 10
  rotate_left
  · rw [if_neg z7] at h; cases h
  rw [if_pos z7] at h
  refine ev_iastore dX0_sit_74 (sk8 hC6 is16) (sl8 hC6 is16) (jok.ix z7 (sn8 hC6 is16)) ?_
  refine ev_iload_n dX0_sit_75 rfl ?_
  refine ev_if_le 89 dX0_sit_76 rfl (fun z8 => ?_) (fun z8 => ?_)
  · rw [if_pos z8] at h
    exact ev_mask [false, false, false] (wX0_sit_89 n    _ _ _ _ hC6 h hq)
  · rw [if_neg z8] at h
    refine ev_aload_n dX0_sit_79 rfl ?_
    refine ev_getR dX0_sit_80 fX0_69_0 (ck0 hC6) (Or.inl (cl0 hC6)) rfl (cq0_9 hC6) ?_
    refine ev_getR dX0_sit_83 fX0_239_5 (sk0 hC6 is16) (Or.inl (sl0 hC6 is16)) rfl (sr10 hC6 is16) ?_
    refine ev_iload_n dX0_sit_86 rfl ?_
    refine ev_iconst (v := (nI 0)) dX0_sit_87 jc0 ?_
    by_cases z9 : jok l1 10
    rotate_left
    · rw [if_neg z9] at h; cases h
    rw [if_pos z9] at h
    refine ev_iastore dX0_sit_88 (sk10 hC6 is16) (sl10 hC6 is16) (jok.ix z9 (sn10 hC6 is16)) ?_
    exact ev_mask [false, false, false] (wX0_sit_89 n    _ _ _ _ hC6 h hq)
def fX0_sit (n : Nat) (a0 : Int32) (a1 : Int32) (K : jK) (ci : jI) (cj : jJ) (cr : jR) : Option (jTp Int32) := jpb (fX0_isPair n a0 K ci cj cr) (fun r1 ci2 cj3 cr4 => if r1 = 0 then fX0_sit_47 n   K ci2 cj3 cr4 else jpb (fX0_is n a1 (nI 0) (nI 9) K ci2 cj3 cr4) (fun r8 ci9 cj10 cr11 => if r8 = 0 then fX0_sit_47 n   K ci9 cj10 cr11 else if jok a0 10 then if (ci9 (16 + 8) (a0).toNatClampNeg) = a1 then if a1 = 0 then fX0_sit_47 n   K ci9 cj10 cr11 else if jok a0 10 then if (ci9 (16 + 10) (a0).toNatClampNeg) = 0 then fX0_sit_47 n   K ci9 cj10 cr11 else fX0_sit_61 n  a0 a1 K ci9 cj10 cr11 else none else fX0_sit_61 n  a0 a1 K ci9 cj10 cr11 else none))
theorem metX0_sit {g : jG} {d : Nat} {c sl : Nat} {Qr : jQ} {Qx : jX} (n : Nat) (a0 : Int32) (a1 : Int32) (K : jK) (ci : jI) (cj : jJ) (cr : jR) {q} (hC : jCW K cr) (h : fX0_sit n a0 a1 K ci cj cr = some q) (hq : jqp wI K q Qr) : EvM g (d + 4) mX0_sit [.ref 0, .int a0, .int a1] K ci cj cr c sl Qr Qx := by
  unfold fX0_sit at h
  show Ev g (d + 4) mX0_sit 0 [.ref 0, .int a0, .int a1] [] K ci cj cr c sl Qr Qx
  refine ev_aload_n dX0_sit_0 rfl ?_
  refine ev_iload_n dX0_sit_1 rfl ?_
  obtain ⟨r1, ci2, cj3, cr4, z5, h⟩ := jpb_inv h
  refine ev_zV1 dX0_sit_2 vX0_226_0 (ck0 hC) (Or.inl (cl0 hC)) (Nat.le_of_ble_eq_true rfl) (Nat.le_of_ble_eq_true rfl) rfl (metX0_isPair n _ _ _ _ _ hC z5 (fun hC6 => ?_))
  show Ev g _ _ 5 _ [.int r1] K ci2 cj3 cr4 _ _ Qr Qx
  refine ev_if_eq 47 dX0_sit_5 rfl (fun z7 => ?_) (fun z7 => ?_)
  · rw [if_pos z7] at h
    exact ev_mask [true, false, false] (wX0_sit_47 n    _ _ _ _ hC6 h hq)
  · rw [if_neg z7] at h
    refine ev_iload_n dX0_sit_8 rfl ?_
    refine ev_iconst (v := (nI 0)) dX0_sit_9 jc0 ?_
    refine ev_bipush (v := (nI 9)) dX0_sit_10 jb9 ?_
    obtain ⟨r8, ci9, cj10, cr11, z12, h⟩ := jpb_inv h
    refine ev_zS3 dX0_sit_12 sX0_195 (Nat.le_of_ble_eq_true rfl) (Nat.le_of_ble_eq_true rfl) rfl (metX0_is n _ _ _ _ _ _ _ hC6 z12 (fun hC13 => ?_))
    show Ev g _ _ 15 _ [.int r8] K ci9 cj10 cr11 _ _ Qr Qx
    refine ev_if_eq 47 dX0_sit_15 rfl (fun z14 => ?_) (fun z14 => ?_)
    · rw [if_pos z14] at h
      exact ev_mask [true, false, false] (wX0_sit_47 n    _ _ _ _ hC13 h hq)
    · rw [if_neg z14] at h
      refine ev_aload_n dX0_sit_18 rfl ?_
      refine ev_getR dX0_sit_19 fX0_69_0 (ck0 hC13) (Or.inl (cl0 hC13)) rfl (cq0_9 hC13) ?_
      refine ev_getR dX0_sit_22 fX0_236_5 (sk0 hC13 is16) (Or.inl (sl0 hC13 is16)) rfl (sr8 hC13 is16) ?_
      refine ev_iload_n dX0_sit_25 rfl ?_
      by_cases z15 : jok a0 10
      rotate_left
      · rw [if_neg z15] at h; cases h
      rw [if_pos z15] at h
      refine ev_iaload dX0_sit_26 (sk8 hC13 is16) (Or.inl (sl8 hC13 is16)) (jok.ix z15 (sn8 hC13 is16)) ?_
      refine ev_iload_n dX0_sit_27 rfl ?_
      refine ev_icmp_ne 61 dX0_sit_28 rfl (fun z16 => ?_) (fun z16 => ?_)
      · rw [if_neg z16] at h
        exact wX0_sit_61 n   _ _ _ _ _ _ hC13 h hq
      · rw [if_pos z16] at h
        refine ev_iload_n dX0_sit_31 rfl ?_
        refine ev_if_eq 47 dX0_sit_32 rfl (fun z17 => ?_) (fun z17 => ?_)
        · rw [if_pos z17] at h
          exact ev_mask [true, false, false] (wX0_sit_47 n    _ _ _ _ hC13 h hq)
        · rw [if_neg z17] at h
          refine ev_aload_n dX0_sit_35 rfl ?_
          refine ev_getR dX0_sit_36 fX0_69_0 (ck0 hC13) (Or.inl (cl0 hC13)) rfl (cq0_9 hC13) ?_
          refine ev_getR dX0_sit_39 fX0_239_5 (sk0 hC13 is16) (Or.inl (sl0 hC13 is16)) rfl (sr10 hC13 is16) ?_
          refine ev_iload_n dX0_sit_42 rfl ?_
          by_cases z18 : jok a0 10
          rotate_left
          · rw [if_neg z18] at h; cases h
          rw [if_pos z18] at h
          refine ev_iaload dX0_sit_43 (sk10 hC13 is16) (Or.inl (sl10 hC13 is16)) (jok.ix z18 (sn10 hC13 is16)) ?_
          refine ev_if_ne 61 dX0_sit_44 rfl (fun z19 => ?_) (fun z19 => ?_)
          · rw [if_neg z19] at h
            exact wX0_sit_61 n   _ _ _ _ _ _ hC13 h hq
          · rw [if_pos z19] at h
            exact ev_mask [true, false, false] (wX0_sit_47 n    _ _ _ _ hC13 h hq)
def fX0_give_44 (n : Nat) (t0 : Int32) (K : jK) (ci : jI) (cj : jJ) (cr : jR) : Option (jTp Int32) := if t0 = 0 ∨ t0 = 1 then some (t0, ci, cj, cr) else none
theorem wX0_give_44 {g : jG} {d : Nat} {c sl : Nat} {Qr : jQ} {Qx : jX} (n : Nat) (t0 : Int32) (K : jK) (ci : jI) (cj : jJ) (cr : jR) {q} (hC : jCW K cr) (h : fX0_give_44 n  t0 K ci cj cr = some q) (hq : jqp wI K q Qr) : Ev g (d + 4) mX0_give 44 [jU, jU, jU] [.int t0] K ci cj cr c sl Qr Qx := by
  unfold fX0_give_44 at h
  by_cases z1 : t0 = 0 ∨ t0 = 1
  rotate_left
  · rw [if_neg z1] at h; cases h
  rw [if_pos z1] at h
  cases h
  exact ev_iret dX0_give_44 rfl (jbool z1) (hq hC)
def fX0_give_31 (n : Nat) (K : jK) (ci : jI) (cj : jJ) (cr : jR) : Option (jTp Int32) := jpb (fX0_refuses n (nI 2) K ci cj cr) (fun r1 ci2 cj3 cr4 => if r1 < 0 then fX0_give_44 n  (nI 0) K ci2 cj3 cr4 else fX0_give_44 n  (nI 1) K ci2 cj3 cr4)
theorem wX0_give_31 {g : jG} {d : Nat} {c sl : Nat} {Qr : jQ} {Qx : jX} (n : Nat) (K : jK) (ci : jI) (cj : jJ) (cr : jR) {q} (hC : jCW K cr) (h : fX0_give_31 n   K ci cj cr = some q) (hq : jqp wI K q Qr) : Ev g (d + 4) mX0_give 31 [.ref 0, jU, jU] [] K ci cj cr c sl Qr Qx := by
  unfold fX0_give_31 at h
  refine ev_aload_n dX0_give_31 rfl ?_
  refine ev_iconst (v := (nI 2)) dX0_give_32 jc2 ?_
  obtain ⟨r1, ci2, cj3, cr4, z5, h⟩ := jpb_inv h
  refine ev_zV1 dX0_give_33 vX0_109_0 (ck0 hC) (Or.inl (cl0 hC)) (Nat.le_of_ble_eq_true rfl) (Nat.le_of_ble_eq_true rfl) rfl (metX0_refuses n _ _ _ _ _ hC z5 (fun hC6 => ?_))
  show Ev g _ _ 36 _ [.int r1] K ci2 cj3 cr4 _ _ Qr Qx
  refine ev_if_lt 43 dX0_give_36 rfl (fun z7 => ?_) (fun z7 => ?_)
  · rw [if_pos z7] at h
    refine ev_iconst (v := (nI 0)) dX0_give_43 jc0 ?_
    exact ev_mask [false, false, false] (wX0_give_44 n   _ _ _ _ _ hC6 h hq)
  · rw [if_neg z7] at h
    refine ev_iconst (v := (nI 1)) dX0_give_39 jc1 ?_
    refine ev_goto 44 dX0_give_40 rfl ?_
    exact ev_mask [false, false, false] (wX0_give_44 n   _ _ _ _ _ hC6 h hq)
def fX0_give (n : Nat) (a0 : Int32) (a1 : Int32) (K : jK) (ci : jI) (cj : jJ) (cr : jR) : Option (jTp Int32) := jpb (fX0_isBay n a0 K ci cj cr) (fun r1 ci2 cj3 cr4 => if r1 = 0 then fX0_give_31 n   K ci2 cj3 cr4 else jpb (fX0_is n a1 (nI 0) (nI 99) K ci2 cj3 cr4) (fun r8 ci9 cj10 cr11 => if r8 = 0 then fX0_give_31 n   K ci9 cj10 cr11 else if jok a0 6 then if (ci9 (16 + 4) (a0).toNatClampNeg) = a1 then fX0_give_31 n   K ci9 cj10 cr11 else jpb (fX0_remembers n  K ci9 cj10 cr11) (fun r17 ci18 cj19 cr20 => if jok a0 6 then some ((nI 1), (ju ci18 (16 + 4) (a0).toNatClampNeg a1), cj19, cr20) else none) else none))
theorem metX0_give {g : jG} {d : Nat} {c sl : Nat} {Qr : jQ} {Qx : jX} (n : Nat) (a0 : Int32) (a1 : Int32) (K : jK) (ci : jI) (cj : jJ) (cr : jR) {q} (hC : jCW K cr) (h : fX0_give n a0 a1 K ci cj cr = some q) (hq : jqp wI K q Qr) : EvM g (d + 4) mX0_give [.ref 0, .int a0, .int a1] K ci cj cr c sl Qr Qx := by
  unfold fX0_give at h
  show Ev g (d + 4) mX0_give 0 [.ref 0, .int a0, .int a1] [] K ci cj cr c sl Qr Qx
  refine ev_aload_n dX0_give_0 rfl ?_
  refine ev_iload_n dX0_give_1 rfl ?_
  obtain ⟨r1, ci2, cj3, cr4, z5, h⟩ := jpb_inv h
  refine ev_zV1 dX0_give_2 vX0_204_0 (ck0 hC) (Or.inl (cl0 hC)) (Nat.le_of_ble_eq_true rfl) (Nat.le_of_ble_eq_true rfl) rfl (metX0_isBay n _ _ _ _ _ hC z5 (fun hC6 => ?_))
  show Ev g _ _ 5 _ [.int r1] K ci2 cj3 cr4 _ _ Qr Qx
  refine ev_if_eq 31 dX0_give_5 rfl (fun z7 => ?_) (fun z7 => ?_)
  · rw [if_pos z7] at h
    exact ev_mask [true, false, false] (wX0_give_31 n    _ _ _ _ hC6 h hq)
  · rw [if_neg z7] at h
    refine ev_iload_n dX0_give_8 rfl ?_
    refine ev_iconst (v := (nI 0)) dX0_give_9 jc0 ?_
    refine ev_bipush (v := (nI 99)) dX0_give_10 jb99 ?_
    obtain ⟨r8, ci9, cj10, cr11, z12, h⟩ := jpb_inv h
    refine ev_zS3 dX0_give_12 sX0_195 (Nat.le_of_ble_eq_true rfl) (Nat.le_of_ble_eq_true rfl) rfl (metX0_is n _ _ _ _ _ _ _ hC6 z12 (fun hC13 => ?_))
    show Ev g _ _ 15 _ [.int r8] K ci9 cj10 cr11 _ _ Qr Qx
    refine ev_if_eq 31 dX0_give_15 rfl (fun z14 => ?_) (fun z14 => ?_)
    · rw [if_pos z14] at h
      exact ev_mask [true, false, false] (wX0_give_31 n    _ _ _ _ hC13 h hq)
    · rw [if_neg z14] at h
      refine ev_aload_n dX0_give_18 rfl ?_
      refine ev_getR dX0_give_19 fX0_69_0 (ck0 hC13) (Or.inl (cl0 hC13)) rfl (cq0_9 hC13) ?_
      refine ev_getR dX0_give_22 fX0_214_5 (sk0 hC13 is16) (Or.inl (sl0 hC13 is16)) rfl (sr4 hC13 is16) ?_
      refine ev_iload_n dX0_give_25 rfl ?_
      by_cases z15 : jok a0 6
      rotate_left
      · rw [if_neg z15] at h; cases h
      rw [if_pos z15] at h
      refine ev_iaload dX0_give_26 (sk4 hC13 is16) (Or.inl (sl4 hC13 is16)) (jok.ix z15 (sn4 hC13 is16)) ?_
      refine ev_iload_n dX0_give_27 rfl ?_
      refine ev_icmp_ne 45 dX0_give_28 rfl (fun z16 => ?_) (fun z16 => ?_)
      · rw [if_neg z16] at h
        refine ev_aload_n dX0_give_45 rfl ?_
        obtain ⟨r17, ci18, cj19, cr20, z21, h⟩ := jpb_inv h
        refine ev_zV0 dX0_give_46 vX0_315_0 (ck0 hC13) (Or.inl (cl0 hC13)) (Nat.le_of_ble_eq_true rfl) (Nat.le_of_ble_eq_true rfl) rfl (metX0_remembers n  _ _ _ _ hC13 z21 (fun hC22 => ?_))
        show Ev g _ _ 49 _ [] K ci18 cj19 cr20 _ _ Qr Qx
        refine ev_aload_n dX0_give_49 rfl ?_
        refine ev_getR dX0_give_50 fX0_69_0 (ck0 hC22) (Or.inl (cl0 hC22)) rfl (cq0_9 hC22) ?_
        refine ev_getR dX0_give_53 fX0_214_5 (sk0 hC22 is16) (Or.inl (sl0 hC22 is16)) rfl (sr4 hC22 is16) ?_
        refine ev_iload_n dX0_give_56 rfl ?_
        refine ev_iload_n dX0_give_57 rfl ?_
        by_cases z23 : jok a0 6
        rotate_left
        · rw [if_neg z23] at h; cases h
        rw [if_pos z23] at h
        refine ev_iastore dX0_give_58 (sk4 hC22 is16) (sl4 hC22 is16) (jok.ix z23 (sn4 hC22 is16)) ?_
        refine ev_iconst (v := (nI 1)) dX0_give_59 jc1 ?_
        cases h
        exact ev_iret dX0_give_60 rfl (by decide) (hq hC22)
      · rw [if_pos z16] at h
        exact ev_mask [true, false, false] (wX0_give_31 n    _ _ _ _ hC13 h hq)
def fX0_draw (n : Nat) (a0 : Int32) (K : jK) (ci : jI) (cj : jJ) (cr : jR) : Option (jTp Int32) := if ¬ (a0).toInt64 = 0 then some ((((((ju cj 0 19 ((((1103515245 : Int64) * (cj 0 19)) + (12345 : Int64)) - (((1103515245 : Int64) * (cj 0 19)) + (12345 : Int64)) / (2147483648 : Int64) * (2147483648 : Int64))) 0 19) / (64 : Int64)) - (((ju cj 0 19 ((((1103515245 : Int64) * (cj 0 19)) + (12345 : Int64)) - (((1103515245 : Int64) * (cj 0 19)) + (12345 : Int64)) / (2147483648 : Int64) * (2147483648 : Int64))) 0 19) / (64 : Int64)) / (a0).toInt64 * (a0).toInt64)).toInt32, ci, (ju cj 0 19 ((((1103515245 : Int64) * (cj 0 19)) + (12345 : Int64)) - (((1103515245 : Int64) * (cj 0 19)) + (12345 : Int64)) / (2147483648 : Int64) * (2147483648 : Int64))), cr) else none
theorem metX0_draw {g : jG} {d : Nat} {c sl : Nat} {Qr : jQ} {Qx : jX} (n : Nat) (a0 : Int32) (K : jK) (ci : jI) (cj : jJ) (cr : jR) {q} (hC : jCW K cr) (h : fX0_draw n a0 K ci cj cr = some q) (hq : jqp wI K q Qr) : EvM g (d + 1) mX0_draw [.ref 0, .int a0] K ci cj cr c sl Qr Qx := by
  unfold fX0_draw at h
  show Ev g (d + 1) mX0_draw 0 [.ref 0, .int a0] [] K ci cj cr c sl Qr Qx
  refine ev_aload_n dX0_draw_0 rfl ?_
  refine ev_ldc2 dX0_draw_1 q1608 ?_
  refine ev_aload_n dX0_draw_4 rfl ?_
  refine ev_getJ dX0_draw_5 fX0_99_0 (ck0 hC) (Or.inl (cl0 hC)) rfl ?_
  refine ev_lmul dX0_draw_8 ?_
  refine ev_ldc2 dX0_draw_9 q1609 ?_
  refine ev_ladd dX0_draw_12 ?_
  refine ev_ldc2 dX0_draw_13 q1610 ?_
  refine ev_lrem dX0_draw_16 (by decide) ?_
  refine ev_putJ dX0_draw_17 (pX0_99_0 _) (ck0 hC) (cl0 hC) rfl ?_
  refine ev_aload_n dX0_draw_20 rfl ?_
  refine ev_getJ dX0_draw_21 fX0_99_0 (ck0 hC) (Or.inl (cl0 hC)) rfl ?_
  refine ev_ldc2 dX0_draw_24 q1611 ?_
  refine ev_ldiv dX0_draw_27 (by decide) ?_
  refine ev_iload_n dX0_draw_28 rfl ?_
  refine ev_i2l dX0_draw_29 ?_
  by_cases z1 : ¬ (a0).toInt64 = 0
  rotate_left
  · rw [if_neg z1] at h; cases h
  rw [if_pos z1] at h
  refine ev_lrem dX0_draw_30 z1 ?_
  refine ev_l2i dX0_draw_31 ?_
  cases h
  exact ev_iret dX0_draw_32 rfl rfl (hq hC)
def fX0_seed_17 (n : Nat) (t0 : Int32) (K : jK) (ci : jI) (cj : jJ) (cr : jR) : Option (jTp Int32) := if t0 = 0 ∨ t0 = 1 then some (t0, ci, cj, cr) else none
theorem wX0_seed_17 {g : jG} {d : Nat} {c sl : Nat} {Qr : jQ} {Qx : jX} (n : Nat) (t0 : Int32) (K : jK) (ci : jI) (cj : jJ) (cr : jR) {q} (hC : jCW K cr) (h : fX0_seed_17 n  t0 K ci cj cr = some q) (hq : jqp wI K q Qr) : Ev g (d + 2) mX0_seed 17 [jU, jU] [.int t0] K ci cj cr c sl Qr Qx := by
  unfold fX0_seed_17 at h
  by_cases z1 : t0 = 0 ∨ t0 = 1
  rotate_left
  · rw [if_neg z1] at h; cases h
  rw [if_pos z1] at h
  cases h
  exact ev_iret dX0_seed_17 rfl (jbool z1) (hq hC)
def fX0_seed (n : Nat) (a0 : Int32) (K : jK) (ci : jI) (cj : jJ) (cr : jR) : Option (jTp Int32) := if 0 ≤ a0 then some ((nI 1), ci, (ju cj 0 19 ((a0).toInt64)), cr) else jpb (fX0_refuses n (nI 5) K ci cj cr) (fun r2 ci3 cj4 cr5 => if r2 < 0 then fX0_seed_17 n  (nI 0) K ci3 cj4 cr5 else fX0_seed_17 n  (nI 1) K ci3 cj4 cr5)
theorem metX0_seed {g : jG} {d : Nat} {c sl : Nat} {Qr : jQ} {Qx : jX} (n : Nat) (a0 : Int32) (K : jK) (ci : jI) (cj : jJ) (cr : jR) {q} (hC : jCW K cr) (h : fX0_seed n a0 K ci cj cr = some q) (hq : jqp wI K q Qr) : EvM g (d + 2) mX0_seed [.ref 0, .int a0] K ci cj cr c sl Qr Qx := by
  unfold fX0_seed at h
  show Ev g (d + 2) mX0_seed 0 [.ref 0, .int a0] [] K ci cj cr c sl Qr Qx
  refine ev_iload_n dX0_seed_0 rfl ?_
  refine ev_if_ge 18 dX0_seed_1 rfl (fun z1 => ?_) (fun z1 => ?_)
  · rw [if_pos z1] at h
    refine ev_aload_n dX0_seed_18 rfl ?_
    refine ev_iload_n dX0_seed_19 rfl ?_
    refine ev_i2l dX0_seed_20 ?_
    refine ev_putJ dX0_seed_21 (pX0_99_0 _) (ck0 hC) (cl0 hC) rfl ?_
    refine ev_iconst (v := (nI 1)) dX0_seed_24 jc1 ?_
    cases h
    exact ev_iret dX0_seed_25 rfl (by decide) (hq hC)
  · rw [if_neg z1] at h
    refine ev_aload_n dX0_seed_4 rfl ?_
    refine ev_iconst (v := (nI 5)) dX0_seed_5 jc5 ?_
    obtain ⟨r2, ci3, cj4, cr5, z6, h⟩ := jpb_inv h
    refine ev_zV1 dX0_seed_6 vX0_109_0 (ck0 hC) (Or.inl (cl0 hC)) (Nat.le_of_ble_eq_true rfl) (Nat.le_of_ble_eq_true rfl) rfl (metX0_refuses n _ _ _ _ _ hC z6 (fun hC7 => ?_))
    show Ev g _ _ 9 _ [.int r2] K ci3 cj4 cr5 _ _ Qr Qx
    refine ev_if_lt 16 dX0_seed_9 rfl (fun z8 => ?_) (fun z8 => ?_)
    · rw [if_pos z8] at h
      refine ev_iconst (v := (nI 0)) dX0_seed_16 jc0 ?_
      exact ev_mask [false, false] (wX0_seed_17 n   _ _ _ _ _ hC7 h hq)
    · rw [if_neg z8] at h
      refine ev_iconst (v := (nI 1)) dX0_seed_12 jc1 ?_
      refine ev_goto 17 dX0_seed_13 rfl ?_
      exact ev_mask [false, false] (wX0_seed_17 n   _ _ _ _ _ hC7 h hq)
def fX22_answer_23 (n : Nat) (t0 : Int64) (K : jK) (ci : jI) (cj : jJ) (cr : jR) : Option (jTp Int64) := some (t0, ci, cj, cr)
theorem wX22_answer_23 {g : jG} {d : Nat} {c sl : Nat} {Qr : jQ} {Qx : jX} (n : Nat) (t0 : Int64) (K : jK) (ci : jI) (cj : jJ) (cr : jR) {q} (hC : jCW K cr) (h : fX22_answer_23 n  t0 K ci cj cr = some q) (hq : jqp wJ K q Qr) : Ev g (d + 1) mX22_answer 23 [jU] [.long t0] K ci cj cr c sl Qr Qx := by
  unfold fX22_answer_23 at h
  cases h
  exact ev_lret dX22_answer_23 rfl (hq hC)
def fX22_answer_15 (n : Nat) (l0 : Nat) (K : jK) (ci : jI) (cj : jJ) (cr : jR) : Option (jTp Int64) := if K.1 l0 = 19 ∧ l0 < K.2.2 then fX22_answer_23 n  (cj l0 3) K ci cj cr else none
theorem wX22_answer_15 {g : jG} {d : Nat} {c sl : Nat} {Qr : jQ} {Qx : jX} (n : Nat) (l0 : Nat) (K : jK) (ci : jI) (cj : jJ) (cr : jR) {q} (hC : jCW K cr) (h : fX22_answer_15 n  l0 K ci cj cr = some q) (hq : jqp wJ K q Qr) : Ev g (d + 1) mX22_answer 15 [.ref l0] [] K ci cj cr c sl Qr Qx := by
  unfold fX22_answer_15 at h
  refine ev_aload_n dX22_answer_15 rfl ?_
  by_cases z1 : K.1 l0 = 19 ∧ l0 < K.2.2
  rotate_left
  · rw [if_neg z1] at h; cases h
  rw [if_pos z1] at h
  refine ev_getJ dX22_answer_16 fX22_11_19 z1.1 (Or.inl z1.2) rfl ?_
  refine ev_goto 23 dX22_answer_19 rfl ?_
  exact ev_mask [false] (wX22_answer_23 n   _ _ _ _ _ hC h hq)
def fX22_answer (n : Nat) (ah : Nat) (K : jK) (ci : jI) (cj : jJ) (cr : jR) : Option (jTp Int64) := if K.1 ah = 19 ∧ ah < K.2.2 then if (ci ah 4) = 0 then if (nI 2) ≤ (ci ah 0) then fX22_answer_23 n  (lN 0) K ci cj cr else fX22_answer_15 n  ah K ci cj cr else fX22_answer_15 n  ah K ci cj cr else none
theorem metX22_answer {g : jG} {d : Nat} {c sl : Nat} {Qr : jQ} {Qx : jX} (n : Nat) (ah : Nat) (K : jK) (ci : jI) (cj : jJ) (cr : jR) {q} (hC : jCW K cr) (h : fX22_answer n ah K ci cj cr = some q) (hq : jqp wJ K q Qr) : EvM g (d + 1) mX22_answer [.ref ah] K ci cj cr c sl Qr Qx := by
  unfold fX22_answer at h
  show Ev g (d + 1) mX22_answer 0 [.ref ah] [] K ci cj cr c sl Qr Qx
  refine ev_aload_n dX22_answer_0 rfl ?_
  by_cases z1 : K.1 ah = 19 ∧ ah < K.2.2
  rotate_left
  · rw [if_neg z1] at h; cases h
  rw [if_pos z1] at h
  refine ev_getI dX22_answer_1 fX22_41_19 z1.1 (Or.inl z1.2) rfl ?_
  refine ev_if_ne 15 dX22_answer_4 rfl (fun z2 => ?_) (fun z2 => ?_)
  · rw [if_neg z2] at h
    exact wX22_answer_15 n   _ _ _ _ _ hC h hq
  · rw [if_pos z2] at h
    refine ev_aload_n dX22_answer_7 rfl ?_
    refine ev_getI dX22_answer_8 fX22_17_19 z1.1 (Or.inl z1.2) rfl ?_
    refine ev_iconst (v := (nI 2)) dX22_answer_11 jc2 ?_
    refine ev_icmp_ge 22 dX22_answer_12 rfl (fun z3 => ?_) (fun z3 => ?_)
    · rw [if_pos z3] at h
      refine ev_lconst (v := lN 0) dX22_answer_22 rfl ?_
      exact ev_mask [false] (wX22_answer_23 n   _ _ _ _ _ hC h hq)
    · rw [if_neg z3] at h
      exact wX22_answer_15 n   _ _ _ _ _ hC h hq
def fX22_init (n : Nat) (ah : Nat) (a0 : Int32) (a1 : Option Nat) (a2 : Option Nat) (K : jK) (ci : jI) (cj : jJ) (cr : jR) : Option (jTp Unit) := if K.1 ah = 19 ∧ ah < K.2.2 then some ((), (ju ci ah 0 a0), (ju cj ah 3 (-1 : Int64)), (ju (ju cr ah 1 a1) ah 2 a2)) else none
theorem metX22_init {g : jG} {d : Nat} {c sl : Nat} {Qr : jQ} {Qx : jX} (n : Nat) (ah : Nat) (a0 : Int32) (a1 : Option Nat) (a2 : Option Nat) (K : jK) (ci : jI) (cj : jJ) (cr : jR) {q} (hC : jCW K cr) (h : fX22_init n ah a0 a1 a2 K ci cj cr = some q) (hq : jqp wV K q Qr) : EvM g (d + 1) mX22_init [.ref ah, .int a0, va_rf a1, va_rf a2] K ci cj cr c sl Qr Qx := by
  unfold fX22_init at h
  have e9 : jentP mX22_init.2.2.1 [.ref ah, .int a0, va_rf a1, va_rf a2] = [.ref ah, .int a0, va_rf a1, va_rf a2] := by cases a1 <;> cases a2 <;>  rfl
  show Ev g (d + 1) mX22_init 0 (jentP mX22_init.2.2.1 [.ref ah, .int a0, va_rf a1, va_rf a2]) [] K ci cj cr c sl Qr Qx
  rw [e9]
  refine ev_aload_n dX22_init_0 rfl ?_
  refine ev_objInit dX22_init_1 q1631 (Nat.le_of_ble_eq_true rfl) ?_
  refine ev_aload_n dX22_init_4 rfl ?_
  refine ev_ldc2 dX22_init_5 q1632 ?_
  by_cases z1 : K.1 ah = 19 ∧ ah < K.2.2
  rotate_left
  · rw [if_neg z1] at h; cases h
  rw [if_pos z1] at h
  refine ev_putJ dX22_init_8 (pX22_11_19 _) z1.1 z1.2 rfl ?_
  refine ev_aload_n dX22_init_11 rfl ?_
  refine ev_iload_n dX22_init_12 rfl ?_
  refine ev_putI dX22_init_13 pX22_17_19 z1.1 z1.2 rfl rfl rfl ?_
  refine ev_aload_n dX22_init_16 rfl ?_
  refine ev_aload_nQ dX22_init_17 rfl ?_
  refine ev_putQ dX22_init_18 pX22_21_19 z1.1 z1.2 rfl ?_
  have hC2 := jCW.upd hC (k := 1) (v := a1) z1.1 (by decide)
  refine ev_aload_n dX22_init_21 rfl ?_
  refine ev_aload_nQ dX22_init_22 rfl ?_
  refine ev_putQ dX22_init_23 pX22_25_19 z1.1 z1.2 rfl ?_
  have hC3 := jCW.upd hC2 (k := 2) (v := a2) z1.1 (by decide)
  cases h
  exact ev_ret dX22_init_26 rfl (hq hC3)
def fX0_check_6 (n : Nat) : Nat → Nat → Int32 → Int32 → Int32 → jK → jI → jJ → jR → Option (jTp Int32)
  | 0, _, _, _, _, _, _, _, _ => none
  | k + 1, l0, l1, l2, l3, K, ci, cj, cr => if l1 ≤ l3 then some (l2, ci, cj, cr) else if K.1 l0 = 101 ∧ (l0 < K.2.2 ∨ 1000000 ≤ l0) then if jok l3 (K.2.1 l0) then fX0_check_6 n  k l0 l1 ((((nI 3) * l2) + ((ci l0 (l3).toNatClampNeg) &&& (nI 255))) - (((nI 3) * l2) + ((ci l0 (l3).toNatClampNeg) &&& (nI 255))) / (nI 251) * (nI 251)) (l3 + (nI 1)) K ci cj cr else none else none
theorem wX0_check_6 {g : jG} {d : Nat} {c sl : Nat} {Qr : jQ} {Qx : jX} (n : Nat) : ∀ (k : Nat) (l0 : Nat) (l1 : Int32) (l2 : Int32) (l3 : Int32) (K : jK) (ci : jI) (cj : jJ) (cr : jR) {q}, jCW K cr → fX0_check_6 n  k l0 l1 l2 l3 K ci cj cr = some q → jqp wI K q Qr → Ev g (d + 1) mX0_check 6 [.ref l0, .int l1, .int l2, .int l3] [] K ci cj cr c sl Qr Qx := by
  intro k
  induction k with
  | zero =>
    intro l0 l1 l2 l3 K ci cj cr q hC h hq
    rw [fX0_check_6.eq_1] at h; cases h
  | succ k ih =>
    intro l0 l1 l2 l3 K ci cj cr q hC h hq
    rw [fX0_check_6.eq_2] at h
    refine ev_iload_n dX0_check_6 rfl ?_
    refine ev_iload_n dX0_check_7 rfl ?_
    refine ev_icmp_ge 33 dX0_check_8 rfl (fun z1 => ?_) (fun z1 => ?_)
    · rw [if_pos z1] at h
      refine ev_iload_n dX0_check_33 rfl ?_
      cases h
      exact ev_iret dX0_check_34 rfl rfl (hq hC)
    · rw [if_neg z1] at h
      refine ev_iconst (v := (nI 3)) dX0_check_11 jc3 ?_
      refine ev_iload_n dX0_check_12 rfl ?_
      refine ev_imul dX0_check_13 ?_
      refine ev_aload_n dX0_check_14 rfl ?_
      refine ev_iload_n dX0_check_15 rfl ?_
      by_cases z2 : K.1 l0 = 101 ∧ (l0 < K.2.2 ∨ 1000000 ≤ l0)
      rotate_left
      · rw [if_neg z2] at h; cases h
      rw [if_pos z2] at h
      by_cases z3 : jok l3 (K.2.1 l0)
      rotate_left
      · rw [if_neg z3] at h; cases h
      rw [if_pos z3] at h
      refine ev_baload dX0_check_16 z2.1 z2.2 (jok.ix z3 rfl) ?_
      refine ev_sipush (v := (nI 255)) dX0_check_17 js255 ?_
      refine ev_iand dX0_check_20 ?_
      refine ev_iadd dX0_check_21 ?_
      refine ev_sipush (v := (nI 251)) dX0_check_22 js251 ?_
      refine ev_irem dX0_check_25 (by decide) ?_
      refine ev_istore_n (L' := [_, _, _, _]) dX0_check_26 (by decide) rfl ?_
      refine ev_iinc (v := (l3 + (nI 1))) (L' := [_, _, _, _]) dX0_check_27 rfl (by rw [ji_1]) (by decide) rfl ?_
      refine ev_goto 6 dX0_check_30 rfl ?_
      exact ih _ _ _ _ _ _ _ _ hC h hq
def fX0_check (n : Nat) (a0 : Nat) (a1 : Int32) (K : jK) (ci : jI) (cj : jJ) (cr : jR) : Option (jTp Int32) := fX0_check_6 n  n a0 a1 (nI 233) (nI 0) K ci cj cr
theorem metX0_check {g : jG} {d : Nat} {c sl : Nat} {Qr : jQ} {Qx : jX} (n : Nat) (a0 : Nat) (a1 : Int32) (K : jK) (ci : jI) (cj : jJ) (cr : jR) {q} (hC : jCW K cr) (h : fX0_check n a0 a1 K ci cj cr = some q) (hq : jqp wI K q Qr) : EvM g (d + 1) mX0_check [.ref a0, .int a1] K ci cj cr c sl Qr Qx := by
  unfold fX0_check at h
  show Ev g (d + 1) mX0_check 0 [.ref a0, .int a1, jU, jU] [] K ci cj cr c sl Qr Qx
  refine ev_sipush (v := (nI 233)) dX0_check_0 js233 ?_
  refine ev_istore_n (L' := [_, _, _, _]) dX0_check_3 (by decide) rfl ?_
  refine ev_iconst (v := (nI 0)) dX0_check_4 jc0 ?_
  refine ev_istore_n (L' := [_, _, _, _]) dX0_check_5 (by decide) rfl ?_
  exact wX0_check_6 n   n _ _ _ _ _ _ _ _ hC h hq
def fX0_writes (n : Nat) (a0 : Int32) (K : jK) (ci : jI) (cj : jJ) (cr : jR) : Option (jTp Unit) := if jok (ci 0 21) 53 then some ((), (ju (ju ci 0 21 ((ci 0 21) + (nI 1))) 1546 ((ci 0 21)).toNatClampNeg ((a0).toInt8.toInt32).toInt8.toInt32), cj, cr) else none
theorem metX0_writes {g : jG} {d : Nat} {c sl : Nat} {Qr : jQ} {Qx : jX} (n : Nat) (a0 : Int32) (K : jK) (ci : jI) (cj : jJ) (cr : jR) {q} (hC : jCW K cr) (h : fX0_writes n a0 K ci cj cr = some q) (hq : jqp wV K q Qr) : EvM g (d + 1) mX0_writes [.ref 0, .int a0] K ci cj cr c sl Qr Qx := by
  unfold fX0_writes at h
  show Ev g (d + 1) mX0_writes 0 [.ref 0, .int a0] [] K ci cj cr c sl Qr Qx
  refine ev_aload_n dX0_writes_0 rfl ?_
  refine ev_getR dX0_writes_1 fX0_103_0 (ck0 hC) (Or.inl (cl0 hC)) rfl (cq0_20 hC) ?_
  refine ev_aload_n dX0_writes_4 rfl ?_
  refine ev_dup dX0_writes_5 rfl ?_
  refine ev_getI dX0_writes_6 fX0_347_0 (ck0 hC) (Or.inl (cl0 hC)) rfl ?_
  refine ev_dup_x1 dX0_writes_9 rfl rfl ?_
  refine ev_iconst (v := (nI 1)) dX0_writes_10 jc1 ?_
  refine ev_iadd dX0_writes_11 ?_
  refine ev_putI dX0_writes_12 (pX0_347_0 _) (ck0 hC) (cl0 hC) rfl rfl rfl ?_
  refine ev_iload_n dX0_writes_15 rfl ?_
  refine ev_i2b dX0_writes_16 ?_
  by_cases z1 : jok (ci 0 21) 53
  rotate_left
  · rw [if_neg z1] at h; cases h
  rw [if_pos z1] at h
  refine ev_bastore dX0_writes_17 (ck1546 hC) (cl1546 hC) (jok.ix z1 (cn1546 hC)) ?_
  cases h
  exact ev_ret dX0_writes_18 rfl (hq hC)
def fX0_image_145 (n : Nat) : Nat → Int32 → jK → jI → jJ → jR → Option (jTp Int32)
  | 0, _, _, _, _, _ => none
  | k + 1, l1, K, ci, cj, cr => jpb (fX0_pairs n  K ci cj cr) (fun r1 ci2 cj3 cr4 => if r1 ≤ l1 then jpb (fX0_check n 1546 (ci2 0 21) K ci2 cj3 cr4) (fun r8 ci9 cj10 cr11 => jpb (fX0_writes n r8 K ci9 cj10 cr11) (fun r14 ci15 cj16 cr17 => some ((ci15 0 21), ci15, cj16, cr17))) else if jok l1 10 then jpb (fX0_writes n (ci2 (16 + 8) (l1).toNatClampNeg) K ci2 cj3 cr4) (fun r21 ci22 cj23 cr24 => if jok l1 10 then jpb (fX0_writes n (ci22 (16 + 10) (l1).toNatClampNeg) K ci22 cj23 cr24) (fun r28 ci29 cj30 cr31 => fX0_image_145 n  k (l1 + (nI 1)) K ci29 cj30 cr31) else none) else none)
theorem wX0_image_145 {g : jG} {d : Nat} {c sl : Nat} {Qr : jQ} {Qx : jX} (n : Nat) : ∀ (k : Nat) (l1 : Int32) (K : jK) (ci : jI) (cj : jJ) (cr : jR) {q}, jCW K cr → fX0_image_145 n  k l1 K ci cj cr = some q → jqp wI K q Qr → Ev g (d + 3) mX0_image 145 [.ref 0, .int l1] [] K ci cj cr c sl Qr Qx := by
  intro k
  induction k with
  | zero =>
    intro l1 K ci cj cr q hC h hq
    rw [fX0_image_145.eq_1] at h; cases h
  | succ k ih =>
    intro l1 K ci cj cr q hC h hq
    rw [fX0_image_145.eq_2] at h
    refine ev_iload_n dX0_image_145 rfl ?_
    refine ev_aload_n dX0_image_146 rfl ?_
    obtain ⟨r1, ci2, cj3, cr4, z5, h⟩ := jpb_inv h
    refine ev_zV0 dX0_image_147 vX0_165_0 (ck0 hC) (Or.inl (cl0 hC)) (Nat.le_of_ble_eq_true rfl) (Nat.le_of_ble_eq_true rfl) rfl (metX0_pairs n  _ _ _ _ hC z5 (fun hC6 => ?_))
    show Ev g _ _ 150 _ [.int r1, .int l1] K ci2 cj3 cr4 _ _ Qr Qx
    refine ev_icmp_ge 185 dX0_image_150 rfl (fun z7 => ?_) (fun z7 => ?_)
    · rw [if_pos z7] at h
      refine ev_aload_n dX0_image_185 rfl ?_
      refine ev_aload_n dX0_image_186 rfl ?_
      refine ev_getR dX0_image_187 fX0_103_0 (ck0 hC6) (Or.inl (cl0 hC6)) rfl (cq0_20 hC6) ?_
      refine ev_aload_n dX0_image_190 rfl ?_
      refine ev_getI dX0_image_191 fX0_347_0 (ck0 hC6) (Or.inl (cl0 hC6)) rfl ?_
      obtain ⟨r8, ci9, cj10, cr11, z12, h⟩ := jpb_inv h
      refine ev_zS2 dX0_image_194 sX0_353 (Nat.le_of_ble_eq_true rfl) (Nat.le_of_ble_eq_true rfl) rfl (metX0_check n _ _ _ _ _ _ hC6 z12 (fun hC13 => ?_))
      show Ev g _ _ 197 _ [.int r8, .ref 0] K ci9 cj10 cr11 _ _ Qr Qx
      obtain ⟨r14, ci15, cj16, cr17, z18, h⟩ := jpb_inv h
      refine ev_zV1 dX0_image_197 vX0_350_0 (ck0 hC13) (Or.inl (cl0 hC13)) (Nat.le_of_ble_eq_true rfl) (Nat.le_of_ble_eq_true rfl) rfl (metX0_writes n _ _ _ _ _ hC13 z18 (fun hC19 => ?_))
      show Ev g _ _ 200 _ [] K ci15 cj16 cr17 _ _ Qr Qx
      refine ev_aload_n dX0_image_200 rfl ?_
      refine ev_getI dX0_image_201 fX0_347_0 (ck0 hC19) (Or.inl (cl0 hC19)) rfl ?_
      cases h
      exact ev_iret dX0_image_204 rfl rfl (hq hC19)
    · rw [if_neg z7] at h
      refine ev_aload_n dX0_image_153 rfl ?_
      refine ev_aload_n dX0_image_154 rfl ?_
      refine ev_getR dX0_image_155 fX0_69_0 (ck0 hC6) (Or.inl (cl0 hC6)) rfl (cq0_9 hC6) ?_
      refine ev_getR dX0_image_158 fX0_236_5 (sk0 hC6 is16) (Or.inl (sl0 hC6 is16)) rfl (sr8 hC6 is16) ?_
      refine ev_iload_n dX0_image_161 rfl ?_
      by_cases z20 : jok l1 10
      rotate_left
      · rw [if_neg z20] at h; cases h
      rw [if_pos z20] at h
      refine ev_iaload dX0_image_162 (sk8 hC6 is16) (Or.inl (sl8 hC6 is16)) (jok.ix z20 (sn8 hC6 is16)) ?_
      obtain ⟨r21, ci22, cj23, cr24, z25, h⟩ := jpb_inv h
      refine ev_zV1 dX0_image_163 vX0_350_0 (ck0 hC6) (Or.inl (cl0 hC6)) (Nat.le_of_ble_eq_true rfl) (Nat.le_of_ble_eq_true rfl) rfl (metX0_writes n _ _ _ _ _ hC6 z25 (fun hC26 => ?_))
      show Ev g _ _ 166 _ [] K ci22 cj23 cr24 _ _ Qr Qx
      refine ev_aload_n dX0_image_166 rfl ?_
      refine ev_aload_n dX0_image_167 rfl ?_
      refine ev_getR dX0_image_168 fX0_69_0 (ck0 hC26) (Or.inl (cl0 hC26)) rfl (cq0_9 hC26) ?_
      refine ev_getR dX0_image_171 fX0_239_5 (sk0 hC26 is16) (Or.inl (sl0 hC26 is16)) rfl (sr10 hC26 is16) ?_
      refine ev_iload_n dX0_image_174 rfl ?_
      by_cases z27 : jok l1 10
      rotate_left
      · rw [if_neg z27] at h; cases h
      rw [if_pos z27] at h
      refine ev_iaload dX0_image_175 (sk10 hC26 is16) (Or.inl (sl10 hC26 is16)) (jok.ix z27 (sn10 hC26 is16)) ?_
      obtain ⟨r28, ci29, cj30, cr31, z32, h⟩ := jpb_inv h
      refine ev_zV1 dX0_image_176 vX0_350_0 (ck0 hC26) (Or.inl (cl0 hC26)) (Nat.le_of_ble_eq_true rfl) (Nat.le_of_ble_eq_true rfl) rfl (metX0_writes n _ _ _ _ _ hC26 z32 (fun hC33 => ?_))
      show Ev g _ _ 179 _ [] K ci29 cj30 cr31 _ _ Qr Qx
      refine ev_iinc (v := (l1 + (nI 1))) (L' := [_, _]) dX0_image_179 rfl (by rw [ji_1]) (by decide) rfl ?_
      refine ev_goto 145 dX0_image_182 rfl ?_
      exact ih _ _ _ _ _ hC33 h hq
def fX0_image_74 (n : Nat) : Nat → Int32 → jK → jI → jJ → jR → Option (jTp Int32)
  | 0, _, _, _, _, _ => none
  | k + 1, l1, K, ci, cj, cr => jpb (fX0_bays n  K ci cj cr) (fun r1 ci2 cj3 cr4 => if r1 ≤ l1 then fX0_image_145 n  n (nI 0) K ci2 cj3 cr4 else if jok l1 6 then jpb (fX0_writes n (ci2 (16 + 4) (l1).toNatClampNeg) K ci2 cj3 cr4) (fun r9 ci10 cj11 cr12 => if jok l1 6 then jpb (fX0_writes n ((ci10 (16 + 5) (l1).toNatClampNeg) >>> ((nI 8) &&& 31)) K ci10 cj11 cr12) (fun r16 ci17 cj18 cr19 => if jok l1 6 then jpb (fX0_writes n (ci17 (16 + 5) (l1).toNatClampNeg) K ci17 cj18 cr19) (fun r23 ci24 cj25 cr26 => if jok l1 6 then jpb (fX0_writes n (ci24 (16 + 6) (l1).toNatClampNeg) K ci24 cj25 cr26) (fun r30 ci31 cj32 cr33 => fX0_image_74 n  k (l1 + (nI 1)) K ci31 cj32 cr33) else none) else none) else none) else none)
theorem wX0_image_74 {g : jG} {d : Nat} {c sl : Nat} {Qr : jQ} {Qx : jX} (n : Nat) : ∀ (k : Nat) (l1 : Int32) (K : jK) (ci : jI) (cj : jJ) (cr : jR) {q}, jCW K cr → fX0_image_74 n  k l1 K ci cj cr = some q → jqp wI K q Qr → Ev g (d + 3) mX0_image 74 [.ref 0, .int l1] [] K ci cj cr c sl Qr Qx := by
  intro k
  induction k with
  | zero =>
    intro l1 K ci cj cr q hC h hq
    rw [fX0_image_74.eq_1] at h; cases h
  | succ k ih =>
    intro l1 K ci cj cr q hC h hq
    rw [fX0_image_74.eq_2] at h
    refine ev_iload_n dX0_image_74 rfl ?_
    refine ev_aload_n dX0_image_75 rfl ?_
    obtain ⟨r1, ci2, cj3, cr4, z5, h⟩ := jpb_inv h
    refine ev_zV0 dX0_image_76 vX0_163_0 (ck0 hC) (Or.inl (cl0 hC)) (Nat.le_of_ble_eq_true rfl) (Nat.le_of_ble_eq_true rfl) rfl (metX0_bays n  _ _ _ _ hC z5 (fun hC6 => ?_))
    show Ev g _ _ 79 _ [.int r1, .int l1] K ci2 cj3 cr4 _ _ Qr Qx
    refine ev_icmp_ge 143 dX0_image_79 rfl (fun z7 => ?_) (fun z7 => ?_)
    · rw [if_pos z7] at h
      refine ev_iconst (v := (nI 0)) dX0_image_143 jc0 ?_
      refine ev_istore_n (L' := [_, _]) dX0_image_144 (by decide) rfl ?_
      exact wX0_image_145 n   n _ _ _ _ _ hC6 h hq
    · rw [if_neg z7] at h
      refine ev_aload_n dX0_image_82 rfl ?_
      refine ev_aload_n dX0_image_83 rfl ?_
      refine ev_getR dX0_image_84 fX0_69_0 (ck0 hC6) (Or.inl (cl0 hC6)) rfl (cq0_9 hC6) ?_
      refine ev_getR dX0_image_87 fX0_214_5 (sk0 hC6 is16) (Or.inl (sl0 hC6 is16)) rfl (sr4 hC6 is16) ?_
      refine ev_iload_n dX0_image_90 rfl ?_
      by_cases z8 : jok l1 6
      rotate_left
      · rw [if_neg z8] at h; cases h
      rw [if_pos z8] at h
      refine ev_iaload dX0_image_91 (sk4 hC6 is16) (Or.inl (sl4 hC6 is16)) (jok.ix z8 (sn4 hC6 is16)) ?_
      obtain ⟨r9, ci10, cj11, cr12, z13, h⟩ := jpb_inv h
      refine ev_zV1 dX0_image_92 vX0_350_0 (ck0 hC6) (Or.inl (cl0 hC6)) (Nat.le_of_ble_eq_true rfl) (Nat.le_of_ble_eq_true rfl) rfl (metX0_writes n _ _ _ _ _ hC6 z13 (fun hC14 => ?_))
      show Ev g _ _ 95 _ [] K ci10 cj11 cr12 _ _ Qr Qx
      refine ev_aload_n dX0_image_95 rfl ?_
      refine ev_aload_n dX0_image_96 rfl ?_
      refine ev_getR dX0_image_97 fX0_69_0 (ck0 hC14) (Or.inl (cl0 hC14)) rfl (cq0_9 hC14) ?_
      refine ev_getR dX0_image_100 fX0_223_5 (sk0 hC14 is16) (Or.inl (sl0 hC14 is16)) rfl (sr5 hC14 is16) ?_
      refine ev_iload_n dX0_image_103 rfl ?_
      by_cases z15 : jok l1 6
      rotate_left
      · rw [if_neg z15] at h; cases h
      rw [if_pos z15] at h
      refine ev_iaload dX0_image_104 (sk5 hC14 is16) (Or.inl (sl5 hC14 is16)) (jok.ix z15 (sn5 hC14 is16)) ?_
      refine ev_bipush (v := (nI 8)) dX0_image_105 jb8 ?_
      refine ev_ishr dX0_image_107 ?_
      obtain ⟨r16, ci17, cj18, cr19, z20, h⟩ := jpb_inv h
      refine ev_zV1 dX0_image_108 vX0_350_0 (ck0 hC14) (Or.inl (cl0 hC14)) (Nat.le_of_ble_eq_true rfl) (Nat.le_of_ble_eq_true rfl) rfl (metX0_writes n _ _ _ _ _ hC14 z20 (fun hC21 => ?_))
      show Ev g _ _ 111 _ [] K ci17 cj18 cr19 _ _ Qr Qx
      refine ev_aload_n dX0_image_111 rfl ?_
      refine ev_aload_n dX0_image_112 rfl ?_
      refine ev_getR dX0_image_113 fX0_69_0 (ck0 hC21) (Or.inl (cl0 hC21)) rfl (cq0_9 hC21) ?_
      refine ev_getR dX0_image_116 fX0_223_5 (sk0 hC21 is16) (Or.inl (sl0 hC21 is16)) rfl (sr5 hC21 is16) ?_
      refine ev_iload_n dX0_image_119 rfl ?_
      by_cases z22 : jok l1 6
      rotate_left
      · rw [if_neg z22] at h; cases h
      rw [if_pos z22] at h
      refine ev_iaload dX0_image_120 (sk5 hC21 is16) (Or.inl (sl5 hC21 is16)) (jok.ix z22 (sn5 hC21 is16)) ?_
      obtain ⟨r23, ci24, cj25, cr26, z27, h⟩ := jpb_inv h
      refine ev_zV1 dX0_image_121 vX0_350_0 (ck0 hC21) (Or.inl (cl0 hC21)) (Nat.le_of_ble_eq_true rfl) (Nat.le_of_ble_eq_true rfl) rfl (metX0_writes n _ _ _ _ _ hC21 z27 (fun hC28 => ?_))
      show Ev g _ _ 124 _ [] K ci24 cj25 cr26 _ _ Qr Qx
      refine ev_aload_n dX0_image_124 rfl ?_
      refine ev_aload_n dX0_image_125 rfl ?_
      refine ev_getR dX0_image_126 fX0_69_0 (ck0 hC28) (Or.inl (cl0 hC28)) rfl (cq0_9 hC28) ?_
      refine ev_getR dX0_image_129 fX0_220_5 (sk0 hC28 is16) (Or.inl (sl0 hC28 is16)) rfl (sr6 hC28 is16) ?_
      refine ev_iload_n dX0_image_132 rfl ?_
      by_cases z29 : jok l1 6
      rotate_left
      · rw [if_neg z29] at h; cases h
      rw [if_pos z29] at h
      refine ev_iaload dX0_image_133 (sk6 hC28 is16) (Or.inl (sl6 hC28 is16)) (jok.ix z29 (sn6 hC28 is16)) ?_
      obtain ⟨r30, ci31, cj32, cr33, z34, h⟩ := jpb_inv h
      refine ev_zV1 dX0_image_134 vX0_350_0 (ck0 hC28) (Or.inl (cl0 hC28)) (Nat.le_of_ble_eq_true rfl) (Nat.le_of_ble_eq_true rfl) rfl (metX0_writes n _ _ _ _ _ hC28 z34 (fun hC35 => ?_))
      show Ev g _ _ 137 _ [] K ci31 cj32 cr33 _ _ Qr Qx
      refine ev_iinc (v := (l1 + (nI 1))) (L' := [_, _]) dX0_image_137 rfl (by rw [ji_1]) (by decide) rfl ?_
      refine ev_goto 74 dX0_image_140 rfl ?_
      exact ih _ _ _ _ _ hC35 h hq
def fX0_image_32 (n : Nat) : Nat → Int32 → jK → jI → jJ → jR → Option (jTp Int32)
  | 0, _, _, _, _, _ => none
  | k + 1, l1, K, ci, cj, cr => jpb (fX0_shoals n  K ci cj cr) (fun r1 ci2 cj3 cr4 => if r1 ≤ l1 then fX0_image_74 n  n (nI 0) K ci2 cj3 cr4 else if jok l1 3 then jpb (fX0_writes n (ci2 (16 + 1) (l1).toNatClampNeg) K ci2 cj3 cr4) (fun r9 ci10 cj11 cr12 => if jok l1 3 then jpb (fX0_writes n (ci10 (16 + 2) (l1).toNatClampNeg) K ci10 cj11 cr12) (fun r16 ci17 cj18 cr19 => fX0_image_32 n  k (l1 + (nI 1)) K ci17 cj18 cr19) else none) else none)
theorem wX0_image_32 {g : jG} {d : Nat} {c sl : Nat} {Qr : jQ} {Qx : jX} (n : Nat) : ∀ (k : Nat) (l1 : Int32) (K : jK) (ci : jI) (cj : jJ) (cr : jR) {q}, jCW K cr → fX0_image_32 n  k l1 K ci cj cr = some q → jqp wI K q Qr → Ev g (d + 3) mX0_image 32 [.ref 0, .int l1] [] K ci cj cr c sl Qr Qx := by
  intro k
  induction k with
  | zero =>
    intro l1 K ci cj cr q hC h hq
    rw [fX0_image_32.eq_1] at h; cases h
  | succ k ih =>
    intro l1 K ci cj cr q hC h hq
    rw [fX0_image_32.eq_2] at h
    refine ev_iload_n dX0_image_32 rfl ?_
    refine ev_aload_n dX0_image_33 rfl ?_
    obtain ⟨r1, ci2, cj3, cr4, z5, h⟩ := jpb_inv h
    refine ev_zV0 dX0_image_34 vX0_167_0 (ck0 hC) (Or.inl (cl0 hC)) (Nat.le_of_ble_eq_true rfl) (Nat.le_of_ble_eq_true rfl) rfl (metX0_shoals n  _ _ _ _ hC z5 (fun hC6 => ?_))
    show Ev g _ _ 37 _ [.int r1, .int l1] K ci2 cj3 cr4 _ _ Qr Qx
    refine ev_icmp_ge 72 dX0_image_37 rfl (fun z7 => ?_) (fun z7 => ?_)
    · rw [if_pos z7] at h
      refine ev_iconst (v := (nI 0)) dX0_image_72 jc0 ?_
      refine ev_istore_n (L' := [_, _]) dX0_image_73 (by decide) rfl ?_
      exact wX0_image_74 n   n _ _ _ _ _ hC6 h hq
    · rw [if_neg z7] at h
      refine ev_aload_n dX0_image_40 rfl ?_
      refine ev_aload_n dX0_image_41 rfl ?_
      refine ev_getR dX0_image_42 fX0_69_0 (ck0 hC6) (Or.inl (cl0 hC6)) rfl (cq0_9 hC6) ?_
      refine ev_getR dX0_image_45 fX0_245_5 (sk0 hC6 is16) (Or.inl (sl0 hC6 is16)) rfl (sr1 hC6 is16) ?_
      refine ev_iload_n dX0_image_48 rfl ?_
      by_cases z8 : jok l1 3
      rotate_left
      · rw [if_neg z8] at h; cases h
      rw [if_pos z8] at h
      refine ev_iaload dX0_image_49 (sk1 hC6 is16) (Or.inl (sl1 hC6 is16)) (jok.ix z8 (sn1 hC6 is16)) ?_
      obtain ⟨r9, ci10, cj11, cr12, z13, h⟩ := jpb_inv h
      refine ev_zV1 dX0_image_50 vX0_350_0 (ck0 hC6) (Or.inl (cl0 hC6)) (Nat.le_of_ble_eq_true rfl) (Nat.le_of_ble_eq_true rfl) rfl (metX0_writes n _ _ _ _ _ hC6 z13 (fun hC14 => ?_))
      show Ev g _ _ 53 _ [] K ci10 cj11 cr12 _ _ Qr Qx
      refine ev_aload_n dX0_image_53 rfl ?_
      refine ev_aload_n dX0_image_54 rfl ?_
      refine ev_getR dX0_image_55 fX0_69_0 (ck0 hC14) (Or.inl (cl0 hC14)) rfl (cq0_9 hC14) ?_
      refine ev_getR dX0_image_58 fX0_186_5 (sk0 hC14 is16) (Or.inl (sl0 hC14 is16)) rfl (sr2 hC14 is16) ?_
      refine ev_iload_n dX0_image_61 rfl ?_
      by_cases z15 : jok l1 3
      rotate_left
      · rw [if_neg z15] at h; cases h
      rw [if_pos z15] at h
      refine ev_iaload dX0_image_62 (sk2 hC14 is16) (Or.inl (sl2 hC14 is16)) (jok.ix z15 (sn2 hC14 is16)) ?_
      obtain ⟨r16, ci17, cj18, cr19, z20, h⟩ := jpb_inv h
      refine ev_zV1 dX0_image_63 vX0_350_0 (ck0 hC14) (Or.inl (cl0 hC14)) (Nat.le_of_ble_eq_true rfl) (Nat.le_of_ble_eq_true rfl) rfl (metX0_writes n _ _ _ _ _ hC14 z20 (fun hC21 => ?_))
      show Ev g _ _ 66 _ [] K ci17 cj18 cr19 _ _ Qr Qx
      refine ev_iinc (v := (l1 + (nI 1))) (L' := [_, _]) dX0_image_66 rfl (by rw [ji_1]) (by decide) rfl ?_
      refine ev_goto 32 dX0_image_69 rfl ?_
      exact ih _ _ _ _ _ hC21 h hq
def fX0_image (n : Nat) (K : jK) (ci : jI) (cj : jJ) (cr : jR) : Option (jTp Int32) := jpb (fX0_writes n (((ju ci 0 21 (nI 0)) 16 0) >>> ((nI 8) &&& 31)) K (ju ci 0 21 (nI 0)) cj cr) (fun r1 ci2 cj3 cr4 => jpb (fX0_writes n (ci2 16 0) K ci2 cj3 cr4) (fun r7 ci8 cj9 cr10 => fX0_image_32 n  n (nI 0) K ci8 cj9 cr10))
theorem metX0_image {g : jG} {d : Nat} {c sl : Nat} {Qr : jQ} {Qx : jX} (n : Nat) (K : jK) (ci : jI) (cj : jJ) (cr : jR) {q} (hC : jCW K cr) (h : fX0_image n  K ci cj cr = some q) (hq : jqp wI K q Qr) : EvM g (d + 3) mX0_image [.ref 0] K ci cj cr c sl Qr Qx := by
  unfold fX0_image at h
  show Ev g (d + 3) mX0_image 0 [.ref 0, jU] [] K ci cj cr c sl Qr Qx
  refine ev_aload_n dX0_image_0 rfl ?_
  refine ev_iconst (v := (nI 0)) dX0_image_1 jc0 ?_
  refine ev_putI dX0_image_2 (pX0_347_0 _) (ck0 hC) (cl0 hC) rfl rfl rfl ?_
  refine ev_aload_n dX0_image_5 rfl ?_
  refine ev_aload_n dX0_image_6 rfl ?_
  refine ev_getR dX0_image_7 fX0_69_0 (ck0 hC) (Or.inl (cl0 hC)) rfl (cq0_9 hC) ?_
  refine ev_getI dX0_image_10 fX0_179_5 (sk0 hC is16) (Or.inl (sl0 hC is16)) rfl ?_
  refine ev_bipush (v := (nI 8)) dX0_image_13 jb8 ?_
  refine ev_ishr dX0_image_15 ?_
  obtain ⟨r1, ci2, cj3, cr4, z5, h⟩ := jpb_inv h
  refine ev_zV1 dX0_image_16 vX0_350_0 (ck0 hC) (Or.inl (cl0 hC)) (Nat.le_of_ble_eq_true rfl) (Nat.le_of_ble_eq_true rfl) rfl (metX0_writes n _ _ _ _ _ hC z5 (fun hC6 => ?_))
  show Ev g _ _ 19 _ [] K ci2 cj3 cr4 _ _ Qr Qx
  refine ev_aload_n dX0_image_19 rfl ?_
  refine ev_aload_n dX0_image_20 rfl ?_
  refine ev_getR dX0_image_21 fX0_69_0 (ck0 hC6) (Or.inl (cl0 hC6)) rfl (cq0_9 hC6) ?_
  refine ev_getI dX0_image_24 fX0_179_5 (sk0 hC6 is16) (Or.inl (sl0 hC6 is16)) rfl ?_
  obtain ⟨r7, ci8, cj9, cr10, z11, h⟩ := jpb_inv h
  refine ev_zV1 dX0_image_27 vX0_350_0 (ck0 hC6) (Or.inl (cl0 hC6)) (Nat.le_of_ble_eq_true rfl) (Nat.le_of_ble_eq_true rfl) rfl (metX0_writes n _ _ _ _ _ hC6 z11 (fun hC12 => ?_))
  show Ev g _ _ 30 _ [] K ci8 cj9 cr10 _ _ Qr Qx
  refine ev_iconst (v := (nI 0)) dX0_image_30 jc0 ?_
  refine ev_istore_n (L' := [_, _]) dX0_image_31 (by decide) rfl ?_
  exact wX0_image_32 n   n _ _ _ _ _ hC12 h hq
def fX0_octet_26 (n : Nat) (t0 : Int32) (K : jK) (ci : jI) (cj : jJ) (cr : jR) : Option (jTp Int32) := some (t0, ci, cj, cr)
theorem wX0_octet_26 {g : jG} {d : Nat} {c sl : Nat} {Qr : jQ} {Qx : jX} (n : Nat) (t0 : Int32) (K : jK) (ci : jI) (cj : jJ) (cr : jR) {q} (hC : jCW K cr) (h : fX0_octet_26 n  t0 K ci cj cr = some q) (hq : jqp wI K q Qr) : Ev g (d + 1) mX0_octet 26 [jU, jU] [.int t0] K ci cj cr c sl Qr Qx := by
  unfold fX0_octet_26 at h
  cases h
  exact ev_iret dX0_octet_26 rfl rfl (hq hC)
def fX0_octet_12 (n : Nat) (K : jK) (ci : jI) (cj : jJ) (cr : jR) : Option (jTp Int32) := fX0_octet_26 n  (-1) K ci cj cr
theorem wX0_octet_12 {g : jG} {d : Nat} {c sl : Nat} {Qr : jQ} {Qx : jX} (n : Nat) (K : jK) (ci : jI) (cj : jJ) (cr : jR) {q} (hC : jCW K cr) (h : fX0_octet_12 n   K ci cj cr = some q) (hq : jqp wI K q Qr) : Ev g (d + 1) mX0_octet 12 [jU, jU] [] K ci cj cr c sl Qr Qx := by
  unfold fX0_octet_12 at h
  refine ev_iconst (v := (-1)) dX0_octet_12 jcm1 ?_
  refine ev_goto 26 dX0_octet_13 rfl ?_
  exact wX0_octet_26 n   _ _ _ _ _ hC h hq
def fX0_octet (n : Nat) (a0 : Int32) (K : jK) (ci : jI) (cj : jJ) (cr : jR) : Option (jTp Int32) := if a0 < 0 then fX0_octet_12 n   K ci cj cr else if a0 < (ci 0 21) then if jok a0 53 then fX0_octet_26 n  ((ci 1546 (a0).toNatClampNeg) &&& (nI 255)) K ci cj cr else none else fX0_octet_12 n   K ci cj cr
theorem metX0_octet {g : jG} {d : Nat} {c sl : Nat} {Qr : jQ} {Qx : jX} (n : Nat) (a0 : Int32) (K : jK) (ci : jI) (cj : jJ) (cr : jR) {q} (hC : jCW K cr) (h : fX0_octet n a0 K ci cj cr = some q) (hq : jqp wI K q Qr) : EvM g (d + 1) mX0_octet [.ref 0, .int a0] K ci cj cr c sl Qr Qx := by
  unfold fX0_octet at h
  show Ev g (d + 1) mX0_octet 0 [.ref 0, .int a0] [] K ci cj cr c sl Qr Qx
  refine ev_iload_n dX0_octet_0 rfl ?_
  refine ev_if_lt 12 dX0_octet_1 rfl (fun z1 => ?_) (fun z1 => ?_)
  · rw [if_pos z1] at h
    exact ev_mask [false, false] (wX0_octet_12 n    _ _ _ _ hC h hq)
  · rw [if_neg z1] at h
    refine ev_iload_n dX0_octet_4 rfl ?_
    refine ev_aload_n dX0_octet_5 rfl ?_
    refine ev_getI dX0_octet_6 fX0_347_0 (ck0 hC) (Or.inl (cl0 hC)) rfl ?_
    refine ev_icmp_lt 16 dX0_octet_9 rfl (fun z2 => ?_) (fun z2 => ?_)
    · rw [if_pos z2] at h
      refine ev_aload_n dX0_octet_16 rfl ?_
      refine ev_getR dX0_octet_17 fX0_103_0 (ck0 hC) (Or.inl (cl0 hC)) rfl (cq0_20 hC) ?_
      refine ev_iload_n dX0_octet_20 rfl ?_
      by_cases z3 : jok a0 53
      rotate_left
      · rw [if_neg z3] at h; cases h
      rw [if_pos z3] at h
      refine ev_baload dX0_octet_21 (ck1546 hC) (Or.inl (cl1546 hC)) (jok.ix z3 (cn1546 hC)) ?_
      refine ev_sipush (v := (nI 255)) dX0_octet_22 js255 ?_
      refine ev_iand dX0_octet_25 ?_
      exact ev_mask [false, false] (wX0_octet_26 n   _ _ _ _ _ hC h hq)
    · rw [if_neg z2] at h
      exact ev_mask [false, false] (wX0_octet_12 n    _ _ _ _ hC h hq)
def fX0_bayOn_99 (n : Nat) (t0 : Int32) (K : jK) (ci : jI) (cj : jJ) (cr : jR) : Option (jTp Int32) := if t0 = 0 ∨ t0 = 1 then some (t0, ci, cj, cr) else none
theorem wX0_bayOn_99 {g : jG} {d : Nat} {c sl : Nat} {Qr : jQ} {Qx : jX} (n : Nat) (t0 : Int32) (K : jK) (ci : jI) (cj : jJ) (cr : jR) {q} (hC : jCW K cr) (h : fX0_bayOn_99 n  t0 K ci cj cr = some q) (hq : jqp wI K q Qr) : Ev g (d + 2) mX0_bayOn 99 [jU, jU, jU] [.int t0] K ci cj cr c sl Qr Qx := by
  unfold fX0_bayOn_99 at h
  by_cases z1 : t0 = 0 ∨ t0 = 1
  rotate_left
  · rw [if_neg z1] at h; cases h
  rw [if_pos z1] at h
  cases h
  exact ev_iret dX0_bayOn_99 rfl (jbool z1) (hq hC)
def fX0_bayOn_98 (n : Nat) (K : jK) (ci : jI) (cj : jJ) (cr : jR) : Option (jTp Int32) := fX0_bayOn_99 n  (nI 0) K ci cj cr
theorem wX0_bayOn_98 {g : jG} {d : Nat} {c sl : Nat} {Qr : jQ} {Qx : jX} (n : Nat) (K : jK) (ci : jI) (cj : jJ) (cr : jR) {q} (hC : jCW K cr) (h : fX0_bayOn_98 n   K ci cj cr = some q) (hq : jqp wI K q Qr) : Ev g (d + 2) mX0_bayOn 98 [jU, jU, jU] [] K ci cj cr c sl Qr Qx := by
  unfold fX0_bayOn_98 at h
  refine ev_iconst (v := (nI 0)) dX0_bayOn_98 jc0 ?_
  exact wX0_bayOn_99 n   _ _ _ _ _ hC h hq
def fX0_bayOn (n : Nat) (a0 : Int32) (a1 : Int32) (K : jK) (ci : jI) (cj : jJ) (cr : jR) : Option (jTp Int32) := jpb (fX0_byteAt n a1 K ci cj cr) (fun r1 ci2 cj3 cr4 => if jok a0 6 then jpb (fX0_byteAt n (a1 + (nI 1)) K (ju ci2 (68 + 4) (a0).toNatClampNeg r1) cj3 cr4) (fun r8 ci9 cj10 cr11 => jpb (fX0_byteAt n (a1 + (nI 2)) K ci9 cj10 cr11) (fun r14 ci15 cj16 cr17 => if jok a0 6 then jpb (fX0_byteAt n (a1 + (nI 3)) K (ju ci15 (68 + 5) (a0).toNatClampNeg ((r8 <<< ((nI 8) &&& 31)) ||| r14)) cj16 cr17) (fun r21 ci22 cj23 cr24 => if jok a0 6 then jpb (fX0_byteAt n a1 K (ju ci22 (68 + 6) (a0).toNatClampNeg r21) cj23 cr24) (fun r28 ci29 cj30 cr31 => if (nI 99) < r28 then fX0_bayOn_98 n   K ci29 cj30 cr31 else if jok a0 6 then if (nI 297) < (ci29 (68 + 5) (a0).toNatClampNeg) then fX0_bayOn_98 n   K ci29 cj30 cr31 else jpb (fX0_byteAt n (a1 + (nI 3)) K ci29 cj30 cr31) (fun r37 ci38 cj39 cr40 => if (nI 99) < r37 then fX0_bayOn_98 n   K ci38 cj39 cr40 else fX0_bayOn_99 n  (nI 1) K ci38 cj39 cr40) else none) else none) else none)) else none)
theorem metX0_bayOn {g : jG} {d : Nat} {c sl : Nat} {Qr : jQ} {Qx : jX} (n : Nat) (a0 : Int32) (a1 : Int32) (K : jK) (ci : jI) (cj : jJ) (cr : jR) {q} (hC : jCW K cr) (h : fX0_bayOn n a0 a1 K ci cj cr = some q) (hq : jqp wI K q Qr) : EvM g (d + 2) mX0_bayOn [.ref 0, .int a0, .int a1] K ci cj cr c sl Qr Qx := by
  unfold fX0_bayOn at h
  show Ev g (d + 2) mX0_bayOn 0 [.ref 0, .int a0, .int a1] [] K ci cj cr c sl Qr Qx
  refine ev_aload_n dX0_bayOn_0 rfl ?_
  refine ev_getR dX0_bayOn_1 fX0_73_0 (ck0 hC) (Or.inl (cl0 hC)) rfl (cq0_10 hC) ?_
  refine ev_getR dX0_bayOn_4 fX0_214_5 (sk0 hC is68) (Or.inl (sl0 hC is68)) rfl (sr4 hC is68) ?_
  refine ev_iload_n dX0_bayOn_7 rfl ?_
  refine ev_aload_n dX0_bayOn_8 rfl ?_
  refine ev_iload_n dX0_bayOn_9 rfl ?_
  obtain ⟨r1, ci2, cj3, cr4, z5, h⟩ := jpb_inv h
  refine ev_zV1 dX0_bayOn_10 vX0_299_0 (ck0 hC) (Or.inl (cl0 hC)) (Nat.le_of_ble_eq_true rfl) (Nat.le_of_ble_eq_true rfl) rfl (metX0_byteAt n _ _ _ _ _ hC z5 (fun hC6 => ?_))
  show Ev g _ _ 13 _ [.int r1, .int a0, .ref (68 + 4)] K ci2 cj3 cr4 _ _ Qr Qx
  by_cases z7 : jok a0 6
  rotate_left
  · rw [if_neg z7] at h; cases h
  rw [if_pos z7] at h
  refine ev_iastore dX0_bayOn_13 (sk4 hC6 is68) (sl4 hC6 is68) (jok.ix z7 (sn4 hC6 is68)) ?_
  refine ev_aload_n dX0_bayOn_14 rfl ?_
  refine ev_getR dX0_bayOn_15 fX0_73_0 (ck0 hC6) (Or.inl (cl0 hC6)) rfl (cq0_10 hC6) ?_
  refine ev_getR dX0_bayOn_18 fX0_223_5 (sk0 hC6 is68) (Or.inl (sl0 hC6 is68)) rfl (sr5 hC6 is68) ?_
  refine ev_iload_n dX0_bayOn_21 rfl ?_
  refine ev_aload_n dX0_bayOn_22 rfl ?_
  refine ev_iload_n dX0_bayOn_23 rfl ?_
  refine ev_iconst (v := (nI 1)) dX0_bayOn_24 jc1 ?_
  refine ev_iadd dX0_bayOn_25 ?_
  obtain ⟨r8, ci9, cj10, cr11, z12, h⟩ := jpb_inv h
  refine ev_zV1 dX0_bayOn_26 vX0_299_0 (ck0 hC6) (Or.inl (cl0 hC6)) (Nat.le_of_ble_eq_true rfl) (Nat.le_of_ble_eq_true rfl) rfl (metX0_byteAt n _ _ _ _ _ hC6 z12 (fun hC13 => ?_))
  show Ev g _ _ 29 _ [.int r8, .int a0, .ref (68 + 5)] K ci9 cj10 cr11 _ _ Qr Qx
  refine ev_bipush (v := (nI 8)) dX0_bayOn_29 jb8 ?_
  refine ev_ishl dX0_bayOn_31 ?_
  refine ev_aload_n dX0_bayOn_32 rfl ?_
  refine ev_iload_n dX0_bayOn_33 rfl ?_
  refine ev_iconst (v := (nI 2)) dX0_bayOn_34 jc2 ?_
  refine ev_iadd dX0_bayOn_35 ?_
  obtain ⟨r14, ci15, cj16, cr17, z18, h⟩ := jpb_inv h
  refine ev_zV1 dX0_bayOn_36 vX0_299_0 (ck0 hC13) (Or.inl (cl0 hC13)) (Nat.le_of_ble_eq_true rfl) (Nat.le_of_ble_eq_true rfl) rfl (metX0_byteAt n _ _ _ _ _ hC13 z18 (fun hC19 => ?_))
  show Ev g _ _ 39 _ [.int r14, .int (r8 <<< ((nI 8) &&& 31)), .int a0, .ref (68 + 5)] K ci15 cj16 cr17 _ _ Qr Qx
  refine ev_ior dX0_bayOn_39 ?_
  by_cases z20 : jok a0 6
  rotate_left
  · rw [if_neg z20] at h; cases h
  rw [if_pos z20] at h
  refine ev_iastore dX0_bayOn_40 (sk5 hC19 is68) (sl5 hC19 is68) (jok.ix z20 (sn5 hC19 is68)) ?_
  refine ev_aload_n dX0_bayOn_41 rfl ?_
  refine ev_getR dX0_bayOn_42 fX0_73_0 (ck0 hC19) (Or.inl (cl0 hC19)) rfl (cq0_10 hC19) ?_
  refine ev_getR dX0_bayOn_45 fX0_220_5 (sk0 hC19 is68) (Or.inl (sl0 hC19 is68)) rfl (sr6 hC19 is68) ?_
  refine ev_iload_n dX0_bayOn_48 rfl ?_
  refine ev_aload_n dX0_bayOn_49 rfl ?_
  refine ev_iload_n dX0_bayOn_50 rfl ?_
  refine ev_iconst (v := (nI 3)) dX0_bayOn_51 jc3 ?_
  refine ev_iadd dX0_bayOn_52 ?_
  obtain ⟨r21, ci22, cj23, cr24, z25, h⟩ := jpb_inv h
  refine ev_zV1 dX0_bayOn_53 vX0_299_0 (ck0 hC19) (Or.inl (cl0 hC19)) (Nat.le_of_ble_eq_true rfl) (Nat.le_of_ble_eq_true rfl) rfl (metX0_byteAt n _ _ _ _ _ hC19 z25 (fun hC26 => ?_))
  show Ev g _ _ 56 _ [.int r21, .int a0, .ref (68 + 6)] K ci22 cj23 cr24 _ _ Qr Qx
  by_cases z27 : jok a0 6
  rotate_left
  · rw [if_neg z27] at h; cases h
  rw [if_pos z27] at h
  refine ev_iastore dX0_bayOn_56 (sk6 hC26 is68) (sl6 hC26 is68) (jok.ix z27 (sn6 hC26 is68)) ?_
  refine ev_aload_n dX0_bayOn_57 rfl ?_
  refine ev_iload_n dX0_bayOn_58 rfl ?_
  obtain ⟨r28, ci29, cj30, cr31, z32, h⟩ := jpb_inv h
  refine ev_zV1 dX0_bayOn_59 vX0_299_0 (ck0 hC26) (Or.inl (cl0 hC26)) (Nat.le_of_ble_eq_true rfl) (Nat.le_of_ble_eq_true rfl) rfl (metX0_byteAt n _ _ _ _ _ hC26 z32 (fun hC33 => ?_))
  show Ev g _ _ 62 _ [.int r28] K ci29 cj30 cr31 _ _ Qr Qx
  refine ev_bipush (v := (nI 99)) dX0_bayOn_62 jb99 ?_
  refine ev_icmp_gt 98 dX0_bayOn_64 rfl (fun z34 => ?_) (fun z34 => ?_)
  · rw [if_pos z34] at h
    exact ev_mask [false, false, false] (wX0_bayOn_98 n    _ _ _ _ hC33 h hq)
  · rw [if_neg z34] at h
    refine ev_aload_n dX0_bayOn_67 rfl ?_
    refine ev_getR dX0_bayOn_68 fX0_73_0 (ck0 hC33) (Or.inl (cl0 hC33)) rfl (cq0_10 hC33) ?_
    refine ev_getR dX0_bayOn_71 fX0_223_5 (sk0 hC33 is68) (Or.inl (sl0 hC33 is68)) rfl (sr5 hC33 is68) ?_
    refine ev_iload_n dX0_bayOn_74 rfl ?_
    by_cases z35 : jok a0 6
    rotate_left
    · rw [if_neg z35] at h; cases h
    rw [if_pos z35] at h
    refine ev_iaload dX0_bayOn_75 (sk5 hC33 is68) (Or.inl (sl5 hC33 is68)) (jok.ix z35 (sn5 hC33 is68)) ?_
    refine ev_sipush (v := (nI 297)) dX0_bayOn_76 js297 ?_
    refine ev_icmp_gt 98 dX0_bayOn_79 rfl (fun z36 => ?_) (fun z36 => ?_)
    · rw [if_pos z36] at h
      exact ev_mask [false, false, false] (wX0_bayOn_98 n    _ _ _ _ hC33 h hq)
    · rw [if_neg z36] at h
      refine ev_aload_n dX0_bayOn_82 rfl ?_
      refine ev_iload_n dX0_bayOn_83 rfl ?_
      refine ev_iconst (v := (nI 3)) dX0_bayOn_84 jc3 ?_
      refine ev_iadd dX0_bayOn_85 ?_
      obtain ⟨r37, ci38, cj39, cr40, z41, h⟩ := jpb_inv h
      refine ev_zV1 dX0_bayOn_86 vX0_299_0 (ck0 hC33) (Or.inl (cl0 hC33)) (Nat.le_of_ble_eq_true rfl) (Nat.le_of_ble_eq_true rfl) rfl (metX0_byteAt n _ _ _ _ _ hC33 z41 (fun hC42 => ?_))
      show Ev g _ _ 89 _ [.int r37] K ci38 cj39 cr40 _ _ Qr Qx
      refine ev_bipush (v := (nI 99)) dX0_bayOn_89 jb99 ?_
      refine ev_icmp_gt 98 dX0_bayOn_91 rfl (fun z43 => ?_) (fun z43 => ?_)
      · rw [if_pos z43] at h
        exact ev_mask [false, false, false] (wX0_bayOn_98 n    _ _ _ _ hC42 h hq)
      · rw [if_neg z43] at h
        refine ev_iconst (v := (nI 1)) dX0_bayOn_94 jc1 ?_
        refine ev_goto 99 dX0_bayOn_95 rfl ?_
        exact ev_mask [false, false, false] (wX0_bayOn_99 n   _ _ _ _ _ hC42 h hq)
def fX0_pairOn_57 (n : Nat) (t0 : Int32) (K : jK) (ci : jI) (cj : jJ) (cr : jR) : Option (jTp Int32) := if t0 = 0 ∨ t0 = 1 then some (t0, ci, cj, cr) else none
theorem wX0_pairOn_57 {g : jG} {d : Nat} {c sl : Nat} {Qr : jQ} {Qx : jX} (n : Nat) (t0 : Int32) (K : jK) (ci : jI) (cj : jJ) (cr : jR) {q} (hC : jCW K cr) (h : fX0_pairOn_57 n  t0 K ci cj cr = some q) (hq : jqp wI K q Qr) : Ev g (d + 2) mX0_pairOn 57 [jU, jU, jU] [.int t0] K ci cj cr c sl Qr Qx := by
  unfold fX0_pairOn_57 at h
  by_cases z1 : t0 = 0 ∨ t0 = 1
  rotate_left
  · rw [if_neg z1] at h; cases h
  rw [if_pos z1] at h
  cases h
  exact ev_iret dX0_pairOn_57 rfl (jbool z1) (hq hC)
def fX0_pairOn_56 (n : Nat) (K : jK) (ci : jI) (cj : jJ) (cr : jR) : Option (jTp Int32) := fX0_pairOn_57 n  (nI 0) K ci cj cr
theorem wX0_pairOn_56 {g : jG} {d : Nat} {c sl : Nat} {Qr : jQ} {Qx : jX} (n : Nat) (K : jK) (ci : jI) (cj : jJ) (cr : jR) {q} (hC : jCW K cr) (h : fX0_pairOn_56 n   K ci cj cr = some q) (hq : jqp wI K q Qr) : Ev g (d + 2) mX0_pairOn 56 [jU, jU, jU] [] K ci cj cr c sl Qr Qx := by
  unfold fX0_pairOn_56 at h
  refine ev_iconst (v := (nI 0)) dX0_pairOn_56 jc0 ?_
  exact wX0_pairOn_57 n   _ _ _ _ _ hC h hq
def fX0_pairOn (n : Nat) (a0 : Int32) (a1 : Int32) (K : jK) (ci : jI) (cj : jJ) (cr : jR) : Option (jTp Int32) := jpb (fX0_byteAt n a1 K ci cj cr) (fun r1 ci2 cj3 cr4 => if jok a0 10 then jpb (fX0_byteAt n (a1 + (nI 1)) K (ju ci2 (68 + 8) (a0).toNatClampNeg r1) cj3 cr4) (fun r8 ci9 cj10 cr11 => if jok a0 10 then jpb (fX0_byteAt n a1 K (ju ci9 (68 + 10) (a0).toNatClampNeg r8) cj10 cr11) (fun r15 ci16 cj17 cr18 => if (nI 9) < r15 then fX0_pairOn_56 n   K ci16 cj17 cr18 else jpb (fX0_byteAt n (a1 + (nI 1)) K ci16 cj17 cr18) (fun r22 ci23 cj24 cr25 => if (nI 99) < r22 then fX0_pairOn_56 n   K ci23 cj24 cr25 else fX0_pairOn_57 n  (nI 1) K ci23 cj24 cr25)) else none) else none)
theorem metX0_pairOn {g : jG} {d : Nat} {c sl : Nat} {Qr : jQ} {Qx : jX} (n : Nat) (a0 : Int32) (a1 : Int32) (K : jK) (ci : jI) (cj : jJ) (cr : jR) {q} (hC : jCW K cr) (h : fX0_pairOn n a0 a1 K ci cj cr = some q) (hq : jqp wI K q Qr) : EvM g (d + 2) mX0_pairOn [.ref 0, .int a0, .int a1] K ci cj cr c sl Qr Qx := by
  unfold fX0_pairOn at h
  show Ev g (d + 2) mX0_pairOn 0 [.ref 0, .int a0, .int a1] [] K ci cj cr c sl Qr Qx
  refine ev_aload_n dX0_pairOn_0 rfl ?_
  refine ev_getR dX0_pairOn_1 fX0_73_0 (ck0 hC) (Or.inl (cl0 hC)) rfl (cq0_10 hC) ?_
  refine ev_getR dX0_pairOn_4 fX0_236_5 (sk0 hC is68) (Or.inl (sl0 hC is68)) rfl (sr8 hC is68) ?_
  refine ev_iload_n dX0_pairOn_7 rfl ?_
  refine ev_aload_n dX0_pairOn_8 rfl ?_
  refine ev_iload_n dX0_pairOn_9 rfl ?_
  obtain ⟨r1, ci2, cj3, cr4, z5, h⟩ := jpb_inv h
  refine ev_zV1 dX0_pairOn_10 vX0_299_0 (ck0 hC) (Or.inl (cl0 hC)) (Nat.le_of_ble_eq_true rfl) (Nat.le_of_ble_eq_true rfl) rfl (metX0_byteAt n _ _ _ _ _ hC z5 (fun hC6 => ?_))
  show Ev g _ _ 13 _ [.int r1, .int a0, .ref (68 + 8)] K ci2 cj3 cr4 _ _ Qr Qx
  by_cases z7 : jok a0 10
  rotate_left
  · rw [if_neg z7] at h; cases h
  rw [if_pos z7] at h
  refine ev_iastore dX0_pairOn_13 (sk8 hC6 is68) (sl8 hC6 is68) (jok.ix z7 (sn8 hC6 is68)) ?_
  refine ev_aload_n dX0_pairOn_14 rfl ?_
  refine ev_getR dX0_pairOn_15 fX0_73_0 (ck0 hC6) (Or.inl (cl0 hC6)) rfl (cq0_10 hC6) ?_
  refine ev_getR dX0_pairOn_18 fX0_239_5 (sk0 hC6 is68) (Or.inl (sl0 hC6 is68)) rfl (sr10 hC6 is68) ?_
  refine ev_iload_n dX0_pairOn_21 rfl ?_
  refine ev_aload_n dX0_pairOn_22 rfl ?_
  refine ev_iload_n dX0_pairOn_23 rfl ?_
  refine ev_iconst (v := (nI 1)) dX0_pairOn_24 jc1 ?_
  refine ev_iadd dX0_pairOn_25 ?_
  obtain ⟨r8, ci9, cj10, cr11, z12, h⟩ := jpb_inv h
  refine ev_zV1 dX0_pairOn_26 vX0_299_0 (ck0 hC6) (Or.inl (cl0 hC6)) (Nat.le_of_ble_eq_true rfl) (Nat.le_of_ble_eq_true rfl) rfl (metX0_byteAt n _ _ _ _ _ hC6 z12 (fun hC13 => ?_))
  show Ev g _ _ 29 _ [.int r8, .int a0, .ref (68 + 10)] K ci9 cj10 cr11 _ _ Qr Qx
  by_cases z14 : jok a0 10
  rotate_left
  · rw [if_neg z14] at h; cases h
  rw [if_pos z14] at h
  refine ev_iastore dX0_pairOn_29 (sk10 hC13 is68) (sl10 hC13 is68) (jok.ix z14 (sn10 hC13 is68)) ?_
  refine ev_aload_n dX0_pairOn_30 rfl ?_
  refine ev_iload_n dX0_pairOn_31 rfl ?_
  obtain ⟨r15, ci16, cj17, cr18, z19, h⟩ := jpb_inv h
  refine ev_zV1 dX0_pairOn_32 vX0_299_0 (ck0 hC13) (Or.inl (cl0 hC13)) (Nat.le_of_ble_eq_true rfl) (Nat.le_of_ble_eq_true rfl) rfl (metX0_byteAt n _ _ _ _ _ hC13 z19 (fun hC20 => ?_))
  show Ev g _ _ 35 _ [.int r15] K ci16 cj17 cr18 _ _ Qr Qx
  refine ev_bipush (v := (nI 9)) dX0_pairOn_35 jb9 ?_
  refine ev_icmp_gt 56 dX0_pairOn_37 rfl (fun z21 => ?_) (fun z21 => ?_)
  · rw [if_pos z21] at h
    exact ev_mask [false, false, false] (wX0_pairOn_56 n    _ _ _ _ hC20 h hq)
  · rw [if_neg z21] at h
    refine ev_aload_n dX0_pairOn_40 rfl ?_
    refine ev_iload_n dX0_pairOn_41 rfl ?_
    refine ev_iconst (v := (nI 1)) dX0_pairOn_42 jc1 ?_
    refine ev_iadd dX0_pairOn_43 ?_
    obtain ⟨r22, ci23, cj24, cr25, z26, h⟩ := jpb_inv h
    refine ev_zV1 dX0_pairOn_44 vX0_299_0 (ck0 hC20) (Or.inl (cl0 hC20)) (Nat.le_of_ble_eq_true rfl) (Nat.le_of_ble_eq_true rfl) rfl (metX0_byteAt n _ _ _ _ _ hC20 z26 (fun hC27 => ?_))
    show Ev g _ _ 47 _ [.int r22] K ci23 cj24 cr25 _ _ Qr Qx
    refine ev_bipush (v := (nI 99)) dX0_pairOn_47 jb99 ?_
    refine ev_icmp_gt 56 dX0_pairOn_49 rfl (fun z28 => ?_) (fun z28 => ?_)
    · rw [if_pos z28] at h
      exact ev_mask [false, false, false] (wX0_pairOn_56 n    _ _ _ _ hC27 h hq)
    · rw [if_neg z28] at h
      refine ev_iconst (v := (nI 1)) dX0_pairOn_52 jc1 ?_
      refine ev_goto 57 dX0_pairOn_53 rfl ?_
      exact ev_mask [false, false, false] (wX0_pairOn_57 n   _ _ _ _ _ hC27 h hq)
def fX0_shoalOn_89 (n : Nat) (t0 : Int32) (K : jK) (ci : jI) (cj : jJ) (cr : jR) : Option (jTp Int32) := if t0 = 0 ∨ t0 = 1 then some (t0, ci, cj, cr) else none
theorem wX0_shoalOn_89 {g : jG} {d : Nat} {c sl : Nat} {Qr : jQ} {Qx : jX} (n : Nat) (t0 : Int32) (K : jK) (ci : jI) (cj : jJ) (cr : jR) {q} (hC : jCW K cr) (h : fX0_shoalOn_89 n  t0 K ci cj cr = some q) (hq : jqp wI K q Qr) : Ev g (d + 4) mX0_shoalOn 89 [jU, jU, jU] [.int t0] K ci cj cr c sl Qr Qx := by
  unfold fX0_shoalOn_89 at h
  by_cases z1 : t0 = 0 ∨ t0 = 1
  rotate_left
  · rw [if_neg z1] at h; cases h
  rw [if_pos z1] at h
  cases h
  exact ev_iret dX0_shoalOn_89 rfl (jbool z1) (hq hC)
def fX0_shoalOn_88 (n : Nat) (K : jK) (ci : jI) (cj : jJ) (cr : jR) : Option (jTp Int32) := fX0_shoalOn_89 n  (nI 0) K ci cj cr
theorem wX0_shoalOn_88 {g : jG} {d : Nat} {c sl : Nat} {Qr : jQ} {Qx : jX} (n : Nat) (K : jK) (ci : jI) (cj : jJ) (cr : jR) {q} (hC : jCW K cr) (h : fX0_shoalOn_88 n   K ci cj cr = some q) (hq : jqp wI K q Qr) : Ev g (d + 4) mX0_shoalOn 88 [jU, jU, jU] [] K ci cj cr c sl Qr Qx := by
  unfold fX0_shoalOn_88 at h
  refine ev_iconst (v := (nI 0)) dX0_shoalOn_88 jc0 ?_
  exact wX0_shoalOn_89 n   _ _ _ _ _ hC h hq
def fX0_shoalOn_84 (n : Nat) (K : jK) (ci : jI) (cj : jJ) (cr : jR) : Option (jTp Int32) := fX0_shoalOn_89 n  (nI 1) K ci cj cr
theorem wX0_shoalOn_84 {g : jG} {d : Nat} {c sl : Nat} {Qr : jQ} {Qx : jX} (n : Nat) (K : jK) (ci : jI) (cj : jJ) (cr : jR) {q} (hC : jCW K cr) (h : fX0_shoalOn_84 n   K ci cj cr = some q) (hq : jqp wI K q Qr) : Ev g (d + 4) mX0_shoalOn 84 [jU, jU, jU] [] K ci cj cr c sl Qr Qx := by
  unfold fX0_shoalOn_84 at h
  refine ev_iconst (v := (nI 1)) dX0_shoalOn_84 jc1 ?_
  refine ev_goto 89 dX0_shoalOn_85 rfl ?_
  exact wX0_shoalOn_89 n   _ _ _ _ _ hC h hq
def fX0_shoalOn_46 (n : Nat) (l2 : Int32) (t0 : Int32) (t1 : Int32) (K : jK) (ci : jI) (cj : jJ) (cr : jR) : Option (jTp Int32) := if jok t1 3 then jpb (fX0_byteAt n l2 K (ju ci (68 + 2) (t1).toNatClampNeg t0) cj cr) (fun r2 ci3 cj4 cr5 => if (nI 99) < r2 then fX0_shoalOn_88 n   K ci3 cj4 cr5 else jpb (fX0_byteAt n (l2 + (nI 1)) K ci3 cj4 cr5) (fun r9 ci10 cj11 cr12 => if r9 = (nI 255) then fX0_shoalOn_84 n   K ci10 cj11 cr12 else jpb (fX0_byteAt n (l2 + (nI 1)) K ci10 cj11 cr12) (fun r16 ci17 cj18 cr19 => jpb (fX0_isBay n r16 K ci17 cj18 cr19) (fun r22 ci23 cj24 cr25 => if r22 = 0 then fX0_shoalOn_88 n   K ci23 cj24 cr25 else fX0_shoalOn_84 n   K ci23 cj24 cr25)))) else none
theorem wX0_shoalOn_46 {g : jG} {d : Nat} {c sl : Nat} {Qr : jQ} {Qx : jX} (n : Nat) (l2 : Int32) (t0 : Int32) (t1 : Int32) (K : jK) (ci : jI) (cj : jJ) (cr : jR) {q} (hC : jCW K cr) (h : fX0_shoalOn_46 n  l2 t0 t1 K ci cj cr = some q) (hq : jqp wI K q Qr) : Ev g (d + 4) mX0_shoalOn 46 [.ref 0, jU, .int l2] [.int t0, .int t1, .ref (68 + 2)] K ci cj cr c sl Qr Qx := by
  unfold fX0_shoalOn_46 at h
  by_cases z1 : jok t1 3
  rotate_left
  · rw [if_neg z1] at h; cases h
  rw [if_pos z1] at h
  refine ev_iastore dX0_shoalOn_46 (sk2 hC is68) (sl2 hC is68) (jok.ix z1 (sn2 hC is68)) ?_
  refine ev_aload_n dX0_shoalOn_47 rfl ?_
  refine ev_iload_n dX0_shoalOn_48 rfl ?_
  obtain ⟨r2, ci3, cj4, cr5, z6, h⟩ := jpb_inv h
  refine ev_zV1 dX0_shoalOn_49 vX0_299_0 (ck0 hC) (Or.inl (cl0 hC)) (Nat.le_of_ble_eq_true rfl) (Nat.le_of_ble_eq_true rfl) rfl (metX0_byteAt n _ _ _ _ _ hC z6 (fun hC7 => ?_))
  show Ev g _ _ 52 _ [.int r2] K ci3 cj4 cr5 _ _ Qr Qx
  refine ev_bipush (v := (nI 99)) dX0_shoalOn_52 jb99 ?_
  refine ev_icmp_gt 88 dX0_shoalOn_54 rfl (fun z8 => ?_) (fun z8 => ?_)
  · rw [if_pos z8] at h
    exact ev_mask [false, false, false] (wX0_shoalOn_88 n    _ _ _ _ hC7 h hq)
  · rw [if_neg z8] at h
    refine ev_aload_n dX0_shoalOn_57 rfl ?_
    refine ev_iload_n dX0_shoalOn_58 rfl ?_
    refine ev_iconst (v := (nI 1)) dX0_shoalOn_59 jc1 ?_
    refine ev_iadd dX0_shoalOn_60 ?_
    obtain ⟨r9, ci10, cj11, cr12, z13, h⟩ := jpb_inv h
    refine ev_zV1 dX0_shoalOn_61 vX0_299_0 (ck0 hC7) (Or.inl (cl0 hC7)) (Nat.le_of_ble_eq_true rfl) (Nat.le_of_ble_eq_true rfl) rfl (metX0_byteAt n _ _ _ _ _ hC7 z13 (fun hC14 => ?_))
    show Ev g _ _ 64 _ [.int r9] K ci10 cj11 cr12 _ _ Qr Qx
    refine ev_sipush (v := (nI 255)) dX0_shoalOn_64 js255 ?_
    refine ev_icmp_eq 84 dX0_shoalOn_67 rfl (fun z15 => ?_) (fun z15 => ?_)
    · rw [if_pos z15] at h
      exact ev_mask [false, false, false] (wX0_shoalOn_84 n    _ _ _ _ hC14 h hq)
    · rw [if_neg z15] at h
      refine ev_aload_n dX0_shoalOn_70 rfl ?_
      refine ev_aload_n dX0_shoalOn_71 rfl ?_
      refine ev_iload_n dX0_shoalOn_72 rfl ?_
      refine ev_iconst (v := (nI 1)) dX0_shoalOn_73 jc1 ?_
      refine ev_iadd dX0_shoalOn_74 ?_
      obtain ⟨r16, ci17, cj18, cr19, z20, h⟩ := jpb_inv h
      refine ev_zV1 dX0_shoalOn_75 vX0_299_0 (ck0 hC14) (Or.inl (cl0 hC14)) (Nat.le_of_ble_eq_true rfl) (Nat.le_of_ble_eq_true rfl) rfl (metX0_byteAt n _ _ _ _ _ hC14 z20 (fun hC21 => ?_))
      show Ev g _ _ 78 _ [.int r16, .ref 0] K ci17 cj18 cr19 _ _ Qr Qx
      obtain ⟨r22, ci23, cj24, cr25, z26, h⟩ := jpb_inv h
      refine ev_zV1 dX0_shoalOn_78 vX0_204_0 (ck0 hC21) (Or.inl (cl0 hC21)) (Nat.le_of_ble_eq_true rfl) (Nat.le_of_ble_eq_true rfl) rfl (metX0_isBay n _ _ _ _ _ hC21 z26 (fun hC27 => ?_))
      show Ev g _ _ 81 _ [.int r22] K ci23 cj24 cr25 _ _ Qr Qx
      refine ev_if_eq 88 dX0_shoalOn_81 rfl (fun z28 => ?_) (fun z28 => ?_)
      · rw [if_pos z28] at h
        exact ev_mask [false, false, false] (wX0_shoalOn_88 n    _ _ _ _ hC27 h hq)
      · rw [if_neg z28] at h
        exact ev_mask [false, false, false] (wX0_shoalOn_84 n    _ _ _ _ hC27 h hq)
def fX0_shoalOn (n : Nat) (a0 : Int32) (a1 : Int32) (K : jK) (ci : jI) (cj : jJ) (cr : jR) : Option (jTp Int32) := jpb (fX0_byteAt n a1 K ci cj cr) (fun r1 ci2 cj3 cr4 => if jok a0 3 then jpb (fX0_byteAt n (a1 + (nI 1)) K (ju ci2 (68 + 1) (a0).toNatClampNeg r1) cj3 cr4) (fun r8 ci9 cj10 cr11 => if r8 = (nI 255) then fX0_shoalOn_46 n  a1 (-1) a0 K ci9 cj10 cr11 else jpb (fX0_byteAt n (a1 + (nI 1)) K ci9 cj10 cr11) (fun r15 ci16 cj17 cr18 => fX0_shoalOn_46 n  a1 r15 a0 K ci16 cj17 cr18)) else none)
theorem metX0_shoalOn {g : jG} {d : Nat} {c sl : Nat} {Qr : jQ} {Qx : jX} (n : Nat) (a0 : Int32) (a1 : Int32) (K : jK) (ci : jI) (cj : jJ) (cr : jR) {q} (hC : jCW K cr) (h : fX0_shoalOn n a0 a1 K ci cj cr = some q) (hq : jqp wI K q Qr) : EvM g (d + 4) mX0_shoalOn [.ref 0, .int a0, .int a1] K ci cj cr c sl Qr Qx := by
  unfold fX0_shoalOn at h
  show Ev g (d + 4) mX0_shoalOn 0 [.ref 0, .int a0, .int a1] [] K ci cj cr c sl Qr Qx
  refine ev_aload_n dX0_shoalOn_0 rfl ?_
  refine ev_getR dX0_shoalOn_1 fX0_73_0 (ck0 hC) (Or.inl (cl0 hC)) rfl (cq0_10 hC) ?_
  refine ev_getR dX0_shoalOn_4 fX0_245_5 (sk0 hC is68) (Or.inl (sl0 hC is68)) rfl (sr1 hC is68) ?_
  refine ev_iload_n dX0_shoalOn_7 rfl ?_
  refine ev_aload_n dX0_shoalOn_8 rfl ?_
  refine ev_iload_n dX0_shoalOn_9 rfl ?_
  obtain ⟨r1, ci2, cj3, cr4, z5, h⟩ := jpb_inv h
  refine ev_zV1 dX0_shoalOn_10 vX0_299_0 (ck0 hC) (Or.inl (cl0 hC)) (Nat.le_of_ble_eq_true rfl) (Nat.le_of_ble_eq_true rfl) rfl (metX0_byteAt n _ _ _ _ _ hC z5 (fun hC6 => ?_))
  show Ev g _ _ 13 _ [.int r1, .int a0, .ref (68 + 1)] K ci2 cj3 cr4 _ _ Qr Qx
  by_cases z7 : jok a0 3
  rotate_left
  · rw [if_neg z7] at h; cases h
  rw [if_pos z7] at h
  refine ev_iastore dX0_shoalOn_13 (sk1 hC6 is68) (sl1 hC6 is68) (jok.ix z7 (sn1 hC6 is68)) ?_
  refine ev_aload_n dX0_shoalOn_14 rfl ?_
  refine ev_getR dX0_shoalOn_15 fX0_73_0 (ck0 hC6) (Or.inl (cl0 hC6)) rfl (cq0_10 hC6) ?_
  refine ev_getR dX0_shoalOn_18 fX0_186_5 (sk0 hC6 is68) (Or.inl (sl0 hC6 is68)) rfl (sr2 hC6 is68) ?_
  refine ev_iload_n dX0_shoalOn_21 rfl ?_
  refine ev_aload_n dX0_shoalOn_22 rfl ?_
  refine ev_iload_n dX0_shoalOn_23 rfl ?_
  refine ev_iconst (v := (nI 1)) dX0_shoalOn_24 jc1 ?_
  refine ev_iadd dX0_shoalOn_25 ?_
  obtain ⟨r8, ci9, cj10, cr11, z12, h⟩ := jpb_inv h
  refine ev_zV1 dX0_shoalOn_26 vX0_299_0 (ck0 hC6) (Or.inl (cl0 hC6)) (Nat.le_of_ble_eq_true rfl) (Nat.le_of_ble_eq_true rfl) rfl (metX0_byteAt n _ _ _ _ _ hC6 z12 (fun hC13 => ?_))
  show Ev g _ _ 29 _ [.int r8, .int a0, .ref (68 + 2)] K ci9 cj10 cr11 _ _ Qr Qx
  refine ev_sipush (v := (nI 255)) dX0_shoalOn_29 js255 ?_
  refine ev_icmp_ne 39 dX0_shoalOn_32 rfl (fun z14 => ?_) (fun z14 => ?_)
  · rw [if_neg z14] at h
    refine ev_aload_n dX0_shoalOn_39 rfl ?_
    refine ev_iload_n dX0_shoalOn_40 rfl ?_
    refine ev_iconst (v := (nI 1)) dX0_shoalOn_41 jc1 ?_
    refine ev_iadd dX0_shoalOn_42 ?_
    obtain ⟨r15, ci16, cj17, cr18, z19, h⟩ := jpb_inv h
    refine ev_zV1 dX0_shoalOn_43 vX0_299_0 (ck0 hC13) (Or.inl (cl0 hC13)) (Nat.le_of_ble_eq_true rfl) (Nat.le_of_ble_eq_true rfl) rfl (metX0_byteAt n _ _ _ _ _ hC13 z19 (fun hC20 => ?_))
    show Ev g _ _ 46 _ [.int r15, .int a0, .ref (68 + 2)] K ci16 cj17 cr18 _ _ Qr Qx
    exact ev_mask [true, false, true] (wX0_shoalOn_46 n   _ _ _ _ _ _ _ hC20 h hq)
  · rw [if_pos z14] at h
    refine ev_iconst (v := (-1)) dX0_shoalOn_35 jcm1 ?_
    refine ev_goto 46 dX0_shoalOn_36 rfl ?_
    exact ev_mask [true, false, true] (wX0_shoalOn_46 n   _ _ _ _ _ _ _ hC13 h hq)
def fX0_comesOn_76 (n : Nat) (K : jK) (ci : jI) (cj : jJ) (cr : jR) : Option (jTp Int32) := some ((nI 0), ci, cj, cr)
theorem wX0_comesOn_76 {g : jG} {d : Nat} {c sl : Nat} {Qr : jQ} {Qx : jX} (n : Nat) (K : jK) (ci : jI) (cj : jJ) (cr : jR) {q} (hC : jCW K cr) (h : fX0_comesOn_76 n   K ci cj cr = some q) (hq : jqp wI K q Qr) : Ev g (d + 5) mX0_comesOn 76 [jU, jU, jU, jU, jU, jU, jU] [] K ci cj cr c sl Qr Qx := by
  unfold fX0_comesOn_76 at h
  refine ev_iconst (v := (nI 0)) dX0_comesOn_76 jc0 ?_
  cases h
  exact ev_iret dX0_comesOn_77 rfl (by decide) (hq hC)
def fX0_comesOn_178 (n : Nat) : Nat → Int32 → Int32 → Int32 → jK → jI → jJ → jR → Option (jTp Int32)
  | 0, _, _, _, _, _, _, _ => none
  | k + 1, l3, l5, l6, K, ci, cj, cr => jpb (fX0_pairs n  K ci cj cr) (fun r1 ci2 cj3 cr4 => if r1 ≤ l6 then if l5 = 0 ∨ l5 = 1 then some (l5, ci2, cj3, cr4) else none else jpb (fX0_pairOn n l6 (l3 + ((nI 2) * l6)) K ci2 cj3 cr4) (fun r9 ci10 cj11 cr12 => fX0_comesOn_178 n  k l3 (l5 &&& r9) (l6 + (nI 1)) K ci10 cj11 cr12))
theorem wX0_comesOn_178 {g : jG} {d : Nat} {c sl : Nat} {Qr : jQ} {Qx : jX} (n : Nat) : ∀ (k : Nat) (l3 : Int32) (l5 : Int32) (l6 : Int32) (K : jK) (ci : jI) (cj : jJ) (cr : jR) {q}, jCW K cr → fX0_comesOn_178 n  k l3 l5 l6 K ci cj cr = some q → jqp wI K q Qr → Ev g (d + 5) mX0_comesOn 178 [.ref 0, jU, jU, .int l3, jU, .int l5, .int l6] [] K ci cj cr c sl Qr Qx := by
  intro k
  induction k with
  | zero =>
    intro l3 l5 l6 K ci cj cr q hC h hq
    rw [fX0_comesOn_178.eq_1] at h; cases h
  | succ k ih =>
    intro l3 l5 l6 K ci cj cr q hC h hq
    rw [fX0_comesOn_178.eq_2] at h
    refine ev_iload dX0_comesOn_178 rfl ?_
    refine ev_aload_n dX0_comesOn_180 rfl ?_
    obtain ⟨r1, ci2, cj3, cr4, z5, h⟩ := jpb_inv h
    refine ev_zV0 dX0_comesOn_181 vX0_165_0 (ck0 hC) (Or.inl (cl0 hC)) (Nat.le_of_ble_eq_true rfl) (Nat.le_of_ble_eq_true rfl) rfl (metX0_pairs n  _ _ _ _ hC z5 (fun hC6 => ?_))
    show Ev g _ _ 184 _ [.int r1, .int l6] K ci2 cj3 cr4 _ _ Qr Qx
    refine ev_icmp_ge 210 dX0_comesOn_184 rfl (fun z7 => ?_) (fun z7 => ?_)
    · rw [if_pos z7] at h
      refine ev_iload dX0_comesOn_210 rfl ?_
      by_cases z8 : l5 = 0 ∨ l5 = 1
      rotate_left
      · rw [if_neg z8] at h; cases h
      rw [if_pos z8] at h
      cases h
      exact ev_iret dX0_comesOn_212 rfl (jbool z8) (hq hC6)
    · rw [if_neg z7] at h
      refine ev_iload dX0_comesOn_187 rfl ?_
      refine ev_aload_n dX0_comesOn_189 rfl ?_
      refine ev_iload dX0_comesOn_190 rfl ?_
      refine ev_iload_n dX0_comesOn_192 rfl ?_
      refine ev_iconst (v := (nI 2)) dX0_comesOn_193 jc2 ?_
      refine ev_iload dX0_comesOn_194 rfl ?_
      refine ev_imul dX0_comesOn_196 ?_
      refine ev_iadd dX0_comesOn_197 ?_
      obtain ⟨r9, ci10, cj11, cr12, z13, h⟩ := jpb_inv h
      refine ev_zV2 dX0_comesOn_198 vX0_363_0 (ck0 hC6) (Or.inl (cl0 hC6)) (Nat.le_of_ble_eq_true rfl) (Nat.le_of_ble_eq_true rfl) rfl (metX0_pairOn n _ _ _ _ _ _ hC6 z13 (fun hC14 => ?_))
      show Ev g _ _ 201 _ [.int r9, .int l5] K ci10 cj11 cr12 _ _ Qr Qx
      refine ev_iand dX0_comesOn_201 ?_
      refine ev_istore (L' := [_, _, _, _, _, _, _]) dX0_comesOn_202 (by decide) rfl ?_
      refine ev_iinc (v := (l6 + (nI 1))) (L' := [_, _, _, _, _, _, _]) dX0_comesOn_204 rfl (by rw [ji_1]) (by decide) rfl ?_
      refine ev_goto 178 dX0_comesOn_207 rfl ?_
      exact ih _ _ _ _ _ _ _ hC14 h hq
def fX0_comesOn_143 (n : Nat) : Nat → Int32 → Int32 → Int32 → Int32 → jK → jI → jJ → jR → Option (jTp Int32)
  | 0, _, _, _, _, _, _, _, _ => none
  | k + 1, l2, l3, l5, l6, K, ci, cj, cr => jpb (fX0_bays n  K ci cj cr) (fun r1 ci2 cj3 cr4 => if r1 ≤ l6 then fX0_comesOn_178 n  n l3 l5 (nI 0) K ci2 cj3 cr4 else jpb (fX0_bayOn n l6 (l2 + ((nI 4) * l6)) K ci2 cj3 cr4) (fun r8 ci9 cj10 cr11 => fX0_comesOn_143 n  k l2 l3 (l5 &&& r8) (l6 + (nI 1)) K ci9 cj10 cr11))
theorem wX0_comesOn_143 {g : jG} {d : Nat} {c sl : Nat} {Qr : jQ} {Qx : jX} (n : Nat) : ∀ (k : Nat) (l2 : Int32) (l3 : Int32) (l5 : Int32) (l6 : Int32) (K : jK) (ci : jI) (cj : jJ) (cr : jR) {q}, jCW K cr → fX0_comesOn_143 n  k l2 l3 l5 l6 K ci cj cr = some q → jqp wI K q Qr → Ev g (d + 5) mX0_comesOn 143 [.ref 0, jU, .int l2, .int l3, jU, .int l5, .int l6] [] K ci cj cr c sl Qr Qx := by
  intro k
  induction k with
  | zero =>
    intro l2 l3 l5 l6 K ci cj cr q hC h hq
    rw [fX0_comesOn_143.eq_1] at h; cases h
  | succ k ih =>
    intro l2 l3 l5 l6 K ci cj cr q hC h hq
    rw [fX0_comesOn_143.eq_2] at h
    refine ev_iload dX0_comesOn_143 rfl ?_
    refine ev_aload_n dX0_comesOn_145 rfl ?_
    obtain ⟨r1, ci2, cj3, cr4, z5, h⟩ := jpb_inv h
    refine ev_zV0 dX0_comesOn_146 vX0_163_0 (ck0 hC) (Or.inl (cl0 hC)) (Nat.le_of_ble_eq_true rfl) (Nat.le_of_ble_eq_true rfl) rfl (metX0_bays n  _ _ _ _ hC z5 (fun hC6 => ?_))
    show Ev g _ _ 149 _ [.int r1, .int l6] K ci2 cj3 cr4 _ _ Qr Qx
    refine ev_icmp_ge 175 dX0_comesOn_149 rfl (fun z7 => ?_) (fun z7 => ?_)
    · rw [if_pos z7] at h
      refine ev_iconst (v := (nI 0)) dX0_comesOn_175 jc0 ?_
      refine ev_istore (L' := [_, _, _, _, _, _, _]) dX0_comesOn_176 (by decide) rfl ?_
      exact ev_mask [true, false, false, true, false, true, true] (wX0_comesOn_178 n   n _ _ _ _ _ _ _ hC6 h hq)
    · rw [if_neg z7] at h
      refine ev_iload dX0_comesOn_152 rfl ?_
      refine ev_aload_n dX0_comesOn_154 rfl ?_
      refine ev_iload dX0_comesOn_155 rfl ?_
      refine ev_iload_n dX0_comesOn_157 rfl ?_
      refine ev_iconst (v := (nI 4)) dX0_comesOn_158 jc4 ?_
      refine ev_iload dX0_comesOn_159 rfl ?_
      refine ev_imul dX0_comesOn_161 ?_
      refine ev_iadd dX0_comesOn_162 ?_
      obtain ⟨r8, ci9, cj10, cr11, z12, h⟩ := jpb_inv h
      refine ev_zV2 dX0_comesOn_163 vX0_360_0 (ck0 hC6) (Or.inl (cl0 hC6)) (Nat.le_of_ble_eq_true rfl) (Nat.le_of_ble_eq_true rfl) rfl (metX0_bayOn n _ _ _ _ _ _ hC6 z12 (fun hC13 => ?_))
      show Ev g _ _ 166 _ [.int r8, .int l5] K ci9 cj10 cr11 _ _ Qr Qx
      refine ev_iand dX0_comesOn_166 ?_
      refine ev_istore (L' := [_, _, _, _, _, _, _]) dX0_comesOn_167 (by decide) rfl ?_
      refine ev_iinc (v := (l6 + (nI 1))) (L' := [_, _, _, _, _, _, _]) dX0_comesOn_169 rfl (by rw [ji_1]) (by decide) rfl ?_
      refine ev_goto 143 dX0_comesOn_172 rfl ?_
      exact ih _ _ _ _ _ _ _ _ hC13 h hq
def fX0_comesOn_108 (n : Nat) : Nat → Int32 → Int32 → Int32 → Int32 → jK → jI → jJ → jR → Option (jTp Int32)
  | 0, _, _, _, _, _, _, _, _ => none
  | k + 1, l2, l3, l5, l6, K, ci, cj, cr => jpb (fX0_shoals n  K ci cj cr) (fun r1 ci2 cj3 cr4 => if r1 ≤ l6 then fX0_comesOn_143 n  n l2 l3 l5 (nI 0) K ci2 cj3 cr4 else jpb (fX0_shoalOn n l6 ((nI 2) + ((nI 2) * l6)) K ci2 cj3 cr4) (fun r8 ci9 cj10 cr11 => fX0_comesOn_108 n  k l2 l3 (l5 &&& r8) (l6 + (nI 1)) K ci9 cj10 cr11))
theorem wX0_comesOn_108 {g : jG} {d : Nat} {c sl : Nat} {Qr : jQ} {Qx : jX} (n : Nat) : ∀ (k : Nat) (l2 : Int32) (l3 : Int32) (l5 : Int32) (l6 : Int32) (K : jK) (ci : jI) (cj : jJ) (cr : jR) {q}, jCW K cr → fX0_comesOn_108 n  k l2 l3 l5 l6 K ci cj cr = some q → jqp wI K q Qr → Ev g (d + 5) mX0_comesOn 108 [.ref 0, jU, .int l2, .int l3, jU, .int l5, .int l6] [] K ci cj cr c sl Qr Qx := by
  intro k
  induction k with
  | zero =>
    intro l2 l3 l5 l6 K ci cj cr q hC h hq
    rw [fX0_comesOn_108.eq_1] at h; cases h
  | succ k ih =>
    intro l2 l3 l5 l6 K ci cj cr q hC h hq
    rw [fX0_comesOn_108.eq_2] at h
    refine ev_iload dX0_comesOn_108 rfl ?_
    refine ev_aload_n dX0_comesOn_110 rfl ?_
    obtain ⟨r1, ci2, cj3, cr4, z5, h⟩ := jpb_inv h
    refine ev_zV0 dX0_comesOn_111 vX0_167_0 (ck0 hC) (Or.inl (cl0 hC)) (Nat.le_of_ble_eq_true rfl) (Nat.le_of_ble_eq_true rfl) rfl (metX0_shoals n  _ _ _ _ hC z5 (fun hC6 => ?_))
    show Ev g _ _ 114 _ [.int r1, .int l6] K ci2 cj3 cr4 _ _ Qr Qx
    refine ev_icmp_ge 140 dX0_comesOn_114 rfl (fun z7 => ?_) (fun z7 => ?_)
    · rw [if_pos z7] at h
      refine ev_iconst (v := (nI 0)) dX0_comesOn_140 jc0 ?_
      refine ev_istore (L' := [_, _, _, _, _, _, _]) dX0_comesOn_141 (by decide) rfl ?_
      exact wX0_comesOn_143 n   n _ _ _ _ _ _ _ _ hC6 h hq
    · rw [if_neg z7] at h
      refine ev_iload dX0_comesOn_117 rfl ?_
      refine ev_aload_n dX0_comesOn_119 rfl ?_
      refine ev_iload dX0_comesOn_120 rfl ?_
      refine ev_iconst (v := (nI 2)) dX0_comesOn_122 jc2 ?_
      refine ev_iconst (v := (nI 2)) dX0_comesOn_123 jc2 ?_
      refine ev_iload dX0_comesOn_124 rfl ?_
      refine ev_imul dX0_comesOn_126 ?_
      refine ev_iadd dX0_comesOn_127 ?_
      obtain ⟨r8, ci9, cj10, cr11, z12, h⟩ := jpb_inv h
      refine ev_zV2 dX0_comesOn_128 vX0_357_0 (ck0 hC6) (Or.inl (cl0 hC6)) (Nat.le_of_ble_eq_true rfl) (Nat.le_of_ble_eq_true rfl) rfl (metX0_shoalOn n _ _ _ _ _ _ hC6 z12 (fun hC13 => ?_))
      show Ev g _ _ 131 _ [.int r8, .int l5] K ci9 cj10 cr11 _ _ Qr Qx
      refine ev_iand dX0_comesOn_131 ?_
      refine ev_istore (L' := [_, _, _, _, _, _, _]) dX0_comesOn_132 (by decide) rfl ?_
      refine ev_iinc (v := (l6 + (nI 1))) (L' := [_, _, _, _, _, _, _]) dX0_comesOn_134 rfl (by rw [ji_1]) (by decide) rfl ?_
      refine ev_goto 108 dX0_comesOn_137 rfl ?_
      exact ih _ _ _ _ _ _ _ _ hC13 h hq
def fX0_comesOn (n : Nat) (a0 : Int32) (K : jK) (ci : jI) (cj : jJ) (cr : jR) : Option (jTp Int32) := jpb (fX0_shoals n  K ci cj cr) (fun r1 ci2 cj3 cr4 => jpb (fX0_bays n  K ci2 cj3 cr4) (fun r7 ci8 cj9 cr10 => jpb (fX0_byteAt n (nI 0) K ci8 cj9 cr10) (fun r13 ci14 cj15 cr16 => jpb (fX0_byteAt n (nI 1) K ci14 cj15 cr16) (fun r19 ci20 cj21 cr22 => jpb (fX0_pairs n  K ci20 cj21 cr22) (fun r25 ci26 cj27 cr28 => if a0 = (((((nI 2) + ((nI 2) * r1)) + ((nI 4) * r7)) + ((nI 2) * r25)) + (nI 1)) then jpb (fX0_byteAt n (a0 - (nI 1)) K ci26 cj27 cr28) (fun r32 ci33 cj34 cr35 => jpb (fX0_check n 8 (a0 - (nI 1)) K ci33 cj34 cr35) (fun r38 ci39 cj40 cr41 => if r32 = r38 then if ((r13 <<< ((nI 8) &&& 31)) ||| r19) ≤ (nI 999) then jpb (fX5_copy n 68 16 K ci39 cj40 cr41) (fun r46 ci47 cj48 cr49 => if K.1 r46 = 5 ∧ r46 < K.2.2 then fX0_comesOn_108 n  n ((nI 2) + ((nI 2) * r1)) (((nI 2) + ((nI 2) * r1)) + ((nI 4) * r7)) (nI 1) (nI 0) K (ju (ju ci47 r46 0 ((r13 <<< ((nI 8) &&& 31)) ||| r19)) 68 1 (nI 0)) cj48 cr49 else none) else fX0_comesOn_76 n   K ci39 cj40 cr41 else fX0_comesOn_76 n   K ci39 cj40 cr41)) else fX0_comesOn_76 n   K ci26 cj27 cr28)))))
theorem metX0_comesOn {g : jG} {d : Nat} {c sl : Nat} {Qr : jQ} {Qx : jX} (n : Nat) (a0 : Int32) (K : jK) (ci : jI) (cj : jJ) (cr : jR) {q} (hC : jCW K cr) (h : fX0_comesOn n a0 K ci cj cr = some q) (hq : jqp wI K q Qr) : EvM g (d + 5) mX0_comesOn [.ref 0, .int a0] K ci cj cr c sl Qr Qx := by
  unfold fX0_comesOn at h
  show Ev g (d + 5) mX0_comesOn 0 [.ref 0, .int a0, jU, jU, jU, jU, jU] [] K ci cj cr c sl Qr Qx
  refine ev_iconst (v := (nI 2)) dX0_comesOn_0 jc2 ?_
  refine ev_iconst (v := (nI 2)) dX0_comesOn_1 jc2 ?_
  refine ev_aload_n dX0_comesOn_2 rfl ?_
  obtain ⟨r1, ci2, cj3, cr4, z5, h⟩ := jpb_inv h
  refine ev_zV0 dX0_comesOn_3 vX0_167_0 (ck0 hC) (Or.inl (cl0 hC)) (Nat.le_of_ble_eq_true rfl) (Nat.le_of_ble_eq_true rfl) rfl (metX0_shoals n  _ _ _ _ hC z5 (fun hC6 => ?_))
  show Ev g _ _ 6 _ [.int r1, .int (nI 2), .int (nI 2)] K ci2 cj3 cr4 _ _ Qr Qx
  refine ev_imul dX0_comesOn_6 ?_
  refine ev_iadd dX0_comesOn_7 ?_
  refine ev_istore_n (L' := [_, _, _, _, _, _, _]) dX0_comesOn_8 (by decide) rfl ?_
  refine ev_iload_n dX0_comesOn_9 rfl ?_
  refine ev_iconst (v := (nI 4)) dX0_comesOn_10 jc4 ?_
  refine ev_aload_n dX0_comesOn_11 rfl ?_
  obtain ⟨r7, ci8, cj9, cr10, z11, h⟩ := jpb_inv h
  refine ev_zV0 dX0_comesOn_12 vX0_163_0 (ck0 hC6) (Or.inl (cl0 hC6)) (Nat.le_of_ble_eq_true rfl) (Nat.le_of_ble_eq_true rfl) rfl (metX0_bays n  _ _ _ _ hC6 z11 (fun hC12 => ?_))
  show Ev g _ _ 15 _ [.int r7, .int (nI 4), .int ((nI 2) + ((nI 2) * r1))] K ci8 cj9 cr10 _ _ Qr Qx
  refine ev_imul dX0_comesOn_15 ?_
  refine ev_iadd dX0_comesOn_16 ?_
  refine ev_istore_n (L' := [_, _, _, _, _, _, _]) dX0_comesOn_17 (by decide) rfl ?_
  refine ev_aload_n dX0_comesOn_18 rfl ?_
  refine ev_iconst (v := (nI 0)) dX0_comesOn_19 jc0 ?_
  obtain ⟨r13, ci14, cj15, cr16, z17, h⟩ := jpb_inv h
  refine ev_zV1 dX0_comesOn_20 vX0_299_0 (ck0 hC12) (Or.inl (cl0 hC12)) (Nat.le_of_ble_eq_true rfl) (Nat.le_of_ble_eq_true rfl) rfl (metX0_byteAt n _ _ _ _ _ hC12 z17 (fun hC18 => ?_))
  show Ev g _ _ 23 _ [.int r13] K ci14 cj15 cr16 _ _ Qr Qx
  refine ev_bipush (v := (nI 8)) dX0_comesOn_23 jb8 ?_
  refine ev_ishl dX0_comesOn_25 ?_
  refine ev_aload_n dX0_comesOn_26 rfl ?_
  refine ev_iconst (v := (nI 1)) dX0_comesOn_27 jc1 ?_
  obtain ⟨r19, ci20, cj21, cr22, z23, h⟩ := jpb_inv h
  refine ev_zV1 dX0_comesOn_28 vX0_299_0 (ck0 hC18) (Or.inl (cl0 hC18)) (Nat.le_of_ble_eq_true rfl) (Nat.le_of_ble_eq_true rfl) rfl (metX0_byteAt n _ _ _ _ _ hC18 z23 (fun hC24 => ?_))
  show Ev g _ _ 31 _ [.int r19, .int (r13 <<< ((nI 8) &&& 31))] K ci20 cj21 cr22 _ _ Qr Qx
  refine ev_ior dX0_comesOn_31 ?_
  refine ev_istore (L' := [_, _, _, _, _, _, _]) dX0_comesOn_32 (by decide) rfl ?_
  refine ev_iload_n dX0_comesOn_34 rfl ?_
  refine ev_iload_n dX0_comesOn_35 rfl ?_
  refine ev_iconst (v := (nI 2)) dX0_comesOn_36 jc2 ?_
  refine ev_aload_n dX0_comesOn_37 rfl ?_
  obtain ⟨r25, ci26, cj27, cr28, z29, h⟩ := jpb_inv h
  refine ev_zV0 dX0_comesOn_38 vX0_165_0 (ck0 hC24) (Or.inl (cl0 hC24)) (Nat.le_of_ble_eq_true rfl) (Nat.le_of_ble_eq_true rfl) rfl (metX0_pairs n  _ _ _ _ hC24 z29 (fun hC30 => ?_))
  show Ev g _ _ 41 _ [.int r25, .int (nI 2), .int (((nI 2) + ((nI 2) * r1)) + ((nI 4) * r7)), .int a0] K ci26 cj27 cr28 _ _ Qr Qx
  refine ev_imul dX0_comesOn_41 ?_
  refine ev_iadd dX0_comesOn_42 ?_
  refine ev_iconst (v := (nI 1)) dX0_comesOn_43 jc1 ?_
  refine ev_iadd dX0_comesOn_44 ?_
  refine ev_icmp_ne 76 dX0_comesOn_45 rfl (fun z31 => ?_) (fun z31 => ?_)
  · rw [if_neg z31] at h
    exact ev_mask [false, false, false, false, false, false, false] (wX0_comesOn_76 n    _ _ _ _ hC30 h hq)
  · rw [if_pos z31] at h
    refine ev_aload_n dX0_comesOn_48 rfl ?_
    refine ev_iload_n dX0_comesOn_49 rfl ?_
    refine ev_iconst (v := (nI 1)) dX0_comesOn_50 jc1 ?_
    refine ev_isub dX0_comesOn_51 ?_
    obtain ⟨r32, ci33, cj34, cr35, z36, h⟩ := jpb_inv h
    refine ev_zV1 dX0_comesOn_52 vX0_299_0 (ck0 hC30) (Or.inl (cl0 hC30)) (Nat.le_of_ble_eq_true rfl) (Nat.le_of_ble_eq_true rfl) rfl (metX0_byteAt n _ _ _ _ _ hC30 z36 (fun hC37 => ?_))
    show Ev g _ _ 55 _ [.int r32] K ci33 cj34 cr35 _ _ Qr Qx
    refine ev_aload_n dX0_comesOn_55 rfl ?_
    refine ev_getR dX0_comesOn_56 fX0_35_0 (ck0 hC37) (Or.inl (cl0 hC37)) rfl (cq0_1 hC37) ?_
    refine ev_iload_n dX0_comesOn_59 rfl ?_
    refine ev_iconst (v := (nI 1)) dX0_comesOn_60 jc1 ?_
    refine ev_isub dX0_comesOn_61 ?_
    obtain ⟨r38, ci39, cj40, cr41, z42, h⟩ := jpb_inv h
    refine ev_zS2 dX0_comesOn_62 sX0_353 (Nat.le_of_ble_eq_true rfl) (Nat.le_of_ble_eq_true rfl) rfl (metX0_check n _ _ _ _ _ _ hC37 z42 (fun hC43 => ?_))
    show Ev g _ _ 65 _ [.int r38, .int r32] K ci39 cj40 cr41 _ _ Qr Qx
    refine ev_icmp_ne 76 dX0_comesOn_65 rfl (fun z44 => ?_) (fun z44 => ?_)
    · rw [if_neg z44] at h
      exact ev_mask [false, false, false, false, false, false, false] (wX0_comesOn_76 n    _ _ _ _ hC43 h hq)
    · rw [if_pos z44] at h
      refine ev_iload dX0_comesOn_68 rfl ?_
      refine ev_sipush (v := (nI 999)) dX0_comesOn_70 js999 ?_
      refine ev_icmp_le 78 dX0_comesOn_73 rfl (fun z45 => ?_) (fun z45 => ?_)
      · rw [if_pos z45] at h
        refine ev_aload_n dX0_comesOn_78 rfl ?_
        refine ev_getR dX0_comesOn_79 fX0_73_0 (ck0 hC43) (Or.inl (cl0 hC43)) rfl (cq0_10 hC43) ?_
        refine ev_aload_n dX0_comesOn_82 rfl ?_
        refine ev_getR dX0_comesOn_83 fX0_69_0 (ck0 hC43) (Or.inl (cl0 hC43)) rfl (cq0_9 hC43) ?_
        obtain ⟨r46, ci47, cj48, cr49, z50, h⟩ := jpb_inv h
        refine ev_zV1 dX0_comesOn_86 vX0_264_5 (sk0 hC43 is68) (Or.inl (sl0 hC43 is68)) (Nat.le_of_ble_eq_true rfl) (Nat.le_of_ble_eq_true rfl) rfl (metX5_copy n _ _ _ _ _ _ hC43 z50 (fun hC51 => ?_))
        show Ev g _ _ 89 _ [.ref r46] K ci47 cj48 cr49 _ _ Qr Qx
        refine ev_iload dX0_comesOn_89 rfl ?_
        by_cases z52 : K.1 r46 = 5 ∧ r46 < K.2.2
        rotate_left
        · rw [if_neg z52] at h; cases h
        rw [if_pos z52] at h
        refine ev_putI dX0_comesOn_91 (pX0_179_5 _) z52.1 z52.2 rfl rfl rfl ?_
        refine ev_aload_n dX0_comesOn_94 rfl ?_
        refine ev_getR dX0_comesOn_95 fX0_73_0 (ck0 hC51) (Or.inl (cl0 hC51)) rfl (cq0_10 hC51) ?_
        refine ev_iconst (v := (nI 0)) dX0_comesOn_98 jc0 ?_
        refine ev_putI dX0_comesOn_99 (pX0_192_5 _) (sk0 hC51 is68) (sl0 hC51 is68) rfl rfl rfl ?_
        refine ev_iconst (v := (nI 1)) dX0_comesOn_102 jc1 ?_
        refine ev_istore (L' := [_, _, _, _, _, _, _]) dX0_comesOn_103 (by decide) rfl ?_
        refine ev_iconst (v := (nI 0)) dX0_comesOn_105 jc0 ?_
        refine ev_istore (L' := [_, _, _, _, _, _, _]) dX0_comesOn_106 (by decide) rfl ?_
        exact ev_mask [true, false, true, true, false, true, true] (wX0_comesOn_108 n   n _ _ _ _ _ _ _ _ hC51 h hq)
      · rw [if_neg z45] at h
        exact ev_mask [false, false, false, false, false, false, false] (wX0_comesOn_76 n    _ _ _ _ hC43 h hq)
def fX0_on_24 (n : Nat) (t0 : Int32) (K : jK) (ci : jI) (cj : jJ) (cr : jR) : Option (jTp Int32) := if t0 = 0 ∨ t0 = 1 then some (t0, ci, cj, cr) else none
theorem wX0_on_24 {g : jG} {d : Nat} {c sl : Nat} {Qr : jQ} {Qx : jX} (n : Nat) (t0 : Int32) (K : jK) (ci : jI) (cj : jJ) (cr : jR) {q} (hC : jCW K cr) (h : fX0_on_24 n  t0 K ci cj cr = some q) (hq : jqp wI K q Qr) : Ev g (d + 6) mX0_on 24 [jU] [.int t0] K ci cj cr c sl Qr Qx := by
  unfold fX0_on_24 at h
  by_cases z1 : t0 = 0 ∨ t0 = 1
  rotate_left
  · rw [if_neg z1] at h; cases h
  rw [if_pos z1] at h
  cases h
  exact ev_iret dX0_on_24 rfl (jbool z1) (hq hC)
def fX0_on (n : Nat) (K : jK) (ci : jI) (cj : jJ) (cr : jR) : Option (jTp Int32) := jpb (fX0_tapeTaken n  K ci cj cr) (fun r1 ci2 cj3 cr4 => jpb (fX0_comesOn n r1 K ci2 cj3 cr4) (fun r7 ci8 cj9 cr10 => if r7 = 0 then jpb (fX0_refuses n (nI 5) K ci8 cj9 cr10) (fun r20 ci21 cj22 cr23 => if r20 < 0 then fX0_on_24 n  (nI 0) K ci21 cj22 cr23 else fX0_on_24 n  (nI 1) K ci21 cj22 cr23) else jpb (fX5_copy n 16 68 K ci8 cj9 cr10) (fun r14 ci15 cj16 cr17 => some ((nI 1), (ju ci15 0 18 (nI 0)), cj16, cr17))))
theorem metX0_on {g : jG} {d : Nat} {c sl : Nat} {Qr : jQ} {Qx : jX} (n : Nat) (K : jK) (ci : jI) (cj : jJ) (cr : jR) {q} (hC : jCW K cr) (h : fX0_on n  K ci cj cr = some q) (hq : jqp wI K q Qr) : EvM g (d + 6) mX0_on [.ref 0] K ci cj cr c sl Qr Qx := by
  unfold fX0_on at h
  show Ev g (d + 6) mX0_on 0 [.ref 0] [] K ci cj cr c sl Qr Qx
  refine ev_aload_n dX0_on_0 rfl ?_
  refine ev_aload_n dX0_on_1 rfl ?_
  obtain ⟨r1, ci2, cj3, cr4, z5, h⟩ := jpb_inv h
  refine ev_zV0 dX0_on_2 vX0_120_0 (ck0 hC) (Or.inl (cl0 hC)) (Nat.le_of_ble_eq_true rfl) (Nat.le_of_ble_eq_true rfl) rfl (metX0_tapeTaken n  _ _ _ _ hC z5 (fun hC6 => ?_))
  show Ev g _ _ 5 _ [.int r1, .ref 0] K ci2 cj3 cr4 _ _ Qr Qx
  obtain ⟨r7, ci8, cj9, cr10, z11, h⟩ := jpb_inv h
  refine ev_zV1 dX0_on_5 vX0_366_0 (ck0 hC6) (Or.inl (cl0 hC6)) (Nat.le_of_ble_eq_true rfl) (Nat.le_of_ble_eq_true rfl) rfl (metX0_comesOn n _ _ _ _ _ hC6 z11 (fun hC12 => ?_))
  show Ev g _ _ 8 _ [.int r7] K ci8 cj9 cr10 _ _ Qr Qx
  refine ev_if_ne 25 dX0_on_8 rfl (fun z13 => ?_) (fun z13 => ?_)
  · rw [if_neg z13] at h
    refine ev_aload_n dX0_on_25 rfl ?_
    refine ev_getR dX0_on_26 fX0_69_0 (ck0 hC12) (Or.inl (cl0 hC12)) rfl (cq0_9 hC12) ?_
    refine ev_aload_n dX0_on_29 rfl ?_
    refine ev_getR dX0_on_30 fX0_73_0 (ck0 hC12) (Or.inl (cl0 hC12)) rfl (cq0_10 hC12) ?_
    obtain ⟨r14, ci15, cj16, cr17, z18, h⟩ := jpb_inv h
    refine ev_zV1 dX0_on_33 vX0_264_5 (sk0 hC12 is16) (Or.inl (sl0 hC12 is16)) (Nat.le_of_ble_eq_true rfl) (Nat.le_of_ble_eq_true rfl) rfl (metX5_copy n _ _ _ _ _ _ hC12 z18 (fun hC19 => ?_))
    show Ev g _ _ 36 _ [.ref r14] K ci15 cj16 cr17 _ _ Qr Qx
    refine ev_pop dX0_on_36 rfl ?_
    refine ev_aload_n dX0_on_37 rfl ?_
    refine ev_iconst (v := (nI 0)) dX0_on_38 jc0 ?_
    refine ev_putI dX0_on_39 (pX0_139_0 _) (ck0 hC19) (cl0 hC19) rfl rfl rfl ?_
    refine ev_iconst (v := (nI 1)) dX0_on_42 jc1 ?_
    cases h
    exact ev_iret dX0_on_43 rfl (by decide) (hq hC19)
  · rw [if_pos z13] at h
    refine ev_aload_n dX0_on_11 rfl ?_
    refine ev_iconst (v := (nI 5)) dX0_on_12 jc5 ?_
    obtain ⟨r20, ci21, cj22, cr23, z24, h⟩ := jpb_inv h
    refine ev_zV1 dX0_on_13 vX0_109_0 (ck0 hC12) (Or.inl (cl0 hC12)) (Nat.le_of_ble_eq_true rfl) (Nat.le_of_ble_eq_true rfl) rfl (metX0_refuses n _ _ _ _ _ hC12 z24 (fun hC25 => ?_))
    show Ev g _ _ 16 _ [.int r20] K ci21 cj22 cr23 _ _ Qr Qx
    refine ev_if_lt 23 dX0_on_16 rfl (fun z26 => ?_) (fun z26 => ?_)
    · rw [if_pos z26] at h
      refine ev_iconst (v := (nI 0)) dX0_on_23 jc0 ?_
      exact ev_mask [false] (wX0_on_24 n   _ _ _ _ _ hC25 h hq)
    · rw [if_neg z26] at h
      refine ev_iconst (v := (nI 1)) dX0_on_19 jc1 ?_
      refine ev_goto 24 dX0_on_20 rfl ?_
      exact ev_mask [false] (wX0_on_24 n   _ _ _ _ _ hC25 h hq)
def fX0_status_19 (n : Nat) (t0 : Int32) (K : jK) (ci : jI) (cj : jJ) (cr : jR) : Option (jTp Int32) := some (t0, ci, cj, cr)
theorem wX0_status_19 {g : jG} {d : Nat} {c sl : Nat} {Qr : jQ} {Qx : jX} (n : Nat) (t0 : Int32) (K : jK) (ci : jI) (cj : jJ) (cr : jR) {q} (hC : jCW K cr) (h : fX0_status_19 n  t0 K ci cj cr = some q) (hq : jqp wI K q Qr) : Ev g (d + 2) mX0_status 19 [jU, jU] [.int t0] K ci cj cr c sl Qr Qx := by
  unfold fX0_status_19 at h
  cases h
  exact ev_iret dX0_status_19 rfl rfl (hq hC)
def fX0_status (n : Nat) (a0 : Int32) (K : jK) (ci : jI) (cj : jJ) (cr : jR) : Option (jTp Int32) := jpb (fX0_is n a0 (nI 0) (nI 5) K ci cj cr) (fun r1 ci2 cj3 cr4 => if r1 = 0 then fX0_status_19 n  (-1) K ci2 cj3 cr4 else if jok a0 6 then fX0_status_19 n  (ci2 15 (a0).toNatClampNeg) K ci2 cj3 cr4 else none)
theorem metX0_status {g : jG} {d : Nat} {c sl : Nat} {Qr : jQ} {Qx : jX} (n : Nat) (a0 : Int32) (K : jK) (ci : jI) (cj : jJ) (cr : jR) {q} (hC : jCW K cr) (h : fX0_status n a0 K ci cj cr = some q) (hq : jqp wI K q Qr) : EvM g (d + 2) mX0_status [.ref 0, .int a0] K ci cj cr c sl Qr Qx := by
  unfold fX0_status at h
  show Ev g (d + 2) mX0_status 0 [.ref 0, .int a0] [] K ci cj cr c sl Qr Qx
  refine ev_iload_n dX0_status_0 rfl ?_
  refine ev_iconst (v := (nI 0)) dX0_status_1 jc0 ?_
  refine ev_iconst (v := (nI 5)) dX0_status_2 jc5 ?_
  obtain ⟨r1, ci2, cj3, cr4, z5, h⟩ := jpb_inv h
  refine ev_zS3 dX0_status_3 sX0_195 (Nat.le_of_ble_eq_true rfl) (Nat.le_of_ble_eq_true rfl) rfl (metX0_is n _ _ _ _ _ _ _ hC z5 (fun hC6 => ?_))
  show Ev g _ _ 6 _ [.int r1] K ci2 cj3 cr4 _ _ Qr Qx
  refine ev_if_eq 18 dX0_status_6 rfl (fun z7 => ?_) (fun z7 => ?_)
  · rw [if_pos z7] at h
    refine ev_iconst (v := (-1)) dX0_status_18 jcm1 ?_
    exact ev_mask [false, false] (wX0_status_19 n   _ _ _ _ _ hC6 h hq)
  · rw [if_neg z7] at h
    refine ev_aload_n dX0_status_9 rfl ?_
    refine ev_getR dX0_status_10 fX0_62_0 (ck0 hC6) (Or.inl (cl0 hC6)) rfl (cq0_8 hC6) ?_
    refine ev_iload_n dX0_status_13 rfl ?_
    by_cases z8 : jok a0 6
    rotate_left
    · rw [if_neg z8] at h; cases h
    rw [if_pos z8] at h
    refine ev_iaload dX0_status_14 (ck15 hC6) (Or.inl (cl15 hC6)) (jok.ix z8 (cn15 hC6)) ?_
    refine ev_goto 19 dX0_status_15 rfl ?_
    exact ev_mask [false, false] (wX0_status_19 n   _ _ _ _ _ hC6 h hq)
def fX12_two_59 (n : Nat) (t0 : Int64) (K : jK) (ci : jI) (cj : jJ) (cr : jR) : Option (jTp Int64) := some (t0, ci, cj, cr)
theorem wX12_two_59 {g : jG} {d : Nat} {c sl : Nat} {Qr : jQ} {Qx : jX} (n : Nat) (t0 : Int64) (K : jK) (ci : jI) (cj : jJ) (cr : jR) {q} (hC : jCW K cr) (h : fX12_two_59 n  t0 K ci cj cr = some q) (hq : jqp wJ K q Qr) : Ev g (d + 2) mX12_two 59 [jU, jU, jU, jU, jU] [.long t0] K ci cj cr c sl Qr Qx := by
  unfold fX12_two_59 at h
  cases h
  exact ev_lret dX12_two_59 rfl (hq hC)
def fX12_two (n : Nat) (a0 : Int32) (a1 : Int64) (a2 : Int64) (K : jK) (ci : jI) (cj : jJ) (cr : jR) : Option (jTp Int64) := if a0 = (nI 42) then some ((a1 * a2), ci, cj, cr) else if a0 = (nI 43) then some ((a1 + a2), ci, cj, cr) else if a0 = (nI 45) then some ((a1 - a2), ci, cj, cr) else if a2 = (lN 0) then fX12_two_59 n  (lN 0) K ci cj cr else jpb (fJ12_floorDiv n a1 a2 K ci cj cr) (fun r5 ci6 cj7 cr8 => fX12_two_59 n  r5 K ci6 cj7 cr8)
theorem metX12_two {g : jG} {d : Nat} {c sl : Nat} {Qr : jQ} {Qx : jX} (n : Nat) (a0 : Int32) (a1 : Int64) (a2 : Int64) (K : jK) (ci : jI) (cj : jJ) (cr : jR) {q} (hC : jCW K cr) (h : fX12_two n a0 a1 a2 K ci cj cr = some q) (hq : jqp wJ K q Qr) : EvM g (d + 2) mX12_two [.int a0, .long a1, .long a2] K ci cj cr c sl Qr Qx := by
  unfold fX12_two at h
  show Ev g (d + 2) mX12_two 0 [.int a0, .long a1, jU, .long a2, jU] [] K ci cj cr c sl Qr Qx
  refine ev_iload_n dX12_two_0 rfl ?_
  by_cases z1 : a0 = (nI 42)
  · rw [if_pos z1] at h
    refine ev_tableIn 40 dX12_two_1 (by rw [z1]; decide) (by rw [z1]; decide) (by rw [z1]; rfl) rfl ?_
    refine ev_lload_n dX12_two_40 rfl ?_
    refine ev_lload_n dX12_two_41 rfl ?_
    refine ev_lmul dX12_two_42 ?_
    cases h
    exact ev_lret dX12_two_43 rfl (hq hC)
  rw [if_neg z1] at h
  by_cases z2 : a0 = (nI 43)
  · rw [if_pos z2] at h
    refine ev_tableIn 32 dX12_two_1 (by rw [z2]; decide) (by rw [z2]; decide) (by rw [z2]; rfl) rfl ?_
    refine ev_lload_n dX12_two_32 rfl ?_
    refine ev_lload_n dX12_two_33 rfl ?_
    refine ev_ladd dX12_two_34 ?_
    cases h
    exact ev_lret dX12_two_35 rfl (hq hC)
  rw [if_neg z2] at h
  by_cases z3 : a0 = (nI 45)
  · rw [if_pos z3] at h
    refine ev_tableIn 36 dX12_two_1 (by rw [z3]; decide) (by rw [z3]; decide) (by rw [z3]; rfl) rfl ?_
    refine ev_lload_n dX12_two_36 rfl ?_
    refine ev_lload_n dX12_two_37 rfl ?_
    refine ev_lsub dX12_two_38 ?_
    cases h
    exact ev_lret dX12_two_39 rfl (hq hC)
  rw [if_neg z3] at h
  by_cases z11 : a0 = (nI 44)
  · refine ev_tableIn 44 dX12_two_1 (by rw [z11]; decide) (by rw [z11]; decide) (by rw [z11]; rfl) rfl ?_
    refine ev_lload_n dX12_two_44 rfl ?_
    refine ev_lconst (v := lN 0) dX12_two_45 rfl ?_
    refine ev_lcif_ne 54 dX12_two_46 dX12_two_47 rfl (fun z4 => ?_) (fun z4 => ?_)
    · rw [if_neg z4] at h
      refine ev_lload_n dX12_two_54 rfl ?_
      refine ev_lload_n dX12_two_55 rfl ?_
      obtain ⟨r5, ci6, cj7, cr8, z9, h⟩ := jpb_inv h
      refine ev_zS2 dX12_two_56 sX12_61 (Nat.le_of_ble_eq_true rfl) (Nat.le_of_ble_eq_true rfl) rfl (metJ12_floorDiv n _ _ _ _ _ _ hC z9 (fun hC10 => ?_))
      show Ev g _ _ 59 _ [.long r5] K ci6 cj7 cr8 _ _ Qr Qx
      exact ev_mask [false, false, false, false, false] (wX12_two_59 n   _ _ _ _ _ hC10 h hq)
    · rw [if_pos z4] at h
      refine ev_lconst (v := lN 0) dX12_two_50 rfl ?_
      refine ev_goto 59 dX12_two_51 rfl ?_
      exact ev_mask [false, false, false, false, false] (wX12_two_59 n   _ _ _ _ _ hC h hq)
  refine ev_tableOut 44 dX12_two_1 (jtab_42_45 z1 z2 z11 z3) rfl ?_
  refine ev_lload_n dX12_two_44 rfl ?_
  refine ev_lconst (v := lN 0) dX12_two_45 rfl ?_
  refine ev_lcif_ne 54 dX12_two_46 dX12_two_47 rfl (fun z4 => ?_) (fun z4 => ?_)
  · rw [if_neg z4] at h
    refine ev_lload_n dX12_two_54 rfl ?_
    refine ev_lload_n dX12_two_55 rfl ?_
    obtain ⟨r5, ci6, cj7, cr8, z9, h⟩ := jpb_inv h
    refine ev_zS2 dX12_two_56 sX12_61 (Nat.le_of_ble_eq_true rfl) (Nat.le_of_ble_eq_true rfl) rfl (metJ12_floorDiv n _ _ _ _ _ _ hC z9 (fun hC10 => ?_))
    show Ev g _ _ 59 _ [.long r5] K ci6 cj7 cr8 _ _ Qr Qx
    exact ev_mask [false, false, false, false, false] (wX12_two_59 n   _ _ _ _ _ hC10 h hq)
  · rw [if_pos z4] at h
    refine ev_lconst (v := lN 0) dX12_two_50 rfl ?_
    refine ev_goto 59 dX12_two_51 rfl ?_
    exact ev_mask [false, false, false, false, false] (wX12_two_59 n   _ _ _ _ _ hC h hq)
def fX12_at_21 (n : Nat) (vat : Nat → Nat → jK → jI → jJ → jR → Option (jTp Int64)) : Nat → Nat → Nat → Int64 → Int32 → jK → jI → jJ → jR → Option (jTp Int64)
  | 0, _, _, _, _, _, _, _, _ => none
  | k + 1, l0, l1, l2, l4, K, ci, cj, cr => if K.1 l0 = 10 ∧ l0 < K.2.2 then Option.bind (cr l0 0) (fun r2 => if K.1 r2 = 20 ∧ r2 < K.2.2 then jpb (fJ2_size n r2 K ci cj cr) (fun r5 ci6 cj7 cr8 => if r5 ≤ l4 then some (l2, ci6, cj7, cr8) else Option.bind (cr8 l0 1) (fun r12 => if K.1 r12 = 22 ∧ r12 < K.2.2 then jpb (fJ15_charAt n r12 l4 K ci6 cj7 cr8) (fun r15 ci16 cj17 cr18 => Option.bind (cr18 l0 0) (fun r21 => if K.1 r21 = 20 ∧ r21 < K.2.2 then jpb (fJ2_get n r21 l4 K ci16 cj17 cr18) (fun r24 ci25 cj26 cr27 => if (K.1 r24 = 10 ∨ K.1 r24 = 11 ∨ K.1 r24 = 12 ∨ K.1 r24 = 13 ∨ K.1 r24 = 14) ∧ r24 < K.2.2 then jpb (vat r24 l1 K ci25 cj26 cr27) (fun r31 ci32 cj33 cr34 => jpb (fX12_two n r15 l2 r31 K ci32 cj33 cr34) (fun r37 ci38 cj39 cr40 => jpb (fX0_held n r37 K ci38 cj39 cr40) (fun r43 ci44 cj45 cr46 => fX12_at_21 n vat  k l0 l1 r43 (l4 + (nI 1)) K ci44 cj45 cr46))) else none) else none)) else none)) else none) else none
theorem wX12_at_21 {g : jG} {d : Nat} {c sl : Nat} {Qr : jQ} {Qx : jX} (n : Nat) (vat : Nat → Nat → jK → jI → jJ → jR → Option (jTp Int64)) (hvat : jvat g d vatM wJ vat) : ∀ (k : Nat) (l0 : Nat) (l1 : Nat) (l2 : Int64) (l4 : Int32) (K : jK) (ci : jI) (cj : jJ) (cr : jR) {q}, jCW K cr → fX12_at_21 n vat  k l0 l1 l2 l4 K ci cj cr = some q → jqp wJ K q Qr → Ev g (d + 5) mX12_at 21 [.ref l0, .ref l1, .long l2, jU, .int l4] [] K ci cj cr c sl Qr Qx := by
  intro k
  induction k with
  | zero =>
    intro l0 l1 l2 l4 K ci cj cr q hC h hq
    rw [fX12_at_21.eq_1] at h; cases h
  | succ k ih =>
    intro l0 l1 l2 l4 K ci cj cr q hC h hq
    rw [fX12_at_21.eq_2] at h
    refine ev_iload dX12_at_21 rfl ?_
    refine ev_aload_n dX12_at_23 rfl ?_
    by_cases z1 : K.1 l0 = 10 ∧ l0 < K.2.2
    rotate_left
    · rw [if_neg z1] at h; cases h
    rw [if_pos z1] at h
    obtain ⟨r2, z3, h⟩ := Option.bind_eq_some_iff.mp h
    refine ev_getR dX12_at_24 fX12_12_10 z1.1 (Or.inl z1.2) rfl z3 ?_
    by_cases z4 : K.1 r2 = 20 ∧ r2 < K.2.2
    rotate_left
    · rw [if_neg z4] at h; cases h
    rw [if_pos z4] at h
    obtain ⟨r5, ci6, cj7, cr8, z9, h⟩ := jpb_inv h
    refine ev_zF0 dX12_at_27 vX12_43_20 z4.1 (Or.inl z4.2) (Nat.le_of_ble_eq_true rfl) (Nat.le_of_ble_eq_true rfl) rfl (metJ2_size n _ _ _ _ _ hC z9 (fun hC10 => ?_))
    show Ev g _ _ 32 _ [.int r5, .int l4] K ci6 cj7 cr8 _ _ Qr Qx
    refine ev_icmp_ge 76 dX12_at_32 rfl (fun z11 => ?_) (fun z11 => ?_)
    · rw [if_pos z11] at h
      refine ev_lload_n dX12_at_76 rfl ?_
      cases h
      exact ev_lret dX12_at_77 rfl (hq hC10)
    · rw [if_neg z11] at h
      refine ev_aload_n dX12_at_35 rfl ?_
      obtain ⟨r12, z13, h⟩ := Option.bind_eq_some_iff.mp h
      refine ev_getR dX12_at_36 fX12_21_10 z1.1 (Or.inl z1.2) rfl z13 ?_
      refine ev_iload dX12_at_39 rfl ?_
      by_cases z14 : K.1 r12 = 22 ∧ r12 < K.2.2
      rotate_left
      · rw [if_neg z14] at h; cases h
      rw [if_pos z14] at h
      obtain ⟨r15, ci16, cj17, cr18, z19, h⟩ := jpb_inv h
      refine ev_zV1 dX12_at_41 vX12_47_22 z14.1 (Or.inl z14.2) (Nat.le_of_ble_eq_true rfl) (Nat.le_of_ble_eq_true rfl) rfl (metJ15_charAt n _ _ _ _ _ _ hC10 z19 (fun hC20 => ?_))
      show Ev g _ _ 44 _ [.int r15] K ci16 cj17 cr18 _ _ Qr Qx
      refine ev_lload_n dX12_at_44 rfl ?_
      refine ev_aload_n dX12_at_45 rfl ?_
      obtain ⟨r21, z22, h⟩ := Option.bind_eq_some_iff.mp h
      refine ev_getR dX12_at_46 fX12_12_10 z1.1 (Or.inl z1.2) rfl z22 ?_
      refine ev_iload dX12_at_49 rfl ?_
      by_cases z23 : K.1 r21 = 20 ∧ r21 < K.2.2
      rotate_left
      · rw [if_neg z23] at h; cases h
      rw [if_pos z23] at h
      obtain ⟨r24, ci25, cj26, cr27, z28, h⟩ := jpb_inv h
      refine ev_zF1 dX12_at_51 vX12_35_20 z23.1 (Or.inl z23.2) (Nat.le_of_ble_eq_true rfl) (Nat.le_of_ble_eq_true rfl) rfl (metJ2_get n _ _ _ _ _ _ hC20 z28 (fun hC29 => ?_))
      show Ev g _ _ 56 _ [.ref r24, .long l2, .int r15] K ci25 cj26 cr27 _ _ Qr Qx
      by_cases z30 : (K.1 r24 = 10 ∨ K.1 r24 = 11 ∨ K.1 r24 = 12 ∨ K.1 r24 = 13 ∨ K.1 r24 = 14) ∧ r24 < K.2.2
      rotate_left
      · rw [if_neg z30] at h; cases h
      rw [if_pos z30] at h
      refine ev_cast dX12_at_56 kX12_2 (by rcases z30.1 with z | z | z | z | z <;> rw [z] <;> decide) (Or.inl z30.2) ?_
      refine ev_aload_n dX12_at_59 rfl ?_
      obtain ⟨r31, ci32, cj33, cr34, z35, h⟩ := jpb_inv h
      refine ev_vcall dX12_at_60 yaX12_39 vatL (jvat.up hvat (by omega)) hC29 z35 (Nat.le_of_ble_eq_true rfl) rfl (fun hC36 => ?_)
      show Ev g _ _ 63 _ [.long r31, .long l2, .int r15] K ci32 cj33 cr34 _ _ Qr Qx
      obtain ⟨r37, ci38, cj39, cr40, z41, h⟩ := jpb_inv h
      refine ev_zS3 dX12_at_63 sX12_51 (Nat.le_of_ble_eq_true rfl) (Nat.le_of_ble_eq_true rfl) rfl (metX12_two n _ _ _ _ _ _ _ hC36 z41 (fun hC42 => ?_))
      show Ev g _ _ 66 _ [.long r37] K ci38 cj39 cr40 _ _ Qr Qx
      obtain ⟨r43, ci44, cj45, cr46, z47, h⟩ := jpb_inv h
      refine ev_zS1 dX12_at_66 sX12_55 (Nat.le_of_ble_eq_true rfl) (Nat.le_of_ble_eq_true rfl) rfl (metX0_held n _ _ _ _ _ hC42 z47 (fun hC48 => ?_))
      show Ev g _ _ 69 _ [.long r43] K ci44 cj45 cr46 _ _ Qr Qx
      refine ev_lstore_n (L' := [_, _, _, _, _]) dX12_at_69 (by decide) rfl ?_
      refine ev_iinc (v := (l4 + (nI 1))) (L' := [_, _, _, _, _]) dX12_at_70 rfl (by rw [ji_1]) (by decide) rfl ?_
      refine ev_goto 21 dX12_at_73 rfl ?_
      exact ih _ _ _ _ _ _ _ _ hC48 h hq
def fX12_at (n : Nat) (vat : Nat → Nat → jK → jI → jJ → jR → Option (jTp Int64)) (ah : Nat) (a0 : Nat) (K : jK) (ci : jI) (cj : jJ) (cr : jR) : Option (jTp Int64) := if K.1 ah = 10 ∧ ah < K.2.2 then Option.bind (cr ah 0) (fun r2 => if K.1 r2 = 20 ∧ r2 < K.2.2 then jpb (fJ2_get n r2 (nI 0) K ci cj cr) (fun r5 ci6 cj7 cr8 => if (K.1 r5 = 10 ∨ K.1 r5 = 11 ∨ K.1 r5 = 12 ∨ K.1 r5 = 13 ∨ K.1 r5 = 14) ∧ r5 < K.2.2 then jpb (vat r5 a0 K ci6 cj7 cr8) (fun r12 ci13 cj14 cr15 => fX12_at_21 n vat  n ah a0 r12 (nI 1) K ci13 cj14 cr15) else none) else none) else none
theorem metX12_at {g : jG} {d : Nat} {c sl : Nat} {Qr : jQ} {Qx : jX} (n : Nat) (vat : Nat → Nat → jK → jI → jJ → jR → Option (jTp Int64)) (hvat : jvat g d vatM wJ vat) (ah : Nat) (a0 : Nat) (K : jK) (ci : jI) (cj : jJ) (cr : jR) {q} (hC : jCW K cr) (h : fX12_at n vat ah a0 K ci cj cr = some q) (hq : jqp wJ K q Qr) : EvM g (d + 5) mX12_at [.ref ah, .ref a0] K ci cj cr c sl Qr Qx := by
  unfold fX12_at at h
  show Ev g (d + 5) mX12_at 0 [.ref ah, .ref a0, jU, jU, jU] [] K ci cj cr c sl Qr Qx
  refine ev_aload_n dX12_at_0 rfl ?_
  by_cases z1 : K.1 ah = 10 ∧ ah < K.2.2
  rotate_left
  · rw [if_neg z1] at h; cases h
  rw [if_pos z1] at h
  obtain ⟨r2, z3, h⟩ := Option.bind_eq_some_iff.mp h
  refine ev_getR dX12_at_1 fX12_12_10 z1.1 (Or.inl z1.2) rfl z3 ?_
  refine ev_iconst (v := (nI 0)) dX12_at_4 jc0 ?_
  by_cases z4 : K.1 r2 = 20 ∧ r2 < K.2.2
  rotate_left
  · rw [if_neg z4] at h; cases h
  rw [if_pos z4] at h
  obtain ⟨r5, ci6, cj7, cr8, z9, h⟩ := jpb_inv h
  refine ev_zF1 dX12_at_5 vX12_35_20 z4.1 (Or.inl z4.2) (Nat.le_of_ble_eq_true rfl) (Nat.le_of_ble_eq_true rfl) rfl (metJ2_get n _ _ _ _ _ _ hC z9 (fun hC10 => ?_))
  show Ev g _ _ 10 _ [.ref r5] K ci6 cj7 cr8 _ _ Qr Qx
  by_cases z11 : (K.1 r5 = 10 ∨ K.1 r5 = 11 ∨ K.1 r5 = 12 ∨ K.1 r5 = 13 ∨ K.1 r5 = 14) ∧ r5 < K.2.2
  rotate_left
  · rw [if_neg z11] at h; cases h
  rw [if_pos z11] at h
  refine ev_cast dX12_at_10 kX12_2 (by rcases z11.1 with z | z | z | z | z <;> rw [z] <;> decide) (Or.inl z11.2) ?_
  refine ev_aload_n dX12_at_13 rfl ?_
  obtain ⟨r12, ci13, cj14, cr15, z16, h⟩ := jpb_inv h
  refine ev_vcall dX12_at_14 yaX12_39 vatL (jvat.up hvat (by omega)) hC10 z16 (Nat.le_of_ble_eq_true rfl) rfl (fun hC17 => ?_)
  show Ev g _ _ 17 _ [.long r12] K ci13 cj14 cr15 _ _ Qr Qx
  refine ev_lstore_n (L' := [_, _, _, _, _]) dX12_at_17 (by decide) rfl ?_
  refine ev_iconst (v := (nI 1)) dX12_at_18 jc1 ?_
  refine ev_istore (L' := [_, _, _, _, _]) dX12_at_19 (by decide) rfl ?_
  exact wX12_at_21 n _ hvat   n _ _ _ _ _ _ _ _ hC17 h hq
