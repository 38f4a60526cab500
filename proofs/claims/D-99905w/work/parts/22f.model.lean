/-! STAGE A OF THE MODEL (printed by gen/model.py) -/
set_option maxRecDepth 100000
def fX6_refuses (n : Nat) (a0 : Int32) (ci : jI) (cj : jJ) : Option (Int32 × jI × jJ) := if jok a0 6 then if jok a0 6 then some ((-1), (ju ci 1549 (a0).toNatClampNeg ((ci 1549 (a0).toNatClampNeg) + (nI 1))), cj) else none else none
theorem metX6_refuses {g : jG} {d : Nat} {K : jK} {cr : jR} {c sl : Nat} {Qr : jQ} {Qx : jX} (hM : jMW K cr) (n : Nat) (a0 : Int32) (ci : jI) (cj : jJ) {q} (h : fX6_refuses n a0 ci cj = some q) (hq : Qr (some (.int q.1)) K q.2.1 q.2.2 cr) : EvM g (d + 1) mX6_refuses [.ref 1547, .int a0] K ci cj cr c sl Qr Qx := by
  unfold fX6_refuses at h
  show Ev g (d + 1) mX6_refuses 0 [.ref 1547, .int a0] [] K ci cj cr c sl Qr Qx
  refine ev_aload_n dX6_refuses_0 rfl ?_
  refine ev_getR dX6_refuses_1 fX6_17_6 (hk1547 hM) (Or.inl (hl1547 hM)) rfl (hr9 hM) ?_
  refine ev_iload_n dX6_refuses_4 rfl ?_
  refine ev_dup2 dX6_refuses_5 rfl rfl ?_
  by_cases z1 : jok a0 6
  rotate_left
  · rw [if_neg z1] at h; cases h
  rw [if_pos z1] at h
  refine ev_iaload dX6_refuses_6 (hk1549 hM) (Or.inl (hl1549 hM)) (jok.ix z1 (hn1549 hM)) ?_
  refine ev_iconst (v := (nI 1)) dX6_refuses_7 jc1 ?_
  refine ev_iadd dX6_refuses_8 ?_
  by_cases z2 : jok a0 6
  rotate_left
  · rw [if_neg z2] at h; cases h
  rw [if_pos z2] at h
  refine ev_iastore dX6_refuses_9 (hk1549 hM) (hl1549 hM) (jok.ix z2 (hn1549 hM)) ?_
  refine ev_iconst (v := (-1)) dX6_refuses_10 jcm1 ?_
  cases h
  exact ev_iret dX6_refuses_11 rfl rfl hq
def fX6_see_125 (n : Nat) : Nat → Int32 → Int32 → jI → jJ → Option (Int32 × jI × jJ)
  | 0, _, _, _, _ => none
  | k + 1, l1, l3, ci, cj => if l1 ≤ l3 then some (((ju ci 1547 64 (l1 / (nI 3))) 1547 64), (ju ci 1547 64 (l1 / (nI 3))), cj) else if jok l3 1600 then if jok l3 48 then fX6_see_125 n  k l1 (l3 + (nI 1)) (ju ci 1592 (l3).toNatClampNeg (ci 1548 (l3).toNatClampNeg)) cj else none else none
theorem wX6_see_125 {g : jG} {d : Nat} {K : jK} {cr : jR} {c sl : Nat} {Qr : jQ} {Qx : jX} (hM : jMW K cr) (n : Nat) : ∀ (k : Nat) (l1 : Int32) (l3 : Int32) (ci : jI) (cj : jJ) {q}, fX6_see_125 n  k l1 l3 ci cj = some q → Qr (some (.int q.1)) K q.2.1 q.2.2 cr → Ev g (d + 3) mX6_see 125 [.ref 1547, .int l1, jU, .int l3] [] K ci cj cr c sl Qr Qx := by
  intro k
  induction k with
  | zero =>
    intro l1 l3 ci cj q h hq
    rw [fX6_see_125.eq_1] at h; cases h
  | succ k ih =>
    intro l1 l3 ci cj q h hq
    rw [fX6_see_125.eq_2] at h
    refine ev_iload_n dX6_see_125 rfl ?_
    refine ev_iload_n dX6_see_126 rfl ?_
    refine ev_icmp_ge 148 dX6_see_127 rfl (fun z1 => ?_) (fun z1 => ?_)
    · rw [if_pos z1] at h
      refine ev_aload_n dX6_see_148 rfl ?_
      refine ev_iload_n dX6_see_149 rfl ?_
      refine ev_iconst (v := (nI 3)) dX6_see_150 jc3 ?_
      refine ev_idiv dX6_see_151 (by decide) ?_
      refine ev_putI dX6_see_152 (pX6_396_6 _) (hk1547 hM) (hl1547 hM) rfl rfl rfl ?_
      refine ev_aload_n dX6_see_155 rfl ?_
      refine ev_getI dX6_see_156 fX6_396_6 (hk1547 hM) (Or.inl (hl1547 hM)) rfl ?_
      cases h
      exact ev_iret dX6_see_159 rfl rfl hq
    · rw [if_neg z1] at h
      refine ev_aload_n dX6_see_130 rfl ?_
      refine ev_getR dX6_see_131 fX6_148_6 (hk1547 hM) (Or.inl (hl1547 hM)) rfl (hr65 hM) ?_
      refine ev_iload_n dX6_see_134 rfl ?_
      refine ev_aload_n dX6_see_135 rfl ?_
      refine ev_getR dX6_see_136 fX6_7_6 (hk1547 hM) (Or.inl (hl1547 hM)) rfl (hr0 hM) ?_
      refine ev_iload_n dX6_see_139 rfl ?_
      by_cases z3 : jok l3 1600
      rotate_left
      · rw [if_neg z3] at h; cases h
      rw [if_pos z3] at h
      refine ev_iaload dX6_see_140 (hk1548 hM) (Or.inl (hl1548 hM)) (jok.ix z3 (hn1548 hM)) ?_
      by_cases z4 : jok l3 48
      rotate_left
      · rw [if_neg z4] at h; cases h
      rw [if_pos z4] at h
      refine ev_iastore dX6_see_141 (hk1592 hM) (hl1592 hM) (jok.ix z4 (hn1592 hM)) ?_
      refine ev_iinc (v := (l3 + (nI 1))) (L' := [_, _, _, _]) dX6_see_142 rfl (by rw [ji_1]) (by decide) rfl ?_
      refine ev_goto 125 dX6_see_145 rfl ?_
      exact ih _ _ _ _ h hq
def fX6_see_113 (n : Nat) (l1 : Int32) (l2 : Int32) (ci : jI) (cj : jJ) : Option (Int32 × jI × jJ) := if l2 = 0 then Option.bind (fX6_refuses n (nI 1) ci cj) (fun q2 => some (q2.1, q2.2.1, q2.2.2)) else fX6_see_125 n  n l1 (nI 0) ci cj
theorem wX6_see_113 {g : jG} {d : Nat} {K : jK} {cr : jR} {c sl : Nat} {Qr : jQ} {Qx : jX} (hM : jMW K cr) (n : Nat) (l1 : Int32) (l2 : Int32) (ci : jI) (cj : jJ) {q} (h : fX6_see_113 n  l1 l2 ci cj = some q) (hq : Qr (some (.int q.1)) K q.2.1 q.2.2 cr) : Ev g (d + 3) mX6_see 113 [.ref 1547, .int l1, .int l2, jU] [] K ci cj cr c sl Qr Qx := by
  unfold fX6_see_113 at h
  refine ev_iload_n dX6_see_113 rfl ?_
  refine ev_if_ne 123 dX6_see_114 rfl (fun z1 => ?_) (fun z1 => ?_)
  · rw [if_neg z1] at h
    refine ev_iconst (v := (nI 0)) dX6_see_123 jc0 ?_
    refine ev_istore_n (L' := [_, _, _, _]) dX6_see_124 (by decide) rfl ?_
    exact ev_mask [true, true, false, true] (wX6_see_125 hM n   n _ _ _ _ h hq)
  · rw [if_pos z1] at h
    refine ev_aload_n dX6_see_117 rfl ?_
    refine ev_iconst (v := (nI 1)) dX6_see_118 jc1 ?_
    obtain ⟨q2, z3, h⟩ := Option.bind_eq_some_iff.mp h
    refine ev_zV1 dX6_see_119 vX6_555_6 (hk1547 hM) (Or.inl (hl1547 hM)) (Nat.le_of_ble_eq_true rfl) (Nat.le_of_ble_eq_true rfl) rfl (metX6_refuses hM n _ _ _ z3 ?_)
    show Ev g _ _ 122 _ [.int q2.1] K q2.2.1 q2.2.2 cr c sl Qr Qx
    cases h
    exact ev_iret dX6_see_122 rfl rfl hq
def fX6_see_106 (n : Nat) (rec36 : Int32 → Int32 → Int32 → jI → jJ → Option (Int32 × jI × jJ)) (l1 : Int32) (l3 : Int32) (t0 : Int32) (ci : jI) (cj : jJ) : Option (Int32 × jI × jJ) := rec36 l1 t0 (l3 + (nI 3)) ci cj
theorem wX6_see_106 {g : jG} {d : Nat} {K : jK} {cr : jR} {c sl : Nat} {Qr : jQ} {Qx : jX} (hM : jMW K cr) (n : Nat) (rec36 : Int32 → Int32 → Int32 → jI → jJ → Option (Int32 × jI × jJ)) (hrec36 : (∀ (l1 : Int32) (l2 : Int32) (l3 : Int32) (ci : jI) (cj : jJ) {q}, rec36 l1 l2 l3 ci cj = some q → Qr (some (.int q.1)) K q.2.1 q.2.2 cr → Ev g (d + 3) mX6_see 36 [.ref 1547, .int l1, .int l2, .int l3] [] K ci cj cr c sl Qr Qx)) (l1 : Int32) (l3 : Int32) (t0 : Int32) (ci : jI) (cj : jJ) {q} (h : fX6_see_106 n rec36 l1 l3 t0 ci cj = some q) (hq : Qr (some (.int q.1)) K q.2.1 q.2.2 cr) : Ev g (d + 3) mX6_see 106 [.ref 1547, .int l1, jU, .int l3] [.int t0] K ci cj cr c sl Qr Qx := by
  unfold fX6_see_106 at h
  refine ev_istore_n (L' := [_, _, _, _]) dX6_see_106 (by decide) rfl ?_
  refine ev_iinc (v := (l3 + (nI 3))) (L' := [_, _, _, _]) dX6_see_107 rfl (by rw [ji_3]) (by decide) rfl ?_
  refine ev_goto 36 dX6_see_110 rfl ?_
  exact hrec36 _ _ _ _ _ h hq
def fX6_see_105 (n : Nat) (rec36 : Int32 → Int32 → Int32 → jI → jJ → Option (Int32 × jI × jJ)) (l1 : Int32) (l3 : Int32) (ci : jI) (cj : jJ) : Option (Int32 × jI × jJ) := fX6_see_106 n rec36 l1 l3 (nI 0) ci cj
theorem wX6_see_105 {g : jG} {d : Nat} {K : jK} {cr : jR} {c sl : Nat} {Qr : jQ} {Qx : jX} (hM : jMW K cr) (n : Nat) (rec36 : Int32 → Int32 → Int32 → jI → jJ → Option (Int32 × jI × jJ)) (hrec36 : (∀ (l1 : Int32) (l2 : Int32) (l3 : Int32) (ci : jI) (cj : jJ) {q}, rec36 l1 l2 l3 ci cj = some q → Qr (some (.int q.1)) K q.2.1 q.2.2 cr → Ev g (d + 3) mX6_see 36 [.ref 1547, .int l1, .int l2, .int l3] [] K ci cj cr c sl Qr Qx)) (l1 : Int32) (l3 : Int32) (ci : jI) (cj : jJ) {q} (h : fX6_see_105 n rec36 l1 l3 ci cj = some q) (hq : Qr (some (.int q.1)) K q.2.1 q.2.2 cr) : Ev g (d + 3) mX6_see 105 [.ref 1547, .int l1, jU, .int l3] [] K ci cj cr c sl Qr Qx := by
  unfold fX6_see_105 at h
  refine ev_iconst (v := (nI 0)) dX6_see_105 jc0 ?_
  exact wX6_see_106 hM n _ (hrec36) _ _ _ _ _ h hq
def fX6_see_101 (n : Nat) (rec36 : Int32 → Int32 → Int32 → jI → jJ → Option (Int32 × jI × jJ)) (l1 : Int32) (l3 : Int32) (ci : jI) (cj : jJ) : Option (Int32 × jI × jJ) := fX6_see_106 n rec36 l1 l3 (nI 1) ci cj
theorem wX6_see_101 {g : jG} {d : Nat} {K : jK} {cr : jR} {c sl : Nat} {Qr : jQ} {Qx : jX} (hM : jMW K cr) (n : Nat) (rec36 : Int32 → Int32 → Int32 → jI → jJ → Option (Int32 × jI × jJ)) (hrec36 : (∀ (l1 : Int32) (l2 : Int32) (l3 : Int32) (ci : jI) (cj : jJ) {q}, rec36 l1 l2 l3 ci cj = some q → Qr (some (.int q.1)) K q.2.1 q.2.2 cr → Ev g (d + 3) mX6_see 36 [.ref 1547, .int l1, .int l2, .int l3] [] K ci cj cr c sl Qr Qx)) (l1 : Int32) (l3 : Int32) (ci : jI) (cj : jJ) {q} (h : fX6_see_101 n rec36 l1 l3 ci cj = some q) (hq : Qr (some (.int q.1)) K q.2.1 q.2.2 cr) : Ev g (d + 3) mX6_see 101 [.ref 1547, .int l1, jU, .int l3] [] K ci cj cr c sl Qr Qx := by
  unfold fX6_see_101 at h
  refine ev_iconst (v := (nI 1)) dX6_see_101 jc1 ?_
  refine ev_goto 106 dX6_see_102 rfl ?_
  exact wX6_see_106 hM n _ (hrec36) _ _ _ _ _ h hq
def fX6_see_36 (n : Nat) : Nat → Int32 → Int32 → Int32 → jI → jJ → Option (Int32 × jI × jJ)
  | 0, _, _, _, _, _ => none
  | k + 1, l1, l2, l3, ci, cj => if l1 ≤ l3 then fX6_see_113 n  l1 l2 ci cj else if l2 = 0 then fX6_see_113 n  l1 l2 ci cj else if jok l3 1600 then if (nI 30) < (ci 1548 (l3).toNatClampNeg) then fX6_see_105 n (fX6_see_36 n  k) l1 l3 ci cj else if jok (l3 + (nI 1)) 1600 then Option.bind (fX6_isShoal n (ci 1548 ((l3 + (nI 1))).toNatClampNeg) ci cj) (fun q6 => if q6.1 = 0 then fX6_see_105 n (fX6_see_36 n  k) l1 l3 q6.2.1 q6.2.2 else if jok (l3 + (nI 2)) 1600 then Option.bind (fX6_isBay n (((q6.2.1 1548 ((l3 + (nI 2))).toNatClampNeg)).toInt64) q6.2.1 q6.2.2) (fun q10 => if q10.1 = 0 then if jok (l3 + (nI 2)) 1600 then if (q10.2.1 1548 ((l3 + (nI 2))).toNatClampNeg) = (nI 255) then fX6_see_101 n (fX6_see_36 n  k) l1 l3 q10.2.1 q10.2.2 else fX6_see_105 n (fX6_see_36 n  k) l1 l3 q10.2.1 q10.2.2 else none else fX6_see_101 n (fX6_see_36 n  k) l1 l3 q10.2.1 q10.2.2) else none) else none else none
theorem wX6_see_36 {g : jG} {d : Nat} {K : jK} {cr : jR} {c sl : Nat} {Qr : jQ} {Qx : jX} (hM : jMW K cr) (n : Nat) : ∀ (k : Nat) (l1 : Int32) (l2 : Int32) (l3 : Int32) (ci : jI) (cj : jJ) {q}, fX6_see_36 n  k l1 l2 l3 ci cj = some q → Qr (some (.int q.1)) K q.2.1 q.2.2 cr → Ev g (d + 3) mX6_see 36 [.ref 1547, .int l1, .int l2, .int l3] [] K ci cj cr c sl Qr Qx := by
  intro k
  induction k with
  | zero =>
    intro l1 l2 l3 ci cj q h hq
    rw [fX6_see_36.eq_1] at h; cases h
  | succ k ih =>
    intro l1 l2 l3 ci cj q h hq
    rw [fX6_see_36.eq_2] at h
    refine ev_iload_n dX6_see_36 rfl ?_
    refine ev_iload_n dX6_see_37 rfl ?_
    refine ev_icmp_ge 113 dX6_see_38 rfl (fun z1 => ?_) (fun z1 => ?_)
    · rw [if_pos z1] at h
      exact ev_mask [true, true, true, false] (wX6_see_113 hM n   _ _ _ _ h hq)
    · rw [if_neg z1] at h
      refine ev_iload_n dX6_see_41 rfl ?_
      refine ev_if_eq 113 dX6_see_42 rfl (fun z2 => ?_) (fun z2 => ?_)
      · rw [if_pos z2] at h
        exact ev_mask [true, true, true, false] (wX6_see_113 hM n   _ _ _ _ h hq)
      · rw [if_neg z2] at h
        refine ev_aload_n dX6_see_45 rfl ?_
        refine ev_getR dX6_see_46 fX6_7_6 (hk1547 hM) (Or.inl (hl1547 hM)) rfl (hr0 hM) ?_
        refine ev_iload_n dX6_see_49 rfl ?_
        by_cases z3 : jok l3 1600
        rotate_left
        · rw [if_neg z3] at h; cases h
        rw [if_pos z3] at h
        refine ev_iaload dX6_see_50 (hk1548 hM) (Or.inl (hl1548 hM)) (jok.ix z3 (hn1548 hM)) ?_
        refine ev_bipush (v := (nI 30)) dX6_see_51 jb30 ?_
        refine ev_icmp_gt 105 dX6_see_53 rfl (fun z4 => ?_) (fun z4 => ?_)
        · rw [if_pos z4] at h
          exact ev_mask [true, true, false, true] (wX6_see_105 hM n _ (ih) _ _ _ _ h hq)
        · rw [if_neg z4] at h
          refine ev_aload_n dX6_see_56 rfl ?_
          refine ev_aload_n dX6_see_57 rfl ?_
          refine ev_getR dX6_see_58 fX6_7_6 (hk1547 hM) (Or.inl (hl1547 hM)) rfl (hr0 hM) ?_
          refine ev_iload_n dX6_see_61 rfl ?_
          refine ev_iconst (v := (nI 1)) dX6_see_62 jc1 ?_
          refine ev_iadd dX6_see_63 ?_
          by_cases z5 : jok (l3 + (nI 1)) 1600
          rotate_left
          · rw [if_neg z5] at h; cases h
          rw [if_pos z5] at h
          refine ev_iaload dX6_see_64 (hk1548 hM) (Or.inl (hl1548 hM)) (jok.ix z5 (hn1548 hM)) ?_
          obtain ⟨q6, z7, h⟩ := Option.bind_eq_some_iff.mp h
          refine ev_zV1 dX6_see_65 vX6_526_6 (hk1547 hM) (Or.inl (hl1547 hM)) (Nat.le_of_ble_eq_true rfl) (Nat.le_of_ble_eq_true rfl) rfl (metX6_isShoal hM n _ _ _ z7 ?_)
          show Ev g _ _ 68 _ [.int q6.1] K q6.2.1 q6.2.2 cr c sl Qr Qx
          refine ev_if_eq 105 dX6_see_68 rfl (fun z8 => ?_) (fun z8 => ?_)
          · rw [if_pos z8] at h
            exact ev_mask [true, true, false, true] (wX6_see_105 hM n _ (ih) _ _ _ _ h hq)
          · rw [if_neg z8] at h
            refine ev_aload_n dX6_see_71 rfl ?_
            refine ev_aload_n dX6_see_72 rfl ?_
            refine ev_getR dX6_see_73 fX6_7_6 (hk1547 hM) (Or.inl (hl1547 hM)) rfl (hr0 hM) ?_
            refine ev_iload_n dX6_see_76 rfl ?_
            refine ev_iconst (v := (nI 2)) dX6_see_77 jc2 ?_
            refine ev_iadd dX6_see_78 ?_
            by_cases z9 : jok (l3 + (nI 2)) 1600
            rotate_left
            · rw [if_neg z9] at h; cases h
            rw [if_pos z9] at h
            refine ev_iaload dX6_see_79 (hk1548 hM) (Or.inl (hl1548 hM)) (jok.ix z9 (hn1548 hM)) ?_
            refine ev_i2l dX6_see_80 ?_
            obtain ⟨q10, z11, h⟩ := Option.bind_eq_some_iff.mp h
            refine ev_zV1 dX6_see_81 vX6_516_6 (hk1547 hM) (Or.inl (hl1547 hM)) (Nat.le_of_ble_eq_true rfl) (Nat.le_of_ble_eq_true rfl) rfl (metX6_isBay hM n _ _ _ z11 ?_)
            show Ev g _ _ 84 _ [.int q10.1] K q10.2.1 q10.2.2 cr c sl Qr Qx
            refine ev_if_ne 101 dX6_see_84 rfl (fun z12 => ?_) (fun z12 => ?_)
            · rw [if_neg z12] at h
              exact ev_mask [true, true, false, true] (wX6_see_101 hM n _ (ih) _ _ _ _ h hq)
            · rw [if_pos z12] at h
              refine ev_aload_n dX6_see_87 rfl ?_
              refine ev_getR dX6_see_88 fX6_7_6 (hk1547 hM) (Or.inl (hl1547 hM)) rfl (hr0 hM) ?_
              refine ev_iload_n dX6_see_91 rfl ?_
              refine ev_iconst (v := (nI 2)) dX6_see_92 jc2 ?_
              refine ev_iadd dX6_see_93 ?_
              by_cases z13 : jok (l3 + (nI 2)) 1600
              rotate_left
              · rw [if_neg z13] at h; cases h
              rw [if_pos z13] at h
              refine ev_iaload dX6_see_94 (hk1548 hM) (Or.inl (hl1548 hM)) (jok.ix z13 (hn1548 hM)) ?_
              refine ev_sipush (v := (nI 255)) dX6_see_95 js255 ?_
              refine ev_icmp_ne 105 dX6_see_98 rfl (fun z14 => ?_) (fun z14 => ?_)
              · rw [if_neg z14] at h
                exact ev_mask [true, true, false, true] (wX6_see_105 hM n _ (ih) _ _ _ _ h hq)
              · rw [if_pos z14] at h
                exact ev_mask [true, true, false, true] (wX6_see_101 hM n _ (ih) _ _ _ _ h hq)
def fX6_see_33 (n : Nat) (l1 : Int32) (t0 : Int32) (ci : jI) (cj : jJ) : Option (Int32 × jI × jJ) := fX6_see_36 n  n l1 t0 (nI 0) ci cj
theorem wX6_see_33 {g : jG} {d : Nat} {K : jK} {cr : jR} {c sl : Nat} {Qr : jQ} {Qx : jX} (hM : jMW K cr) (n : Nat) (l1 : Int32) (t0 : Int32) (ci : jI) (cj : jJ) {q} (h : fX6_see_33 n  l1 t0 ci cj = some q) (hq : Qr (some (.int q.1)) K q.2.1 q.2.2 cr) : Ev g (d + 3) mX6_see 33 [.ref 1547, .int l1, jU, jU] [.int t0] K ci cj cr c sl Qr Qx := by
  unfold fX6_see_33 at h
  refine ev_istore_n (L' := [_, _, _, _]) dX6_see_33 (by decide) rfl ?_
  refine ev_iconst (v := (nI 0)) dX6_see_34 jc0 ?_
  refine ev_istore_n (L' := [_, _, _, _]) dX6_see_35 (by decide) rfl ?_
  exact wX6_see_36 hM n   n _ _ _ _ _ h hq
def fX6_see_32 (n : Nat) (l1 : Int32) (ci : jI) (cj : jJ) : Option (Int32 × jI × jJ) := fX6_see_33 n  l1 (nI 0) ci cj
theorem wX6_see_32 {g : jG} {d : Nat} {K : jK} {cr : jR} {c sl : Nat} {Qr : jQ} {Qx : jX} (hM : jMW K cr) (n : Nat) (l1 : Int32) (ci : jI) (cj : jJ) {q} (h : fX6_see_32 n  l1 ci cj = some q) (hq : Qr (some (.int q.1)) K q.2.1 q.2.2 cr) : Ev g (d + 3) mX6_see 32 [.ref 1547, .int l1, jU, jU] [] K ci cj cr c sl Qr Qx := by
  unfold fX6_see_32 at h
  refine ev_iconst (v := (nI 0)) dX6_see_32 jc0 ?_
  exact wX6_see_33 hM n   _ _ _ _ h hq
def fX6_see (n : Nat) (ci : jI) (cj : jJ) : Option (Int32 × jI × jJ) := if (ci 1547 1) ≤ 0 then fX6_see_32 n  (ci 1547 1) (ju ci 1547 1 (nI 0)) cj else if ((ci 1547 1) - (ci 1547 1) / (nI 3) * (nI 3)) = 0 then if (nI 16) < ((ci 1547 1) / (nI 3)) then fX6_see_32 n  (ci 1547 1) (ju ci 1547 1 (nI 0)) cj else fX6_see_33 n  (ci 1547 1) (nI 1) (ju ci 1547 1 (nI 0)) cj else fX6_see_32 n  (ci 1547 1) (ju ci 1547 1 (nI 0)) cj
theorem metX6_see {g : jG} {d : Nat} {K : jK} {cr : jR} {c sl : Nat} {Qr : jQ} {Qx : jX} (hM : jMW K cr) (n : Nat) (ci : jI) (cj : jJ) {q} (h : fX6_see n  ci cj = some q) (hq : Qr (some (.int q.1)) K q.2.1 q.2.2 cr) : EvM g (d + 3) mX6_see [.ref 1547] K ci cj cr c sl Qr Qx := by
  unfold fX6_see at h
  show Ev g (d + 3) mX6_see 0 [.ref 1547, jU, jU, jU] [] K ci cj cr c sl Qr Qx
  refine ev_aload_n dX6_see_0 rfl ?_
  refine ev_getI dX6_see_1 fX6_248_6 (hk1547 hM) (Or.inl (hl1547 hM)) rfl ?_
  refine ev_istore_n (L' := [_, _, _, _]) dX6_see_4 (by decide) rfl ?_
  refine ev_aload_n dX6_see_5 rfl ?_
  refine ev_iconst (v := (nI 0)) dX6_see_6 jc0 ?_
  refine ev_putI dX6_see_7 (pX6_248_6 _) (hk1547 hM) (hl1547 hM) rfl rfl rfl ?_
  refine ev_iload_n dX6_see_10 rfl ?_
  refine ev_if_le 32 dX6_see_11 rfl (fun z1 => ?_) (fun z1 => ?_)
  · rw [if_pos z1] at h
    exact wX6_see_32 hM n   _ _ _ h hq
  · rw [if_neg z1] at h
    refine ev_iload_n dX6_see_14 rfl ?_
    refine ev_iconst (v := (nI 3)) dX6_see_15 jc3 ?_
    refine ev_irem dX6_see_16 (by decide) ?_
    refine ev_if_ne 32 dX6_see_17 rfl (fun z3 => ?_) (fun z3 => ?_)
    · rw [if_neg z3] at h
      exact wX6_see_32 hM n   _ _ _ h hq
    · rw [if_pos z3] at h
      refine ev_iload_n dX6_see_20 rfl ?_
      refine ev_iconst (v := (nI 3)) dX6_see_21 jc3 ?_
      refine ev_idiv dX6_see_22 (by decide) ?_
      refine ev_bipush (v := (nI 16)) dX6_see_23 jb16 ?_
      refine ev_icmp_gt 32 dX6_see_25 rfl (fun z5 => ?_) (fun z5 => ?_)
      · rw [if_pos z5] at h
        exact wX6_see_32 hM n   _ _ _ h hq
      · rw [if_neg z5] at h
        refine ev_iconst (v := (nI 1)) dX6_see_28 jc1 ?_
        refine ev_goto 33 dX6_see_29 rfl ?_
        exact wX6_see_33 hM n   _ _ _ _ h hq
def fX6_isAsSeen_87 (n : Nat) (ci : jI) (cj : jJ) : Option (Int32 × jI × jJ) := some ((nI 0), ci, cj)
theorem wX6_isAsSeen_87 {g : jG} {d : Nat} {K : jK} {cr : jR} {c sl : Nat} {Qr : jQ} {Qx : jX} (hM : jMW K cr) (n : Nat) (ci : jI) (cj : jJ) {q} (h : fX6_isAsSeen_87 n   ci cj = some q) (hq : Qr (some (.int q.1)) K q.2.1 q.2.2 cr) : Ev g (d + 1) mX6_isAsSeen 87 [jU, jU, jU, jU] [] K ci cj cr c sl Qr Qx := by
  unfold fX6_isAsSeen_87 at h
  refine ev_iconst (v := (nI 0)) dX6_isAsSeen_87 jc0 ?_
  cases h
  exact ev_iret dX6_isAsSeen_88 rfl (by decide) hq
def fX6_isAsSeen_89 (n : Nat) (rec2 : Int32 → Int32 → jI → jJ → Option (Int32 × jI × jJ)) (l1 : Int32) (l2 : Int32) (ci : jI) (cj : jJ) : Option (Int32 × jI × jJ) := rec2 l1 (l2 + (nI 1)) ci cj
theorem wX6_isAsSeen_89 {g : jG} {d : Nat} {K : jK} {cr : jR} {c sl : Nat} {Qr : jQ} {Qx : jX} (hM : jMW K cr) (n : Nat) (rec2 : Int32 → Int32 → jI → jJ → Option (Int32 × jI × jJ)) (hrec2 : (∀ (l1 : Int32) (l2 : Int32) (ci : jI) (cj : jJ) {q}, rec2 l1 l2 ci cj = some q → Qr (some (.int q.1)) K q.2.1 q.2.2 cr → Ev g (d + 1) mX6_isAsSeen 2 [.ref 1547, .int l1, .int l2, jU] [] K ci cj cr c sl Qr Qx)) (l1 : Int32) (l2 : Int32) (ci : jI) (cj : jJ) {q} (h : fX6_isAsSeen_89 n rec2 l1 l2 ci cj = some q) (hq : Qr (some (.int q.1)) K q.2.1 q.2.2 cr) : Ev g (d + 1) mX6_isAsSeen 89 [.ref 1547, .int l1, .int l2, jU] [] K ci cj cr c sl Qr Qx := by
  unfold fX6_isAsSeen_89 at h
  refine ev_iinc (v := (l2 + (nI 1))) (L' := [_, _, _, _]) dX6_isAsSeen_89 rfl (by rw [ji_1]) (by decide) rfl ?_
  refine ev_goto 2 dX6_isAsSeen_92 rfl ?_
  exact hrec2 _ _ _ _ h hq
def fX6_isAsSeen_55 (n : Nat) (rec2 : Int32 → Int32 → jI → jJ → Option (Int32 × jI × jJ)) (l1 : Int32) (l2 : Int32) (t0 : Int32) (ci : jI) (cj : jJ) : Option (Int32 × jI × jJ) := if jok (nI 0) 166 then if (nI 999) < (ci 1585 ((nI 0)).toNatClampNeg) then fX6_isAsSeen_87 n   ci cj else if jok (((nI 3) * l2) + (nI 1)) 48 then if jok (ci 1592 ((((nI 3) * l2) + (nI 1))).toNatClampNeg) 3 then if (ci 1589 ((ci 1592 ((((nI 3) * l2) + (nI 1))).toNatClampNeg)).toNatClampNeg) = t0 then fX6_isAsSeen_89 n rec2 l1 l2 ci cj else fX6_isAsSeen_87 n   ci cj else none else none else none
theorem wX6_isAsSeen_55 {g : jG} {d : Nat} {K : jK} {cr : jR} {c sl : Nat} {Qr : jQ} {Qx : jX} (hM : jMW K cr) (n : Nat) (rec2 : Int32 → Int32 → jI → jJ → Option (Int32 × jI × jJ)) (hrec2 : (∀ (l1 : Int32) (l2 : Int32) (ci : jI) (cj : jJ) {q}, rec2 l1 l2 ci cj = some q → Qr (some (.int q.1)) K q.2.1 q.2.2 cr → Ev g (d + 1) mX6_isAsSeen 2 [.ref 1547, .int l1, .int l2, jU] [] K ci cj cr c sl Qr Qx)) (l1 : Int32) (l2 : Int32) (t0 : Int32) (ci : jI) (cj : jJ) {q} (h : fX6_isAsSeen_55 n rec2 l1 l2 t0 ci cj = some q) (hq : Qr (some (.int q.1)) K q.2.1 q.2.2 cr) : Ev g (d + 1) mX6_isAsSeen 55 [.ref 1547, .int l1, .int l2, jU] [.int t0] K ci cj cr c sl Qr Qx := by
  unfold fX6_isAsSeen_55 at h
  refine ev_istore_n (L' := [_, _, _, _]) dX6_isAsSeen_55 (by decide) rfl ?_
  refine ev_aload_n dX6_isAsSeen_56 rfl ?_
  refine ev_getR dX6_isAsSeen_57 fX6_127_6 (hk1547 hM) (Or.inl (hl1547 hM)) rfl (hr50 hM) ?_
  refine ev_iconst (v := (nI 0)) dX6_isAsSeen_60 jc0 ?_
  by_cases z1 : jok (nI 0) 166
  rotate_left
  · rw [if_neg z1] at h; cases h
  rw [if_pos z1] at h
  refine ev_iaload dX6_isAsSeen_61 (hk1585 hM) (Or.inl (hl1585 hM)) (jok.ix z1 (hn1585 hM)) ?_
  refine ev_sipush (v := (nI 999)) dX6_isAsSeen_62 js999 ?_
  refine ev_icmp_gt 87 dX6_isAsSeen_65 rfl (fun z2 => ?_) (fun z2 => ?_)
  · rw [if_pos z2] at h
    exact ev_mask [false, false, false, false] (wX6_isAsSeen_87 hM n    _ _ h hq)
  · rw [if_neg z2] at h
    refine ev_aload_n dX6_isAsSeen_68 rfl ?_
    refine ev_getR dX6_isAsSeen_69 fX6_139_6 (hk1547 hM) (Or.inl (hl1547 hM)) rfl (hr61 hM) ?_
    refine ev_aload_n dX6_isAsSeen_72 rfl ?_
    refine ev_getR dX6_isAsSeen_73 fX6_148_6 (hk1547 hM) (Or.inl (hl1547 hM)) rfl (hr65 hM) ?_
    refine ev_iconst (v := (nI 3)) dX6_isAsSeen_76 jc3 ?_
    refine ev_iload_n dX6_isAsSeen_77 rfl ?_
    refine ev_imul dX6_isAsSeen_78 ?_
    refine ev_iconst (v := (nI 1)) dX6_isAsSeen_79 jc1 ?_
    refine ev_iadd dX6_isAsSeen_80 ?_
    by_cases z3 : jok (((nI 3) * l2) + (nI 1)) 48
    rotate_left
    · rw [if_neg z3] at h; cases h
    rw [if_pos z3] at h
    refine ev_iaload dX6_isAsSeen_81 (hk1592 hM) (Or.inl (hl1592 hM)) (jok.ix z3 (hn1592 hM)) ?_
    by_cases z4 : jok (ci 1592 ((((nI 3) * l2) + (nI 1))).toNatClampNeg) 3
    rotate_left
    · rw [if_neg z4] at h; cases h
    rw [if_pos z4] at h
    refine ev_iaload dX6_isAsSeen_82 (hk1589 hM) (Or.inl (hl1589 hM)) (jok.ix z4 (hn1589 hM)) ?_
    refine ev_iload_n dX6_isAsSeen_83 rfl ?_
    refine ev_icmp_eq 89 dX6_isAsSeen_84 rfl (fun z5 => ?_) (fun z5 => ?_)
    · rw [if_pos z5] at h
      exact ev_mask [true, true, true, false] (wX6_isAsSeen_89 hM n _ (hrec2) _ _ _ _ h hq)
    · rw [if_neg z5] at h
      exact ev_mask [false, false, false, false] (wX6_isAsSeen_87 hM n    _ _ h hq)
def fX6_isAsSeen_2 (n : Nat) : Nat → Int32 → Int32 → jI → jJ → Option (Int32 × jI × jJ)
  | 0, _, _, _, _ => none
  | k + 1, l1, l2, ci, cj => if (ci 1547 64) ≤ l2 then some ((nI 1), ci, cj) else if jok ((nI 3) * l2) 48 then if (ci 1592 (((nI 3) * l2)).toNatClampNeg) = l1 then if jok (((nI 3) * l2) + (nI 2)) 48 then if (ci 1592 ((((nI 3) * l2) + (nI 2))).toNatClampNeg) = (nI 255) then fX6_isAsSeen_55 n (fX6_isAsSeen_2 n  k) l1 l2 (-1) ci cj else if jok (((nI 3) * l2) + (nI 2)) 48 then fX6_isAsSeen_55 n (fX6_isAsSeen_2 n  k) l1 l2 (ci 1592 ((((nI 3) * l2) + (nI 2))).toNatClampNeg) ci cj else none else none else fX6_isAsSeen_89 n (fX6_isAsSeen_2 n  k) l1 l2 ci cj else none
theorem wX6_isAsSeen_2 {g : jG} {d : Nat} {K : jK} {cr : jR} {c sl : Nat} {Qr : jQ} {Qx : jX} (hM : jMW K cr) (n : Nat) : ∀ (k : Nat) (l1 : Int32) (l2 : Int32) (ci : jI) (cj : jJ) {q}, fX6_isAsSeen_2 n  k l1 l2 ci cj = some q → Qr (some (.int q.1)) K q.2.1 q.2.2 cr → Ev g (d + 1) mX6_isAsSeen 2 [.ref 1547, .int l1, .int l2, jU] [] K ci cj cr c sl Qr Qx := by
  intro k
  induction k with
  | zero =>
    intro l1 l2 ci cj q h hq
    rw [fX6_isAsSeen_2.eq_1] at h; cases h
  | succ k ih =>
    intro l1 l2 ci cj q h hq
    rw [fX6_isAsSeen_2.eq_2] at h
    refine ev_iload_n dX6_isAsSeen_2 rfl ?_
    refine ev_aload_n dX6_isAsSeen_3 rfl ?_
    refine ev_getI dX6_isAsSeen_4 fX6_396_6 (hk1547 hM) (Or.inl (hl1547 hM)) rfl ?_
    refine ev_icmp_ge 95 dX6_isAsSeen_7 rfl (fun z1 => ?_) (fun z1 => ?_)
    · rw [if_pos z1] at h
      refine ev_iconst (v := (nI 1)) dX6_isAsSeen_95 jc1 ?_
      cases h
      exact ev_iret dX6_isAsSeen_96 rfl (by decide) hq
    · rw [if_neg z1] at h
      refine ev_aload_n dX6_isAsSeen_10 rfl ?_
      refine ev_getR dX6_isAsSeen_11 fX6_148_6 (hk1547 hM) (Or.inl (hl1547 hM)) rfl (hr65 hM) ?_
      refine ev_iconst (v := (nI 3)) dX6_isAsSeen_14 jc3 ?_
      refine ev_iload_n dX6_isAsSeen_15 rfl ?_
      refine ev_imul dX6_isAsSeen_16 ?_
      by_cases z2 : jok ((nI 3) * l2) 48
      rotate_left
      · rw [if_neg z2] at h; cases h
      rw [if_pos z2] at h
      refine ev_iaload dX6_isAsSeen_17 (hk1592 hM) (Or.inl (hl1592 hM)) (jok.ix z2 (hn1592 hM)) ?_
      refine ev_iload_n dX6_isAsSeen_18 rfl ?_
      refine ev_icmp_eq 25 dX6_isAsSeen_19 rfl (fun z3 => ?_) (fun z3 => ?_)
      · rw [if_pos z3] at h
        refine ev_aload_n dX6_isAsSeen_25 rfl ?_
        refine ev_getR dX6_isAsSeen_26 fX6_148_6 (hk1547 hM) (Or.inl (hl1547 hM)) rfl (hr65 hM) ?_
        refine ev_iconst (v := (nI 3)) dX6_isAsSeen_29 jc3 ?_
        refine ev_iload_n dX6_isAsSeen_30 rfl ?_
        refine ev_imul dX6_isAsSeen_31 ?_
        refine ev_iconst (v := (nI 2)) dX6_isAsSeen_32 jc2 ?_
        refine ev_iadd dX6_isAsSeen_33 ?_
        by_cases z4 : jok (((nI 3) * l2) + (nI 2)) 48
        rotate_left
        · rw [if_neg z4] at h; cases h
        rw [if_pos z4] at h
        refine ev_iaload dX6_isAsSeen_34 (hk1592 hM) (Or.inl (hl1592 hM)) (jok.ix z4 (hn1592 hM)) ?_
        refine ev_sipush (v := (nI 255)) dX6_isAsSeen_35 js255 ?_
        refine ev_icmp_ne 45 dX6_isAsSeen_38 rfl (fun z5 => ?_) (fun z5 => ?_)
        · rw [if_neg z5] at h
          refine ev_aload_n dX6_isAsSeen_45 rfl ?_
          refine ev_getR dX6_isAsSeen_46 fX6_148_6 (hk1547 hM) (Or.inl (hl1547 hM)) rfl (hr65 hM) ?_
          refine ev_iconst (v := (nI 3)) dX6_isAsSeen_49 jc3 ?_
          refine ev_iload_n dX6_isAsSeen_50 rfl ?_
          refine ev_imul dX6_isAsSeen_51 ?_
          refine ev_iconst (v := (nI 2)) dX6_isAsSeen_52 jc2 ?_
          refine ev_iadd dX6_isAsSeen_53 ?_
          by_cases z6 : jok (((nI 3) * l2) + (nI 2)) 48
          rotate_left
          · rw [if_neg z6] at h; cases h
          rw [if_pos z6] at h
          refine ev_iaload dX6_isAsSeen_54 (hk1592 hM) (Or.inl (hl1592 hM)) (jok.ix z6 (hn1592 hM)) ?_
          exact wX6_isAsSeen_55 hM n _ (ih) _ _ _ _ _ h hq
        · rw [if_pos z5] at h
          refine ev_iconst (v := (-1)) dX6_isAsSeen_41 jcm1 ?_
          refine ev_goto 55 dX6_isAsSeen_42 rfl ?_
          exact wX6_isAsSeen_55 hM n _ (ih) _ _ _ _ _ h hq
      · rw [if_neg z3] at h
        refine ev_goto 89 dX6_isAsSeen_22 rfl ?_
        exact wX6_isAsSeen_89 hM n _ (ih) _ _ _ _ h hq
def fX6_isAsSeen (n : Nat) (a0 : Int32) (ci : jI) (cj : jJ) : Option (Int32 × jI × jJ) := fX6_isAsSeen_2 n  n a0 (nI 0) ci cj
theorem metX6_isAsSeen {g : jG} {d : Nat} {K : jK} {cr : jR} {c sl : Nat} {Qr : jQ} {Qx : jX} (hM : jMW K cr) (n : Nat) (a0 : Int32) (ci : jI) (cj : jJ) {q} (h : fX6_isAsSeen n a0 ci cj = some q) (hq : Qr (some (.int q.1)) K q.2.1 q.2.2 cr) : EvM g (d + 1) mX6_isAsSeen [.ref 1547, .int a0] K ci cj cr c sl Qr Qx := by
  unfold fX6_isAsSeen at h
  show Ev g (d + 1) mX6_isAsSeen 0 [.ref 1547, .int a0, jU, jU] [] K ci cj cr c sl Qr Qx
  refine ev_iconst (v := (nI 0)) dX6_isAsSeen_0 jc0 ?_
  refine ev_istore_n (L' := [_, _, _, _]) dX6_isAsSeen_1 (by decide) rfl ?_
  exact wX6_isAsSeen_2 hM n   n _ _ _ _ h hq
def fX6_trueSet_127 (n : Nat) (rec8 : Int32 → Int32 → Int32 → jI → jJ → Option (Int32 × jI × jJ)) (l1 : Int32) (l2 : Int32) (l3 : Int32) (ci : jI) (cj : jJ) : Option (Int32 × jI × jJ) := rec8 l1 l2 (l3 + (nI 1)) ci cj
theorem wX6_trueSet_127 {g : jG} {d : Nat} {K : jK} {cr : jR} {c sl : Nat} {Qr : jQ} {Qx : jX} (hM : jMW K cr) (n : Nat) (rec8 : Int32 → Int32 → Int32 → jI → jJ → Option (Int32 × jI × jJ)) (hrec8 : (∀ (l1 : Int32) (l2 : Int32) (l3 : Int32) (ci : jI) (cj : jJ) {q}, rec8 l1 l2 l3 ci cj = some q → Qr (some (.int q.1)) K q.2.1 q.2.2 cr → Ev g (d + 8) mX6_trueSet 8 [.ref 1547, .int l1, .int l2, .int l3, jU, jU, jU] [] K ci cj cr c sl Qr Qx)) (l1 : Int32) (l2 : Int32) (l3 : Int32) (ci : jI) (cj : jJ) {q} (h : fX6_trueSet_127 n rec8 l1 l2 l3 ci cj = some q) (hq : Qr (some (.int q.1)) K q.2.1 q.2.2 cr) : Ev g (d + 8) mX6_trueSet 127 [.ref 1547, .int l1, .int l2, .int l3, jU, jU, jU] [] K ci cj cr c sl Qr Qx := by
  unfold fX6_trueSet_127 at h
  refine ev_iinc (v := (l3 + (nI 1))) (L' := [_, _, _, _, _, _, _]) dX6_trueSet_127 rfl (by rw [ji_1]) (by decide) rfl ?_
  refine ev_goto 8 dX6_trueSet_130 rfl ?_
  exact hrec8 _ _ _ _ _ h hq
def fX6_trueSet_67 (n : Nat) (rec8 : Int32 → Int32 → Int32 → jI → jJ → Option (Int32 × jI × jJ)) (rec32 : Int32 → Int32 → Int32 → Int32 → Int32 → jI → jJ → Option (Int32 × jI × jJ)) : Nat → Int32 → Int32 → Int32 → Int32 → Int32 → Int32 → jI → jJ → Option (Int32 × jI × jJ)
  | 0, _, _, _, _, _, _, _, _ => none
  | k + 1, l1, l2, l3, l4, l5, l6, ci, cj => Option.bind (fX6_shoalMany n  ci cj) (fun q1 => if q1.1 ≤ l6 then rec32 l1 l2 l3 l4 (l5 + (nI 1)) q1.2.1 q1.2.2 else if jok l6 3 then if jok ((((nI 93) * l3) + ((nI 3) * l5)) + l6) 930 then fX6_trueSet_67 n rec8 rec32 k l1 l2 l3 l4 l5 (l6 + (nI 1)) (ju q1.2.1 1593 (((((nI 93) * l3) + ((nI 3) * l5)) + l6)).toNatClampNeg (q1.2.1 1589 (l6).toNatClampNeg)) q1.2.2 else none else none)
theorem wX6_trueSet_67 {g : jG} {d : Nat} {K : jK} {cr : jR} {c sl : Nat} {Qr : jQ} {Qx : jX} (hM : jMW K cr) (n : Nat) (rec8 : Int32 → Int32 → Int32 → jI → jJ → Option (Int32 × jI × jJ)) (rec32 : Int32 → Int32 → Int32 → Int32 → Int32 → jI → jJ → Option (Int32 × jI × jJ)) (hrec8 : (∀ (l1 : Int32) (l2 : Int32) (l3 : Int32) (ci : jI) (cj : jJ) {q}, rec8 l1 l2 l3 ci cj = some q → Qr (some (.int q.1)) K q.2.1 q.2.2 cr → Ev g (d + 8) mX6_trueSet 8 [.ref 1547, .int l1, .int l2, .int l3, jU, jU, jU] [] K ci cj cr c sl Qr Qx)) (hrec32 : (∀ (l1 : Int32) (l2 : Int32) (l3 : Int32) (l4 : Int32) (l5 : Int32) (ci : jI) (cj : jJ) {q}, rec32 l1 l2 l3 l4 l5 ci cj = some q → Qr (some (.int q.1)) K q.2.1 q.2.2 cr → Ev g (d + 8) mX6_trueSet 32 [.ref 1547, .int l1, .int l2, .int l3, .int l4, .int l5, jU] [] K ci cj cr c sl Qr Qx)) : ∀ (k : Nat) (l1 : Int32) (l2 : Int32) (l3 : Int32) (l4 : Int32) (l5 : Int32) (l6 : Int32) (ci : jI) (cj : jJ) {q}, fX6_trueSet_67 n rec8 rec32 k l1 l2 l3 l4 l5 l6 ci cj = some q → Qr (some (.int q.1)) K q.2.1 q.2.2 cr → Ev g (d + 8) mX6_trueSet 67 [.ref 1547, .int l1, .int l2, .int l3, .int l4, .int l5, .int l6] [] K ci cj cr c sl Qr Qx := by
  intro k
  induction k with
  | zero =>
    intro l1 l2 l3 l4 l5 l6 ci cj q h hq
    rw [fX6_trueSet_67.eq_1] at h; cases h
  | succ k ih =>
    intro l1 l2 l3 l4 l5 l6 ci cj q h hq
    rw [fX6_trueSet_67.eq_2] at h
    refine ev_iload dX6_trueSet_67 rfl ?_
    refine ev_aload_n dX6_trueSet_69 rfl ?_
    obtain ⟨q1, z2, h⟩ := Option.bind_eq_some_iff.mp h
    refine ev_zV0 dX6_trueSet_70 vX6_405_6 (hk1547 hM) (Or.inl (hl1547 hM)) (Nat.le_of_ble_eq_true rfl) (Nat.le_of_ble_eq_true rfl) rfl (metX6_shoalMany hM n  _ _ z2 ?_)
    show Ev g _ _ 73 _ [.int q1.1, .int l6] K q1.2.1 q1.2.2 cr c sl Qr Qx
    refine ev_icmp_ge 106 dX6_trueSet_73 rfl (fun z3 => ?_) (fun z3 => ?_)
    · rw [if_pos z3] at h
      refine ev_iinc (v := (l5 + (nI 1))) (L' := [_, _, _, _, _, _, _]) dX6_trueSet_106 rfl (by rw [ji_1]) (by decide) rfl ?_
      refine ev_goto 32 dX6_trueSet_109 rfl ?_
      exact ev_mask [true, true, true, true, true, true, false] (hrec32 _ _ _ _ _ _ _ h hq)
    · rw [if_neg z3] at h
      refine ev_aload_n dX6_trueSet_76 rfl ?_
      refine ev_getR dX6_trueSet_77 fX6_151_6 (hk1547 hM) (Or.inl (hl1547 hM)) rfl (hr66 hM) ?_
      refine ev_bipush (v := (nI 93)) dX6_trueSet_80 jb93 ?_
      refine ev_iload_n dX6_trueSet_82 rfl ?_
      refine ev_imul dX6_trueSet_83 ?_
      refine ev_iconst (v := (nI 3)) dX6_trueSet_84 jc3 ?_
      refine ev_iload dX6_trueSet_85 rfl ?_
      refine ev_imul dX6_trueSet_87 ?_
      refine ev_iadd dX6_trueSet_88 ?_
      refine ev_iload dX6_trueSet_89 rfl ?_
      refine ev_iadd dX6_trueSet_91 ?_
      refine ev_aload_n dX6_trueSet_92 rfl ?_
      refine ev_getR dX6_trueSet_93 fX6_139_6 (hk1547 hM) (Or.inl (hl1547 hM)) rfl (hr61 hM) ?_
      refine ev_iload dX6_trueSet_96 rfl ?_
      by_cases z4 : jok l6 3
      rotate_left
      · rw [if_neg z4] at h; cases h
      rw [if_pos z4] at h
      refine ev_iaload dX6_trueSet_98 (hk1589 hM) (Or.inl (hl1589 hM)) (jok.ix z4 (hn1589 hM)) ?_
      by_cases z5 : jok ((((nI 93) * l3) + ((nI 3) * l5)) + l6) 930
      rotate_left
      · rw [if_neg z5] at h; cases h
      rw [if_pos z5] at h
      refine ev_iastore dX6_trueSet_99 (hk1593 hM) (hl1593 hM) (jok.ix z5 (hn1593 hM)) ?_
      refine ev_iinc (v := (l6 + (nI 1))) (L' := [_, _, _, _, _, _, _]) dX6_trueSet_100 rfl (by rw [ji_1]) (by decide) rfl ?_
      refine ev_goto 67 dX6_trueSet_103 rfl ?_
      exact ih _ _ _ _ _ _ _ _ h hq
def fX6_trueSet_62 (n : Nat) (rec8 : Int32 → Int32 → Int32 → jI → jJ → Option (Int32 × jI × jJ)) (rec32 : Int32 → Int32 → Int32 → Int32 → Int32 → jI → jJ → Option (Int32 × jI × jJ)) (l1 : Int32) (l2 : Int32) (l3 : Int32) (l5 : Int32) (t0 : Int32) (ci : jI) (cj : jJ) : Option (Int32 × jI × jJ) := fX6_trueSet_67 n rec8 rec32 n l1 l2 l3 t0 l5 (nI 0) ci cj
theorem wX6_trueSet_62 {g : jG} {d : Nat} {K : jK} {cr : jR} {c sl : Nat} {Qr : jQ} {Qx : jX} (hM : jMW K cr) (n : Nat) (rec8 : Int32 → Int32 → Int32 → jI → jJ → Option (Int32 × jI × jJ)) (rec32 : Int32 → Int32 → Int32 → Int32 → Int32 → jI → jJ → Option (Int32 × jI × jJ)) (hrec8 : (∀ (l1 : Int32) (l2 : Int32) (l3 : Int32) (ci : jI) (cj : jJ) {q}, rec8 l1 l2 l3 ci cj = some q → Qr (some (.int q.1)) K q.2.1 q.2.2 cr → Ev g (d + 8) mX6_trueSet 8 [.ref 1547, .int l1, .int l2, .int l3, jU, jU, jU] [] K ci cj cr c sl Qr Qx)) (hrec32 : (∀ (l1 : Int32) (l2 : Int32) (l3 : Int32) (l4 : Int32) (l5 : Int32) (ci : jI) (cj : jJ) {q}, rec32 l1 l2 l3 l4 l5 ci cj = some q → Qr (some (.int q.1)) K q.2.1 q.2.2 cr → Ev g (d + 8) mX6_trueSet 32 [.ref 1547, .int l1, .int l2, .int l3, .int l4, .int l5, jU] [] K ci cj cr c sl Qr Qx)) (l1 : Int32) (l2 : Int32) (l3 : Int32) (l5 : Int32) (t0 : Int32) (ci : jI) (cj : jJ) {q} (h : fX6_trueSet_62 n rec8 rec32 l1 l2 l3 l5 t0 ci cj = some q) (hq : Qr (some (.int q.1)) K q.2.1 q.2.2 cr) : Ev g (d + 8) mX6_trueSet 62 [.ref 1547, .int l1, .int l2, .int l3, jU, .int l5, jU] [.int t0] K ci cj cr c sl Qr Qx := by
  unfold fX6_trueSet_62 at h
  refine ev_istore (L' := [_, _, _, _, _, _, _]) dX6_trueSet_62 (by decide) rfl ?_
  refine ev_iconst (v := (nI 0)) dX6_trueSet_64 jc0 ?_
  refine ev_istore (L' := [_, _, _, _, _, _, _]) dX6_trueSet_65 (by decide) rfl ?_
  exact wX6_trueSet_67 hM n _ _ (hrec8) (hrec32) n _ _ _ _ _ _ _ _ h hq
def fX6_trueSet_61 (n : Nat) (rec8 : Int32 → Int32 → Int32 → jI → jJ → Option (Int32 × jI × jJ)) (rec32 : Int32 → Int32 → Int32 → Int32 → Int32 → jI → jJ → Option (Int32 × jI × jJ)) (l1 : Int32) (l2 : Int32) (l3 : Int32) (l5 : Int32) (ci : jI) (cj : jJ) : Option (Int32 × jI × jJ) := fX6_trueSet_62 n rec8 rec32 l1 l2 l3 l5 (nI 0) ci cj
theorem wX6_trueSet_61 {g : jG} {d : Nat} {K : jK} {cr : jR} {c sl : Nat} {Qr : jQ} {Qx : jX} (hM : jMW K cr) (n : Nat) (rec8 : Int32 → Int32 → Int32 → jI → jJ → Option (Int32 × jI × jJ)) (rec32 : Int32 → Int32 → Int32 → Int32 → Int32 → jI → jJ → Option (Int32 × jI × jJ)) (hrec8 : (∀ (l1 : Int32) (l2 : Int32) (l3 : Int32) (ci : jI) (cj : jJ) {q}, rec8 l1 l2 l3 ci cj = some q → Qr (some (.int q.1)) K q.2.1 q.2.2 cr → Ev g (d + 8) mX6_trueSet 8 [.ref 1547, .int l1, .int l2, .int l3, jU, jU, jU] [] K ci cj cr c sl Qr Qx)) (hrec32 : (∀ (l1 : Int32) (l2 : Int32) (l3 : Int32) (l4 : Int32) (l5 : Int32) (ci : jI) (cj : jJ) {q}, rec32 l1 l2 l3 l4 l5 ci cj = some q → Qr (some (.int q.1)) K q.2.1 q.2.2 cr → Ev g (d + 8) mX6_trueSet 32 [.ref 1547, .int l1, .int l2, .int l3, .int l4, .int l5, jU] [] K ci cj cr c sl Qr Qx)) (l1 : Int32) (l2 : Int32) (l3 : Int32) (l5 : Int32) (ci : jI) (cj : jJ) {q} (h : fX6_trueSet_61 n rec8 rec32 l1 l2 l3 l5 ci cj = some q) (hq : Qr (some (.int q.1)) K q.2.1 q.2.2 cr) : Ev g (d + 8) mX6_trueSet 61 [.ref 1547, .int l1, .int l2, .int l3, jU, .int l5, jU] [] K ci cj cr c sl Qr Qx := by
  unfold fX6_trueSet_61 at h
  refine ev_iconst (v := (nI 0)) dX6_trueSet_61 jc0 ?_
  exact wX6_trueSet_62 hM n _ _ (hrec8) (hrec32) _ _ _ _ _ _ _ h hq
def fX6_trueSet_32 (n : Nat) (rec8 : Int32 → Int32 → Int32 → jI → jJ → Option (Int32 × jI × jJ)) : Nat → Int32 → Int32 → Int32 → Int32 → Int32 → jI → jJ → Option (Int32 × jI × jJ)
  | 0, _, _, _, _, _, _, _ => none
  | k + 1, l1, l2, l3, l4, l5, ci, cj => if (nI 30) < l5 then Option.bind (fX6_triesAnew n  ci cj) (fun q2 => if l4 = 0 then fX6_trueSet_127 n rec8 l1 l2 l3 q2.1 q2.2 else fX6_trueSet_127 n rec8 l1 (l2 ||| ((nI 1) <<< (l3 &&& 31))) l3 q2.1 q2.2) else Option.bind (fX6_yearGoes n  ci cj) (fun q5 => if l4 = 0 then fX6_trueSet_61 n rec8 (fX6_trueSet_32 n rec8 k) l1 l2 l3 l5 q5.1 q5.2 else Option.bind (fX6_isAsSeen n l5 q5.1 q5.2) (fun q8 => if q8.1 = 0 then fX6_trueSet_61 n rec8 (fX6_trueSet_32 n rec8 k) l1 l2 l3 l5 q8.2.1 q8.2.2 else fX6_trueSet_62 n rec8 (fX6_trueSet_32 n rec8 k) l1 l2 l3 l5 (nI 1) q8.2.1 q8.2.2))
theorem wX6_trueSet_32 {g : jG} {d : Nat} {K : jK} {cr : jR} {c sl : Nat} {Qr : jQ} {Qx : jX} (hM : jMW K cr) (n : Nat) (rec8 : Int32 → Int32 → Int32 → jI → jJ → Option (Int32 × jI × jJ)) (hrec8 : (∀ (l1 : Int32) (l2 : Int32) (l3 : Int32) (ci : jI) (cj : jJ) {q}, rec8 l1 l2 l3 ci cj = some q → Qr (some (.int q.1)) K q.2.1 q.2.2 cr → Ev g (d + 8) mX6_trueSet 8 [.ref 1547, .int l1, .int l2, .int l3, jU, jU, jU] [] K ci cj cr c sl Qr Qx)) : ∀ (k : Nat) (l1 : Int32) (l2 : Int32) (l3 : Int32) (l4 : Int32) (l5 : Int32) (ci : jI) (cj : jJ) {q}, fX6_trueSet_32 n rec8 k l1 l2 l3 l4 l5 ci cj = some q → Qr (some (.int q.1)) K q.2.1 q.2.2 cr → Ev g (d + 8) mX6_trueSet 32 [.ref 1547, .int l1, .int l2, .int l3, .int l4, .int l5, jU] [] K ci cj cr c sl Qr Qx := by
  intro k
  induction k with
  | zero =>
    intro l1 l2 l3 l4 l5 ci cj q h hq
    rw [fX6_trueSet_32.eq_1] at h; cases h
  | succ k ih =>
    intro l1 l2 l3 l4 l5 ci cj q h hq
    rw [fX6_trueSet_32.eq_2] at h
    refine ev_iload dX6_trueSet_32 rfl ?_
    refine ev_bipush (v := (nI 30)) dX6_trueSet_34 jb30 ?_
    refine ev_icmp_gt 112 dX6_trueSet_36 rfl (fun z1 => ?_) (fun z1 => ?_)
    · rw [if_pos z1] at h
      refine ev_aload_n dX6_trueSet_112 rfl ?_
      obtain ⟨q2, z3, h⟩ := Option.bind_eq_some_iff.mp h
      refine ev_zV0 dX6_trueSet_113 vX6_500_6 (hk1547 hM) (Or.inl (hl1547 hM)) (Nat.le_of_ble_eq_true rfl) (Nat.le_of_ble_eq_true rfl) rfl (metX6_triesAnew hM n  _ _ z3 ?_)
      show Ev g _ _ 116 _ [] K q2.1 q2.2 cr c sl Qr Qx
      refine ev_iload dX6_trueSet_116 rfl ?_
      refine ev_if_eq 127 dX6_trueSet_118 rfl (fun z4 => ?_) (fun z4 => ?_)
      · rw [if_pos z4] at h
        exact ev_mask [true, true, true, true, false, false, false] (wX6_trueSet_127 hM n _ (hrec8) _ _ _ _ _ h hq)
      · rw [if_neg z4] at h
        refine ev_iload_n dX6_trueSet_121 rfl ?_
        refine ev_iconst (v := (nI 1)) dX6_trueSet_122 jc1 ?_
        refine ev_iload_n dX6_trueSet_123 rfl ?_
        refine ev_ishl dX6_trueSet_124 ?_
        refine ev_ior dX6_trueSet_125 ?_
        refine ev_istore_n (L' := [_, _, _, _, _, _, _]) dX6_trueSet_126 (by decide) rfl ?_
        exact ev_mask [true, true, true, true, false, false, false] (wX6_trueSet_127 hM n _ (hrec8) _ _ _ _ _ h hq)
    · rw [if_neg z1] at h
      refine ev_aload_n dX6_trueSet_39 rfl ?_
      obtain ⟨q5, z6, h⟩ := Option.bind_eq_some_iff.mp h
      refine ev_zV0 dX6_trueSet_40 vX6_497_6 (hk1547 hM) (Or.inl (hl1547 hM)) (Nat.le_of_ble_eq_true rfl) (Nat.le_of_ble_eq_true rfl) rfl (metX6_yearGoes hM n  _ _ z6 ?_)
      show Ev g _ _ 43 _ [] K q5.1 q5.2 cr c sl Qr Qx
      refine ev_iload dX6_trueSet_43 rfl ?_
      refine ev_if_eq 61 dX6_trueSet_45 rfl (fun z7 => ?_) (fun z7 => ?_)
      · rw [if_pos z7] at h
        exact ev_mask [true, true, true, true, false, true, false] (wX6_trueSet_61 hM n _ _ (hrec8) (ih) _ _ _ _ _ _ h hq)
      · rw [if_neg z7] at h
        refine ev_aload_n dX6_trueSet_48 rfl ?_
        refine ev_iload dX6_trueSet_49 rfl ?_
        obtain ⟨q8, z9, h⟩ := Option.bind_eq_some_iff.mp h
        refine ev_zV1 dX6_trueSet_51 vX6_558_6 (hk1547 hM) (Or.inl (hl1547 hM)) (Nat.le_of_ble_eq_true rfl) (Nat.le_of_ble_eq_true rfl) rfl (metX6_isAsSeen hM n _ _ _ z9 ?_)
        show Ev g _ _ 54 _ [.int q8.1] K q8.2.1 q8.2.2 cr c sl Qr Qx
        refine ev_if_eq 61 dX6_trueSet_54 rfl (fun z10 => ?_) (fun z10 => ?_)
        · rw [if_pos z10] at h
          exact ev_mask [true, true, true, true, false, true, false] (wX6_trueSet_61 hM n _ _ (hrec8) (ih) _ _ _ _ _ _ h hq)
        · rw [if_neg z10] at h
          refine ev_iconst (v := (nI 1)) dX6_trueSet_57 jc1 ?_
          refine ev_goto 62 dX6_trueSet_58 rfl ?_
          exact ev_mask [true, true, true, true, false, true, false] (wX6_trueSet_62 hM n _ _ (hrec8) (ih) _ _ _ _ _ _ _ h hq)
def fX6_trueSet_8 (n : Nat) : Nat → Int32 → Int32 → Int32 → jI → jJ → Option (Int32 × jI × jJ)
  | 0, _, _, _, _, _ => none
  | k + 1, l1, l2, l3, ci, cj => if (nI 9) < l3 then Option.bind (fX6_takesBack n  ci cj) (fun q2 => some (l2, q2.1, q2.2)) else if jok ((nI 25) + ((nI 2) * l1)) 166 then fX6_trueSet_32 n (fX6_trueSet_8 n  k) n l1 l2 l3 (nI 1) (nI 0) (ju ci 1585 (((nI 25) + ((nI 2) * l1))).toNatClampNeg l3) cj else none
theorem wX6_trueSet_8 {g : jG} {d : Nat} {K : jK} {cr : jR} {c sl : Nat} {Qr : jQ} {Qx : jX} (hM : jMW K cr) (n : Nat) : ∀ (k : Nat) (l1 : Int32) (l2 : Int32) (l3 : Int32) (ci : jI) (cj : jJ) {q}, fX6_trueSet_8 n  k l1 l2 l3 ci cj = some q → Qr (some (.int q.1)) K q.2.1 q.2.2 cr → Ev g (d + 8) mX6_trueSet 8 [.ref 1547, .int l1, .int l2, .int l3, jU, jU, jU] [] K ci cj cr c sl Qr Qx := by
  intro k
  induction k with
  | zero =>
    intro l1 l2 l3 ci cj q h hq
    rw [fX6_trueSet_8.eq_1] at h; cases h
  | succ k ih =>
    intro l1 l2 l3 ci cj q h hq
    rw [fX6_trueSet_8.eq_2] at h
    refine ev_iload_n dX6_trueSet_8 rfl ?_
    refine ev_bipush (v := (nI 9)) dX6_trueSet_9 jb9 ?_
    refine ev_icmp_gt 133 dX6_trueSet_11 rfl (fun z1 => ?_) (fun z1 => ?_)
    · rw [if_pos z1] at h
      refine ev_aload_n dX6_trueSet_133 rfl ?_
      obtain ⟨q2, z3, h⟩ := Option.bind_eq_some_iff.mp h
      refine ev_zV0 dX6_trueSet_134 vX6_540_6 (hk1547 hM) (Or.inl (hl1547 hM)) (Nat.le_of_ble_eq_true rfl) (Nat.le_of_ble_eq_true rfl) rfl (metX6_takesBack hM n  _ _ z3 ?_)
      show Ev g _ _ 137 _ [] K q2.1 q2.2 cr c sl Qr Qx
      refine ev_iload_n dX6_trueSet_137 rfl ?_
      cases h
      exact ev_iret dX6_trueSet_138 rfl rfl hq
    · rw [if_neg z1] at h
      refine ev_aload_n dX6_trueSet_14 rfl ?_
      refine ev_getR dX6_trueSet_15 fX6_127_6 (hk1547 hM) (Or.inl (hl1547 hM)) rfl (hr50 hM) ?_
      refine ev_bipush (v := (nI 25)) dX6_trueSet_18 jb25 ?_
      refine ev_iconst (v := (nI 2)) dX6_trueSet_20 jc2 ?_
      refine ev_iload_n dX6_trueSet_21 rfl ?_
      refine ev_imul dX6_trueSet_22 ?_
      refine ev_iadd dX6_trueSet_23 ?_
      refine ev_iload_n dX6_trueSet_24 rfl ?_
      by_cases z4 : jok ((nI 25) + ((nI 2) * l1)) 166
      rotate_left
      · rw [if_neg z4] at h; cases h
      rw [if_pos z4] at h
      refine ev_iastore dX6_trueSet_25 (hk1585 hM) (hl1585 hM) (jok.ix z4 (hn1585 hM)) ?_
      refine ev_iconst (v := (nI 1)) dX6_trueSet_26 jc1 ?_
      refine ev_istore (L' := [_, _, _, _, _, _, _]) dX6_trueSet_27 (by decide) rfl ?_
      refine ev_iconst (v := (nI 0)) dX6_trueSet_29 jc0 ?_
      refine ev_istore (L' := [_, _, _, _, _, _, _]) dX6_trueSet_30 (by decide) rfl ?_
      exact wX6_trueSet_32 hM n _ (ih) n _ _ _ _ _ _ _ h hq
def fX6_trueSet (n : Nat) (a0 : Int32) (ci : jI) (cj : jJ) : Option (Int32 × jI × jJ) := Option.bind (fX6_putsAside n  ci cj) (fun q1 => fX6_trueSet_8 n  n a0 (nI 0) (nI 0) q1.1 q1.2)
theorem metX6_trueSet {g : jG} {d : Nat} {K : jK} {cr : jR} {c sl : Nat} {Qr : jQ} {Qx : jX} (hM : jMW K cr) (n : Nat) (a0 : Int32) (ci : jI) (cj : jJ) {q} (h : fX6_trueSet n a0 ci cj = some q) (hq : Qr (some (.int q.1)) K q.2.1 q.2.2 cr) : EvM g (d + 8) mX6_trueSet [.ref 1547, .int a0] K ci cj cr c sl Qr Qx := by
  unfold fX6_trueSet at h
  show Ev g (d + 8) mX6_trueSet 0 [.ref 1547, .int a0, jU, jU, jU, jU, jU] [] K ci cj cr c sl Qr Qx
  refine ev_iconst (v := (nI 0)) dX6_trueSet_0 jc0 ?_
  refine ev_istore_n (L' := [_, _, _, _, _, _, _]) dX6_trueSet_1 (by decide) rfl ?_
  refine ev_aload_n dX6_trueSet_2 rfl ?_
  obtain ⟨q1, z2, h⟩ := Option.bind_eq_some_iff.mp h
  refine ev_zV0 dX6_trueSet_3 vX6_534_6 (hk1547 hM) (Or.inl (hl1547 hM)) (Nat.le_of_ble_eq_true rfl) (Nat.le_of_ble_eq_true rfl) rfl (metX6_putsAside hM n  _ _ z2 ?_)
  show Ev g _ _ 6 _ [] K q1.1 q1.2 cr c sl Qr Qx
  refine ev_iconst (v := (nI 0)) dX6_trueSet_6 jc0 ?_
  refine ev_istore_n (L' := [_, _, _, _, _, _, _]) dX6_trueSet_7 (by decide) rfl ?_
  exact wX6_trueSet_8 hM n   n _ _ _ _ _ h hq
def fX6_trues_17 (n : Nat) (t0 : Int32) (ci : jI) (cj : jJ) : Option (Int32 × jI × jJ) := some (t0, ci, cj)
theorem wX6_trues_17 {g : jG} {d : Nat} {K : jK} {cr : jR} {c sl : Nat} {Qr : jQ} {Qx : jX} (hM : jMW K cr) (n : Nat) (t0 : Int32) (ci : jI) (cj : jJ) {q} (h : fX6_trues_17 n  t0 ci cj = some q) (hq : Qr (some (.int q.1)) K q.2.1 q.2.2 cr) : Ev g (d + 9) mX6_trues 17 [jU, jU] [.int t0] K ci cj cr c sl Qr Qx := by
  unfold fX6_trues_17 at h
  cases h
  exact ev_iret dX6_trues_17 rfl rfl hq
def fX6_trues (n : Nat) (a0 : Int32) (ci : jI) (cj : jJ) : Option (Int32 × jI × jJ) := Option.bind (fX6_isPair n a0 ci cj) (fun q1 => if q1.1 = 0 then fX6_trues_17 n  (-1) q1.2.1 q1.2.2 else Option.bind (fX6_trueSet n a0 q1.2.1 q1.2.2) (fun q4 => fX6_trues_17 n  q4.1 q4.2.1 q4.2.2))
theorem metX6_trues {g : jG} {d : Nat} {K : jK} {cr : jR} {c sl : Nat} {Qr : jQ} {Qx : jX} (hM : jMW K cr) (n : Nat) (a0 : Int32) (ci : jI) (cj : jJ) {q} (h : fX6_trues n a0 ci cj = some q) (hq : Qr (some (.int q.1)) K q.2.1 q.2.2 cr) : EvM g (d + 9) mX6_trues [.ref 1547, .int a0] K ci cj cr c sl Qr Qx := by
  unfold fX6_trues at h
  show Ev g (d + 9) mX6_trues 0 [.ref 1547, .int a0] [] K ci cj cr c sl Qr Qx
  refine ev_aload_n dX6_trues_0 rfl ?_
  refine ev_iload_n dX6_trues_1 rfl ?_
  obtain ⟨q1, z2, h⟩ := Option.bind_eq_some_iff.mp h
  refine ev_zV1 dX6_trues_2 vX6_523_6 (hk1547 hM) (Or.inl (hl1547 hM)) (Nat.le_of_ble_eq_true rfl) (Nat.le_of_ble_eq_true rfl) rfl (metX6_isPair hM n _ _ _ z2 ?_)
  show Ev g _ _ 5 _ [.int q1.1] K q1.2.1 q1.2.2 cr c sl Qr Qx
  refine ev_if_eq 16 dX6_trues_5 rfl (fun z3 => ?_) (fun z3 => ?_)
  · rw [if_pos z3] at h
    refine ev_iconst (v := (-1)) dX6_trues_16 jcm1 ?_
    exact ev_mask [false, false] (wX6_trues_17 hM n   _ _ _ h hq)
  · rw [if_neg z3] at h
    refine ev_aload_n dX6_trues_8 rfl ?_
    refine ev_iload_n dX6_trues_9 rfl ?_
    obtain ⟨q4, z5, h⟩ := Option.bind_eq_some_iff.mp h
    refine ev_zV1 dX6_trues_10 vX6_561_6 (hk1547 hM) (Or.inl (hl1547 hM)) (Nat.le_of_ble_eq_true rfl) (Nat.le_of_ble_eq_true rfl) rfl (metX6_trueSet hM n _ _ _ z5 ?_)
    show Ev g _ _ 13 _ [.int q4.1] K q4.2.1 q4.2.2 cr c sl Qr Qx
    refine ev_goto 17 dX6_trues_13 rfl ?_
    exact ev_mask [false, false] (wX6_trues_17 hM n   _ _ _ h hq)
def fX6_mostAlike_92 (n : Nat) (rec5 : Int32 → Int32 → Int32 → Int32 → jI → jJ → Option (Int32 × jI × jJ)) (l1 : Int32) (l2 : Int32) (l3 : Int32) (l4 : Int32) (ci : jI) (cj : jJ) : Option (Int32 × jI × jJ) := rec5 l1 l2 l3 (l4 + (nI 1)) ci cj
theorem wX6_mostAlike_92 {g : jG} {d : Nat} {K : jK} {cr : jR} {c sl : Nat} {Qr : jQ} {Qx : jX} (hM : jMW K cr) (n : Nat) (rec5 : Int32 → Int32 → Int32 → Int32 → jI → jJ → Option (Int32 × jI × jJ)) (hrec5 : (∀ (l1 : Int32) (l2 : Int32) (l3 : Int32) (l4 : Int32) (ci : jI) (cj : jJ) {q}, rec5 l1 l2 l3 l4 ci cj = some q → Qr (some (.int q.1)) K q.2.1 q.2.2 cr → Ev g (d + 1) mX6_mostAlike 5 [.ref 1547, .int l1, .int l2, .int l3, .int l4, jU, jU] [] K ci cj cr c sl Qr Qx)) (l1 : Int32) (l2 : Int32) (l3 : Int32) (l4 : Int32) (ci : jI) (cj : jJ) {q} (h : fX6_mostAlike_92 n rec5 l1 l2 l3 l4 ci cj = some q) (hq : Qr (some (.int q.1)) K q.2.1 q.2.2 cr) : Ev g (d + 1) mX6_mostAlike 92 [.ref 1547, .int l1, .int l2, .int l3, .int l4, jU, jU] [] K ci cj cr c sl Qr Qx := by
  unfold fX6_mostAlike_92 at h
  refine ev_iinc (v := (l4 + (nI 1))) (L' := [_, _, _, _, _, _, _]) dX6_mostAlike_92 rfl (by rw [ji_1]) (by decide) rfl ?_
  refine ev_goto 5 dX6_mostAlike_95 rfl ?_
  exact hrec5 _ _ _ _ _ _ h hq
def fX6_mostAlike_77 (n : Nat) (rec5 : Int32 → Int32 → Int32 → Int32 → jI → jJ → Option (Int32 × jI × jJ)) (rec30 : Int32 → Int32 → Int32 → Int32 → Int32 → Int32 → jI → jJ → Option (Int32 × jI × jJ)) (l1 : Int32) (l2 : Int32) (l3 : Int32) (l4 : Int32) (l5 : Int32) (l6 : Int32) (ci : jI) (cj : jJ) : Option (Int32 × jI × jJ) := rec30 l1 l2 l3 l4 l5 (l6 + (nI 1)) ci cj
theorem wX6_mostAlike_77 {g : jG} {d : Nat} {K : jK} {cr : jR} {c sl : Nat} {Qr : jQ} {Qx : jX} (hM : jMW K cr) (n : Nat) (rec5 : Int32 → Int32 → Int32 → Int32 → jI → jJ → Option (Int32 × jI × jJ)) (rec30 : Int32 → Int32 → Int32 → Int32 → Int32 → Int32 → jI → jJ → Option (Int32 × jI × jJ)) (hrec5 : (∀ (l1 : Int32) (l2 : Int32) (l3 : Int32) (l4 : Int32) (ci : jI) (cj : jJ) {q}, rec5 l1 l2 l3 l4 ci cj = some q → Qr (some (.int q.1)) K q.2.1 q.2.2 cr → Ev g (d + 1) mX6_mostAlike 5 [.ref 1547, .int l1, .int l2, .int l3, .int l4, jU, jU] [] K ci cj cr c sl Qr Qx)) (hrec30 : (∀ (l1 : Int32) (l2 : Int32) (l3 : Int32) (l4 : Int32) (l5 : Int32) (l6 : Int32) (ci : jI) (cj : jJ) {q}, rec30 l1 l2 l3 l4 l5 l6 ci cj = some q → Qr (some (.int q.1)) K q.2.1 q.2.2 cr → Ev g (d + 1) mX6_mostAlike 30 [.ref 1547, .int l1, .int l2, .int l3, .int l4, .int l5, .int l6] [] K ci cj cr c sl Qr Qx)) (l1 : Int32) (l2 : Int32) (l3 : Int32) (l4 : Int32) (l5 : Int32) (l6 : Int32) (ci : jI) (cj : jJ) {q} (h : fX6_mostAlike_77 n rec5 rec30 l1 l2 l3 l4 l5 l6 ci cj = some q) (hq : Qr (some (.int q.1)) K q.2.1 q.2.2 cr) : Ev g (d + 1) mX6_mostAlike 77 [.ref 1547, .int l1, .int l2, .int l3, .int l4, .int l5, .int l6] [] K ci cj cr c sl Qr Qx := by
  unfold fX6_mostAlike_77 at h
  refine ev_iinc (v := (l6 + (nI 1))) (L' := [_, _, _, _, _, _, _]) dX6_mostAlike_77 rfl (by rw [ji_1]) (by decide) rfl ?_
  refine ev_goto 30 dX6_mostAlike_80 rfl ?_
  exact hrec30 _ _ _ _ _ _ _ _ h hq
def fX6_mostAlike_30 (n : Nat) (rec5 : Int32 → Int32 → Int32 → Int32 → jI → jJ → Option (Int32 × jI × jJ)) : Nat → Int32 → Int32 → Int32 → Int32 → Int32 → Int32 → jI → jJ → Option (Int32 × jI × jJ)
  | 0, _, _, _, _, _, _, _, _ => none
  | k + 1, l1, l2, l3, l4, l5, l6, ci, cj => if (nI 9) < l6 then if l5 ≤ l3 then fX6_mostAlike_92 n rec5 l1 l2 l3 l4 ci cj else fX6_mostAlike_92 n rec5 l1 l2 l5 l4 ci cj else if ((l1 >>> (l6 &&& 31)) &&& (nI 1)) = (nI 1) then if jok (((nI 93) * l4) + l2) 930 then if jok (((nI 93) * l6) + l2) 930 then if (ci 1593 ((((nI 93) * l4) + l2)).toNatClampNeg) = (ci 1593 ((((nI 93) * l6) + l2)).toNatClampNeg) then fX6_mostAlike_77 n rec5 (fX6_mostAlike_30 n rec5 k) l1 l2 l3 l4 (l5 + (nI 1)) l6 ci cj else fX6_mostAlike_77 n rec5 (fX6_mostAlike_30 n rec5 k) l1 l2 l3 l4 l5 l6 ci cj else none else none else fX6_mostAlike_77 n rec5 (fX6_mostAlike_30 n rec5 k) l1 l2 l3 l4 l5 l6 ci cj
theorem wX6_mostAlike_30 {g : jG} {d : Nat} {K : jK} {cr : jR} {c sl : Nat} {Qr : jQ} {Qx : jX} (hM : jMW K cr) (n : Nat) (rec5 : Int32 → Int32 → Int32 → Int32 → jI → jJ → Option (Int32 × jI × jJ)) (hrec5 : (∀ (l1 : Int32) (l2 : Int32) (l3 : Int32) (l4 : Int32) (ci : jI) (cj : jJ) {q}, rec5 l1 l2 l3 l4 ci cj = some q → Qr (some (.int q.1)) K q.2.1 q.2.2 cr → Ev g (d + 1) mX6_mostAlike 5 [.ref 1547, .int l1, .int l2, .int l3, .int l4, jU, jU] [] K ci cj cr c sl Qr Qx)) : ∀ (k : Nat) (l1 : Int32) (l2 : Int32) (l3 : Int32) (l4 : Int32) (l5 : Int32) (l6 : Int32) (ci : jI) (cj : jJ) {q}, fX6_mostAlike_30 n rec5 k l1 l2 l3 l4 l5 l6 ci cj = some q → Qr (some (.int q.1)) K q.2.1 q.2.2 cr → Ev g (d + 1) mX6_mostAlike 30 [.ref 1547, .int l1, .int l2, .int l3, .int l4, .int l5, .int l6] [] K ci cj cr c sl Qr Qx := by
  intro k
  induction k with
  | zero =>
    intro l1 l2 l3 l4 l5 l6 ci cj q h hq
    rw [fX6_mostAlike_30.eq_1] at h; cases h
  | succ k ih =>
    intro l1 l2 l3 l4 l5 l6 ci cj q h hq
    rw [fX6_mostAlike_30.eq_2] at h
    refine ev_iload dX6_mostAlike_30 rfl ?_
    refine ev_bipush (v := (nI 9)) dX6_mostAlike_32 jb9 ?_
    refine ev_icmp_gt 83 dX6_mostAlike_34 rfl (fun z1 => ?_) (fun z1 => ?_)
    · rw [if_pos z1] at h
      refine ev_iload dX6_mostAlike_83 rfl ?_
      refine ev_iload_n dX6_mostAlike_85 rfl ?_
      refine ev_icmp_le 92 dX6_mostAlike_86 rfl (fun z2 => ?_) (fun z2 => ?_)
      · rw [if_pos z2] at h
        exact ev_mask [true, true, true, true, true, false, false] (wX6_mostAlike_92 hM n _ (hrec5) _ _ _ _ _ _ h hq)
      · rw [if_neg z2] at h
        refine ev_iload dX6_mostAlike_89 rfl ?_
        refine ev_istore_n (L' := [_, _, _, _, _, _, _]) dX6_mostAlike_91 (by decide) rfl ?_
        exact ev_mask [true, true, true, true, true, false, false] (wX6_mostAlike_92 hM n _ (hrec5) _ _ _ _ _ _ h hq)
    · rw [if_neg z1] at h
      refine ev_iload_n dX6_mostAlike_37 rfl ?_
      refine ev_iload dX6_mostAlike_38 rfl ?_
      refine ev_ishr dX6_mostAlike_40 ?_
      refine ev_iconst (v := (nI 1)) dX6_mostAlike_41 jc1 ?_
      refine ev_iand dX6_mostAlike_42 ?_
      refine ev_iconst (v := (nI 1)) dX6_mostAlike_43 jc1 ?_
      refine ev_icmp_ne 77 dX6_mostAlike_44 rfl (fun z3 => ?_) (fun z3 => ?_)
      · rw [if_neg z3] at h
        exact wX6_mostAlike_77 hM n _ _ (hrec5) (ih) _ _ _ _ _ _ _ _ h hq
      · rw [if_pos z3] at h
        refine ev_aload_n dX6_mostAlike_47 rfl ?_
        refine ev_getR dX6_mostAlike_48 fX6_151_6 (hk1547 hM) (Or.inl (hl1547 hM)) rfl (hr66 hM) ?_
        refine ev_bipush (v := (nI 93)) dX6_mostAlike_51 jb93 ?_
        refine ev_iload dX6_mostAlike_53 rfl ?_
        refine ev_imul dX6_mostAlike_55 ?_
        refine ev_iload_n dX6_mostAlike_56 rfl ?_
        refine ev_iadd dX6_mostAlike_57 ?_
        by_cases z4 : jok (((nI 93) * l4) + l2) 930
        rotate_left
        · rw [if_neg z4] at h; cases h
        rw [if_pos z4] at h
        refine ev_iaload dX6_mostAlike_58 (hk1593 hM) (Or.inl (hl1593 hM)) (jok.ix z4 (hn1593 hM)) ?_
        refine ev_aload_n dX6_mostAlike_59 rfl ?_
        refine ev_getR dX6_mostAlike_60 fX6_151_6 (hk1547 hM) (Or.inl (hl1547 hM)) rfl (hr66 hM) ?_
        refine ev_bipush (v := (nI 93)) dX6_mostAlike_63 jb93 ?_
        refine ev_iload dX6_mostAlike_65 rfl ?_
        refine ev_imul dX6_mostAlike_67 ?_
        refine ev_iload_n dX6_mostAlike_68 rfl ?_
        refine ev_iadd dX6_mostAlike_69 ?_
        by_cases z5 : jok (((nI 93) * l6) + l2) 930
        rotate_left
        · rw [if_neg z5] at h; cases h
        rw [if_pos z5] at h
        refine ev_iaload dX6_mostAlike_70 (hk1593 hM) (Or.inl (hl1593 hM)) (jok.ix z5 (hn1593 hM)) ?_
        refine ev_icmp_ne 77 dX6_mostAlike_71 rfl (fun z6 => ?_) (fun z6 => ?_)
        · rw [if_neg z6] at h
          exact wX6_mostAlike_77 hM n _ _ (hrec5) (ih) _ _ _ _ _ _ _ _ h hq
        · rw [if_pos z6] at h
          refine ev_iinc (v := (l5 + (nI 1))) (L' := [_, _, _, _, _, _, _]) dX6_mostAlike_74 rfl (by rw [ji_1]) (by decide) rfl ?_
          exact wX6_mostAlike_77 hM n _ _ (hrec5) (ih) _ _ _ _ _ _ _ _ h hq
def fX6_mostAlike_5 (n : Nat) : Nat → Int32 → Int32 → Int32 → Int32 → jI → jJ → Option (Int32 × jI × jJ)
  | 0, _, _, _, _, _, _ => none
  | k + 1, l1, l2, l3, l4, ci, cj => if (nI 9) < l4 then some (l3, ci, cj) else if ((l1 >>> (l4 &&& 31)) &&& (nI 1)) = 0 then fX6_mostAlike_92 n (fX6_mostAlike_5 n  k) l1 l2 l3 l4 ci cj else fX6_mostAlike_30 n (fX6_mostAlike_5 n  k) n l1 l2 l3 l4 (nI 0) (nI 0) ci cj
theorem wX6_mostAlike_5 {g : jG} {d : Nat} {K : jK} {cr : jR} {c sl : Nat} {Qr : jQ} {Qx : jX} (hM : jMW K cr) (n : Nat) : ∀ (k : Nat) (l1 : Int32) (l2 : Int32) (l3 : Int32) (l4 : Int32) (ci : jI) (cj : jJ) {q}, fX6_mostAlike_5 n  k l1 l2 l3 l4 ci cj = some q → Qr (some (.int q.1)) K q.2.1 q.2.2 cr → Ev g (d + 1) mX6_mostAlike 5 [.ref 1547, .int l1, .int l2, .int l3, .int l4, jU, jU] [] K ci cj cr c sl Qr Qx := by
  intro k
  induction k with
  | zero =>
    intro l1 l2 l3 l4 ci cj q h hq
    rw [fX6_mostAlike_5.eq_1] at h; cases h
  | succ k ih =>
    intro l1 l2 l3 l4 ci cj q h hq
    rw [fX6_mostAlike_5.eq_2] at h
    refine ev_iload dX6_mostAlike_5 rfl ?_
    refine ev_bipush (v := (nI 9)) dX6_mostAlike_7 jb9 ?_
    refine ev_icmp_gt 98 dX6_mostAlike_9 rfl (fun z1 => ?_) (fun z1 => ?_)
    · rw [if_pos z1] at h
      refine ev_iload_n dX6_mostAlike_98 rfl ?_
      cases h
      exact ev_iret dX6_mostAlike_99 rfl rfl hq
    · rw [if_neg z1] at h
      refine ev_iload_n dX6_mostAlike_12 rfl ?_
      refine ev_iload dX6_mostAlike_13 rfl ?_
      refine ev_ishr dX6_mostAlike_15 ?_
      refine ev_iconst (v := (nI 1)) dX6_mostAlike_16 jc1 ?_
      refine ev_iand dX6_mostAlike_17 ?_
      refine ev_if_ne 24 dX6_mostAlike_18 rfl (fun z2 => ?_) (fun z2 => ?_)
      · rw [if_neg z2] at h
        refine ev_iconst (v := (nI 0)) dX6_mostAlike_24 jc0 ?_
        refine ev_istore (L' := [_, _, _, _, _, _, _]) dX6_mostAlike_25 (by decide) rfl ?_
        refine ev_iconst (v := (nI 0)) dX6_mostAlike_27 jc0 ?_
        refine ev_istore (L' := [_, _, _, _, _, _, _]) dX6_mostAlike_28 (by decide) rfl ?_
        exact wX6_mostAlike_30 hM n _ (ih) n _ _ _ _ _ _ _ _ h hq
      · rw [if_pos z2] at h
        refine ev_goto 92 dX6_mostAlike_21 rfl ?_
        exact wX6_mostAlike_92 hM n _ (ih) _ _ _ _ _ _ h hq
def fX6_mostAlike (n : Nat) (a0 : Int32) (a1 : Int32) (ci : jI) (cj : jJ) : Option (Int32 × jI × jJ) := fX6_mostAlike_5 n  n a0 a1 (nI 0) (nI 0) ci cj
theorem metX6_mostAlike {g : jG} {d : Nat} {K : jK} {cr : jR} {c sl : Nat} {Qr : jQ} {Qx : jX} (hM : jMW K cr) (n : Nat) (a0 : Int32) (a1 : Int32) (ci : jI) (cj : jJ) {q} (h : fX6_mostAlike n a0 a1 ci cj = some q) (hq : Qr (some (.int q.1)) K q.2.1 q.2.2 cr) : EvM g (d + 1) mX6_mostAlike [.ref 1547, .int a0, .int a1] K ci cj cr c sl Qr Qx := by
  unfold fX6_mostAlike at h
  show Ev g (d + 1) mX6_mostAlike 0 [.ref 1547, .int a0, .int a1, jU, jU, jU, jU] [] K ci cj cr c sl Qr Qx
  refine ev_iconst (v := (nI 0)) dX6_mostAlike_0 jc0 ?_
  refine ev_istore_n (L' := [_, _, _, _, _, _, _]) dX6_mostAlike_1 (by decide) rfl ?_
  refine ev_iconst (v := (nI 0)) dX6_mostAlike_2 jc0 ?_
  refine ev_istore (L' := [_, _, _, _, _, _, _]) dX6_mostAlike_3 (by decide) rfl ?_
  exact wX6_mostAlike_5 hM n   n _ _ _ _ _ _ h hq
def fX6_tells_20 (n : Nat) (ci : jI) (cj : jJ) : Option (Int32 × jI × jJ) := some ((-1), ci, cj)
theorem wX6_tells_20 {g : jG} {d : Nat} {K : jK} {cr : jR} {c sl : Nat} {Qr : jQ} {Qx : jX} (hM : jMW K cr) (n : Nat) (ci : jI) (cj : jJ) {q} (h : fX6_tells_20 n   ci cj = some q) (hq : Qr (some (.int q.1)) K q.2.1 q.2.2 cr) : Ev g (d + 9) mX6_tells 20 [jU, jU, jU, jU, jU, jU, jU, jU, jU, jU] [] K ci cj cr c sl Qr Qx := by
  unfold fX6_tells_20 at h
  refine ev_iconst (v := (-1)) dX6_tells_20 jcm1 ?_
  cases h
  exact ev_iret dX6_tells_21 rfl rfl hq
def fX6_tells_163 (n : Nat) (t0 : Int32) (ci : jI) (cj : jJ) : Option (Int32 × jI × jJ) := some (t0, ci, cj)
theorem wX6_tells_163 {g : jG} {d : Nat} {K : jK} {cr : jR} {c sl : Nat} {Qr : jQ} {Qx : jX} (hM : jMW K cr) (n : Nat) (t0 : Int32) (ci : jI) (cj : jJ) {q} (h : fX6_tells_163 n  t0 ci cj = some q) (hq : Qr (some (.int q.1)) K q.2.1 q.2.2 cr) : Ev g (d + 9) mX6_tells 163 [jU, jU, jU, jU, jU, jU, jU, jU, jU, jU] [.int t0] K ci cj cr c sl Qr Qx := by
  unfold fX6_tells_163 at h
  cases h
  exact ev_iret dX6_tells_163 rfl rfl hq
def fX6_tells_132 (n : Nat) (l2 : Int32) (l4 : Int32) (l5 : Int32) (l6 : Int32) (ci : jI) (cj : jJ) : Option (Int32 × jI × jJ) := if l4 = (-1) then fX6_tells_163 n  (-1) ci cj else if l2 = 0 then fX6_tells_163 n  l4 ci cj else if l2 = (nI 1) then fX6_tells_163 n  l5 ci cj else fX6_tells_163 n  l6 ci cj
theorem wX6_tells_132 {g : jG} {d : Nat} {K : jK} {cr : jR} {c sl : Nat} {Qr : jQ} {Qx : jX} (hM : jMW K cr) (n : Nat) (l2 : Int32) (l4 : Int32) (l5 : Int32) (l6 : Int32) (ci : jI) (cj : jJ) {q} (h : fX6_tells_132 n  l2 l4 l5 l6 ci cj = some q) (hq : Qr (some (.int q.1)) K q.2.1 q.2.2 cr) : Ev g (d + 9) mX6_tells 132 [jU, jU, .int l2, jU, .int l4, .int l5, .int l6, jU, jU, jU] [] K ci cj cr c sl Qr Qx := by
  unfold fX6_tells_132 at h
  refine ev_iload dX6_tells_132 rfl ?_
  refine ev_iconst (v := (-1)) dX6_tells_134 jcm1 ?_
  refine ev_icmp_ne 142 dX6_tells_135 rfl (fun z1 => ?_) (fun z1 => ?_)
  · rw [if_neg z1] at h
    refine ev_iload_n dX6_tells_142 rfl ?_
    refine ev_if_ne 151 dX6_tells_143 rfl (fun z2 => ?_) (fun z2 => ?_)
    · rw [if_neg z2] at h
      refine ev_iload_n dX6_tells_151 rfl ?_
      refine ev_iconst (v := (nI 1)) dX6_tells_152 jc1 ?_
      refine ev_icmp_ne 161 dX6_tells_153 rfl (fun z3 => ?_) (fun z3 => ?_)
      · rw [if_neg z3] at h
        refine ev_iload dX6_tells_161 rfl ?_
        exact ev_mask [false, false, false, false, false, false, false, false, false, false] (wX6_tells_163 hM n   _ _ _ h hq)
      · rw [if_pos z3] at h
        refine ev_iload dX6_tells_156 rfl ?_
        refine ev_goto 163 dX6_tells_158 rfl ?_
        exact ev_mask [false, false, false, false, false, false, false, false, false, false] (wX6_tells_163 hM n   _ _ _ h hq)
    · rw [if_pos z2] at h
      refine ev_iload dX6_tells_146 rfl ?_
      refine ev_goto 163 dX6_tells_148 rfl ?_
      exact ev_mask [false, false, false, false, false, false, false, false, false, false] (wX6_tells_163 hM n   _ _ _ h hq)
  · rw [if_pos z1] at h
    refine ev_iconst (v := (-1)) dX6_tells_138 jcm1 ?_
    refine ev_goto 163 dX6_tells_139 rfl ?_
    exact ev_mask [false, false, false, false, false, false, false, false, false, false] (wX6_tells_163 hM n   _ _ _ h hq)
def fX6_tells_120 (n : Nat) (rec40 : Int32 → Int32 → Int32 → Int32 → Int32 → Int32 → jI → jJ → Option (Int32 × jI × jJ)) (rec69 : Int32 → Int32 → Int32 → Int32 → Int32 → Int32 → Int32 → jI → jJ → Option (Int32 × jI × jJ)) (l2 : Int32) (l3 : Int32) (l4 : Int32) (l5 : Int32) (l6 : Int32) (l7 : Int32) (l8 : Int32) (ci : jI) (cj : jJ) : Option (Int32 × jI × jJ) := rec69 l2 l3 l4 l5 l6 l7 (l8 + (nI 1)) ci cj
theorem wX6_tells_120 {g : jG} {d : Nat} {K : jK} {cr : jR} {c sl : Nat} {Qr : jQ} {Qx : jX} (hM : jMW K cr) (n : Nat) (rec40 : Int32 → Int32 → Int32 → Int32 → Int32 → Int32 → jI → jJ → Option (Int32 × jI × jJ)) (rec69 : Int32 → Int32 → Int32 → Int32 → Int32 → Int32 → Int32 → jI → jJ → Option (Int32 × jI × jJ)) (hrec40 : (∀ (l2 : Int32) (l3 : Int32) (l4 : Int32) (l5 : Int32) (l6 : Int32) (l7 : Int32) (ci : jI) (cj : jJ) {q}, rec40 l2 l3 l4 l5 l6 l7 ci cj = some q → Qr (some (.int q.1)) K q.2.1 q.2.2 cr → Ev g (d + 9) mX6_tells 40 [.ref 1547, jU, .int l2, .int l3, .int l4, .int l5, .int l6, .int l7, jU, jU] [] K ci cj cr c sl Qr Qx)) (hrec69 : (∀ (l2 : Int32) (l3 : Int32) (l4 : Int32) (l5 : Int32) (l6 : Int32) (l7 : Int32) (l8 : Int32) (ci : jI) (cj : jJ) {q}, rec69 l2 l3 l4 l5 l6 l7 l8 ci cj = some q → Qr (some (.int q.1)) K q.2.1 q.2.2 cr → Ev g (d + 9) mX6_tells 69 [.ref 1547, jU, .int l2, .int l3, .int l4, .int l5, .int l6, .int l7, .int l8, jU] [] K ci cj cr c sl Qr Qx)) (l2 : Int32) (l3 : Int32) (l4 : Int32) (l5 : Int32) (l6 : Int32) (l7 : Int32) (l8 : Int32) (ci : jI) (cj : jJ) {q} (h : fX6_tells_120 n rec40 rec69 l2 l3 l4 l5 l6 l7 l8 ci cj = some q) (hq : Qr (some (.int q.1)) K q.2.1 q.2.2 cr) : Ev g (d + 9) mX6_tells 120 [.ref 1547, jU, .int l2, .int l3, .int l4, .int l5, .int l6, .int l7, .int l8, jU] [] K ci cj cr c sl Qr Qx := by
  unfold fX6_tells_120 at h
  refine ev_iinc (v := (l8 + (nI 1))) (L' := [_, _, _, _, _, _, _, _, _, _]) dX6_tells_120 rfl (by rw [ji_1]) (by decide) rfl ?_
  refine ev_goto 69 dX6_tells_123 rfl ?_
  exact hrec69 _ _ _ _ _ _ _ _ _ h hq
def fX6_tells_108 (n : Nat) (rec40 : Int32 → Int32 → Int32 → Int32 → Int32 → Int32 → jI → jJ → Option (Int32 × jI × jJ)) (rec69 : Int32 → Int32 → Int32 → Int32 → Int32 → Int32 → Int32 → jI → jJ → Option (Int32 × jI × jJ)) (l2 : Int32) (l3 : Int32) (l7 : Int32) (l8 : Int32) (l9 : Int32) (ci : jI) (cj : jJ) : Option (Int32 × jI × jJ) := fX6_tells_120 n rec40 rec69 l2 l3 l7 l8 l9 l7 l8 ci cj
theorem wX6_tells_108 {g : jG} {d : Nat} {K : jK} {cr : jR} {c sl : Nat} {Qr : jQ} {Qx : jX} (hM : jMW K cr) (n : Nat) (rec40 : Int32 → Int32 → Int32 → Int32 → Int32 → Int32 → jI → jJ → Option (Int32 × jI × jJ)) (rec69 : Int32 → Int32 → Int32 → Int32 → Int32 → Int32 → Int32 → jI → jJ → Option (Int32 × jI × jJ)) (hrec40 : (∀ (l2 : Int32) (l3 : Int32) (l4 : Int32) (l5 : Int32) (l6 : Int32) (l7 : Int32) (ci : jI) (cj : jJ) {q}, rec40 l2 l3 l4 l5 l6 l7 ci cj = some q → Qr (some (.int q.1)) K q.2.1 q.2.2 cr → Ev g (d + 9) mX6_tells 40 [.ref 1547, jU, .int l2, .int l3, .int l4, .int l5, .int l6, .int l7, jU, jU] [] K ci cj cr c sl Qr Qx)) (hrec69 : (∀ (l2 : Int32) (l3 : Int32) (l4 : Int32) (l5 : Int32) (l6 : Int32) (l7 : Int32) (l8 : Int32) (ci : jI) (cj : jJ) {q}, rec69 l2 l3 l4 l5 l6 l7 l8 ci cj = some q → Qr (some (.int q.1)) K q.2.1 q.2.2 cr → Ev g (d + 9) mX6_tells 69 [.ref 1547, jU, .int l2, .int l3, .int l4, .int l5, .int l6, .int l7, .int l8, jU] [] K ci cj cr c sl Qr Qx)) (l2 : Int32) (l3 : Int32) (l7 : Int32) (l8 : Int32) (l9 : Int32) (ci : jI) (cj : jJ) {q} (h : fX6_tells_108 n rec40 rec69 l2 l3 l7 l8 l9 ci cj = some q) (hq : Qr (some (.int q.1)) K q.2.1 q.2.2 cr) : Ev g (d + 9) mX6_tells 108 [.ref 1547, jU, .int l2, .int l3, jU, jU, jU, .int l7, .int l8, .int l9] [] K ci cj cr c sl Qr Qx := by
  unfold fX6_tells_108 at h
  refine ev_iload dX6_tells_108 rfl ?_
  refine ev_istore (L' := [_, _, _, _, _, _, _, _, _, _]) dX6_tells_110 (by decide) rfl ?_
  refine ev_iload dX6_tells_112 rfl ?_
  refine ev_istore (L' := [_, _, _, _, _, _, _, _, _, _]) dX6_tells_114 (by decide) rfl ?_
  refine ev_iload dX6_tells_116 rfl ?_
  refine ev_istore (L' := [_, _, _, _, _, _, _, _, _, _]) dX6_tells_118 (by decide) rfl ?_
  exact ev_mask [true, false, true, true, true, true, true, true, true, false] (wX6_tells_120 hM n _ _ (hrec40) (hrec69) _ _ _ _ _ _ _ _ _ h hq)
def fX6_tells_69 (n : Nat) (rec40 : Int32 → Int32 → Int32 → Int32 → Int32 → Int32 → jI → jJ → Option (Int32 × jI × jJ)) : Nat → Int32 → Int32 → Int32 → Int32 → Int32 → Int32 → Int32 → jI → jJ → Option (Int32 × jI × jJ)
  | 0, _, _, _, _, _, _, _, _, _ => none
  | k + 1, l2, l3, l4, l5, l6, l7, l8, ci, cj => Option.bind (fX6_shoalMany n  ci cj) (fun q1 => if q1.1 ≤ l8 then rec40 l2 l3 l4 l5 l6 (l7 + (nI 1)) q1.2.1 q1.2.2 else Option.bind (fX6_mostAlike n l3 (((nI 3) * l7) + l8) q1.2.1 q1.2.2) (fun q4 => if l4 = (-1) then fX6_tells_108 n rec40 (fX6_tells_69 n rec40 k) l2 l3 l7 l8 q4.1 q4.2.1 q4.2.2 else if q4.1 < l6 then fX6_tells_108 n rec40 (fX6_tells_69 n rec40 k) l2 l3 l7 l8 q4.1 q4.2.1 q4.2.2 else fX6_tells_120 n rec40 (fX6_tells_69 n rec40 k) l2 l3 l4 l5 l6 l7 l8 q4.2.1 q4.2.2))
theorem wX6_tells_69 {g : jG} {d : Nat} {K : jK} {cr : jR} {c sl : Nat} {Qr : jQ} {Qx : jX} (hM : jMW K cr) (n : Nat) (rec40 : Int32 → Int32 → Int32 → Int32 → Int32 → Int32 → jI → jJ → Option (Int32 × jI × jJ)) (hrec40 : (∀ (l2 : Int32) (l3 : Int32) (l4 : Int32) (l5 : Int32) (l6 : Int32) (l7 : Int32) (ci : jI) (cj : jJ) {q}, rec40 l2 l3 l4 l5 l6 l7 ci cj = some q → Qr (some (.int q.1)) K q.2.1 q.2.2 cr → Ev g (d + 9) mX6_tells 40 [.ref 1547, jU, .int l2, .int l3, .int l4, .int l5, .int l6, .int l7, jU, jU] [] K ci cj cr c sl Qr Qx)) : ∀ (k : Nat) (l2 : Int32) (l3 : Int32) (l4 : Int32) (l5 : Int32) (l6 : Int32) (l7 : Int32) (l8 : Int32) (ci : jI) (cj : jJ) {q}, fX6_tells_69 n rec40 k l2 l3 l4 l5 l6 l7 l8 ci cj = some q → Qr (some (.int q.1)) K q.2.1 q.2.2 cr → Ev g (d + 9) mX6_tells 69 [.ref 1547, jU, .int l2, .int l3, .int l4, .int l5, .int l6, .int l7, .int l8, jU] [] K ci cj cr c sl Qr Qx := by
  intro k
  induction k with
  | zero =>
    intro l2 l3 l4 l5 l6 l7 l8 ci cj q h hq
    rw [fX6_tells_69.eq_1] at h; cases h
  | succ k ih =>
    intro l2 l3 l4 l5 l6 l7 l8 ci cj q h hq
    rw [fX6_tells_69.eq_2] at h
    refine ev_iload dX6_tells_69 rfl ?_
    refine ev_aload_n dX6_tells_71 rfl ?_
    obtain ⟨q1, z2, h⟩ := Option.bind_eq_some_iff.mp h
    refine ev_zV0 dX6_tells_72 vX6_405_6 (hk1547 hM) (Or.inl (hl1547 hM)) (Nat.le_of_ble_eq_true rfl) (Nat.le_of_ble_eq_true rfl) rfl (metX6_shoalMany hM n  _ _ z2 ?_)
    show Ev g _ _ 75 _ [.int q1.1, .int l8] K q1.2.1 q1.2.2 cr c sl Qr Qx
    refine ev_icmp_ge 126 dX6_tells_75 rfl (fun z3 => ?_) (fun z3 => ?_)
    · rw [if_pos z3] at h
      refine ev_iinc (v := (l7 + (nI 1))) (L' := [_, _, _, _, _, _, _, _, _, _]) dX6_tells_126 rfl (by rw [ji_1]) (by decide) rfl ?_
      refine ev_goto 40 dX6_tells_129 rfl ?_
      exact ev_mask [true, false, true, true, true, true, true, true, false, false] (hrec40 _ _ _ _ _ _ _ _ h hq)
    · rw [if_neg z3] at h
      refine ev_aload_n dX6_tells_78 rfl ?_
      refine ev_iload_n dX6_tells_79 rfl ?_
      refine ev_iconst (v := (nI 3)) dX6_tells_80 jc3 ?_
      refine ev_iload dX6_tells_81 rfl ?_
      refine ev_imul dX6_tells_83 ?_
      refine ev_iload dX6_tells_84 rfl ?_
      refine ev_iadd dX6_tells_86 ?_
      obtain ⟨q4, z5, h⟩ := Option.bind_eq_some_iff.mp h
      refine ev_zV2 dX6_tells_87 vX6_564_6 (hk1547 hM) (Or.inl (hl1547 hM)) (Nat.le_of_ble_eq_true rfl) (Nat.le_of_ble_eq_true rfl) rfl (metX6_mostAlike hM n _ _ _ _ z5 ?_)
      show Ev g _ _ 90 _ [.int q4.1] K q4.2.1 q4.2.2 cr c sl Qr Qx
      refine ev_istore (L' := [_, _, _, _, _, _, _, _, _, _]) dX6_tells_90 (by decide) rfl ?_
      refine ev_iload dX6_tells_92 rfl ?_
      refine ev_iconst (v := (-1)) dX6_tells_94 jcm1 ?_
      refine ev_icmp_eq 108 dX6_tells_95 rfl (fun z6 => ?_) (fun z6 => ?_)
      · rw [if_pos z6] at h
        exact ev_mask [true, false, true, true, false, false, false, true, true, true] (wX6_tells_108 hM n _ _ (hrec40) (ih) _ _ _ _ _ _ _ h hq)
      · rw [if_neg z6] at h
        refine ev_iload dX6_tells_98 rfl ?_
        refine ev_iload dX6_tells_100 rfl ?_
        refine ev_icmp_lt 108 dX6_tells_102 rfl (fun z7 => ?_) (fun z7 => ?_)
        · rw [if_pos z7] at h
          exact ev_mask [true, false, true, true, false, false, false, true, true, true] (wX6_tells_108 hM n _ _ (hrec40) (ih) _ _ _ _ _ _ _ h hq)
        · rw [if_neg z7] at h
          refine ev_goto 120 dX6_tells_105 rfl ?_
          exact ev_mask [true, false, true, true, true, true, true, true, true, false] (wX6_tells_120 hM n _ _ (hrec40) (ih) _ _ _ _ _ _ _ _ _ h hq)
def fX6_tells_40 (n : Nat) : Nat → Int32 → Int32 → Int32 → Int32 → Int32 → Int32 → jI → jJ → Option (Int32 × jI × jJ)
  | 0, _, _, _, _, _, _, _, _ => none
  | k + 1, l2, l3, l4, l5, l6, l7, ci, cj => if l3 = 0 then fX6_tells_132 n  l2 l4 l5 l6 ci cj else if (nI 30) < l7 then fX6_tells_132 n  l2 l4 l5 l6 ci cj else if jok (nI 0) 166 then if (nI 999) ≤ ((ci 1585 ((nI 0)).toNatClampNeg) + l7) then fX6_tells_132 n  l2 l4 l5 l6 ci cj else fX6_tells_69 n (fX6_tells_40 n  k) n l2 l3 l4 l5 l6 l7 (nI 0) ci cj else none
theorem wX6_tells_40 {g : jG} {d : Nat} {K : jK} {cr : jR} {c sl : Nat} {Qr : jQ} {Qx : jX} (hM : jMW K cr) (n : Nat) : ∀ (k : Nat) (l2 : Int32) (l3 : Int32) (l4 : Int32) (l5 : Int32) (l6 : Int32) (l7 : Int32) (ci : jI) (cj : jJ) {q}, fX6_tells_40 n  k l2 l3 l4 l5 l6 l7 ci cj = some q → Qr (some (.int q.1)) K q.2.1 q.2.2 cr → Ev g (d + 9) mX6_tells 40 [.ref 1547, jU, .int l2, .int l3, .int l4, .int l5, .int l6, .int l7, jU, jU] [] K ci cj cr c sl Qr Qx := by
  intro k
  induction k with
  | zero =>
    intro l2 l3 l4 l5 l6 l7 ci cj q h hq
    rw [fX6_tells_40.eq_1] at h; cases h
  | succ k ih =>
    intro l2 l3 l4 l5 l6 l7 ci cj q h hq
    rw [fX6_tells_40.eq_2] at h
    refine ev_iload_n dX6_tells_40 rfl ?_
    refine ev_if_eq 132 dX6_tells_41 rfl (fun z1 => ?_) (fun z1 => ?_)
    · rw [if_pos z1] at h
      exact ev_mask [false, false, true, false, true, true, true, false, false, false] (wX6_tells_132 hM n   _ _ _ _ _ _ h hq)
    · rw [if_neg z1] at h
      refine ev_iload dX6_tells_44 rfl ?_
      refine ev_bipush (v := (nI 30)) dX6_tells_46 jb30 ?_
      refine ev_icmp_gt 132 dX6_tells_48 rfl (fun z2 => ?_) (fun z2 => ?_)
      · rw [if_pos z2] at h
        exact ev_mask [false, false, true, false, true, true, true, false, false, false] (wX6_tells_132 hM n   _ _ _ _ _ _ h hq)
      · rw [if_neg z2] at h
        refine ev_aload_n dX6_tells_51 rfl ?_
        refine ev_getR dX6_tells_52 fX6_127_6 (hk1547 hM) (Or.inl (hl1547 hM)) rfl (hr50 hM) ?_
        refine ev_iconst (v := (nI 0)) dX6_tells_55 jc0 ?_
        by_cases z3 : jok (nI 0) 166
        rotate_left
        · rw [if_neg z3] at h; cases h
        rw [if_pos z3] at h
        refine ev_iaload dX6_tells_56 (hk1585 hM) (Or.inl (hl1585 hM)) (jok.ix z3 (hn1585 hM)) ?_
        refine ev_iload dX6_tells_57 rfl ?_
        refine ev_iadd dX6_tells_59 ?_
        refine ev_sipush (v := (nI 999)) dX6_tells_60 js999 ?_
        refine ev_icmp_ge 132 dX6_tells_63 rfl (fun z4 => ?_) (fun z4 => ?_)
        · rw [if_pos z4] at h
          exact ev_mask [false, false, true, false, true, true, true, false, false, false] (wX6_tells_132 hM n   _ _ _ _ _ _ h hq)
        · rw [if_neg z4] at h
          refine ev_iconst (v := (nI 0)) dX6_tells_66 jc0 ?_
          refine ev_istore (L' := [_, _, _, _, _, _, _, _, _, _]) dX6_tells_67 (by decide) rfl ?_
          exact wX6_tells_69 hM n _ (ih) n _ _ _ _ _ _ _ _ _ h hq
def fX6_tells (n : Nat) (a0 : Int32) (a1 : Int32) (ci : jI) (cj : jJ) : Option (Int32 × jI × jJ) := Option.bind (fX6_isPair n a0 ci cj) (fun q1 => if q1.1 = 0 then fX6_tells_20 n   q1.2.1 q1.2.2 else Option.bind (fX6_isIn n ((a1).toInt64) (lN 0) (2 : Int64) q1.2.1 q1.2.2) (fun q4 => if q4.1 = 0 then fX6_tells_20 n   q4.2.1 q4.2.2 else Option.bind (fX6_trueSet n a0 q4.2.1 q4.2.2) (fun q7 => fX6_tells_40 n  n a1 q7.1 (-1) (-1) (nI 0) (nI 0) q7.2.1 q7.2.2)))
theorem metX6_tells {g : jG} {d : Nat} {K : jK} {cr : jR} {c sl : Nat} {Qr : jQ} {Qx : jX} (hM : jMW K cr) (n : Nat) (a0 : Int32) (a1 : Int32) (ci : jI) (cj : jJ) {q} (h : fX6_tells n a0 a1 ci cj = some q) (hq : Qr (some (.int q.1)) K q.2.1 q.2.2 cr) : EvM g (d + 9) mX6_tells [.ref 1547, .int a0, .int a1] K ci cj cr c sl Qr Qx := by
  unfold fX6_tells at h
  show Ev g (d + 9) mX6_tells 0 [.ref 1547, .int a0, .int a1, jU, jU, jU, jU, jU, jU, jU] [] K ci cj cr c sl Qr Qx
  refine ev_aload_n dX6_tells_0 rfl ?_
  refine ev_iload_n dX6_tells_1 rfl ?_
  obtain ⟨q1, z2, h⟩ := Option.bind_eq_some_iff.mp h
  refine ev_zV1 dX6_tells_2 vX6_523_6 (hk1547 hM) (Or.inl (hl1547 hM)) (Nat.le_of_ble_eq_true rfl) (Nat.le_of_ble_eq_true rfl) rfl (metX6_isPair hM n _ _ _ z2 ?_)
  show Ev g _ _ 5 _ [.int q1.1] K q1.2.1 q1.2.2 cr c sl Qr Qx
  refine ev_if_eq 20 dX6_tells_5 rfl (fun z3 => ?_) (fun z3 => ?_)
  · rw [if_pos z3] at h
    exact ev_mask [false, false, false, false, false, false, false, false, false, false] (wX6_tells_20 hM n    _ _ h hq)
  · rw [if_neg z3] at h
    refine ev_iload_n dX6_tells_8 rfl ?_
    refine ev_i2l dX6_tells_9 ?_
    refine ev_lconst (v := lN 0) dX6_tells_10 rfl ?_
    refine ev_ldc2 dX6_tells_11 q2304 ?_
    obtain ⟨q4, z5, h⟩ := Option.bind_eq_some_iff.mp h
    refine ev_zS3 dX6_tells_14 sX6_294 (Nat.le_of_ble_eq_true rfl) (Nat.le_of_ble_eq_true rfl) rfl (metX6_isIn hM n _ _ _ _ _ z5 ?_)
    show Ev g _ _ 17 _ [.int q4.1] K q4.2.1 q4.2.2 cr c sl Qr Qx
    refine ev_if_ne 22 dX6_tells_17 rfl (fun z6 => ?_) (fun z6 => ?_)
    · rw [if_neg z6] at h
      refine ev_aload_n dX6_tells_22 rfl ?_
      refine ev_iload_n dX6_tells_23 rfl ?_
      obtain ⟨q7, z8, h⟩ := Option.bind_eq_some_iff.mp h
      refine ev_zV1 dX6_tells_24 vX6_561_6 (hk1547 hM) (Or.inl (hl1547 hM)) (Nat.le_of_ble_eq_true rfl) (Nat.le_of_ble_eq_true rfl) rfl (metX6_trueSet hM n _ _ _ z8 ?_)
      show Ev g _ _ 27 _ [.int q7.1] K q7.2.1 q7.2.2 cr c sl Qr Qx
      refine ev_istore_n (L' := [_, _, _, _, _, _, _, _, _, _]) dX6_tells_27 (by decide) rfl ?_
      refine ev_iconst (v := (-1)) dX6_tells_28 jcm1 ?_
      refine ev_istore (L' := [_, _, _, _, _, _, _, _, _, _]) dX6_tells_29 (by decide) rfl ?_
      refine ev_iconst (v := (-1)) dX6_tells_31 jcm1 ?_
      refine ev_istore (L' := [_, _, _, _, _, _, _, _, _, _]) dX6_tells_32 (by decide) rfl ?_
      refine ev_iconst (v := (nI 0)) dX6_tells_34 jc0 ?_
      refine ev_istore (L' := [_, _, _, _, _, _, _, _, _, _]) dX6_tells_35 (by decide) rfl ?_
      refine ev_iconst (v := (nI 0)) dX6_tells_37 jc0 ?_
      refine ev_istore (L' := [_, _, _, _, _, _, _, _, _, _]) dX6_tells_38 (by decide) rfl ?_
      exact ev_mask [true, false, true, true, true, true, true, true, false, false] (wX6_tells_40 hM n   n _ _ _ _ _ _ _ _ h hq)
    · rw [if_pos z6] at h
      exact ev_mask [false, false, false, false, false, false, false, false, false, false] (wX6_tells_20 hM n    _ _ h hq)
def fX6_undo_21 (n : Nat) : Nat → Int32 → jI → jJ → Option (Int32 × jI × jJ)
  | 0, _, _, _ => none
  | k + 1, l1, ci, cj => if (nI 166) ≤ l1 then some ((nI 1), (ju (ju ci 1547 69 ((((ci 1547 69) + (nI 20)) - (nI 1)) - (((ci 1547 69) + (nI 20)) - (nI 1)) / (nI 20) * (nI 20))) 1547 68 (((ju ci 1547 69 ((((ci 1547 69) + (nI 20)) - (nI 1)) - (((ci 1547 69) + (nI 20)) - (nI 1)) / (nI 20) * (nI 20))) 1547 68) - (nI 1))), cj) else if jok (((nI 166) * (ci 1547 69)) + l1) 3320 then if jok l1 166 then fX6_undo_21 n  k (l1 + (nI 1)) (ju ci 1585 (l1).toNatClampNeg (ci 1594 ((((nI 166) * (ci 1547 69)) + l1)).toNatClampNeg)) cj else none else none
theorem wX6_undo_21 {g : jG} {d : Nat} {K : jK} {cr : jR} {c sl : Nat} {Qr : jQ} {Qx : jX} (hM : jMW K cr) (n : Nat) : ∀ (k : Nat) (l1 : Int32) (ci : jI) (cj : jJ) {q}, fX6_undo_21 n  k l1 ci cj = some q → Qr (some (.int q.1)) K q.2.1 q.2.2 cr → Ev g (d + 1) mX6_undo 21 [.ref 1547, .int l1] [] K ci cj cr c sl Qr Qx := by
  intro k
  induction k with
  | zero =>
    intro l1 ci cj q h hq
    rw [fX6_undo_21.eq_1] at h; cases h
  | succ k ih =>
    intro l1 ci cj q h hq
    rw [fX6_undo_21.eq_2] at h
    refine ev_iload_n dX6_undo_21 rfl ?_
    refine ev_sipush (v := (nI 166)) dX6_undo_22 js166 ?_
    refine ev_icmp_ge 55 dX6_undo_25 rfl (fun z1 => ?_) (fun z1 => ?_)
    · rw [if_pos z1] at h
      refine ev_aload_n dX6_undo_55 rfl ?_
      refine ev_aload_n dX6_undo_56 rfl ?_
      refine ev_getI dX6_undo_57 fX6_567_6 (hk1547 hM) (Or.inl (hl1547 hM)) rfl ?_
      refine ev_bipush (v := (nI 20)) dX6_undo_60 jb20 ?_
      refine ev_iadd dX6_undo_62 ?_
      refine ev_iconst (v := (nI 1)) dX6_undo_63 jc1 ?_
      refine ev_isub dX6_undo_64 ?_
      refine ev_bipush (v := (nI 20)) dX6_undo_65 jb20 ?_
      refine ev_irem dX6_undo_67 (by decide) ?_
      refine ev_putI dX6_undo_68 (pX6_567_6 _) (hk1547 hM) (hl1547 hM) rfl rfl rfl ?_
      refine ev_aload_n dX6_undo_71 rfl ?_
      refine ev_dup dX6_undo_72 rfl ?_
      refine ev_getI dX6_undo_73 fX6_393_6 (hk1547 hM) (Or.inl (hl1547 hM)) rfl ?_
      refine ev_iconst (v := (nI 1)) dX6_undo_76 jc1 ?_
      refine ev_isub dX6_undo_77 ?_
      refine ev_putI dX6_undo_78 (pX6_393_6 _) (hk1547 hM) (hl1547 hM) rfl rfl rfl ?_
      refine ev_iconst (v := (nI 1)) dX6_undo_81 jc1 ?_
      cases h
      exact ev_iret dX6_undo_82 rfl (by decide) hq
    · rw [if_neg z1] at h
      refine ev_aload_n dX6_undo_28 rfl ?_
      refine ev_getR dX6_undo_29 fX6_127_6 (hk1547 hM) (Or.inl (hl1547 hM)) rfl (hr50 hM) ?_
      refine ev_iload_n dX6_undo_32 rfl ?_
      refine ev_aload_n dX6_undo_33 rfl ?_
      refine ev_getR dX6_undo_34 fX6_154_6 (hk1547 hM) (Or.inl (hl1547 hM)) rfl (hr67 hM) ?_
      refine ev_sipush (v := (nI 166)) dX6_undo_37 js166 ?_
      refine ev_aload_n dX6_undo_40 rfl ?_
      refine ev_getI dX6_undo_41 fX6_567_6 (hk1547 hM) (Or.inl (hl1547 hM)) rfl ?_
      refine ev_imul dX6_undo_44 ?_
      refine ev_iload_n dX6_undo_45 rfl ?_
      refine ev_iadd dX6_undo_46 ?_
      by_cases z3 : jok (((nI 166) * (ci 1547 69)) + l1) 3320
      rotate_left
      · rw [if_neg z3] at h; cases h
      rw [if_pos z3] at h
      refine ev_iaload dX6_undo_47 (hk1594 hM) (Or.inl (hl1594 hM)) (jok.ix z3 (hn1594 hM)) ?_
      by_cases z4 : jok l1 166
      rotate_left
      · rw [if_neg z4] at h; cases h
      rw [if_pos z4] at h
      refine ev_iastore dX6_undo_48 (hk1585 hM) (hl1585 hM) (jok.ix z4 (hn1585 hM)) ?_
      refine ev_iinc (v := (l1 + (nI 1))) (L' := [_, _]) dX6_undo_49 rfl (by rw [ji_1]) (by decide) rfl ?_
      refine ev_goto 21 dX6_undo_52 rfl ?_
      exact ih _ _ _ h hq
def fX6_undo (n : Nat) (ci : jI) (cj : jJ) : Option (Int32 × jI × jJ) := if (ci 1547 68) = 0 then if jok (nI 4) 6 then if jok (nI 4) 6 then some ((nI 0), (ju ci 1549 ((nI 4)).toNatClampNeg ((ci 1549 ((nI 4)).toNatClampNeg) + (nI 1))), cj) else none else none else fX6_undo_21 n  n (nI 0) ci cj
theorem metX6_undo {g : jG} {d : Nat} {K : jK} {cr : jR} {c sl : Nat} {Qr : jQ} {Qx : jX} (hM : jMW K cr) (n : Nat) (ci : jI) (cj : jJ) {q} (h : fX6_undo n  ci cj = some q) (hq : Qr (some (.int q.1)) K q.2.1 q.2.2 cr) : EvM g (d + 1) mX6_undo [.ref 1547] K ci cj cr c sl Qr Qx := by
  unfold fX6_undo at h
  show Ev g (d + 1) mX6_undo 0 [.ref 1547, jU] [] K ci cj cr c sl Qr Qx
  refine ev_aload_n dX6_undo_0 rfl ?_
  refine ev_getI dX6_undo_1 fX6_393_6 (hk1547 hM) (Or.inl (hl1547 hM)) rfl ?_
  refine ev_if_ne 19 dX6_undo_4 rfl (fun z1 => ?_) (fun z1 => ?_)
  · rw [if_neg z1] at h
    refine ev_iconst (v := (nI 0)) dX6_undo_19 jc0 ?_
    refine ev_istore_n (L' := [_, _]) dX6_undo_20 (by decide) rfl ?_
    exact wX6_undo_21 hM n   n _ _ _ h hq
  · rw [if_pos z1] at h
    refine ev_aload_n dX6_undo_7 rfl ?_
    refine ev_getR dX6_undo_8 fX6_17_6 (hk1547 hM) (Or.inl (hl1547 hM)) rfl (hr9 hM) ?_
    refine ev_iconst (v := (nI 4)) dX6_undo_11 jc4 ?_
    refine ev_dup2 dX6_undo_12 rfl rfl ?_
    by_cases z2 : jok (nI 4) 6
    rotate_left
    · rw [if_neg z2] at h; cases h
    rw [if_pos z2] at h
    refine ev_iaload dX6_undo_13 (hk1549 hM) (Or.inl (hl1549 hM)) (jok.ix z2 (hn1549 hM)) ?_
    refine ev_iconst (v := (nI 1)) dX6_undo_14 jc1 ?_
    refine ev_iadd dX6_undo_15 ?_
    by_cases z3 : jok (nI 4) 6
    rotate_left
    · rw [if_neg z3] at h; cases h
    rw [if_pos z3] at h
    refine ev_iastore dX6_undo_16 (hk1549 hM) (hl1549 hM) (jok.ix z3 (hn1549 hM)) ?_
    refine ev_iconst (v := (nI 0)) dX6_undo_17 jc0 ?_
    cases h
    exact ev_iret dX6_undo_18 rfl (by decide) hq
def fX6_isRefused (n : Nat) (ci : jI) (cj : jJ) : Option (Int32 × jI × jJ) := if jok (nI 2) 6 then if jok (nI 2) 6 then some ((nI 0), (ju ci 1549 ((nI 2)).toNatClampNeg ((ci 1549 ((nI 2)).toNatClampNeg) + (nI 1))), cj) else none else none
theorem metX6_isRefused {g : jG} {d : Nat} {K : jK} {cr : jR} {c sl : Nat} {Qr : jQ} {Qx : jX} (hM : jMW K cr) (n : Nat) (ci : jI) (cj : jJ) {q} (h : fX6_isRefused n  ci cj = some q) (hq : Qr (some (.int q.1)) K q.2.1 q.2.2 cr) : EvM g (d + 1) mX6_isRefused [.ref 1547] K ci cj cr c sl Qr Qx := by
  unfold fX6_isRefused at h
  show Ev g (d + 1) mX6_isRefused 0 [.ref 1547] [] K ci cj cr c sl Qr Qx
  refine ev_aload_n dX6_isRefused_0 rfl ?_
  refine ev_getR dX6_isRefused_1 fX6_17_6 (hk1547 hM) (Or.inl (hl1547 hM)) rfl (hr9 hM) ?_
  refine ev_iconst (v := (nI 2)) dX6_isRefused_4 jc2 ?_
  refine ev_dup2 dX6_isRefused_5 rfl rfl ?_
  by_cases z1 : jok (nI 2) 6
  rotate_left
  · rw [if_neg z1] at h; cases h
  rw [if_pos z1] at h
  refine ev_iaload dX6_isRefused_6 (hk1549 hM) (Or.inl (hl1549 hM)) (jok.ix z1 (hn1549 hM)) ?_
  refine ev_iconst (v := (nI 1)) dX6_isRefused_7 jc1 ?_
  refine ev_iadd dX6_isRefused_8 ?_
  by_cases z2 : jok (nI 2) 6
  rotate_left
  · rw [if_neg z2] at h; cases h
  rw [if_pos z2] at h
  refine ev_iastore dX6_isRefused_9 (hk1549 hM) (hl1549 hM) (jok.ix z2 (hn1549 hM)) ?_
  refine ev_iconst (v := (nI 0)) dX6_isRefused_10 jc0 ?_
  cases h
  exact ev_iret dX6_isRefused_11 rfl (by decide) hq
def fX6_keeps_68 (n : Nat) (ci : jI) (cj : jJ) : Option (jI × jJ) := some (ci, cj)
theorem wX6_keeps_68 {g : jG} {d : Nat} {K : jK} {cr : jR} {c sl : Nat} {Qr : jQ} {Qx : jX} (hM : jMW K cr) (n : Nat) (ci : jI) (cj : jJ) {q} (h : fX6_keeps_68 n   ci cj = some q) (hq : Qr none K q.1 q.2 cr) : Ev g (d + 1) mX6_keeps 68 [jU, jU] [] K ci cj cr c sl Qr Qx := by
  unfold fX6_keeps_68 at h
  cases h
  exact ev_ret dX6_keeps_68 rfl hq
def fX6_keeps_15 (n : Nat) : Nat → Int32 → jI → jJ → Option (jI × jJ)
  | 0, _, _, _ => none
  | k + 1, l1, ci, cj => if (nI 166) ≤ l1 then if (nI 20) ≤ (ci 1547 68) then fX6_keeps_68 n   ci cj else fX6_keeps_68 n   (ju ci 1547 68 ((ci 1547 68) + (nI 1))) cj else if jok l1 166 then if jok (((nI 166) * (ci 1547 69)) + l1) 3320 then fX6_keeps_15 n  k (l1 + (nI 1)) (ju ci 1594 ((((nI 166) * (ci 1547 69)) + l1)).toNatClampNeg (ci 1585 (l1).toNatClampNeg)) cj else none else none
theorem wX6_keeps_15 {g : jG} {d : Nat} {K : jK} {cr : jR} {c sl : Nat} {Qr : jQ} {Qx : jX} (hM : jMW K cr) (n : Nat) : ∀ (k : Nat) (l1 : Int32) (ci : jI) (cj : jJ) {q}, fX6_keeps_15 n  k l1 ci cj = some q → Qr none K q.1 q.2 cr → Ev g (d + 1) mX6_keeps 15 [.ref 1547, .int l1] [] K ci cj cr c sl Qr Qx := by
  intro k
  induction k with
  | zero =>
    intro l1 ci cj q h hq
    rw [fX6_keeps_15.eq_1] at h; cases h
  | succ k ih =>
    intro l1 ci cj q h hq
    rw [fX6_keeps_15.eq_2] at h
    refine ev_iload_n dX6_keeps_15 rfl ?_
    refine ev_sipush (v := (nI 166)) dX6_keeps_16 js166 ?_
    refine ev_icmp_ge 49 dX6_keeps_19 rfl (fun z1 => ?_) (fun z1 => ?_)
    · rw [if_pos z1] at h
      refine ev_aload_n dX6_keeps_49 rfl ?_
      refine ev_getI dX6_keeps_50 fX6_393_6 (hk1547 hM) (Or.inl (hl1547 hM)) rfl ?_
      refine ev_bipush (v := (nI 20)) dX6_keeps_53 jb20 ?_
      refine ev_icmp_ge 68 dX6_keeps_55 rfl (fun z2 => ?_) (fun z2 => ?_)
      · rw [if_pos z2] at h
        exact ev_mask [false, false] (wX6_keeps_68 hM n    _ _ h hq)
      · rw [if_neg z2] at h
        refine ev_aload_n dX6_keeps_58 rfl ?_
        refine ev_dup dX6_keeps_59 rfl ?_
        refine ev_getI dX6_keeps_60 fX6_393_6 (hk1547 hM) (Or.inl (hl1547 hM)) rfl ?_
        refine ev_iconst (v := (nI 1)) dX6_keeps_63 jc1 ?_
        refine ev_iadd dX6_keeps_64 ?_
        refine ev_putI dX6_keeps_65 (pX6_393_6 _) (hk1547 hM) (hl1547 hM) rfl rfl rfl ?_
        exact ev_mask [false, false] (wX6_keeps_68 hM n    _ _ h hq)
    · rw [if_neg z1] at h
      refine ev_aload_n dX6_keeps_22 rfl ?_
      refine ev_getR dX6_keeps_23 fX6_154_6 (hk1547 hM) (Or.inl (hl1547 hM)) rfl (hr67 hM) ?_
      refine ev_sipush (v := (nI 166)) dX6_keeps_26 js166 ?_
      refine ev_aload_n dX6_keeps_29 rfl ?_
      refine ev_getI dX6_keeps_30 fX6_567_6 (hk1547 hM) (Or.inl (hl1547 hM)) rfl ?_
      refine ev_imul dX6_keeps_33 ?_
      refine ev_iload_n dX6_keeps_34 rfl ?_
      refine ev_iadd dX6_keeps_35 ?_
      refine ev_aload_n dX6_keeps_36 rfl ?_
      refine ev_getR dX6_keeps_37 fX6_127_6 (hk1547 hM) (Or.inl (hl1547 hM)) rfl (hr50 hM) ?_
      refine ev_iload_n dX6_keeps_40 rfl ?_
      by_cases z3 : jok l1 166
      rotate_left
      · rw [if_neg z3] at h; cases h
      rw [if_pos z3] at h
      refine ev_iaload dX6_keeps_41 (hk1585 hM) (Or.inl (hl1585 hM)) (jok.ix z3 (hn1585 hM)) ?_
      by_cases z4 : jok (((nI 166) * (ci 1547 69)) + l1) 3320
      rotate_left
      · rw [if_neg z4] at h; cases h
      rw [if_pos z4] at h
      refine ev_iastore dX6_keeps_42 (hk1594 hM) (hl1594 hM) (jok.ix z4 (hn1594 hM)) ?_
      refine ev_iinc (v := (l1 + (nI 1))) (L' := [_, _]) dX6_keeps_43 rfl (by rw [ji_1]) (by decide) rfl ?_
      refine ev_goto 15 dX6_keeps_46 rfl ?_
      exact ih _ _ _ h hq
def fX6_keeps (n : Nat) (ci : jI) (cj : jJ) : Option (jI × jJ) := fX6_keeps_15 n  n (nI 0) (ju ci 1547 69 (((ci 1547 69) + (nI 1)) - ((ci 1547 69) + (nI 1)) / (nI 20) * (nI 20))) cj
theorem metX6_keeps {g : jG} {d : Nat} {K : jK} {cr : jR} {c sl : Nat} {Qr : jQ} {Qx : jX} (hM : jMW K cr) (n : Nat) (ci : jI) (cj : jJ) {q} (h : fX6_keeps n  ci cj = some q) (hq : Qr none K q.1 q.2 cr) : EvM g (d + 1) mX6_keeps [.ref 1547] K ci cj cr c sl Qr Qx := by
  unfold fX6_keeps at h
  show Ev g (d + 1) mX6_keeps 0 [.ref 1547, jU] [] K ci cj cr c sl Qr Qx
  refine ev_aload_n dX6_keeps_0 rfl ?_
  refine ev_aload_n dX6_keeps_1 rfl ?_
  refine ev_getI dX6_keeps_2 fX6_567_6 (hk1547 hM) (Or.inl (hl1547 hM)) rfl ?_
  refine ev_iconst (v := (nI 1)) dX6_keeps_5 jc1 ?_
  refine ev_iadd dX6_keeps_6 ?_
  refine ev_bipush (v := (nI 20)) dX6_keeps_7 jb20 ?_
  refine ev_irem dX6_keeps_9 (by decide) ?_
  refine ev_putI dX6_keeps_10 (pX6_567_6 _) (hk1547 hM) (hl1547 hM) rfl rfl rfl ?_
  refine ev_iconst (v := (nI 0)) dX6_keeps_13 jc0 ?_
  refine ev_istore_n (L' := [_, _]) dX6_keeps_14 (by decide) rfl ?_
  exact wX6_keeps_15 hM n   n _ _ _ h hq
def fX6_sit_41 (n : Nat) (ci : jI) (cj : jJ) : Option (Int32 × jI × jJ) := Option.bind (fX6_isRefused n  ci cj) (fun q1 => if q1.1 = 0 ∨ q1.1 = 1 then some (q1.1, q1.2.1, q1.2.2) else none)
theorem wX6_sit_41 {g : jG} {d : Nat} {K : jK} {cr : jR} {c sl : Nat} {Qr : jQ} {Qx : jX} (hM : jMW K cr) (n : Nat) (ci : jI) (cj : jJ) {q} (h : fX6_sit_41 n   ci cj = some q) (hq : Qr (some (.int q.1)) K q.2.1 q.2.2 cr) : Ev g (d + 3) mX6_sit 41 [.ref 1547, jU, jU] [] K ci cj cr c sl Qr Qx := by
  unfold fX6_sit_41 at h
  refine ev_aload_n dX6_sit_41 rfl ?_
  obtain ⟨q1, z2, h⟩ := Option.bind_eq_some_iff.mp h
  refine ev_zV0 dX6_sit_42 vX6_570_6 (hk1547 hM) (Or.inl (hl1547 hM)) (Nat.le_of_ble_eq_true rfl) (Nat.le_of_ble_eq_true rfl) rfl (metX6_isRefused hM n  _ _ z2 ?_)
  show Ev g _ _ 45 _ [.int q1.1] K q1.2.1 q1.2.2 cr c sl Qr Qx
  by_cases z3 : q1.1 = 0 ∨ q1.1 = 1
  rotate_left
  · rw [if_neg z3] at h; cases h
  rw [if_pos z3] at h
  cases h
  exact ev_iret dX6_sit_45 rfl (jbool z3) hq
def fX6_sit_78 (n : Nat) (ci : jI) (cj : jJ) : Option (Int32 × jI × jJ) := some ((nI 1), ci, cj)
theorem wX6_sit_78 {g : jG} {d : Nat} {K : jK} {cr : jR} {c sl : Nat} {Qr : jQ} {Qx : jX} (hM : jMW K cr) (n : Nat) (ci : jI) (cj : jJ) {q} (h : fX6_sit_78 n   ci cj = some q) (hq : Qr (some (.int q.1)) K q.2.1 q.2.2 cr) : Ev g (d + 3) mX6_sit 78 [jU, jU, jU] [] K ci cj cr c sl Qr Qx := by
  unfold fX6_sit_78 at h
  refine ev_iconst (v := (nI 1)) dX6_sit_78 jc1 ?_
  cases h
  exact ev_iret dX6_sit_79 rfl (by decide) hq
def fX6_sit_46 (n : Nat) (l1 : Int32) (l2 : Int32) (ci : jI) (cj : jJ) : Option (Int32 × jI × jJ) := Option.bind (fX6_keeps n  ci cj) (fun q1 => if jok ((nI 25) + ((nI 2) * l1)) 166 then if l2 ≤ 0 then fX6_sit_78 n   (ju q1.1 1585 (((nI 25) + ((nI 2) * l1))).toNatClampNeg l2) q1.2 else if jok ((nI 26) + ((nI 2) * l1)) 166 then fX6_sit_78 n   (ju (ju q1.1 1585 (((nI 25) + ((nI 2) * l1))).toNatClampNeg l2) 1585 (((nI 26) + ((nI 2) * l1))).toNatClampNeg (nI 0)) q1.2 else none else none)
theorem wX6_sit_46 {g : jG} {d : Nat} {K : jK} {cr : jR} {c sl : Nat} {Qr : jQ} {Qx : jX} (hM : jMW K cr) (n : Nat) (l1 : Int32) (l2 : Int32) (ci : jI) (cj : jJ) {q} (h : fX6_sit_46 n  l1 l2 ci cj = some q) (hq : Qr (some (.int q.1)) K q.2.1 q.2.2 cr) : Ev g (d + 3) mX6_sit 46 [.ref 1547, .int l1, .int l2] [] K ci cj cr c sl Qr Qx := by
  unfold fX6_sit_46 at h
  refine ev_aload_n dX6_sit_46 rfl ?_
  obtain ⟨q1, z2, h⟩ := Option.bind_eq_some_iff.mp h
  refine ev_zV0 dX6_sit_47 vX6_573_6 (hk1547 hM) (Or.inl (hl1547 hM)) (Nat.le_of_ble_eq_true rfl) (Nat.le_of_ble_eq_true rfl) rfl (metX6_keeps hM n  _ _ z2 ?_)
  show Ev g _ _ 50 _ [] K q1.1 q1.2 cr c sl Qr Qx
  refine ev_aload_n dX6_sit_50 rfl ?_
  refine ev_getR dX6_sit_51 fX6_127_6 (hk1547 hM) (Or.inl (hl1547 hM)) rfl (hr50 hM) ?_
  refine ev_bipush (v := (nI 25)) dX6_sit_54 jb25 ?_
  refine ev_iconst (v := (nI 2)) dX6_sit_56 jc2 ?_
  refine ev_iload_n dX6_sit_57 rfl ?_
  refine ev_imul dX6_sit_58 ?_
  refine ev_iadd dX6_sit_59 ?_
  refine ev_iload_n dX6_sit_60 rfl ?_
  by_cases z3 : jok ((nI 25) + ((nI 2) * l1)) 166
  rotate_left
  · rw [if_neg z3] at h; cases h
  rw [if_pos z3] at h
  refine ev_iastore dX6_sit_61 (hk1585 hM) (hl1585 hM) (jok.ix z3 (hn1585 hM)) ?_
  refine ev_iload_n dX6_sit_62 rfl ?_
  refine ev_if_le 78 dX6_sit_63 rfl (fun z4 => ?_) (fun z4 => ?_)
  · rw [if_pos z4] at h
    exact ev_mask [false, false, false] (wX6_sit_78 hM n    _ _ h hq)
  · rw [if_neg z4] at h
    refine ev_aload_n dX6_sit_66 rfl ?_
    refine ev_getR dX6_sit_67 fX6_127_6 (hk1547 hM) (Or.inl (hl1547 hM)) rfl (hr50 hM) ?_
    refine ev_bipush (v := (nI 26)) dX6_sit_70 jb26 ?_
    refine ev_iconst (v := (nI 2)) dX6_sit_72 jc2 ?_
    refine ev_iload_n dX6_sit_73 rfl ?_
    refine ev_imul dX6_sit_74 ?_
    refine ev_iadd dX6_sit_75 ?_
    refine ev_iconst (v := (nI 0)) dX6_sit_76 jc0 ?_
    by_cases z5 : jok ((nI 26) + ((nI 2) * l1)) 166
    rotate_left
    · rw [if_neg z5] at h; cases h
    rw [if_pos z5] at h
    refine ev_iastore dX6_sit_77 (hk1585 hM) (hl1585 hM) (jok.ix z5 (hn1585 hM)) ?_
    exact ev_mask [false, false, false] (wX6_sit_78 hM n    _ _ h hq)
def fX6_sit (n : Nat) (a0 : Int32) (a1 : Int32) (ci : jI) (cj : jJ) : Option (Int32 × jI × jJ) := Option.bind (fX6_isPair n a0 ci cj) (fun q1 => if q1.1 = 0 then fX6_sit_41 n   q1.2.1 q1.2.2 else Option.bind (fX6_isIn n ((a1).toInt64) (lN 0) (9 : Int64) q1.2.1 q1.2.2) (fun q4 => if q4.1 = 0 then fX6_sit_41 n   q4.2.1 q4.2.2 else Option.bind (fX6_trueOf n a0 q4.2.1 q4.2.2) (fun q7 => if q7.1 = a1 then if a1 = 0 then fX6_sit_41 n   q7.2.1 q7.2.2 else Option.bind (fX6_sinceOf n a0 q7.2.1 q7.2.2) (fun q11 => if q11.1 = 0 then fX6_sit_41 n   q11.2.1 q11.2.2 else fX6_sit_46 n  a0 a1 q11.2.1 q11.2.2) else fX6_sit_46 n  a0 a1 q7.2.1 q7.2.2)))
theorem metX6_sit {g : jG} {d : Nat} {K : jK} {cr : jR} {c sl : Nat} {Qr : jQ} {Qx : jX} (hM : jMW K cr) (n : Nat) (a0 : Int32) (a1 : Int32) (ci : jI) (cj : jJ) {q} (h : fX6_sit n a0 a1 ci cj = some q) (hq : Qr (some (.int q.1)) K q.2.1 q.2.2 cr) : EvM g (d + 3) mX6_sit [.ref 1547, .int a0, .int a1] K ci cj cr c sl Qr Qx := by
  unfold fX6_sit at h
  show Ev g (d + 3) mX6_sit 0 [.ref 1547, .int a0, .int a1] [] K ci cj cr c sl Qr Qx
  refine ev_aload_n dX6_sit_0 rfl ?_
  refine ev_iload_n dX6_sit_1 rfl ?_
  obtain ⟨q1, z2, h⟩ := Option.bind_eq_some_iff.mp h
  refine ev_zV1 dX6_sit_2 vX6_523_6 (hk1547 hM) (Or.inl (hl1547 hM)) (Nat.le_of_ble_eq_true rfl) (Nat.le_of_ble_eq_true rfl) rfl (metX6_isPair hM n _ _ _ z2 ?_)
  show Ev g _ _ 5 _ [.int q1.1] K q1.2.1 q1.2.2 cr c sl Qr Qx
  refine ev_if_eq 41 dX6_sit_5 rfl (fun z3 => ?_) (fun z3 => ?_)
  · rw [if_pos z3] at h
    exact ev_mask [true, false, false] (wX6_sit_41 hM n    _ _ h hq)
  · rw [if_neg z3] at h
    refine ev_iload_n dX6_sit_8 rfl ?_
    refine ev_i2l dX6_sit_9 ?_
    refine ev_lconst (v := lN 0) dX6_sit_10 rfl ?_
    refine ev_ldc2 dX6_sit_11 q2394 ?_
    obtain ⟨q4, z5, h⟩ := Option.bind_eq_some_iff.mp h
    refine ev_zS3 dX6_sit_14 sX6_294 (Nat.le_of_ble_eq_true rfl) (Nat.le_of_ble_eq_true rfl) rfl (metX6_isIn hM n _ _ _ _ _ z5 ?_)
    show Ev g _ _ 17 _ [.int q4.1] K q4.2.1 q4.2.2 cr c sl Qr Qx
    refine ev_if_eq 41 dX6_sit_17 rfl (fun z6 => ?_) (fun z6 => ?_)
    · rw [if_pos z6] at h
      exact ev_mask [true, false, false] (wX6_sit_41 hM n    _ _ h hq)
    · rw [if_neg z6] at h
      refine ev_aload_n dX6_sit_20 rfl ?_
      refine ev_iload_n dX6_sit_21 rfl ?_
      obtain ⟨q7, z8, h⟩ := Option.bind_eq_some_iff.mp h
      refine ev_zV1 dX6_sit_22 vX6_425_6 (hk1547 hM) (Or.inl (hl1547 hM)) (Nat.le_of_ble_eq_true rfl) (Nat.le_of_ble_eq_true rfl) rfl (metX6_trueOf hM n _ _ _ z8 ?_)
      show Ev g _ _ 25 _ [.int q7.1] K q7.2.1 q7.2.2 cr c sl Qr Qx
      refine ev_iload_n dX6_sit_25 rfl ?_
      refine ev_icmp_ne 46 dX6_sit_26 rfl (fun z9 => ?_) (fun z9 => ?_)
      · rw [if_neg z9] at h
        exact wX6_sit_46 hM n   _ _ _ _ h hq
      · rw [if_pos z9] at h
        refine ev_iload_n dX6_sit_29 rfl ?_
        refine ev_if_eq 41 dX6_sit_30 rfl (fun z10 => ?_) (fun z10 => ?_)
        · rw [if_pos z10] at h
          exact ev_mask [true, false, false] (wX6_sit_41 hM n    _ _ h hq)
        · rw [if_neg z10] at h
          refine ev_aload_n dX6_sit_33 rfl ?_
          refine ev_iload_n dX6_sit_34 rfl ?_
          obtain ⟨q11, z12, h⟩ := Option.bind_eq_some_iff.mp h
          refine ev_zV1 dX6_sit_35 vX6_494_6 (hk1547 hM) (Or.inl (hl1547 hM)) (Nat.le_of_ble_eq_true rfl) (Nat.le_of_ble_eq_true rfl) rfl (metX6_sinceOf hM n _ _ _ z12 ?_)
          show Ev g _ _ 38 _ [.int q11.1] K q11.2.1 q11.2.2 cr c sl Qr Qx
          refine ev_if_ne 46 dX6_sit_38 rfl (fun z13 => ?_) (fun z13 => ?_)
          · rw [if_neg z13] at h
            exact wX6_sit_46 hM n   _ _ _ _ h hq
          · rw [if_pos z13] at h
            exact ev_mask [true, false, false] (wX6_sit_41 hM n    _ _ h hq)
def fX6_give_30 (n : Nat) (ci : jI) (cj : jJ) : Option (Int32 × jI × jJ) := Option.bind (fX6_isRefused n  ci cj) (fun q1 => if q1.1 = 0 ∨ q1.1 = 1 then some (q1.1, q1.2.1, q1.2.2) else none)
theorem wX6_give_30 {g : jG} {d : Nat} {K : jK} {cr : jR} {c sl : Nat} {Qr : jQ} {Qx : jX} (hM : jMW K cr) (n : Nat) (ci : jI) (cj : jJ) {q} (h : fX6_give_30 n   ci cj = some q) (hq : Qr (some (.int q.1)) K q.2.1 q.2.2 cr) : Ev g (d + 3) mX6_give 30 [.ref 1547, jU, jU] [] K ci cj cr c sl Qr Qx := by
  unfold fX6_give_30 at h
  refine ev_aload_n dX6_give_30 rfl ?_
  obtain ⟨q1, z2, h⟩ := Option.bind_eq_some_iff.mp h
  refine ev_zV0 dX6_give_31 vX6_570_6 (hk1547 hM) (Or.inl (hl1547 hM)) (Nat.le_of_ble_eq_true rfl) (Nat.le_of_ble_eq_true rfl) rfl (metX6_isRefused hM n  _ _ z2 ?_)
  show Ev g _ _ 34 _ [.int q1.1] K q1.2.1 q1.2.2 cr c sl Qr Qx
  by_cases z3 : q1.1 = 0 ∨ q1.1 = 1
  rotate_left
  · rw [if_neg z3] at h; cases h
  rw [if_pos z3] at h
  cases h
  exact ev_iret dX6_give_34 rfl (jbool z3) hq
def fX6_give (n : Nat) (a0 : Int32) (a1 : Int32) (ci : jI) (cj : jJ) : Option (Int32 × jI × jJ) := Option.bind (fX6_isBay n ((a0).toInt64) ci cj) (fun q1 => if q1.1 = 0 then fX6_give_30 n   q1.2.1 q1.2.2 else Option.bind (fX6_isIn n ((a1).toInt64) (lN 0) (99 : Int64) q1.2.1 q1.2.2) (fun q4 => if q4.1 = 0 then fX6_give_30 n   q4.2.1 q4.2.2 else Option.bind (fX6_hungerOf n a0 q4.2.1 q4.2.2) (fun q7 => if q7.1 = a1 then fX6_give_30 n   q7.2.1 q7.2.2 else Option.bind (fX6_keeps n  q7.2.1 q7.2.2) (fun q10 => if jok ((nI 7) + ((nI 3) * a0)) 166 then some ((nI 1), (ju q10.1 1585 (((nI 7) + ((nI 3) * a0))).toNatClampNeg a1), q10.2) else none))))
theorem metX6_give {g : jG} {d : Nat} {K : jK} {cr : jR} {c sl : Nat} {Qr : jQ} {Qx : jX} (hM : jMW K cr) (n : Nat) (a0 : Int32) (a1 : Int32) (ci : jI) (cj : jJ) {q} (h : fX6_give n a0 a1 ci cj = some q) (hq : Qr (some (.int q.1)) K q.2.1 q.2.2 cr) : EvM g (d + 3) mX6_give [.ref 1547, .int a0, .int a1] K ci cj cr c sl Qr Qx := by
  unfold fX6_give at h
  show Ev g (d + 3) mX6_give 0 [.ref 1547, .int a0, .int a1] [] K ci cj cr c sl Qr Qx
  refine ev_aload_n dX6_give_0 rfl ?_
  refine ev_iload_n dX6_give_1 rfl ?_
  refine ev_i2l dX6_give_2 ?_
  obtain ⟨q1, z2, h⟩ := Option.bind_eq_some_iff.mp h
  refine ev_zV1 dX6_give_3 vX6_516_6 (hk1547 hM) (Or.inl (hl1547 hM)) (Nat.le_of_ble_eq_true rfl) (Nat.le_of_ble_eq_true rfl) rfl (metX6_isBay hM n _ _ _ z2 ?_)
  show Ev g _ _ 6 _ [.int q1.1] K q1.2.1 q1.2.2 cr c sl Qr Qx
  refine ev_if_eq 30 dX6_give_6 rfl (fun z3 => ?_) (fun z3 => ?_)
  · rw [if_pos z3] at h
    exact ev_mask [true, false, false] (wX6_give_30 hM n    _ _ h hq)
  · rw [if_neg z3] at h
    refine ev_iload_n dX6_give_9 rfl ?_
    refine ev_i2l dX6_give_10 ?_
    refine ev_lconst (v := lN 0) dX6_give_11 rfl ?_
    refine ev_ldc2 dX6_give_12 q2490 ?_
    obtain ⟨q4, z5, h⟩ := Option.bind_eq_some_iff.mp h
    refine ev_zS3 dX6_give_15 sX6_294 (Nat.le_of_ble_eq_true rfl) (Nat.le_of_ble_eq_true rfl) rfl (metX6_isIn hM n _ _ _ _ _ z5 ?_)
    show Ev g _ _ 18 _ [.int q4.1] K q4.2.1 q4.2.2 cr c sl Qr Qx
    refine ev_if_eq 30 dX6_give_18 rfl (fun z6 => ?_) (fun z6 => ?_)
    · rw [if_pos z6] at h
      exact ev_mask [true, false, false] (wX6_give_30 hM n    _ _ h hq)
    · rw [if_neg z6] at h
      refine ev_aload_n dX6_give_21 rfl ?_
      refine ev_iload_n dX6_give_22 rfl ?_
      obtain ⟨q7, z8, h⟩ := Option.bind_eq_some_iff.mp h
      refine ev_zV1 dX6_give_23 vX6_477_6 (hk1547 hM) (Or.inl (hl1547 hM)) (Nat.le_of_ble_eq_true rfl) (Nat.le_of_ble_eq_true rfl) rfl (metX6_hungerOf hM n _ _ _ z8 ?_)
      show Ev g _ _ 26 _ [.int q7.1] K q7.2.1 q7.2.2 cr c sl Qr Qx
      refine ev_iload_n dX6_give_26 rfl ?_
      refine ev_icmp_ne 35 dX6_give_27 rfl (fun z9 => ?_) (fun z9 => ?_)
      · rw [if_neg z9] at h
        refine ev_aload_n dX6_give_35 rfl ?_
        obtain ⟨q10, z11, h⟩ := Option.bind_eq_some_iff.mp h
        refine ev_zV0 dX6_give_36 vX6_573_6 (hk1547 hM) (Or.inl (hl1547 hM)) (Nat.le_of_ble_eq_true rfl) (Nat.le_of_ble_eq_true rfl) rfl (metX6_keeps hM n  _ _ z11 ?_)
        show Ev g _ _ 39 _ [] K q10.1 q10.2 cr c sl Qr Qx
        refine ev_aload_n dX6_give_39 rfl ?_
        refine ev_getR dX6_give_40 fX6_127_6 (hk1547 hM) (Or.inl (hl1547 hM)) rfl (hr50 hM) ?_
        refine ev_bipush (v := (nI 7)) dX6_give_43 jb7 ?_
        refine ev_iconst (v := (nI 3)) dX6_give_45 jc3 ?_
        refine ev_iload_n dX6_give_46 rfl ?_
        refine ev_imul dX6_give_47 ?_
        refine ev_iadd dX6_give_48 ?_
        refine ev_iload_n dX6_give_49 rfl ?_
        by_cases z12 : jok ((nI 7) + ((nI 3) * a0)) 166
        rotate_left
        · rw [if_neg z12] at h; cases h
        rw [if_pos z12] at h
        refine ev_iastore dX6_give_50 (hk1585 hM) (hl1585 hM) (jok.ix z12 (hn1585 hM)) ?_
        refine ev_iconst (v := (nI 1)) dX6_give_51 jc1 ?_
        cases h
        exact ev_iret dX6_give_52 rfl (by decide) hq
      · rw [if_pos z9] at h
        exact ev_mask [true, false, false] (wX6_give_30 hM n    _ _ h hq)
def fX6_years (n : Nat) (a0 : Int32) (ci : jI) (cj : jJ) : Option (Int32 × jI × jJ) := Option.bind (fX6_isAhead n a0 (nI 1) (nI 100) ci cj) (fun q1 => if q1.1 = 0 then Option.bind (fX6_refuses n (nI 3) q1.2.1 q1.2.2) (fun q8 => some (q8.1, q8.2.1, q8.2.2)) else Option.bind (fX6_keeps n  q1.2.1 q1.2.2) (fun q4 => Option.bind (fX6_yearsGo n a0 q4.1 q4.2) (fun q6 => some ((q6.1 1547 59), q6.1, q6.2))))
theorem metX6_years {g : jG} {d : Nat} {K : jK} {cr : jR} {c sl : Nat} {Qr : jQ} {Qx : jX} (hM : jMW K cr) (n : Nat) (a0 : Int32) (ci : jI) (cj : jJ) {q} (h : fX6_years n a0 ci cj = some q) (hq : Qr (some (.int q.1)) K q.2.1 q.2.2 cr) : EvM g (d + 9) mX6_years [.ref 1547, .int a0] K ci cj cr c sl Qr Qx := by
  unfold fX6_years at h
  show Ev g (d + 9) mX6_years 0 [.ref 1547, .int a0] [] K ci cj cr c sl Qr Qx
  refine ev_aload_n dX6_years_0 rfl ?_
  refine ev_iload_n dX6_years_1 rfl ?_
  refine ev_iconst (v := (nI 1)) dX6_years_2 jc1 ?_
  refine ev_bipush (v := (nI 100)) dX6_years_3 jb100 ?_
  obtain ⟨q1, z2, h⟩ := Option.bind_eq_some_iff.mp h
  refine ev_zV3 dX6_years_5 vX6_531_6 (hk1547 hM) (Or.inl (hl1547 hM)) (Nat.le_of_ble_eq_true rfl) (Nat.le_of_ble_eq_true rfl) rfl (metX6_isAhead hM n _ _ _ _ _ z2 ?_)
  show Ev g _ _ 8 _ [.int q1.1] K q1.2.1 q1.2.2 cr c sl Qr Qx
  refine ev_if_ne 17 dX6_years_8 rfl (fun z3 => ?_) (fun z3 => ?_)
  · rw [if_neg z3] at h
    refine ev_aload_n dX6_years_17 rfl ?_
    obtain ⟨q4, z5, h⟩ := Option.bind_eq_some_iff.mp h
    refine ev_zV0 dX6_years_18 vX6_573_6 (hk1547 hM) (Or.inl (hl1547 hM)) (Nat.le_of_ble_eq_true rfl) (Nat.le_of_ble_eq_true rfl) rfl (metX6_keeps hM n  _ _ z5 ?_)
    show Ev g _ _ 21 _ [] K q4.1 q4.2 cr c sl Qr Qx
    refine ev_aload_n dX6_years_21 rfl ?_
    refine ev_iload_n dX6_years_22 rfl ?_
    obtain ⟨q6, z7, h⟩ := Option.bind_eq_some_iff.mp h
    refine ev_zV1 dX6_years_23 vX6_537_6 (hk1547 hM) (Or.inl (hl1547 hM)) (Nat.le_of_ble_eq_true rfl) (Nat.le_of_ble_eq_true rfl) rfl (metX6_yearsGo hM n _ _ _ z7 ?_)
    show Ev g _ _ 26 _ [] K q6.1 q6.2 cr c sl Qr Qx
    refine ev_aload_n dX6_years_26 rfl ?_
    refine ev_getI dX6_years_27 fX6_457_6 (hk1547 hM) (Or.inl (hl1547 hM)) rfl ?_
    cases h
    exact ev_iret dX6_years_30 rfl rfl hq
  · rw [if_pos z3] at h
    refine ev_aload_n dX6_years_11 rfl ?_
    refine ev_iconst (v := (nI 3)) dX6_years_12 jc3 ?_
    obtain ⟨q8, z9, h⟩ := Option.bind_eq_some_iff.mp h
    refine ev_zV1 dX6_years_13 vX6_555_6 (hk1547 hM) (Or.inl (hl1547 hM)) (Nat.le_of_ble_eq_true rfl) (Nat.le_of_ble_eq_true rfl) rfl (metX6_refuses hM n _ _ _ z9 ?_)
    show Ev g _ _ 16 _ [.int q8.1] K q8.2.1 q8.2.2 cr c sl Qr Qx
    cases h
    exact ev_iret dX6_years_16 rfl rfl hq
def fX6_seed (n : Nat) (a0 : Int32) (ci : jI) (cj : jJ) : Option (Int32 × jI × jJ) := if 0 ≤ a0 then some ((nI 1), ci, (ju cj 1547 70 ((a0).toInt64))) else if jok (nI 5) 6 then if jok (nI 5) 6 then some ((nI 0), (ju ci 1549 ((nI 5)).toNatClampNeg ((ci 1549 ((nI 5)).toNatClampNeg) + (nI 1))), cj) else none else none
theorem metX6_seed {g : jG} {d : Nat} {K : jK} {cr : jR} {c sl : Nat} {Qr : jQ} {Qx : jX} (hM : jMW K cr) (n : Nat) (a0 : Int32) (ci : jI) (cj : jJ) {q} (h : fX6_seed n a0 ci cj = some q) (hq : Qr (some (.int q.1)) K q.2.1 q.2.2 cr) : EvM g (d + 1) mX6_seed [.ref 1547, .int a0] K ci cj cr c sl Qr Qx := by
  unfold fX6_seed at h
  show Ev g (d + 1) mX6_seed 0 [.ref 1547, .int a0] [] K ci cj cr c sl Qr Qx
  refine ev_iload_n dX6_seed_0 rfl ?_
  refine ev_if_ge 16 dX6_seed_1 rfl (fun z1 => ?_) (fun z1 => ?_)
  · rw [if_pos z1] at h
    refine ev_aload_n dX6_seed_16 rfl ?_
    refine ev_iload_n dX6_seed_17 rfl ?_
    refine ev_i2l dX6_seed_18 ?_
    refine ev_putJ dX6_seed_19 (pX6_157_6 _) (hk1547 hM) (hl1547 hM) rfl ?_
    refine ev_iconst (v := (nI 1)) dX6_seed_22 jc1 ?_
    cases h
    exact ev_iret dX6_seed_23 rfl (by decide) hq
  · rw [if_neg z1] at h
    refine ev_aload_n dX6_seed_4 rfl ?_
    refine ev_getR dX6_seed_5 fX6_17_6 (hk1547 hM) (Or.inl (hl1547 hM)) rfl (hr9 hM) ?_
    refine ev_iconst (v := (nI 5)) dX6_seed_8 jc5 ?_
    refine ev_dup2 dX6_seed_9 rfl rfl ?_
    by_cases z2 : jok (nI 5) 6
    rotate_left
    · rw [if_neg z2] at h; cases h
    rw [if_pos z2] at h
    refine ev_iaload dX6_seed_10 (hk1549 hM) (Or.inl (hl1549 hM)) (jok.ix z2 (hn1549 hM)) ?_
    refine ev_iconst (v := (nI 1)) dX6_seed_11 jc1 ?_
    refine ev_iadd dX6_seed_12 ?_
    by_cases z3 : jok (nI 5) 6
    rotate_left
    · rw [if_neg z3] at h; cases h
    rw [if_pos z3] at h
    refine ev_iastore dX6_seed_13 (hk1549 hM) (hl1549 hM) (jok.ix z3 (hn1549 hM)) ?_
    refine ev_iconst (v := (nI 0)) dX6_seed_14 jc0 ?_
    cases h
    exact ev_iret dX6_seed_15 rfl (by decide) hq
def fX6_drawOf (n : Nat) (a0 : Int32) (ci : jI) (cj : jJ) : Option (Int32 × jI × jJ) := if (a0).toInt64 = 0 then none else some ((((((ju cj 1547 70 ((((1103515245 : Int64) * (cj 1547 70)) + (12345 : Int64)) - (((1103515245 : Int64) * (cj 1547 70)) + (12345 : Int64)) / (2147483648 : Int64) * (2147483648 : Int64))) 1547 70) / (64 : Int64)) - (((ju cj 1547 70 ((((1103515245 : Int64) * (cj 1547 70)) + (12345 : Int64)) - (((1103515245 : Int64) * (cj 1547 70)) + (12345 : Int64)) / (2147483648 : Int64) * (2147483648 : Int64))) 1547 70) / (64 : Int64)) / (a0).toInt64 * (a0).toInt64)).toInt32, ci, (ju cj 1547 70 ((((1103515245 : Int64) * (cj 1547 70)) + (12345 : Int64)) - (((1103515245 : Int64) * (cj 1547 70)) + (12345 : Int64)) / (2147483648 : Int64) * (2147483648 : Int64))))
theorem metX6_drawOf {g : jG} {d : Nat} {K : jK} {cr : jR} {c sl : Nat} {Qr : jQ} {Qx : jX} (hM : jMW K cr) (n : Nat) (a0 : Int32) (ci : jI) (cj : jJ) {q} (h : fX6_drawOf n a0 ci cj = some q) (hq : Qr (some (.int q.1)) K q.2.1 q.2.2 cr) : EvM g (d + 1) mX6_drawOf [.ref 1547, .int a0] K ci cj cr c sl Qr Qx := by
  unfold fX6_drawOf at h
  show Ev g (d + 1) mX6_drawOf 0 [.ref 1547, .int a0] [] K ci cj cr c sl Qr Qx
  refine ev_aload_n dX6_drawOf_0 rfl ?_
  refine ev_ldc2 dX6_drawOf_1 q2507 ?_
  refine ev_aload_n dX6_drawOf_4 rfl ?_
  refine ev_getJ dX6_drawOf_5 fX6_157_6 (hk1547 hM) (Or.inl (hl1547 hM)) rfl ?_
  refine ev_lmul dX6_drawOf_8 ?_
  refine ev_ldc2 dX6_drawOf_9 q2508 ?_
  refine ev_ladd dX6_drawOf_12 ?_
  refine ev_ldc2 dX6_drawOf_13 q2509 ?_
  refine ev_lrem dX6_drawOf_16 (by decide) ?_
  refine ev_putJ dX6_drawOf_17 (pX6_157_6 _) (hk1547 hM) (hl1547 hM) rfl ?_
  refine ev_aload_n dX6_drawOf_20 rfl ?_
  refine ev_getJ dX6_drawOf_21 fX6_157_6 (hk1547 hM) (Or.inl (hl1547 hM)) rfl ?_
  refine ev_ldc2 dX6_drawOf_24 q2510 ?_
  refine ev_ldiv dX6_drawOf_27 (by decide) ?_
  refine ev_iload_n dX6_drawOf_28 rfl ?_
  refine ev_i2l dX6_drawOf_29 ?_
  by_cases z3 : (a0).toInt64 = 0
  · rw [if_pos z3] at h; cases h
  rw [if_neg z3] at h
  refine ev_lrem dX6_drawOf_30 z3 ?_
  refine ev_l2i dX6_drawOf_31 ?_
  cases h
  exact ev_iret dX6_drawOf_32 rfl rfl hq
def fX6_chance_95 (n : Nat) (rec25 : Int32 → Int32 → Int32 → jI → jJ → Option (Int32 × jI × jJ)) (l1 : Int32) (l2 : Int32) (l3 : Int32) (ci : jI) (cj : jJ) : Option (Int32 × jI × jJ) := Option.bind (fX6_yearGoes n  ci cj) (fun q1 => rec25 l1 l2 (l3 + (nI 1)) q1.1 q1.2)
theorem wX6_chance_95 {g : jG} {d : Nat} {K : jK} {cr : jR} {c sl : Nat} {Qr : jQ} {Qx : jX} (hM : jMW K cr) (n : Nat) (rec25 : Int32 → Int32 → Int32 → jI → jJ → Option (Int32 × jI × jJ)) (hrec25 : (∀ (l1 : Int32) (l2 : Int32) (l3 : Int32) (ci : jI) (cj : jJ) {q}, rec25 l1 l2 l3 ci cj = some q → Qr (some (.int q.1)) K q.2.1 q.2.2 cr → Ev g (d + 8) mX6_chance 25 [.ref 1547, .int l1, .int l2, .int l3, jU] [] K ci cj cr c sl Qr Qx)) (l1 : Int32) (l2 : Int32) (l3 : Int32) (ci : jI) (cj : jJ) {q} (h : fX6_chance_95 n rec25 l1 l2 l3 ci cj = some q) (hq : Qr (some (.int q.1)) K q.2.1 q.2.2 cr) : Ev g (d + 8) mX6_chance 95 [.ref 1547, .int l1, .int l2, .int l3, jU] [] K ci cj cr c sl Qr Qx := by
  unfold fX6_chance_95 at h
  refine ev_aload_n dX6_chance_95 rfl ?_
  obtain ⟨q1, z2, h⟩ := Option.bind_eq_some_iff.mp h
  refine ev_zV0 dX6_chance_96 vX6_497_6 (hk1547 hM) (Or.inl (hl1547 hM)) (Nat.le_of_ble_eq_true rfl) (Nat.le_of_ble_eq_true rfl) rfl (metX6_yearGoes hM n  _ _ z2 ?_)
  show Ev g _ _ 99 _ [] K q1.1 q1.2 cr c sl Qr Qx
  refine ev_iinc (v := (l3 + (nI 1))) (L' := [_, _, _, _, _]) dX6_chance_99 rfl (by rw [ji_1]) (by decide) rfl ?_
  refine ev_goto 25 dX6_chance_102 rfl ?_
  exact hrec25 _ _ _ _ _ h hq
def fX6_chance_25 (n : Nat) : Nat → Int32 → Int32 → Int32 → jI → jJ → Option (Int32 × jI × jJ)
  | 0, _, _, _, _, _ => none
  | k + 1, l1, l2, l3, ci, cj => if l1 ≤ l3 then some (l2, ci, cj) else Option.bind (fX6_drawOf n (nI 100) ci cj) (fun q2 => if jok (nI 7) 8 then if (q2.2.1 1577 ((nI 7)).toNatClampNeg) ≤ q2.1 then fX6_chance_95 n (fX6_chance_25 n  k) l1 l2 l3 q2.2.1 q2.2.2 else Option.bind (fX6_shoalMany n  q2.2.1 q2.2.2) (fun q6 => if q6.1 ≤ 0 then fX6_chance_95 n (fX6_chance_25 n  k) l1 l2 l3 q6.2.1 q6.2.2 else Option.bind (fX6_shoalMany n  q6.2.1 q6.2.2) (fun q9 => Option.bind (fX6_drawOf n q9.1 q9.2.1 q9.2.2) (fun q11 => Option.bind (fX6_drawOf n (nI 100) q11.2.1 q11.2.2) (fun q13 => if jok ((nI 1) + ((nI 2) * q11.1)) 166 then if jok ((nI 2) + ((nI 2) * q11.1)) 166 then fX6_chance_95 n (fX6_chance_25 n  k) l1 (l2 + (nI 1)) l3 (ju (ju q13.2.1 1585 (((nI 1) + ((nI 2) * q11.1))).toNatClampNeg q13.1) 1585 (((nI 2) + ((nI 2) * q11.1))).toNatClampNeg (-1)) q13.2.2 else none else none)))) else none)
theorem wX6_chance_25 {g : jG} {d : Nat} {K : jK} {cr : jR} {c sl : Nat} {Qr : jQ} {Qx : jX} (hM : jMW K cr) (n : Nat) : ∀ (k : Nat) (l1 : Int32) (l2 : Int32) (l3 : Int32) (ci : jI) (cj : jJ) {q}, fX6_chance_25 n  k l1 l2 l3 ci cj = some q → Qr (some (.int q.1)) K q.2.1 q.2.2 cr → Ev g (d + 8) mX6_chance 25 [.ref 1547, .int l1, .int l2, .int l3, jU] [] K ci cj cr c sl Qr Qx := by
  intro k
  induction k with
  | zero =>
    intro l1 l2 l3 ci cj q h hq
    rw [fX6_chance_25.eq_1] at h; cases h
  | succ k ih =>
    intro l1 l2 l3 ci cj q h hq
    rw [fX6_chance_25.eq_2] at h
    refine ev_iload_n dX6_chance_25 rfl ?_
    refine ev_iload_n dX6_chance_26 rfl ?_
    refine ev_icmp_ge 105 dX6_chance_27 rfl (fun z1 => ?_) (fun z1 => ?_)
    · rw [if_pos z1] at h
      refine ev_iload_n dX6_chance_105 rfl ?_
      cases h
      exact ev_iret dX6_chance_106 rfl rfl hq
    · rw [if_neg z1] at h
      refine ev_aload_n dX6_chance_30 rfl ?_
      refine ev_bipush (v := (nI 100)) dX6_chance_31 jb100 ?_
      obtain ⟨q2, z3, h⟩ := Option.bind_eq_some_iff.mp h
      refine ev_zV1 dX6_chance_33 vX6_586_6 (hk1547 hM) (Or.inl (hl1547 hM)) (Nat.le_of_ble_eq_true rfl) (Nat.le_of_ble_eq_true rfl) rfl (metX6_drawOf hM n _ _ _ z3 ?_)
      show Ev g _ _ 36 _ [.int q2.1] K q2.2.1 q2.2.2 cr c sl Qr Qx
      refine ev_aload_n dX6_chance_36 rfl ?_
      refine ev_getR dX6_chance_37 fX6_102_6 (hk1547 hM) (Or.inl (hl1547 hM)) rfl (hr39 hM) ?_
      refine ev_bipush (v := (nI 7)) dX6_chance_40 jb7 ?_
      by_cases z4 : jok (nI 7) 8
      rotate_left
      · rw [if_neg z4] at h; cases h
      rw [if_pos z4] at h
      refine ev_iaload dX6_chance_42 (hk1577 hM) (Or.inl (hl1577 hM)) (jok.ix z4 (hn1577 hM)) ?_
      refine ev_icmp_ge 95 dX6_chance_43 rfl (fun z5 => ?_) (fun z5 => ?_)
      · rw [if_pos z5] at h
        exact wX6_chance_95 hM n _ (ih) _ _ _ _ _ h hq
      · rw [if_neg z5] at h
        refine ev_aload_n dX6_chance_46 rfl ?_
        obtain ⟨q6, z7, h⟩ := Option.bind_eq_some_iff.mp h
        refine ev_zV0 dX6_chance_47 vX6_405_6 (hk1547 hM) (Or.inl (hl1547 hM)) (Nat.le_of_ble_eq_true rfl) (Nat.le_of_ble_eq_true rfl) rfl (metX6_shoalMany hM n  _ _ z7 ?_)
        show Ev g _ _ 50 _ [.int q6.1] K q6.2.1 q6.2.2 cr c sl Qr Qx
        refine ev_if_le 95 dX6_chance_50 rfl (fun z8 => ?_) (fun z8 => ?_)
        · rw [if_pos z8] at h
          exact wX6_chance_95 hM n _ (ih) _ _ _ _ _ h hq
        · rw [if_neg z8] at h
          refine ev_aload_n dX6_chance_53 rfl ?_
          refine ev_aload_n dX6_chance_54 rfl ?_
          obtain ⟨q9, z10, h⟩ := Option.bind_eq_some_iff.mp h
          refine ev_zV0 dX6_chance_55 vX6_405_6 (hk1547 hM) (Or.inl (hl1547 hM)) (Nat.le_of_ble_eq_true rfl) (Nat.le_of_ble_eq_true rfl) rfl (metX6_shoalMany hM n  _ _ z10 ?_)
          show Ev g _ _ 58 _ [.int q9.1, .ref 1547] K q9.2.1 q9.2.2 cr c sl Qr Qx
          obtain ⟨q11, z12, h⟩ := Option.bind_eq_some_iff.mp h
          refine ev_zV1 dX6_chance_58 vX6_586_6 (hk1547 hM) (Or.inl (hl1547 hM)) (Nat.le_of_ble_eq_true rfl) (Nat.le_of_ble_eq_true rfl) rfl (metX6_drawOf hM n _ _ _ z12 ?_)
          show Ev g _ _ 61 _ [.int q11.1] K q11.2.1 q11.2.2 cr c sl Qr Qx
          refine ev_istore (L' := [_, _, _, _, _]) dX6_chance_61 (by decide) rfl ?_
          refine ev_aload_n dX6_chance_63 rfl ?_
          refine ev_getR dX6_chance_64 fX6_127_6 (hk1547 hM) (Or.inl (hl1547 hM)) rfl (hr50 hM) ?_
          refine ev_iconst (v := (nI 1)) dX6_chance_67 jc1 ?_
          refine ev_iconst (v := (nI 2)) dX6_chance_68 jc2 ?_
          refine ev_iload dX6_chance_69 rfl ?_
          refine ev_imul dX6_chance_71 ?_
          refine ev_iadd dX6_chance_72 ?_
          refine ev_aload_n dX6_chance_73 rfl ?_
          refine ev_bipush (v := (nI 100)) dX6_chance_74 jb100 ?_
          obtain ⟨q13, z14, h⟩ := Option.bind_eq_some_iff.mp h
          refine ev_zV1 dX6_chance_76 vX6_586_6 (hk1547 hM) (Or.inl (hl1547 hM)) (Nat.le_of_ble_eq_true rfl) (Nat.le_of_ble_eq_true rfl) rfl (metX6_drawOf hM n _ _ _ z14 ?_)
          show Ev g _ _ 79 _ [.int q13.1, .int ((nI 1) + ((nI 2) * q11.1)), .ref 1585] K q13.2.1 q13.2.2 cr c sl Qr Qx
          by_cases z15 : jok ((nI 1) + ((nI 2) * q11.1)) 166
          rotate_left
          · rw [if_neg z15] at h; cases h
          rw [if_pos z15] at h
          refine ev_iastore dX6_chance_79 (hk1585 hM) (hl1585 hM) (jok.ix z15 (hn1585 hM)) ?_
          refine ev_aload_n dX6_chance_80 rfl ?_
          refine ev_getR dX6_chance_81 fX6_127_6 (hk1547 hM) (Or.inl (hl1547 hM)) rfl (hr50 hM) ?_
          refine ev_iconst (v := (nI 2)) dX6_chance_84 jc2 ?_
          refine ev_iconst (v := (nI 2)) dX6_chance_85 jc2 ?_
          refine ev_iload dX6_chance_86 rfl ?_
          refine ev_imul dX6_chance_88 ?_
          refine ev_iadd dX6_chance_89 ?_
          refine ev_iconst (v := (-1)) dX6_chance_90 jcm1 ?_
          by_cases z16 : jok ((nI 2) + ((nI 2) * q11.1)) 166
          rotate_left
          · rw [if_neg z16] at h; cases h
          rw [if_pos z16] at h
          refine ev_iastore dX6_chance_91 (hk1585 hM) (hl1585 hM) (jok.ix z16 (hn1585 hM)) ?_
          refine ev_iinc (v := (l2 + (nI 1))) (L' := [_, _, _, _, _]) dX6_chance_92 rfl (by rw [ji_1]) (by decide) rfl ?_
          exact ev_mask [true, true, true, true, false] (wX6_chance_95 hM n _ (ih) _ _ _ _ _ h hq)
def fX6_chance (n : Nat) (a0 : Int32) (ci : jI) (cj : jJ) : Option (Int32 × jI × jJ) := Option.bind (fX6_isAhead n a0 (nI 1) (nI 100) ci cj) (fun q1 => if q1.1 = 0 then Option.bind (fX6_refuses n (nI 3) q1.2.1 q1.2.2) (fun q6 => some (q6.1, q6.2.1, q6.2.2)) else Option.bind (fX6_keeps n  q1.2.1 q1.2.2) (fun q4 => fX6_chance_25 n  n a0 (nI 0) (nI 0) q4.1 q4.2))
theorem metX6_chance {g : jG} {d : Nat} {K : jK} {cr : jR} {c sl : Nat} {Qr : jQ} {Qx : jX} (hM : jMW K cr) (n : Nat) (a0 : Int32) (ci : jI) (cj : jJ) {q} (h : fX6_chance n a0 ci cj = some q) (hq : Qr (some (.int q.1)) K q.2.1 q.2.2 cr) : EvM g (d + 8) mX6_chance [.ref 1547, .int a0] K ci cj cr c sl Qr Qx := by
  unfold fX6_chance at h
  show Ev g (d + 8) mX6_chance 0 [.ref 1547, .int a0, jU, jU, jU] [] K ci cj cr c sl Qr Qx
  refine ev_aload_n dX6_chance_0 rfl ?_
  refine ev_iload_n dX6_chance_1 rfl ?_
  refine ev_iconst (v := (nI 1)) dX6_chance_2 jc1 ?_
  refine ev_bipush (v := (nI 100)) dX6_chance_3 jb100 ?_
  obtain ⟨q1, z2, h⟩ := Option.bind_eq_some_iff.mp h
  refine ev_zV3 dX6_chance_5 vX6_531_6 (hk1547 hM) (Or.inl (hl1547 hM)) (Nat.le_of_ble_eq_true rfl) (Nat.le_of_ble_eq_true rfl) rfl (metX6_isAhead hM n _ _ _ _ _ z2 ?_)
  show Ev g _ _ 8 _ [.int q1.1] K q1.2.1 q1.2.2 cr c sl Qr Qx
  refine ev_if_ne 17 dX6_chance_8 rfl (fun z3 => ?_) (fun z3 => ?_)
  · rw [if_neg z3] at h
    refine ev_aload_n dX6_chance_17 rfl ?_
    obtain ⟨q4, z5, h⟩ := Option.bind_eq_some_iff.mp h
    refine ev_zV0 dX6_chance_18 vX6_573_6 (hk1547 hM) (Or.inl (hl1547 hM)) (Nat.le_of_ble_eq_true rfl) (Nat.le_of_ble_eq_true rfl) rfl (metX6_keeps hM n  _ _ z5 ?_)
    show Ev g _ _ 21 _ [] K q4.1 q4.2 cr c sl Qr Qx
    refine ev_iconst (v := (nI 0)) dX6_chance_21 jc0 ?_
    refine ev_istore_n (L' := [_, _, _, _, _]) dX6_chance_22 (by decide) rfl ?_
    refine ev_iconst (v := (nI 0)) dX6_chance_23 jc0 ?_
    refine ev_istore_n (L' := [_, _, _, _, _]) dX6_chance_24 (by decide) rfl ?_
    exact wX6_chance_25 hM n   n _ _ _ _ _ h hq
  · rw [if_pos z3] at h
    refine ev_aload_n dX6_chance_11 rfl ?_
    refine ev_iconst (v := (nI 3)) dX6_chance_12 jc3 ?_
    obtain ⟨q6, z7, h⟩ := Option.bind_eq_some_iff.mp h
    refine ev_zV1 dX6_chance_13 vX6_555_6 (hk1547 hM) (Or.inl (hl1547 hM)) (Nat.le_of_ble_eq_true rfl) (Nat.le_of_ble_eq_true rfl) rfl (metX6_refuses hM n _ _ _ z7 ?_)
    show Ev g _ _ 16 _ [.int q6.1] K q6.2.1 q6.2.2 cr c sl Qr Qx
    cases h
    exact ev_iret dX6_chance_16 rfl rfl hq
def fX6_qKind_90 (n : Nat) (l1 : Int32) (ci : jI) (cj : jJ) : Option (Int32 × jI × jJ) := some (l1, ci, cj)
theorem wX6_qKind_90 {g : jG} {d : Nat} {K : jK} {cr : jR} {c sl : Nat} {Qr : jQ} {Qx : jX} (hM : jMW K cr) (n : Nat) (l1 : Int32) (ci : jI) (cj : jJ) {q} (h : fX6_qKind_90 n  l1 ci cj = some q) (hq : Qr (some (.int q.1)) K q.2.1 q.2.2 cr) : Ev g (d + 5) mX6_qKind 90 [jU, .int l1] [] K ci cj cr c sl Qr Qx := by
  unfold fX6_qKind_90 at h
  refine ev_iload_n dX6_qKind_90 rfl ?_
  cases h
  exact ev_iret dX6_qKind_91 rfl rfl hq
def fX6_qKind_76 (n : Nat) (t0 : Int32) (ci : jI) (cj : jJ) : Option (Int32 × jI × jJ) := if t0 = (nI 5) then Option.bind (fX6_asks n 1600 ci cj) (fun q2 => fX6_qKind_90 n  t0 q2.1 q2.2) else fX6_qKind_90 n  t0 ci cj
theorem wX6_qKind_76 {g : jG} {d : Nat} {K : jK} {cr : jR} {c sl : Nat} {Qr : jQ} {Qx : jX} (hM : jMW K cr) (n : Nat) (t0 : Int32) (ci : jI) (cj : jJ) {q} (h : fX6_qKind_76 n  t0 ci cj = some q) (hq : Qr (some (.int q.1)) K q.2.1 q.2.2 cr) : Ev g (d + 5) mX6_qKind 76 [.ref 1547, jU] [.int t0] K ci cj cr c sl Qr Qx := by
  unfold fX6_qKind_76 at h
  refine ev_istore_n (L' := [_, _]) dX6_qKind_76 (by decide) rfl ?_
  refine ev_iload_n dX6_qKind_77 rfl ?_
  refine ev_iconst (v := (nI 5)) dX6_qKind_78 jc5 ?_
  refine ev_icmp_ne 90 dX6_qKind_79 rfl (fun z1 => ?_) (fun z1 => ?_)
  · rw [if_neg z1] at h
    exact ev_mask [false, true] (wX6_qKind_90 hM n   _ _ _ h hq)
  · rw [if_pos z1] at h
    refine ev_aload_n dX6_qKind_82 rfl ?_
    refine ev_aload_n dX6_qKind_83 rfl ?_
    refine ev_getR dX6_qKind_84 fX6_176_6 (hk1547 hM) (Or.inl (hl1547 hM)) rfl (hr76 hM) ?_
    obtain ⟨q2, z3, h⟩ := Option.bind_eq_some_iff.mp h
    refine ev_zV1 dX6_qKind_87 vX6_329_6 (hk1547 hM) (Or.inl (hl1547 hM)) (Nat.le_of_ble_eq_true rfl) (Nat.le_of_ble_eq_true rfl) rfl (metX6_asks hM n _ _ _ z3 ?_)
    show Ev g _ _ 90 _ [] K q2.1 q2.2 cr c sl Qr Qx
    exact ev_mask [false, true] (wX6_qKind_90 hM n   _ _ _ h hq)
def fX6_qKind (n : Nat) (ci : jI) (cj : jJ) : Option (Int32 × jI × jJ) := Option.bind (fX6_takes n 1595 ci cj) (fun q1 => if q1.1 = 0 then Option.bind (fX6_takes n 1596 q1.2.1 q1.2.2) (fun q4 => if q4.1 = 0 then Option.bind (fX6_takes n 1597 q4.2.1 q4.2.2) (fun q7 => if q7.1 = 0 then Option.bind (fX6_takes n 1598 q7.2.1 q7.2.2) (fun q10 => if q10.1 = 0 then Option.bind (fX6_takes n 1599 q10.2.1 q10.2.2) (fun q13 => if q13.1 = 0 then fX6_qKind_76 n  (nI 5) q13.2.1 q13.2.2 else fX6_qKind_76 n  (nI 4) q13.2.1 q13.2.2) else fX6_qKind_76 n  (nI 3) q10.2.1 q10.2.2) else fX6_qKind_76 n  (nI 2) q7.2.1 q7.2.2) else fX6_qKind_76 n  (nI 1) q4.2.1 q4.2.2) else fX6_qKind_76 n  (nI 0) q1.2.1 q1.2.2)
theorem metX6_qKind {g : jG} {d : Nat} {K : jK} {cr : jR} {c sl : Nat} {Qr : jQ} {Qx : jX} (hM : jMW K cr) (n : Nat) (ci : jI) (cj : jJ) {q} (h : fX6_qKind n  ci cj = some q) (hq : Qr (some (.int q.1)) K q.2.1 q.2.2 cr) : EvM g (d + 5) mX6_qKind [.ref 1547] K ci cj cr c sl Qr Qx := by
  unfold fX6_qKind at h
  show Ev g (d + 5) mX6_qKind 0 [.ref 1547, jU] [] K ci cj cr c sl Qr Qx
  refine ev_aload_n dX6_qKind_0 rfl ?_
  refine ev_aload_n dX6_qKind_1 rfl ?_
  refine ev_getR dX6_qKind_2 fX6_161_6 (hk1547 hM) (Or.inl (hl1547 hM)) rfl (hr71 hM) ?_
  obtain ⟨q1, z2, h⟩ := Option.bind_eq_some_iff.mp h
  refine ev_zV1 dX6_qKind_5 vX6_278_6 (hk1547 hM) (Or.inl (hl1547 hM)) (Nat.le_of_ble_eq_true rfl) (Nat.le_of_ble_eq_true rfl) rfl (metX6_takes hM n _ _ _ z2 ?_)
  show Ev g _ _ 8 _ [.int q1.1] K q1.2.1 q1.2.2 cr c sl Qr Qx
  refine ev_if_eq 15 dX6_qKind_8 rfl (fun z3 => ?_) (fun z3 => ?_)
  · rw [if_pos z3] at h
    refine ev_aload_n dX6_qKind_15 rfl ?_
    refine ev_aload_n dX6_qKind_16 rfl ?_
    refine ev_getR dX6_qKind_17 fX6_164_6 (hk1547 hM) (Or.inl (hl1547 hM)) rfl (hr72 hM) ?_
    obtain ⟨q4, z5, h⟩ := Option.bind_eq_some_iff.mp h
    refine ev_zV1 dX6_qKind_20 vX6_278_6 (hk1547 hM) (Or.inl (hl1547 hM)) (Nat.le_of_ble_eq_true rfl) (Nat.le_of_ble_eq_true rfl) rfl (metX6_takes hM n _ _ _ z5 ?_)
    show Ev g _ _ 23 _ [.int q4.1] K q4.2.1 q4.2.2 cr c sl Qr Qx
    refine ev_if_eq 30 dX6_qKind_23 rfl (fun z6 => ?_) (fun z6 => ?_)
    · rw [if_pos z6] at h
      refine ev_aload_n dX6_qKind_30 rfl ?_
      refine ev_aload_n dX6_qKind_31 rfl ?_
      refine ev_getR dX6_qKind_32 fX6_167_6 (hk1547 hM) (Or.inl (hl1547 hM)) rfl (hr73 hM) ?_
      obtain ⟨q7, z8, h⟩ := Option.bind_eq_some_iff.mp h
      refine ev_zV1 dX6_qKind_35 vX6_278_6 (hk1547 hM) (Or.inl (hl1547 hM)) (Nat.le_of_ble_eq_true rfl) (Nat.le_of_ble_eq_true rfl) rfl (metX6_takes hM n _ _ _ z8 ?_)
      show Ev g _ _ 38 _ [.int q7.1] K q7.2.1 q7.2.2 cr c sl Qr Qx
      refine ev_if_eq 45 dX6_qKind_38 rfl (fun z9 => ?_) (fun z9 => ?_)
      · rw [if_pos z9] at h
        refine ev_aload_n dX6_qKind_45 rfl ?_
        refine ev_aload_n dX6_qKind_46 rfl ?_
        refine ev_getR dX6_qKind_47 fX6_170_6 (hk1547 hM) (Or.inl (hl1547 hM)) rfl (hr74 hM) ?_
        obtain ⟨q10, z11, h⟩ := Option.bind_eq_some_iff.mp h
        refine ev_zV1 dX6_qKind_50 vX6_278_6 (hk1547 hM) (Or.inl (hl1547 hM)) (Nat.le_of_ble_eq_true rfl) (Nat.le_of_ble_eq_true rfl) rfl (metX6_takes hM n _ _ _ z11 ?_)
        show Ev g _ _ 53 _ [.int q10.1] K q10.2.1 q10.2.2 cr c sl Qr Qx
        refine ev_if_eq 60 dX6_qKind_53 rfl (fun z12 => ?_) (fun z12 => ?_)
        · rw [if_pos z12] at h
          refine ev_aload_n dX6_qKind_60 rfl ?_
          refine ev_aload_n dX6_qKind_61 rfl ?_
          refine ev_getR dX6_qKind_62 fX6_173_6 (hk1547 hM) (Or.inl (hl1547 hM)) rfl (hr75 hM) ?_
          obtain ⟨q13, z14, h⟩ := Option.bind_eq_some_iff.mp h
          refine ev_zV1 dX6_qKind_65 vX6_278_6 (hk1547 hM) (Or.inl (hl1547 hM)) (Nat.le_of_ble_eq_true rfl) (Nat.le_of_ble_eq_true rfl) rfl (metX6_takes hM n _ _ _ z14 ?_)
          show Ev g _ _ 68 _ [.int q13.1] K q13.2.1 q13.2.2 cr c sl Qr Qx
          refine ev_if_eq 75 dX6_qKind_68 rfl (fun z15 => ?_) (fun z15 => ?_)
          · rw [if_pos z15] at h
            refine ev_iconst (v := (nI 5)) dX6_qKind_75 jc5 ?_
            exact wX6_qKind_76 hM n   _ _ _ h hq
          · rw [if_neg z15] at h
            refine ev_iconst (v := (nI 4)) dX6_qKind_71 jc4 ?_
            refine ev_goto 76 dX6_qKind_72 rfl ?_
            exact wX6_qKind_76 hM n   _ _ _ h hq
        · rw [if_neg z12] at h
          refine ev_iconst (v := (nI 3)) dX6_qKind_56 jc3 ?_
          refine ev_goto 76 dX6_qKind_57 rfl ?_
          exact wX6_qKind_76 hM n   _ _ _ h hq
      · rw [if_neg z9] at h
        refine ev_iconst (v := (nI 2)) dX6_qKind_41 jc2 ?_
        refine ev_goto 76 dX6_qKind_42 rfl ?_
        exact wX6_qKind_76 hM n   _ _ _ h hq
    · rw [if_neg z6] at h
      refine ev_iconst (v := (nI 1)) dX6_qKind_26 jc1 ?_
      refine ev_goto 76 dX6_qKind_27 rfl ?_
      exact wX6_qKind_76 hM n   _ _ _ h hq
  · rw [if_neg z3] at h
    refine ev_iconst (v := (nI 0)) dX6_qKind_11 jc0 ?_
    refine ev_goto 76 dX6_qKind_12 rfl ?_
    exact wX6_qKind_76 hM n   _ _ _ h hq
def fX6_qTakes_133 (n : Nat) (ci : jI) (cj : jJ) : Option (jI × jJ) := some ((ju ci 1547 105 (nI 0)), cj)
theorem wX6_qTakes_133 {g : jG} {d : Nat} {K : jK} {cr : jR} {c sl : Nat} {Qr : jQ} {Qx : jX} (hM : jMW K cr) (n : Nat) (ci : jI) (cj : jJ) {q} (h : fX6_qTakes_133 n   ci cj = some q) (hq : Qr none K q.1 q.2 cr) : Ev g (d + 1) mX6_qTakes 133 [.ref 1547, jU, jU, jU, jU, jU] [] K ci cj cr c sl Qr Qx := by
  unfold fX6_qTakes_133 at h
  refine ev_aload_n dX6_qTakes_133 rfl ?_
  refine ev_iconst (v := (nI 0)) dX6_qTakes_134 jc0 ?_
  refine ev_putI dX6_qTakes_135 (pX6_664_6 _) (hk1547 hM) (hl1547 hM) rfl (by decide) (by decide) ?_
  cases h
  exact ev_ret dX6_qTakes_138 rfl hq
def fX6_qTakes_128 (n : Nat) (l2 : Int64) (ci : jI) (cj : jJ) : Option (jI × jJ) := fX6_qTakes_133 n   ci (ju cj 1547 104 l2)
theorem wX6_qTakes_128 {g : jG} {d : Nat} {K : jK} {cr : jR} {c sl : Nat} {Qr : jQ} {Qx : jX} (hM : jMW K cr) (n : Nat) (l2 : Int64) (ci : jI) (cj : jJ) {q} (h : fX6_qTakes_128 n  l2 ci cj = some q) (hq : Qr none K q.1 q.2 cr) : Ev g (d + 1) mX6_qTakes 128 [.ref 1547, jU, .long l2, jU, jU, jU] [] K ci cj cr c sl Qr Qx := by
  unfold fX6_qTakes_128 at h
  refine ev_aload_n dX6_qTakes_128 rfl ?_
  refine ev_lload_n dX6_qTakes_129 rfl ?_
  refine ev_putJ dX6_qTakes_130 (pX6_659_6 _) (hk1547 hM) (hl1547 hM) rfl ?_
  exact ev_mask [true, false, false, false, false, false] (wX6_qTakes_133 hM n    _ _ h hq)
def fX6_qTakes_90 (n : Nat) (l1 : Int32) (l2 : Int64) (ci : jI) (cj : jJ) : Option (jI × jJ) := if l1 ≤ (nI 3) then fX6_qTakes_133 n   ci cj else if (ci 1547 105) = 0 then if l1 = (nI 4) then if l2 ≤ (cj 1547 104) then fX6_qTakes_133 n   ci cj else fX6_qTakes_128 n  l2 ci cj else if (cj 1547 104) ≤ l2 then fX6_qTakes_133 n   ci cj else fX6_qTakes_128 n  l2 ci cj else fX6_qTakes_128 n  l2 ci cj
theorem wX6_qTakes_90 {g : jG} {d : Nat} {K : jK} {cr : jR} {c sl : Nat} {Qr : jQ} {Qx : jX} (hM : jMW K cr) (n : Nat) (l1 : Int32) (l2 : Int64) (ci : jI) (cj : jJ) {q} (h : fX6_qTakes_90 n  l1 l2 ci cj = some q) (hq : Qr none K q.1 q.2 cr) : Ev g (d + 1) mX6_qTakes 90 [.ref 1547, .int l1, .long l2, jU, jU, jU] [] K ci cj cr c sl Qr Qx := by
  unfold fX6_qTakes_90 at h
  refine ev_iload_n dX6_qTakes_90 rfl ?_
  refine ev_iconst (v := (nI 3)) dX6_qTakes_91 jc3 ?_
  refine ev_icmp_le 133 dX6_qTakes_92 rfl (fun z1 => ?_) (fun z1 => ?_)
  · rw [if_pos z1] at h
    exact ev_mask [true, false, false, false, false, false] (wX6_qTakes_133 hM n    _ _ h hq)
  · rw [if_neg z1] at h
    refine ev_aload_n dX6_qTakes_95 rfl ?_
    refine ev_getI dX6_qTakes_96 fX6_664_6 (hk1547 hM) (Or.inl (hl1547 hM)) rfl ?_
    refine ev_if_ne 128 dX6_qTakes_99 rfl (fun z2 => ?_) (fun z2 => ?_)
    · rw [if_neg z2] at h
      exact ev_mask [true, false, true, false, false, false] (wX6_qTakes_128 hM n   _ _ _ h hq)
    · rw [if_pos z2] at h
      refine ev_iload_n dX6_qTakes_102 rfl ?_
      refine ev_iconst (v := (nI 4)) dX6_qTakes_103 jc4 ?_
      refine ev_icmp_ne 119 dX6_qTakes_104 rfl (fun z3 => ?_) (fun z3 => ?_)
      · rw [if_neg z3] at h
        refine ev_lload_n dX6_qTakes_119 rfl ?_
        refine ev_aload_n dX6_qTakes_120 rfl ?_
        refine ev_getJ dX6_qTakes_121 fX6_659_6 (hk1547 hM) (Or.inl (hl1547 hM)) rfl ?_
        refine ev_lcif_ge 133 dX6_qTakes_124 dX6_qTakes_125 rfl (fun z4 => ?_) (fun z4 => ?_)
        · rw [if_pos z4] at h
          exact ev_mask [true, false, false, false, false, false] (wX6_qTakes_133 hM n    _ _ h hq)
        · rw [if_neg z4] at h
          exact ev_mask [true, false, true, false, false, false] (wX6_qTakes_128 hM n   _ _ _ h hq)
      · rw [if_pos z3] at h
        refine ev_lload_n dX6_qTakes_107 rfl ?_
        refine ev_aload_n dX6_qTakes_108 rfl ?_
        refine ev_getJ dX6_qTakes_109 fX6_659_6 (hk1547 hM) (Or.inl (hl1547 hM)) rfl ?_
        refine ev_lcif_le 133 dX6_qTakes_112 dX6_qTakes_113 rfl (fun z5 => ?_) (fun z5 => ?_)
        · rw [if_pos z5] at h
          exact ev_mask [true, false, false, false, false, false] (wX6_qTakes_133 hM n    _ _ h hq)
        · rw [if_neg z5] at h
          refine ev_goto 128 dX6_qTakes_116 rfl ?_
          exact ev_mask [true, false, true, false, false, false] (wX6_qTakes_128 hM n   _ _ _ h hq)
def fX6_qTakes_75 (n : Nat) (l1 : Int32) (l2 : Int64) (ci : jI) (cj : jJ) : Option (jI × jJ) := if l1 = (nI 3) then fX6_qTakes_90 n  l1 l2 ci (ju cj 1547 104 ((cj 1547 104) + l2)) else fX6_qTakes_90 n  l1 l2 ci cj
theorem wX6_qTakes_75 {g : jG} {d : Nat} {K : jK} {cr : jR} {c sl : Nat} {Qr : jQ} {Qx : jX} (hM : jMW K cr) (n : Nat) (l1 : Int32) (l2 : Int64) (ci : jI) (cj : jJ) {q} (h : fX6_qTakes_75 n  l1 l2 ci cj = some q) (hq : Qr none K q.1 q.2 cr) : Ev g (d + 1) mX6_qTakes 75 [.ref 1547, .int l1, .long l2, jU, jU, jU] [] K ci cj cr c sl Qr Qx := by
  unfold fX6_qTakes_75 at h
  refine ev_iload_n dX6_qTakes_75 rfl ?_
  refine ev_iconst (v := (nI 3)) dX6_qTakes_76 jc3 ?_
  refine ev_icmp_ne 90 dX6_qTakes_77 rfl (fun z1 => ?_) (fun z1 => ?_)
  · rw [if_neg z1] at h
    exact wX6_qTakes_90 hM n   _ _ _ _ h hq
  · rw [if_pos z1] at h
    refine ev_aload_n dX6_qTakes_80 rfl ?_
    refine ev_dup dX6_qTakes_81 rfl ?_
    refine ev_getJ dX6_qTakes_82 fX6_659_6 (hk1547 hM) (Or.inl (hl1547 hM)) rfl ?_
    refine ev_lload_n dX6_qTakes_85 rfl ?_
    refine ev_ladd dX6_qTakes_86 ?_
    refine ev_putJ dX6_qTakes_87 (pX6_659_6 _) (hk1547 hM) (hl1547 hM) rfl ?_
    exact wX6_qTakes_90 hM n   _ _ _ _ h hq
def fX6_qTakes_55 (n : Nat) (l1 : Int32) (l2 : Int64) (l5 : Int32) (ci : jI) (cj : jJ) : Option (jI × jJ) := if l1 = (nI 2) then if l5 = 0 then fX6_qTakes_75 n  l1 l2 ci cj else fX6_qTakes_75 n  l1 l2 ci (ju cj 1547 104 ((cj 1547 104) + (lN 1))) else fX6_qTakes_75 n  l1 l2 ci cj
theorem wX6_qTakes_55 {g : jG} {d : Nat} {K : jK} {cr : jR} {c sl : Nat} {Qr : jQ} {Qx : jX} (hM : jMW K cr) (n : Nat) (l1 : Int32) (l2 : Int64) (l5 : Int32) (ci : jI) (cj : jJ) {q} (h : fX6_qTakes_55 n  l1 l2 l5 ci cj = some q) (hq : Qr none K q.1 q.2 cr) : Ev g (d + 1) mX6_qTakes 55 [.ref 1547, .int l1, .long l2, jU, jU, .int l5] [] K ci cj cr c sl Qr Qx := by
  unfold fX6_qTakes_55 at h
  refine ev_iload_n dX6_qTakes_55 rfl ?_
  refine ev_iconst (v := (nI 2)) dX6_qTakes_56 jc2 ?_
  refine ev_icmp_ne 75 dX6_qTakes_57 rfl (fun z1 => ?_) (fun z1 => ?_)
  · rw [if_neg z1] at h
    exact ev_mask [true, true, true, false, false, false] (wX6_qTakes_75 hM n   _ _ _ _ h hq)
  · rw [if_pos z1] at h
    refine ev_iload dX6_qTakes_60 rfl ?_
    refine ev_if_eq 75 dX6_qTakes_62 rfl (fun z2 => ?_) (fun z2 => ?_)
    · rw [if_pos z2] at h
      exact ev_mask [true, true, true, false, false, false] (wX6_qTakes_75 hM n   _ _ _ _ h hq)
    · rw [if_neg z2] at h
      refine ev_aload_n dX6_qTakes_65 rfl ?_
      refine ev_dup dX6_qTakes_66 rfl ?_
      refine ev_getJ dX6_qTakes_67 fX6_659_6 (hk1547 hM) (Or.inl (hl1547 hM)) rfl ?_
      refine ev_lconst (v := lN 1) dX6_qTakes_70 rfl ?_
      refine ev_ladd dX6_qTakes_71 ?_
      refine ev_putJ dX6_qTakes_72 (pX6_659_6 _) (hk1547 hM) (hl1547 hM) rfl ?_
      exact ev_mask [true, true, true, false, false, false] (wX6_qTakes_75 hM n   _ _ _ _ h hq)
def fX6_qTakes_48 (n : Nat) (l1 : Int32) (l2 : Int64) (l4 : Int32) (l5 : Int32) (ci : jI) (cj : jJ) : Option (jI × jJ) := fX6_qTakes_55 n  l1 l2 l5 ci (ju cj 1547 104 ((l4).toInt64))
theorem wX6_qTakes_48 {g : jG} {d : Nat} {K : jK} {cr : jR} {c sl : Nat} {Qr : jQ} {Qx : jX} (hM : jMW K cr) (n : Nat) (l1 : Int32) (l2 : Int64) (l4 : Int32) (l5 : Int32) (ci : jI) (cj : jJ) {q} (h : fX6_qTakes_48 n  l1 l2 l4 l5 ci cj = some q) (hq : Qr none K q.1 q.2 cr) : Ev g (d + 1) mX6_qTakes 48 [.ref 1547, .int l1, .long l2, jU, .int l4, .int l5] [] K ci cj cr c sl Qr Qx := by
  unfold fX6_qTakes_48 at h
  refine ev_aload_n dX6_qTakes_48 rfl ?_
  refine ev_iload dX6_qTakes_49 rfl ?_
  refine ev_i2l dX6_qTakes_51 ?_
  refine ev_putJ dX6_qTakes_52 (pX6_659_6 _) (hk1547 hM) (hl1547 hM) rfl ?_
  exact ev_mask [true, true, true, false, false, true] (wX6_qTakes_55 hM n   _ _ _ _ _ h hq)
def fX6_qTakes_38 (n : Nat) (l1 : Int32) (l2 : Int64) (l4 : Int32) (l5 : Int32) (ci : jI) (cj : jJ) : Option (jI × jJ) := if l1 = (nI 1) then if l5 = 0 then fX6_qTakes_55 n  l1 l2 l5 ci cj else fX6_qTakes_48 n  l1 l2 l4 l5 ci cj else fX6_qTakes_55 n  l1 l2 l5 ci cj
theorem wX6_qTakes_38 {g : jG} {d : Nat} {K : jK} {cr : jR} {c sl : Nat} {Qr : jQ} {Qx : jX} (hM : jMW K cr) (n : Nat) (l1 : Int32) (l2 : Int64) (l4 : Int32) (l5 : Int32) (ci : jI) (cj : jJ) {q} (h : fX6_qTakes_38 n  l1 l2 l4 l5 ci cj = some q) (hq : Qr none K q.1 q.2 cr) : Ev g (d + 1) mX6_qTakes 38 [.ref 1547, .int l1, .long l2, jU, .int l4, .int l5] [] K ci cj cr c sl Qr Qx := by
  unfold fX6_qTakes_38 at h
  refine ev_iload_n dX6_qTakes_38 rfl ?_
  refine ev_iconst (v := (nI 1)) dX6_qTakes_39 jc1 ?_
  refine ev_icmp_ne 55 dX6_qTakes_40 rfl (fun z1 => ?_) (fun z1 => ?_)
  · rw [if_neg z1] at h
    exact ev_mask [true, true, true, false, false, true] (wX6_qTakes_55 hM n   _ _ _ _ _ h hq)
  · rw [if_pos z1] at h
    refine ev_iload dX6_qTakes_43 rfl ?_
    refine ev_if_eq 55 dX6_qTakes_45 rfl (fun z2 => ?_) (fun z2 => ?_)
    · rw [if_pos z2] at h
      exact ev_mask [true, true, true, false, false, true] (wX6_qTakes_55 hM n   _ _ _ _ _ h hq)
    · rw [if_neg z2] at h
      exact wX6_qTakes_48 hM n   _ _ _ _ _ _ h hq
def fX6_qTakes_16 (n : Nat) (l1 : Int32) (l2 : Int64) (l4 : Int32) (t0 : Int32) (ci : jI) (cj : jJ) : Option (jI × jJ) := if l1 = 0 then if t0 = 0 then fX6_qTakes_38 n  l1 l2 l4 t0 ci cj else if (cj 1547 104) = (-1 : Int64) then fX6_qTakes_48 n  l1 l2 l4 t0 ci cj else fX6_qTakes_38 n  l1 l2 l4 t0 ci cj else fX6_qTakes_38 n  l1 l2 l4 t0 ci cj
theorem wX6_qTakes_16 {g : jG} {d : Nat} {K : jK} {cr : jR} {c sl : Nat} {Qr : jQ} {Qx : jX} (hM : jMW K cr) (n : Nat) (l1 : Int32) (l2 : Int64) (l4 : Int32) (t0 : Int32) (ci : jI) (cj : jJ) {q} (h : fX6_qTakes_16 n  l1 l2 l4 t0 ci cj = some q) (hq : Qr none K q.1 q.2 cr) : Ev g (d + 1) mX6_qTakes 16 [.ref 1547, .int l1, .long l2, jU, .int l4, jU] [.int t0] K ci cj cr c sl Qr Qx := by
  unfold fX6_qTakes_16 at h
  refine ev_istore (L' := [_, _, _, _, _, _]) dX6_qTakes_16 (by decide) rfl ?_
  refine ev_iload_n dX6_qTakes_18 rfl ?_
  refine ev_if_ne 38 dX6_qTakes_19 rfl (fun z1 => ?_) (fun z1 => ?_)
  · rw [if_neg z1] at h
    exact wX6_qTakes_38 hM n   _ _ _ _ _ _ h hq
  · rw [if_pos z1] at h
    refine ev_iload dX6_qTakes_22 rfl ?_
    refine ev_if_eq 38 dX6_qTakes_24 rfl (fun z2 => ?_) (fun z2 => ?_)
    · rw [if_pos z2] at h
      exact wX6_qTakes_38 hM n   _ _ _ _ _ _ h hq
    · rw [if_neg z2] at h
      refine ev_aload_n dX6_qTakes_27 rfl ?_
      refine ev_getJ dX6_qTakes_28 fX6_659_6 (hk1547 hM) (Or.inl (hl1547 hM)) rfl ?_
      refine ev_ldc2 dX6_qTakes_31 q2519 ?_
      refine ev_lcif_eq 48 dX6_qTakes_34 dX6_qTakes_35 rfl (fun z3 => ?_) (fun z3 => ?_)
      · rw [if_pos z3] at h
        exact wX6_qTakes_48 hM n   _ _ _ _ _ _ h hq
      · rw [if_neg z3] at h
        exact wX6_qTakes_38 hM n   _ _ _ _ _ _ h hq
def fX6_qTakes_15 (n : Nat) (l1 : Int32) (l2 : Int64) (l4 : Int32) (ci : jI) (cj : jJ) : Option (jI × jJ) := fX6_qTakes_16 n  l1 l2 l4 (nI 0) ci cj
theorem wX6_qTakes_15 {g : jG} {d : Nat} {K : jK} {cr : jR} {c sl : Nat} {Qr : jQ} {Qx : jX} (hM : jMW K cr) (n : Nat) (l1 : Int32) (l2 : Int64) (l4 : Int32) (ci : jI) (cj : jJ) {q} (h : fX6_qTakes_15 n  l1 l2 l4 ci cj = some q) (hq : Qr none K q.1 q.2 cr) : Ev g (d + 1) mX6_qTakes 15 [.ref 1547, .int l1, .long l2, jU, .int l4, jU] [] K ci cj cr c sl Qr Qx := by
  unfold fX6_qTakes_15 at h
  refine ev_iconst (v := (nI 0)) dX6_qTakes_15 jc0 ?_
  exact wX6_qTakes_16 hM n   _ _ _ _ _ _ h hq
def fX6_qTakes (n : Nat) (a0 : Int32) (a1 : Int64) (a2 : Int32) (ci : jI) (cj : jJ) : Option (jI × jJ) := if (nI 3) ≤ a0 then fX6_qTakes_15 n  a0 a1 a2 ci cj else if a1 = (lN 1) then fX6_qTakes_16 n  a0 a1 a2 (nI 1) ci cj else fX6_qTakes_15 n  a0 a1 a2 ci cj
theorem metX6_qTakes {g : jG} {d : Nat} {K : jK} {cr : jR} {c sl : Nat} {Qr : jQ} {Qx : jX} (hM : jMW K cr) (n : Nat) (a0 : Int32) (a1 : Int64) (a2 : Int32) (ci : jI) (cj : jJ) {q} (h : fX6_qTakes n a0 a1 a2 ci cj = some q) (hq : Qr none K q.1 q.2 cr) : EvM g (d + 1) mX6_qTakes [.ref 1547, .int a0, .long a1, .int a2] K ci cj cr c sl Qr Qx := by
  unfold fX6_qTakes at h
  show Ev g (d + 1) mX6_qTakes 0 [.ref 1547, .int a0, .long a1, jU, .int a2, jU] [] K ci cj cr c sl Qr Qx
  refine ev_iload_n dX6_qTakes_0 rfl ?_
  refine ev_iconst (v := (nI 3)) dX6_qTakes_1 jc3 ?_
  refine ev_icmp_ge 15 dX6_qTakes_2 rfl (fun z1 => ?_) (fun z1 => ?_)
  · rw [if_pos z1] at h
    exact wX6_qTakes_15 hM n   _ _ _ _ _ h hq
  · rw [if_neg z1] at h
    refine ev_lload_n dX6_qTakes_5 rfl ?_
    refine ev_lconst (v := lN 1) dX6_qTakes_6 rfl ?_
    refine ev_lcif_ne 15 dX6_qTakes_7 dX6_qTakes_8 rfl (fun z2 => ?_) (fun z2 => ?_)
    · rw [if_neg z2] at h
      exact wX6_qTakes_15 hM n   _ _ _ _ _ h hq
    · rw [if_pos z2] at h
      refine ev_iconst (v := (nI 1)) dX6_qTakes_11 jc1 ?_
      refine ev_goto 16 dX6_qTakes_12 rfl ?_
      exact wX6_qTakes_16 hM n   _ _ _ _ _ _ h hq
