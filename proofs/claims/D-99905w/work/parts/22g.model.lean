/-! STAGE A OF THE MODEL (printed by gen/model.py) -/
set_option maxRecDepth 100000
def fX6_qOf_40 (n : Nat) (t0 : Int64) (ci : jI) (cj : jJ) : Option (Int64 × jI × jJ) := some (t0, ci, cj)
theorem wX6_qOf_40 {g : jG} {d : Nat} {K : jK} {cr : jR} {c sl : Nat} {Qr : jQ} {Qx : jX} (hM : jMW K cr) (n : Nat) (t0 : Int64) (ci : jI) (cj : jJ) {q} (h : fX6_qOf_40 n  t0 ci cj = some q) (hq : Qr (some (.long q.1)) K q.2.1 q.2.2 cr) : Ev g (d + 3) mX6_qOf 40 [jU, jU, jU, jU, jU] [.long t0] K ci cj cr c sl Qr Qx := by
  unfold fX6_qOf_40 at h
  cases h
  exact ev_lret dX6_qOf_40 rfl hq
def fX6_qOf_66 (n : Nat) (t0 : Int64) (ci : jI) (cj : jJ) : Option (Int64 × jI × jJ) := some (t0, ci, cj)
theorem wX6_qOf_66 {g : jG} {d : Nat} {K : jK} {cr : jR} {c sl : Nat} {Qr : jQ} {Qx : jX} (hM : jMW K cr) (n : Nat) (t0 : Int64) (ci : jI) (cj : jJ) {q} (h : fX6_qOf_66 n  t0 ci cj = some q) (hq : Qr (some (.long q.1)) K q.2.1 q.2.2 cr) : Ev g (d + 3) mX6_qOf 66 [jU, jU, jU, jU, jU] [.long t0] K ci cj cr c sl Qr Qx := by
  unfold fX6_qOf_66 at h
  cases h
  exact ev_lret dX6_qOf_66 rfl hq
def fX6_qOf (n : Nat) (a0 : Int32) (a1 : Int64) (a2 : Int32) (ci : jI) (cj : jJ) : Option (Int64 × jI × jJ) := if a0 = (nI 0) then Option.bind (fX6_isBay n a1 ci cj) (fun q2 => if q2.1 = 0 then fX6_qOf_40 n  (lN 0) q2.2.1 q2.2.2 else if jok ((a1).toInt32) 6 then fX6_qOf_40 n  (((q2.2.1 1587 ((a1).toInt32).toNatClampNeg)).toInt64) q2.2.1 q2.2.2 else none) else Option.bind (fX6_isBay n a1 ci cj) (fun q6 => if q6.1 = 0 then fX6_qOf_66 n  (lN 0) q6.2.1 q6.2.2 else if jok ((nI 8) + ((nI 3) * (a1).toInt32)) 166 then fX6_qOf_66 n  (((q6.2.1 1585 (((nI 8) + ((nI 3) * (a1).toInt32))).toNatClampNeg)).toInt64) q6.2.1 q6.2.2 else none)
theorem metX6_qOf {g : jG} {d : Nat} {K : jK} {cr : jR} {c sl : Nat} {Qr : jQ} {Qx : jX} (hM : jMW K cr) (n : Nat) (a0 : Int32) (a1 : Int64) (a2 : Int32) (ci : jI) (cj : jJ) {q} (h : fX6_qOf n a0 a1 a2 ci cj = some q) (hq : Qr (some (.long q.1)) K q.2.1 q.2.2 cr) : EvM g (d + 3) mX6_qOf [.ref 1547, .int a0, .long a1, .int a2] K ci cj cr c sl Qr Qx := by
  unfold fX6_qOf at h
  show Ev g (d + 3) mX6_qOf 0 [.ref 1547, .int a0, .long a1, jU, .int a2] [] K ci cj cr c sl Qr Qx
  refine ev_iload_n dX6_qOf_0 rfl ?_
  by_cases z1 : a0 = (nI 0)
  · rw [if_pos z1] at h
    refine ev_lookup 20 dX6_qOf_1 (by decide) (off := 19) (by rw [z1]; decide) rfl ?_
    refine ev_aload_n dX6_qOf_20 rfl ?_
    refine ev_lload_n dX6_qOf_21 rfl ?_
    obtain ⟨q2, z3, h⟩ := Option.bind_eq_some_iff.mp h
    refine ev_zV1 dX6_qOf_22 vX6_516_6 (hk1547 hM) (Or.inl (hl1547 hM)) (Nat.le_of_ble_eq_true rfl) (Nat.le_of_ble_eq_true rfl) rfl (metX6_isBay hM n _ _ _ z3 ?_)
    show Ev g _ _ 25 _ [.int q2.1] K q2.2.1 q2.2.2 cr c sl Qr Qx
    refine ev_if_eq 39 dX6_qOf_25 rfl (fun z4 => ?_) (fun z4 => ?_)
    · rw [if_pos z4] at h
      refine ev_lconst (v := lN 0) dX6_qOf_39 rfl ?_
      exact ev_mask [false, false, false, false, false] (wX6_qOf_40 hM n   _ _ _ h hq)
    · rw [if_neg z4] at h
      refine ev_aload_n dX6_qOf_28 rfl ?_
      refine ev_getR dX6_qOf_29 fX6_133_6 (hk1547 hM) (Or.inl (hl1547 hM)) rfl (hr56 hM) ?_
      refine ev_lload_n dX6_qOf_32 rfl ?_
      refine ev_l2i dX6_qOf_33 ?_
      by_cases z5 : jok ((a1).toInt32) 6
      rotate_left
      · rw [if_neg z5] at h; cases h
      rw [if_pos z5] at h
      refine ev_iaload dX6_qOf_34 (hk1587 hM) (Or.inl (hl1587 hM)) (jok.ix z5 (hn1587 hM)) ?_
      refine ev_i2l dX6_qOf_35 ?_
      refine ev_goto 40 dX6_qOf_36 rfl ?_
      exact ev_mask [false, false, false, false, false] (wX6_qOf_40 hM n   _ _ _ h hq)
  rw [if_neg z1] at h
  refine ev_lookup 41 dX6_qOf_1 (by decide) (off := 40) (by show Op.lookupswitch.offset [(0, 19)] 40 _ = 40; rw [lv_osw z1 (by decide : ((nI 0) : Int32).toInt = 0)]; rfl) rfl ?_
  refine ev_aload_n dX6_qOf_41 rfl ?_
  refine ev_lload_n dX6_qOf_42 rfl ?_
  obtain ⟨q6, z7, h⟩ := Option.bind_eq_some_iff.mp h
  refine ev_zV1 dX6_qOf_43 vX6_516_6 (hk1547 hM) (Or.inl (hl1547 hM)) (Nat.le_of_ble_eq_true rfl) (Nat.le_of_ble_eq_true rfl) rfl (metX6_isBay hM n _ _ _ z7 ?_)
  show Ev g _ _ 46 _ [.int q6.1] K q6.2.1 q6.2.2 cr c sl Qr Qx
  refine ev_if_eq 65 dX6_qOf_46 rfl (fun z8 => ?_) (fun z8 => ?_)
  · rw [if_pos z8] at h
    refine ev_lconst (v := lN 0) dX6_qOf_65 rfl ?_
    exact ev_mask [false, false, false, false, false] (wX6_qOf_66 hM n   _ _ _ h hq)
  · rw [if_neg z8] at h
    refine ev_aload_n dX6_qOf_49 rfl ?_
    refine ev_getR dX6_qOf_50 fX6_127_6 (hk1547 hM) (Or.inl (hl1547 hM)) rfl (hr50 hM) ?_
    refine ev_bipush (v := (nI 8)) dX6_qOf_53 jb8 ?_
    refine ev_iconst (v := (nI 3)) dX6_qOf_55 jc3 ?_
    refine ev_lload_n dX6_qOf_56 rfl ?_
    refine ev_l2i dX6_qOf_57 ?_
    refine ev_imul dX6_qOf_58 ?_
    refine ev_iadd dX6_qOf_59 ?_
    by_cases z9 : jok ((nI 8) + ((nI 3) * (a1).toInt32)) 166
    rotate_left
    · rw [if_neg z9] at h; cases h
    rw [if_pos z9] at h
    refine ev_iaload dX6_qOf_60 (hk1585 hM) (Or.inl (hl1585 hM)) (jok.ix z9 (hn1585 hM)) ?_
    refine ev_i2l dX6_qOf_61 ?_
    refine ev_goto 66 dX6_qOf_62 rfl ?_
    exact ev_mask [false, false, false, false, false] (wX6_qOf_66 hM n   _ _ _ h hq)
def fX6_qTold_162 (n : Nat) (rec7 : Int32 → Int32 → jI → jJ → Option (Int64 × jI × jJ)) (l1 : Int32) (l2 : Int32) (ci : jI) (cj : jJ) : Option (Int64 × jI × jJ) := rec7 l1 (l2 + (nI 1)) ci cj
theorem wX6_qTold_162 {g : jG} {d : Nat} {K : jK} {cr : jR} {c sl : Nat} {Qr : jQ} {Qx : jX} (hM : jMW K cr) (n : Nat) (rec7 : Int32 → Int32 → jI → jJ → Option (Int64 × jI × jJ)) (hrec7 : (∀ (l1 : Int32) (l2 : Int32) (ci : jI) (cj : jJ) {q}, rec7 l1 l2 ci cj = some q → Qr (some (.long q.1)) K q.2.1 q.2.2 cr → Ev g (d + 4) mX6_qTold 7 [.ref 1547, .int l1, .int l2, jU] [] K ci cj cr c sl Qr Qx)) (l1 : Int32) (l2 : Int32) (ci : jI) (cj : jJ) {q} (h : fX6_qTold_162 n rec7 l1 l2 ci cj = some q) (hq : Qr (some (.long q.1)) K q.2.1 q.2.2 cr) : Ev g (d + 4) mX6_qTold 162 [.ref 1547, .int l1, .int l2, jU] [] K ci cj cr c sl Qr Qx := by
  unfold fX6_qTold_162 at h
  refine ev_iinc (v := (l2 + (nI 1))) (L' := [_, _, _, _]) dX6_qTold_162 rfl (by rw [ji_1]) (by decide) rfl ?_
  refine ev_goto 7 dX6_qTold_165 rfl ?_
  exact hrec7 _ _ _ _ h hq
def fX6_qTold_7 (n : Nat) : Nat → Int32 → Int32 → jI → jJ → Option (Int64 × jI × jJ)
  | 0, _, _, _, _ => none
  | k + 1, l1, l2, ci, cj => if (ci 1547 97) ≤ l2 then if jok (nI 0) 1700 then some ((cj 1622 ((nI 0)).toNatClampNeg), ci, cj) else none else if jok l2 1700 then if (ci 1620 (l2).toNatClampNeg) < (nI 1000) then if (ci 1620 (l2).toNatClampNeg) < (nI 60) then if (ci 1620 (l2).toNatClampNeg) < (nI 40) then if (ci 1620 (l2).toNatClampNeg) = (nI 13) then Option.bind (fX6_qPuts n (lN 1) ci cj) (fun q13 => fX6_qTold_162 n (fX6_qTold_7 n  k) l1 l2 q13.1 q13.2) else if (ci 1620 (l2).toNatClampNeg) = (nI 12) then if jok ((ci 1547 103) - (nI 1)) 1700 then if jok ((ci 1547 103) - (nI 1)) 1700 then fX6_qTold_162 n (fX6_qTold_7 n  k) l1 l2 ci (ju cj 1622 (((ci 1547 103) - (nI 1))).toNatClampNeg ((lN 1) - (cj 1622 (((ci 1547 103) - (nI 1))).toNatClampNeg))) else none else none else Option.bind (fX6_qJoins n (ci 1620 (l2).toNatClampNeg) ci cj) (fun q9 => fX6_qTold_162 n (fX6_qTold_7 n  k) l1 l2 q9.1 q9.2) else Option.bind (fX6_qPartOf n ((ci 1620 (l2).toNatClampNeg) - (nI 40)) l1 ci cj) (fun q15 => Option.bind (fX6_qClip n q15.1 q15.2.1 q15.2.2) (fun q17 => Option.bind (fX6_qPuts n q17.1 q17.2.1 q17.2.2) (fun q19 => fX6_qTold_162 n (fX6_qTold_7 n  k) l1 l2 q19.1 q19.2))) else if jok ((ci 1547 103) - (nI 1)) 1700 then Option.bind (fX6_qOf n ((ci 1620 (l2).toNatClampNeg) - (nI 60)) (cj 1622 (((ci 1547 103) - (nI 1))).toNatClampNeg) l1 ci cj) (fun q22 => Option.bind (fX6_qClip n q22.1 q22.2.1 q22.2.2) (fun q24 => if jok ((ci 1547 103) - (nI 1)) 1700 then fX6_qTold_162 n (fX6_qTold_7 n  k) l1 l2 q24.2.1 (ju q24.2.2 1622 (((ci 1547 103) - (nI 1))).toNatClampNeg q24.1) else none)) else none else Option.bind (fX6_qPuts n ((((ci 1620 (l2).toNatClampNeg) - (nI 1000))).toInt64) ci cj) (fun q27 => fX6_qTold_162 n (fX6_qTold_7 n  k) l1 l2 q27.1 q27.2) else none
theorem wX6_qTold_7 {g : jG} {d : Nat} {K : jK} {cr : jR} {c sl : Nat} {Qr : jQ} {Qx : jX} (hM : jMW K cr) (n : Nat) : ∀ (k : Nat) (l1 : Int32) (l2 : Int32) (ci : jI) (cj : jJ) {q}, fX6_qTold_7 n  k l1 l2 ci cj = some q → Qr (some (.long q.1)) K q.2.1 q.2.2 cr → Ev g (d + 4) mX6_qTold 7 [.ref 1547, .int l1, .int l2, jU] [] K ci cj cr c sl Qr Qx := by
  intro k
  induction k with
  | zero =>
    intro l1 l2 ci cj q h hq
    rw [fX6_qTold_7.eq_1] at h; cases h
  | succ k ih =>
    intro l1 l2 ci cj q h hq
    rw [fX6_qTold_7.eq_2] at h
    refine ev_iload_n dX6_qTold_7 rfl ?_
    refine ev_aload_n dX6_qTold_8 rfl ?_
    refine ev_getI dX6_qTold_9 fX6_344_6 (hk1547 hM) (Or.inl (hl1547 hM)) rfl ?_
    refine ev_icmp_ge 168 dX6_qTold_12 rfl (fun z1 => ?_) (fun z1 => ?_)
    · rw [if_pos z1] at h
      refine ev_aload_n dX6_qTold_168 rfl ?_
      refine ev_getR dX6_qTold_169 fX6_242_6 (hk1547 hM) (Or.inl (hl1547 hM)) rfl (hr102 hM) ?_
      refine ev_iconst (v := (nI 0)) dX6_qTold_172 jc0 ?_
      by_cases z2 : jok (nI 0) 1700
      rotate_left
      · rw [if_neg z2] at h; cases h
      rw [if_pos z2] at h
      refine ev_laload dX6_qTold_173 (hk1622 hM) (Or.inl (hl1622 hM)) (jok.ix z2 (hn1622 hM)) ?_
      cases h
      exact ev_lret dX6_qTold_174 rfl hq
    · rw [if_neg z1] at h
      refine ev_aload_n dX6_qTold_15 rfl ?_
      refine ev_getR dX6_qTold_16 fX6_236_6 (hk1547 hM) (Or.inl (hl1547 hM)) rfl (hr96 hM) ?_
      refine ev_iload_n dX6_qTold_19 rfl ?_
      by_cases z3 : jok l2 1700
      rotate_left
      · rw [if_neg z3] at h; cases h
      rw [if_pos z3] at h
      refine ev_iaload dX6_qTold_20 (hk1620 hM) (Or.inl (hl1620 hM)) (jok.ix z3 (hn1620 hM)) ?_
      refine ev_istore_n (L' := [_, _, _, _]) dX6_qTold_21 (by decide) rfl ?_
      refine ev_iload_n dX6_qTold_22 rfl ?_
      refine ev_sipush (v := (nI 1000)) dX6_qTold_23 js1000 ?_
      refine ev_icmp_lt 42 dX6_qTold_26 rfl (fun z4 => ?_) (fun z4 => ?_)
      · rw [if_pos z4] at h
        refine ev_iload_n dX6_qTold_42 rfl ?_
        refine ev_bipush (v := (nI 60)) dX6_qTold_43 jb60 ?_
        refine ev_icmp_lt 85 dX6_qTold_45 rfl (fun z5 => ?_) (fun z5 => ?_)
        · rw [if_pos z5] at h
          refine ev_iload_n dX6_qTold_85 rfl ?_
          refine ev_bipush (v := (nI 40)) dX6_qTold_86 jb40 ?_
          refine ev_icmp_lt 110 dX6_qTold_88 rfl (fun z6 => ?_) (fun z6 => ?_)
          · rw [if_pos z6] at h
            refine ev_iload_n dX6_qTold_110 rfl ?_
            refine ev_bipush (v := (nI 13)) dX6_qTold_111 jb13 ?_
            refine ev_icmp_ne 124 dX6_qTold_113 rfl (fun z7 => ?_) (fun z7 => ?_)
            · rw [if_neg z7] at h
              refine ev_iload_n dX6_qTold_124 rfl ?_
              refine ev_bipush (v := (nI 12)) dX6_qTold_125 jb12 ?_
              refine ev_icmp_ne 157 dX6_qTold_127 rfl (fun z8 => ?_) (fun z8 => ?_)
              · rw [if_neg z8] at h
                refine ev_aload_n dX6_qTold_157 rfl ?_
                refine ev_iload_n dX6_qTold_158 rfl ?_
                obtain ⟨q9, z10, h⟩ := Option.bind_eq_some_iff.mp h
                refine ev_zV1 dX6_qTold_159 vX6_419_6 (hk1547 hM) (Or.inl (hl1547 hM)) (Nat.le_of_ble_eq_true rfl) (Nat.le_of_ble_eq_true rfl) rfl (metX6_qJoins hM n _ _ _ z10 ?_)
                show Ev g _ _ 162 _ [] K q9.1 q9.2 cr c sl Qr Qx
                exact ev_mask [true, true, true, false] (wX6_qTold_162 hM n _ (ih) _ _ _ _ h hq)
              · rw [if_pos z8] at h
                refine ev_aload_n dX6_qTold_130 rfl ?_
                refine ev_getR dX6_qTold_131 fX6_242_6 (hk1547 hM) (Or.inl (hl1547 hM)) rfl (hr102 hM) ?_
                refine ev_aload_n dX6_qTold_134 rfl ?_
                refine ev_getI dX6_qTold_135 fX6_408_6 (hk1547 hM) (Or.inl (hl1547 hM)) rfl ?_
                refine ev_iconst (v := (nI 1)) dX6_qTold_138 jc1 ?_
                refine ev_isub dX6_qTold_139 ?_
                refine ev_lconst (v := lN 1) dX6_qTold_140 rfl ?_
                refine ev_aload_n dX6_qTold_141 rfl ?_
                refine ev_getR dX6_qTold_142 fX6_242_6 (hk1547 hM) (Or.inl (hl1547 hM)) rfl (hr102 hM) ?_
                refine ev_aload_n dX6_qTold_145 rfl ?_
                refine ev_getI dX6_qTold_146 fX6_408_6 (hk1547 hM) (Or.inl (hl1547 hM)) rfl ?_
                refine ev_iconst (v := (nI 1)) dX6_qTold_149 jc1 ?_
                refine ev_isub dX6_qTold_150 ?_
                by_cases z11 : jok ((ci 1547 103) - (nI 1)) 1700
                rotate_left
                · rw [if_neg z11] at h; cases h
                rw [if_pos z11] at h
                refine ev_laload dX6_qTold_151 (hk1622 hM) (Or.inl (hl1622 hM)) (jok.ix z11 (hn1622 hM)) ?_
                refine ev_lsub dX6_qTold_152 ?_
                by_cases z12 : jok ((ci 1547 103) - (nI 1)) 1700
                rotate_left
                · rw [if_neg z12] at h; cases h
                rw [if_pos z12] at h
                refine ev_lastore dX6_qTold_153 (hk1622 hM) (hl1622 hM) (jok.ix z12 (hn1622 hM)) ?_
                refine ev_goto 162 dX6_qTold_154 rfl ?_
                exact ev_mask [true, true, true, false] (wX6_qTold_162 hM n _ (ih) _ _ _ _ h hq)
            · rw [if_pos z7] at h
              refine ev_aload_n dX6_qTold_116 rfl ?_
              refine ev_lconst (v := lN 1) dX6_qTold_117 rfl ?_
              obtain ⟨q13, z14, h⟩ := Option.bind_eq_some_iff.mp h
              refine ev_zV1 dX6_qTold_118 vX6_411_6 (hk1547 hM) (Or.inl (hl1547 hM)) (Nat.le_of_ble_eq_true rfl) (Nat.le_of_ble_eq_true rfl) rfl (metX6_qPuts hM n _ _ _ z14 ?_)
              show Ev g _ _ 121 _ [] K q13.1 q13.2 cr c sl Qr Qx
              refine ev_goto 162 dX6_qTold_121 rfl ?_
              exact ev_mask [true, true, true, false] (wX6_qTold_162 hM n _ (ih) _ _ _ _ h hq)
          · rw [if_neg z6] at h
            refine ev_aload_n dX6_qTold_91 rfl ?_
            refine ev_aload_n dX6_qTold_92 rfl ?_
            refine ev_iload_n dX6_qTold_93 rfl ?_
            refine ev_bipush (v := (nI 40)) dX6_qTold_94 jb40 ?_
            refine ev_isub dX6_qTold_96 ?_
            refine ev_iload_n dX6_qTold_97 rfl ?_
            obtain ⟨q15, z16, h⟩ := Option.bind_eq_some_iff.mp h
            refine ev_zV2 dX6_qTold_98 vX6_415_6 (hk1547 hM) (Or.inl (hl1547 hM)) (Nat.le_of_ble_eq_true rfl) (Nat.le_of_ble_eq_true rfl) rfl (metX6_qPartOf hM n _ _ _ _ z16 ?_)
            show Ev g _ _ 101 _ [.long q15.1, .ref 1547] K q15.2.1 q15.2.2 cr c sl Qr Qx
            obtain ⟨q17, z18, h⟩ := Option.bind_eq_some_iff.mp h
            refine ev_zS1 dX6_qTold_101 sX6_647 (Nat.le_of_ble_eq_true rfl) (Nat.le_of_ble_eq_true rfl) rfl (metX6_qClip hM n _ _ _ z18 ?_)
            show Ev g _ _ 104 _ [.long q17.1, .ref 1547] K q17.2.1 q17.2.2 cr c sl Qr Qx
            obtain ⟨q19, z20, h⟩ := Option.bind_eq_some_iff.mp h
            refine ev_zV1 dX6_qTold_104 vX6_411_6 (hk1547 hM) (Or.inl (hl1547 hM)) (Nat.le_of_ble_eq_true rfl) (Nat.le_of_ble_eq_true rfl) rfl (metX6_qPuts hM n _ _ _ z20 ?_)
            show Ev g _ _ 107 _ [] K q19.1 q19.2 cr c sl Qr Qx
            refine ev_goto 162 dX6_qTold_107 rfl ?_
            exact ev_mask [true, true, true, false] (wX6_qTold_162 hM n _ (ih) _ _ _ _ h hq)
        · rw [if_neg z5] at h
          refine ev_aload_n dX6_qTold_48 rfl ?_
          refine ev_getR dX6_qTold_49 fX6_242_6 (hk1547 hM) (Or.inl (hl1547 hM)) rfl (hr102 hM) ?_
          refine ev_aload_n dX6_qTold_52 rfl ?_
          refine ev_getI dX6_qTold_53 fX6_408_6 (hk1547 hM) (Or.inl (hl1547 hM)) rfl ?_
          refine ev_iconst (v := (nI 1)) dX6_qTold_56 jc1 ?_
          refine ev_isub dX6_qTold_57 ?_
          refine ev_aload_n dX6_qTold_58 rfl ?_
          refine ev_iload_n dX6_qTold_59 rfl ?_
          refine ev_bipush (v := (nI 60)) dX6_qTold_60 jb60 ?_
          refine ev_isub dX6_qTold_62 ?_
          refine ev_aload_n dX6_qTold_63 rfl ?_
          refine ev_getR dX6_qTold_64 fX6_242_6 (hk1547 hM) (Or.inl (hl1547 hM)) rfl (hr102 hM) ?_
          refine ev_aload_n dX6_qTold_67 rfl ?_
          refine ev_getI dX6_qTold_68 fX6_408_6 (hk1547 hM) (Or.inl (hl1547 hM)) rfl ?_
          refine ev_iconst (v := (nI 1)) dX6_qTold_71 jc1 ?_
          refine ev_isub dX6_qTold_72 ?_
          by_cases z21 : jok ((ci 1547 103) - (nI 1)) 1700
          rotate_left
          · rw [if_neg z21] at h; cases h
          rw [if_pos z21] at h
          refine ev_laload dX6_qTold_73 (hk1622 hM) (Or.inl (hl1622 hM)) (jok.ix z21 (hn1622 hM)) ?_
          refine ev_iload_n dX6_qTold_74 rfl ?_
          obtain ⟨q22, z23, h⟩ := Option.bind_eq_some_iff.mp h
          refine ev_zV3 dX6_qTold_75 vX6_655_6 (hk1547 hM) (Or.inl (hl1547 hM)) (Nat.le_of_ble_eq_true rfl) (Nat.le_of_ble_eq_true rfl) rfl (metX6_qOf hM n _ _ _ _ _ z23 ?_)
          show Ev g _ _ 78 _ [.long q22.1, .int ((ci 1547 103) - (nI 1)), .ref 1622] K q22.2.1 q22.2.2 cr c sl Qr Qx
          obtain ⟨q24, z25, h⟩ := Option.bind_eq_some_iff.mp h
          refine ev_zS1 dX6_qTold_78 sX6_647 (Nat.le_of_ble_eq_true rfl) (Nat.le_of_ble_eq_true rfl) rfl (metX6_qClip hM n _ _ _ z25 ?_)
          show Ev g _ _ 81 _ [.long q24.1, .int ((ci 1547 103) - (nI 1)), .ref 1622] K q24.2.1 q24.2.2 cr c sl Qr Qx
          by_cases z26 : jok ((ci 1547 103) - (nI 1)) 1700
          rotate_left
          · rw [if_neg z26] at h; cases h
          rw [if_pos z26] at h
          refine ev_lastore dX6_qTold_81 (hk1622 hM) (hl1622 hM) (jok.ix z26 (hn1622 hM)) ?_
          refine ev_goto 162 dX6_qTold_82 rfl ?_
          exact ev_mask [true, true, true, false] (wX6_qTold_162 hM n _ (ih) _ _ _ _ h hq)
      · rw [if_neg z4] at h
        refine ev_aload_n dX6_qTold_29 rfl ?_
        refine ev_iload_n dX6_qTold_30 rfl ?_
        refine ev_sipush (v := (nI 1000)) dX6_qTold_31 js1000 ?_
        refine ev_isub dX6_qTold_34 ?_
        refine ev_i2l dX6_qTold_35 ?_
        obtain ⟨q27, z28, h⟩ := Option.bind_eq_some_iff.mp h
        refine ev_zV1 dX6_qTold_36 vX6_411_6 (hk1547 hM) (Or.inl (hl1547 hM)) (Nat.le_of_ble_eq_true rfl) (Nat.le_of_ble_eq_true rfl) rfl (metX6_qPuts hM n _ _ _ z28 ?_)
        show Ev g _ _ 39 _ [] K q27.1 q27.2 cr c sl Qr Qx
        refine ev_goto 162 dX6_qTold_39 rfl ?_
        exact ev_mask [true, true, true, false] (wX6_qTold_162 hM n _ (ih) _ _ _ _ h hq)
def fX6_qTold (n : Nat) (a0 : Int32) (ci : jI) (cj : jJ) : Option (Int64 × jI × jJ) := fX6_qTold_7 n  n a0 (nI 0) (ju ci 1547 103 (nI 0)) cj
theorem metX6_qTold {g : jG} {d : Nat} {K : jK} {cr : jR} {c sl : Nat} {Qr : jQ} {Qx : jX} (hM : jMW K cr) (n : Nat) (a0 : Int32) (ci : jI) (cj : jJ) {q} (h : fX6_qTold n a0 ci cj = some q) (hq : Qr (some (.long q.1)) K q.2.1 q.2.2 cr) : EvM g (d + 4) mX6_qTold [.ref 1547, .int a0] K ci cj cr c sl Qr Qx := by
  unfold fX6_qTold at h
  show Ev g (d + 4) mX6_qTold 0 [.ref 1547, .int a0, jU, jU] [] K ci cj cr c sl Qr Qx
  refine ev_aload_n dX6_qTold_0 rfl ?_
  refine ev_iconst (v := (nI 0)) dX6_qTold_1 jc0 ?_
  refine ev_putI dX6_qTold_2 (pX6_408_6 _) (hk1547 hM) (hl1547 hM) rfl rfl rfl ?_
  refine ev_iconst (v := (nI 0)) dX6_qTold_5 jc0 ?_
  refine ev_istore_n (L' := [_, _, _, _]) dX6_qTold_6 (by decide) rfl ?_
  exact wX6_qTold_7 hM n   n _ _ _ _ h hq
def fX6_ask_176 (n : Nat) : Nat → Int32 → Int32 → jI → jJ → Option (Int64 × jI × jJ)
  | 0, _, _, _, _ => none
  | k + 1, l1, l2, ci, cj => Option.bind (fX6_pairMany n  ci cj) (fun q1 => if q1.1 ≤ l2 then some ((q1.2.2 1547 104), q1.2.1, q1.2.2) else Option.bind (fX6_bayOf n l2 (ju q1.2.1 1547 53 l2) q1.2.2) (fun q4 => Option.bind (fX6_qTold n l2 (ju q4.2.1 1547 52 q4.1) q4.2.2) (fun q6 => Option.bind (fX6_qTakes n l1 q6.1 l2 q6.2.1 q6.2.2) (fun q8 => fX6_ask_176 n  k l1 (l2 + (nI 1)) q8.1 q8.2))))
theorem wX6_ask_176 {g : jG} {d : Nat} {K : jK} {cr : jR} {c sl : Nat} {Qr : jQ} {Qx : jX} (hM : jMW K cr) (n : Nat) : ∀ (k : Nat) (l1 : Int32) (l2 : Int32) (ci : jI) (cj : jJ) {q}, fX6_ask_176 n  k l1 l2 ci cj = some q → Qr (some (.long q.1)) K q.2.1 q.2.2 cr → Ev g (d + 10) mX6_ask 176 [.ref 1547, .int l1, .int l2] [] K ci cj cr c sl Qr Qx := by
  intro k
  induction k with
  | zero =>
    intro l1 l2 ci cj q h hq
    rw [fX6_ask_176.eq_1] at h; cases h
  | succ k ih =>
    intro l1 l2 ci cj q h hq
    rw [fX6_ask_176.eq_2] at h
    refine ev_iload_n dX6_ask_176 rfl ?_
    refine ev_aload_n dX6_ask_177 rfl ?_
    obtain ⟨q1, z2, h⟩ := Option.bind_eq_some_iff.mp h
    refine ev_zV0 dX6_ask_178 vX6_402_6 (hk1547 hM) (Or.inl (hl1547 hM)) (Nat.le_of_ble_eq_true rfl) (Nat.le_of_ble_eq_true rfl) rfl (metX6_pairMany hM n  _ _ z2 ?_)
    show Ev g _ _ 181 _ [.int q1.1, .int l2] K q1.2.1 q1.2.2 cr c sl Qr Qx
    refine ev_icmp_ge 215 dX6_ask_181 rfl (fun z3 => ?_) (fun z3 => ?_)
    · rw [if_pos z3] at h
      refine ev_aload_n dX6_ask_215 rfl ?_
      refine ev_getJ dX6_ask_216 fX6_659_6 (hk1547 hM) (Or.inl (hl1547 hM)) rfl ?_
      cases h
      exact ev_lret dX6_ask_219 rfl hq
    · rw [if_neg z3] at h
      refine ev_aload_n dX6_ask_184 rfl ?_
      refine ev_iload_n dX6_ask_185 rfl ?_
      refine ev_putI dX6_ask_186 (pX6_429_6 _) (hk1547 hM) (hl1547 hM) rfl rfl rfl ?_
      refine ev_aload_n dX6_ask_189 rfl ?_
      refine ev_aload_n dX6_ask_190 rfl ?_
      refine ev_iload_n dX6_ask_191 rfl ?_
      obtain ⟨q4, z5, h⟩ := Option.bind_eq_some_iff.mp h
      refine ev_zV1 dX6_ask_192 vX6_432_6 (hk1547 hM) (Or.inl (hl1547 hM)) (Nat.le_of_ble_eq_true rfl) (Nat.le_of_ble_eq_true rfl) rfl (metX6_bayOf hM n _ _ _ z5 ?_)
      show Ev g _ _ 195 _ [.int q4.1, .ref 1547] K q4.2.1 q4.2.2 cr c sl Qr Qx
      refine ev_putI dX6_ask_195 (pX6_435_6 _) (hk1547 hM) (hl1547 hM) rfl rfl rfl ?_
      refine ev_aload_n dX6_ask_198 rfl ?_
      refine ev_iload_n dX6_ask_199 rfl ?_
      refine ev_aload_n dX6_ask_200 rfl ?_
      refine ev_iload_n dX6_ask_201 rfl ?_
      obtain ⟨q6, z7, h⟩ := Option.bind_eq_some_iff.mp h
      refine ev_zV1 dX6_ask_202 vX6_670_6 (hk1547 hM) (Or.inl (hl1547 hM)) (Nat.le_of_ble_eq_true rfl) (Nat.le_of_ble_eq_true rfl) rfl (metX6_qTold hM n _ _ _ z7 ?_)
      show Ev g _ _ 205 _ [.long q6.1, .int l1, .ref 1547] K q6.2.1 q6.2.2 cr c sl Qr Qx
      refine ev_iload_n dX6_ask_205 rfl ?_
      obtain ⟨q8, z9, h⟩ := Option.bind_eq_some_iff.mp h
      refine ev_zV3 dX6_ask_206 vX6_673_6 (hk1547 hM) (Or.inl (hl1547 hM)) (Nat.le_of_ble_eq_true rfl) (Nat.le_of_ble_eq_true rfl) rfl (metX6_qTakes hM n _ _ _ _ _ z9 ?_)
      show Ev g _ _ 209 _ [] K q8.1 q8.2 cr c sl Qr Qx
      refine ev_iinc (v := (l2 + (nI 1))) (L' := [_, _, _]) dX6_ask_209 rfl (by rw [ji_1]) (by decide) rfl ?_
      refine ev_goto 176 dX6_ask_212 rfl ?_
      exact ih _ _ _ _ h hq
def fX6_ask_157 (n : Nat) (l1 : Int32) (t0 : Int64) (ci : jI) (cj : jJ) : Option (Int64 × jI × jJ) := Option.bind (fX6_laysVows n  (ju ci 1547 105 (nI 1)) (ju cj 1547 104 t0)) (fun q1 => fX6_ask_176 n  n l1 (nI 0) (ju q1.1 1547 49 (nI 4)) q1.2)
theorem wX6_ask_157 {g : jG} {d : Nat} {K : jK} {cr : jR} {c sl : Nat} {Qr : jQ} {Qx : jX} (hM : jMW K cr) (n : Nat) (l1 : Int32) (t0 : Int64) (ci : jI) (cj : jJ) {q} (h : fX6_ask_157 n  l1 t0 ci cj = some q) (hq : Qr (some (.long q.1)) K q.2.1 q.2.2 cr) : Ev g (d + 10) mX6_ask 157 [.ref 1547, .int l1, jU] [.long t0, .ref 1547] K ci cj cr c sl Qr Qx := by
  unfold fX6_ask_157 at h
  refine ev_putJ dX6_ask_157 (pX6_659_6 _) (hk1547 hM) (hl1547 hM) rfl ?_
  refine ev_aload_n dX6_ask_160 rfl ?_
  refine ev_iconst (v := (nI 1)) dX6_ask_161 jc1 ?_
  refine ev_putI dX6_ask_162 (pX6_664_6 _) (hk1547 hM) (hl1547 hM) rfl (by decide) (by decide) ?_
  refine ev_aload_n dX6_ask_165 rfl ?_
  obtain ⟨q1, z2, h⟩ := Option.bind_eq_some_iff.mp h
  refine ev_zV0 dX6_ask_166 vX6_482_6 (hk1547 hM) (Or.inl (hl1547 hM)) (Nat.le_of_ble_eq_true rfl) (Nat.le_of_ble_eq_true rfl) rfl (metX6_laysVows hM n  _ _ z2 ?_)
  show Ev g _ _ 169 _ [] K q1.1 q1.2 cr c sl Qr Qx
  refine ev_aload_n dX6_ask_169 rfl ?_
  refine ev_iconst (v := (nI 4)) dX6_ask_170 jc4 ?_
  refine ev_putI dX6_ask_171 (pX6_309_6 _) (hk1547 hM) (hl1547 hM) rfl rfl rfl ?_
  refine ev_iconst (v := (nI 0)) dX6_ask_174 jc0 ?_
  refine ev_istore_n (L' := [_, _, _]) dX6_ask_175 (by decide) rfl ?_
  exact wX6_ask_176 hM n   n _ _ _ _ h hq
def fX6_ask_117 (n : Nat) (l1 : Int32) (ci : jI) (cj : jJ) : Option (Int64 × jI × jJ) := if ((ju (ju ci 1547 7 (ci 1547 5)) 1547 8 ((ju ci 1547 7 (ci 1547 5)) 1547 6)) 1547 5) = 0 then if (nI 2) ≤ l1 then fX6_ask_157 n  l1 (lN 0) (ju (ju ci 1547 7 (ci 1547 5)) 1547 8 ((ju ci 1547 7 (ci 1547 5)) 1547 6)) cj else fX6_ask_157 n  l1 (-1 : Int64) (ju (ju ci 1547 7 (ci 1547 5)) 1547 8 ((ju ci 1547 7 (ci 1547 5)) 1547 6)) cj else some ((-1000000000000000 : Int64), (ju (ju ci 1547 7 (ci 1547 5)) 1547 8 ((ju ci 1547 7 (ci 1547 5)) 1547 6)), cj)
theorem wX6_ask_117 {g : jG} {d : Nat} {K : jK} {cr : jR} {c sl : Nat} {Qr : jQ} {Qx : jX} (hM : jMW K cr) (n : Nat) (l1 : Int32) (ci : jI) (cj : jJ) {q} (h : fX6_ask_117 n  l1 ci cj = some q) (hq : Qr (some (.long q.1)) K q.2.1 q.2.2 cr) : Ev g (d + 10) mX6_ask 117 [.ref 1547, .int l1, jU] [] K ci cj cr c sl Qr Qx := by
  unfold fX6_ask_117 at h
  refine ev_aload_n dX6_ask_117 rfl ?_
  refine ev_aload_n dX6_ask_118 rfl ?_
  refine ev_getI dX6_ask_119 fX6_251_6 (hk1547 hM) (Or.inl (hl1547 hM)) rfl ?_
  refine ev_putI dX6_ask_122 (pX6_387_6 _) (hk1547 hM) (hl1547 hM) rfl rfl rfl ?_
  refine ev_aload_n dX6_ask_125 rfl ?_
  refine ev_aload_n dX6_ask_126 rfl ?_
  refine ev_getI dX6_ask_127 fX6_254_6 (hk1547 hM) (Or.inl (hl1547 hM)) rfl ?_
  refine ev_putI dX6_ask_130 (pX6_13_6 _) (hk1547 hM) (hl1547 hM) rfl rfl rfl ?_
  refine ev_aload_n dX6_ask_133 rfl ?_
  refine ev_getI dX6_ask_134 fX6_251_6 (hk1547 hM) (Or.inl (hl1547 hM)) rfl ?_
  refine ev_if_eq 144 dX6_ask_137 rfl (fun z1 => ?_) (fun z1 => ?_)
  · rw [if_pos z1] at h
    refine ev_aload_n dX6_ask_144 rfl ?_
    refine ev_iload_n dX6_ask_145 rfl ?_
    refine ev_iconst (v := (nI 2)) dX6_ask_146 jc2 ?_
    refine ev_icmp_ge 156 dX6_ask_147 rfl (fun z2 => ?_) (fun z2 => ?_)
    · rw [if_pos z2] at h
      refine ev_lconst (v := lN 0) dX6_ask_156 rfl ?_
      exact wX6_ask_157 hM n   _ _ _ _ h hq
    · rw [if_neg z2] at h
      refine ev_ldc2 dX6_ask_150 q2519 ?_
      refine ev_goto 157 dX6_ask_153 rfl ?_
      exact wX6_ask_157 hM n   _ _ _ _ h hq
  · rw [if_neg z1] at h
    refine ev_ldc2 dX6_ask_140 q2342 ?_
    cases h
    exact ev_lret dX6_ask_143 rfl hq
def fX6_ask_93 (n : Nat) (l1 : Int32) (ci : jI) (cj : jJ) : Option (Int64 × jI × jJ) := if (ci 1547 5) = 0 then Option.bind (fX6_look n  ci cj) (fun q2 => if q2.1 = (-1) then fX6_ask_117 n  l1 q2.2.1 q2.2.2 else Option.bind (fX6_fail n (nI 1) (q2.2.1 1547 2) q2.2.1 q2.2.2) (fun q5 => fX6_ask_117 n  l1 q5.1 q5.2)) else fX6_ask_117 n  l1 ci cj
theorem wX6_ask_93 {g : jG} {d : Nat} {K : jK} {cr : jR} {c sl : Nat} {Qr : jQ} {Qx : jX} (hM : jMW K cr) (n : Nat) (l1 : Int32) (ci : jI) (cj : jJ) {q} (h : fX6_ask_93 n  l1 ci cj = some q) (hq : Qr (some (.long q.1)) K q.2.1 q.2.2 cr) : Ev g (d + 10) mX6_ask 93 [.ref 1547, .int l1, jU] [] K ci cj cr c sl Qr Qx := by
  unfold fX6_ask_93 at h
  refine ev_aload_n dX6_ask_93 rfl ?_
  refine ev_getI dX6_ask_94 fX6_251_6 (hk1547 hM) (Or.inl (hl1547 hM)) rfl ?_
  refine ev_if_ne 117 dX6_ask_97 rfl (fun z1 => ?_) (fun z1 => ?_)
  · rw [if_neg z1] at h
    exact wX6_ask_117 hM n   _ _ _ h hq
  · rw [if_pos z1] at h
    refine ev_aload_n dX6_ask_100 rfl ?_
    obtain ⟨q2, z3, h⟩ := Option.bind_eq_some_iff.mp h
    refine ev_zV0 dX6_ask_101 vX6_263_6 (hk1547 hM) (Or.inl (hl1547 hM)) (Nat.le_of_ble_eq_true rfl) (Nat.le_of_ble_eq_true rfl) rfl (metX6_look hM n  _ _ z3 ?_)
    show Ev g _ _ 104 _ [.int q2.1] K q2.2.1 q2.2.2 cr c sl Qr Qx
    refine ev_iconst (v := (-1)) dX6_ask_104 jcm1 ?_
    refine ev_icmp_eq 117 dX6_ask_105 rfl (fun z4 => ?_) (fun z4 => ?_)
    · rw [if_pos z4] at h
      exact wX6_ask_117 hM n   _ _ _ h hq
    · rw [if_neg z4] at h
      refine ev_aload_n dX6_ask_108 rfl ?_
      refine ev_iconst (v := (nI 1)) dX6_ask_109 jc1 ?_
      refine ev_aload_n dX6_ask_110 rfl ?_
      refine ev_getI dX6_ask_111 fX6_257_6 (hk1547 hM) (Or.inl (hl1547 hM)) rfl ?_
      obtain ⟨q5, z6, h⟩ := Option.bind_eq_some_iff.mp h
      refine ev_zV2 dX6_ask_114 vX6_281_6 (hk1547 hM) (Or.inl (hl1547 hM)) (Nat.le_of_ble_eq_true rfl) (Nat.le_of_ble_eq_true rfl) rfl (metX6_fail hM n _ _ _ _ z6 ?_)
      show Ev g _ _ 117 _ [] K q5.1 q5.2 cr c sl Qr Qx
      exact wX6_ask_117 hM n   _ _ _ h hq
def fX6_ask_82 (n : Nat) (l1 : Int32) (ci : jI) (cj : jJ) : Option (Int64 × jI × jJ) := if (ci 1547 5) = 0 then Option.bind (fX6_qSums n  ci cj) (fun q2 => fX6_ask_93 n  l1 q2.1 q2.2) else fX6_ask_93 n  l1 ci cj
theorem wX6_ask_82 {g : jG} {d : Nat} {K : jK} {cr : jR} {c sl : Nat} {Qr : jQ} {Qx : jX} (hM : jMW K cr) (n : Nat) (l1 : Int32) (ci : jI) (cj : jJ) {q} (h : fX6_ask_82 n  l1 ci cj = some q) (hq : Qr (some (.long q.1)) K q.2.1 q.2.2 cr) : Ev g (d + 10) mX6_ask 82 [.ref 1547, .int l1, jU] [] K ci cj cr c sl Qr Qx := by
  unfold fX6_ask_82 at h
  refine ev_aload_n dX6_ask_82 rfl ?_
  refine ev_getI dX6_ask_83 fX6_251_6 (hk1547 hM) (Or.inl (hl1547 hM)) rfl ?_
  refine ev_if_ne 93 dX6_ask_86 rfl (fun z1 => ?_) (fun z1 => ?_)
  · rw [if_neg z1] at h
    exact wX6_ask_93 hM n   _ _ _ h hq
  · rw [if_pos z1] at h
    refine ev_aload_n dX6_ask_89 rfl ?_
    obtain ⟨q2, z3, h⟩ := Option.bind_eq_some_iff.mp h
    refine ev_zV0 dX6_ask_90 vX6_359_6 (hk1547 hM) (Or.inl (hl1547 hM)) (Nat.le_of_ble_eq_true rfl) (Nat.le_of_ble_eq_true rfl) rfl (metX6_qSums hM n  _ _ z3 ?_)
    show Ev g _ _ 93 _ [] K q2.1 q2.2 cr c sl Qr Qx
    exact wX6_ask_93 hM n   _ _ _ h hq
def fX6_ask (n : Nat) (ci : jI) (cj : jJ) : Option (Int64 × jI × jJ) := Option.bind (fX6_qKind n  (ju (ju (ju (ju (ju (ju (ju (ju (ju (ju (ju ci 1547 3 (ci 1547 1)) 1547 1 (nI 0)) 1547 2 (nI 0)) 1547 4 (-1)) 1547 5 (nI 0)) 1547 6 (-1)) 1547 49 (nI 4)) 1547 97 (nI 0)) 1547 99 (nI 0)) 1547 100 (nI 0)) 1547 101 (nI 0)) cj) (fun q1 => if (q1.2.1 1547 5) = 0 then if (nI 3) ≤ q1.1 then fX6_ask_82 n  q1.1 q1.2.1 q1.2.2 else Option.bind (fX6_qTest n  q1.2.1 q1.2.2) (fun q5 => fX6_ask_93 n  q1.1 q5.1 q5.2) else fX6_ask_82 n  q1.1 q1.2.1 q1.2.2)
theorem metX6_ask {g : jG} {d : Nat} {K : jK} {cr : jR} {c sl : Nat} {Qr : jQ} {Qx : jX} (hM : jMW K cr) (n : Nat) (ci : jI) (cj : jJ) {q} (h : fX6_ask n  ci cj = some q) (hq : Qr (some (.long q.1)) K q.2.1 q.2.2 cr) : EvM g (d + 10) mX6_ask [.ref 1547] K ci cj cr c sl Qr Qx := by
  unfold fX6_ask at h
  show Ev g (d + 10) mX6_ask 0 [.ref 1547, jU, jU] [] K ci cj cr c sl Qr Qx
  refine ev_aload_n dX6_ask_0 rfl ?_
  refine ev_aload_n dX6_ask_1 rfl ?_
  refine ev_getI dX6_ask_2 fX6_248_6 (hk1547 hM) (Or.inl (hl1547 hM)) rfl ?_
  refine ev_putI dX6_ask_5 (pX6_260_6 _) (hk1547 hM) (hl1547 hM) rfl rfl rfl ?_
  refine ev_aload_n dX6_ask_8 rfl ?_
  refine ev_iconst (v := (nI 0)) dX6_ask_9 jc0 ?_
  refine ev_putI dX6_ask_10 (pX6_248_6 _) (hk1547 hM) (hl1547 hM) rfl rfl rfl ?_
  refine ev_aload_n dX6_ask_13 rfl ?_
  refine ev_iconst (v := (nI 0)) dX6_ask_14 jc0 ?_
  refine ev_putI dX6_ask_15 (pX6_257_6 _) (hk1547 hM) (hl1547 hM) rfl rfl rfl ?_
  refine ev_aload_n dX6_ask_18 rfl ?_
  refine ev_iconst (v := (-1)) dX6_ask_19 jcm1 ?_
  refine ev_putI dX6_ask_20 (pX6_271_6 _) (hk1547 hM) (hl1547 hM) rfl rfl rfl ?_
  refine ev_aload_n dX6_ask_23 rfl ?_
  refine ev_iconst (v := (nI 0)) dX6_ask_24 jc0 ?_
  refine ev_putI dX6_ask_25 (pX6_251_6 _) (hk1547 hM) (hl1547 hM) rfl rfl rfl ?_
  refine ev_aload_n dX6_ask_28 rfl ?_
  refine ev_iconst (v := (-1)) dX6_ask_29 jcm1 ?_
  refine ev_putI dX6_ask_30 (pX6_254_6 _) (hk1547 hM) (hl1547 hM) rfl rfl rfl ?_
  refine ev_aload_n dX6_ask_33 rfl ?_
  refine ev_iconst (v := (nI 4)) dX6_ask_34 jc4 ?_
  refine ev_putI dX6_ask_35 (pX6_309_6 _) (hk1547 hM) (hl1547 hM) rfl rfl rfl ?_
  refine ev_aload_n dX6_ask_38 rfl ?_
  refine ev_iconst (v := (nI 0)) dX6_ask_39 jc0 ?_
  refine ev_putI dX6_ask_40 (pX6_344_6 _) (hk1547 hM) (hl1547 hM) rfl rfl rfl ?_
  refine ev_aload_n dX6_ask_43 rfl ?_
  refine ev_iconst (v := (nI 0)) dX6_ask_44 jc0 ?_
  refine ev_putI dX6_ask_45 (pX6_347_6 _) (hk1547 hM) (hl1547 hM) rfl rfl rfl ?_
  refine ev_aload_n dX6_ask_48 rfl ?_
  refine ev_iconst (v := (nI 0)) dX6_ask_49 jc0 ?_
  refine ev_putI dX6_ask_50 (pX6_350_6 _) (hk1547 hM) (hl1547 hM) rfl rfl rfl ?_
  refine ev_aload_n dX6_ask_53 rfl ?_
  refine ev_iconst (v := (nI 0)) dX6_ask_54 jc0 ?_
  refine ev_putI dX6_ask_55 (pX6_353_6 _) (hk1547 hM) (hl1547 hM) rfl rfl rfl ?_
  refine ev_aload_n dX6_ask_58 rfl ?_
  obtain ⟨q1, z2, h⟩ := Option.bind_eq_some_iff.mp h
  refine ev_zV0 dX6_ask_59 vX6_667_6 (hk1547 hM) (Or.inl (hl1547 hM)) (Nat.le_of_ble_eq_true rfl) (Nat.le_of_ble_eq_true rfl) rfl (metX6_qKind hM n  _ _ z2 ?_)
  show Ev g _ _ 62 _ [.int q1.1] K q1.2.1 q1.2.2 cr c sl Qr Qx
  refine ev_istore_n (L' := [_, _, _]) dX6_ask_62 (by decide) rfl ?_
  refine ev_aload_n dX6_ask_63 rfl ?_
  refine ev_getI dX6_ask_64 fX6_251_6 (hk1547 hM) (Or.inl (hl1547 hM)) rfl ?_
  refine ev_if_ne 82 dX6_ask_67 rfl (fun z3 => ?_) (fun z3 => ?_)
  · rw [if_neg z3] at h
    exact wX6_ask_82 hM n   _ _ _ h hq
  · rw [if_pos z3] at h
    refine ev_iload_n dX6_ask_70 rfl ?_
    refine ev_iconst (v := (nI 3)) dX6_ask_71 jc3 ?_
    refine ev_icmp_ge 82 dX6_ask_72 rfl (fun z4 => ?_) (fun z4 => ?_)
    · rw [if_pos z4] at h
      exact wX6_ask_82 hM n   _ _ _ h hq
    · rw [if_neg z4] at h
      refine ev_aload_n dX6_ask_75 rfl ?_
      obtain ⟨q5, z6, h⟩ := Option.bind_eq_some_iff.mp h
      refine ev_zV0 dX6_ask_76 vX6_356_6 (hk1547 hM) (Or.inl (hl1547 hM)) (Nat.le_of_ble_eq_true rfl) (Nat.le_of_ble_eq_true rfl) rfl (metX6_qTest hM n  _ _ z6 ?_)
      show Ev g _ _ 79 _ [] K q5.1 q5.2 cr c sl Qr Qx
      refine ev_goto 93 dX6_ask_79 rfl ?_
      exact wX6_ask_93 hM n   _ _ _ h hq
def fX6_checked_6 (n : Nat) : Nat → Nat → Int32 → Int32 → Int32 → jI → jJ → Option (Int32 × jI × jJ)
  | 0, _, _, _, _, _, _ => none
  | k + 1, l0, l1, l2, l3, ci, cj => if mkd l0 = 100 then if l1 ≤ l3 then some (l2, ci, cj) else if jok l3 (mln l0) then fX6_checked_6 n  k l0 l1 ((((nI 3) * l2) + (ci l0 (l3).toNatClampNeg)) - (((nI 3) * l2) + (ci l0 (l3).toNatClampNeg)) / (nI 251) * (nI 251)) (l3 + (nI 1)) ci cj else none else none
theorem wX6_checked_6 {g : jG} {d : Nat} {K : jK} {cr : jR} {c sl : Nat} {Qr : jQ} {Qx : jX} (hM : jMW K cr) (n : Nat) : ∀ (k : Nat) (l0 : Nat) (l1 : Int32) (l2 : Int32) (l3 : Int32) (ci : jI) (cj : jJ) {q}, fX6_checked_6 n  k l0 l1 l2 l3 ci cj = some q → Qr (some (.int q.1)) K q.2.1 q.2.2 cr → Ev g (d + 1) mX6_checked 6 [.ref l0, .int l1, .int l2, .int l3] [] K ci cj cr c sl Qr Qx := by
  intro k
  induction k with
  | zero =>
    intro l0 l1 l2 l3 ci cj q h hq
    rw [fX6_checked_6.eq_1] at h; cases h
  | succ k ih =>
    intro l0 l1 l2 l3 ci cj q h hq
    rw [fX6_checked_6.eq_2] at h
    by_cases zp_l0 : mkd l0 = 100
    rotate_left
    · rw [if_neg zp_l0] at h; cases h
    rw [if_pos zp_l0] at h
    refine ev_iload_n dX6_checked_6 rfl ?_
    refine ev_iload_n dX6_checked_7 rfl ?_
    refine ev_icmp_ge 29 dX6_checked_8 rfl (fun z1 => ?_) (fun z1 => ?_)
    · rw [if_pos z1] at h
      refine ev_iload_n dX6_checked_29 rfl ?_
      cases h
      exact ev_iret dX6_checked_30 rfl rfl hq
    · rw [if_neg z1] at h
      refine ev_iconst (v := (nI 3)) dX6_checked_11 jc3 ?_
      refine ev_iload_n dX6_checked_12 rfl ?_
      refine ev_imul dX6_checked_13 ?_
      refine ev_aload_n dX6_checked_14 rfl ?_
      refine ev_iload_n dX6_checked_15 rfl ?_
      by_cases z2 : jok l3 (mln l0)
      rotate_left
      · rw [if_neg z2] at h; cases h
      rw [if_pos z2] at h
      refine ev_iaload dX6_checked_16 (jMW.k hM zp_l0) (Or.inl (jMW.l hM zp_l0)) (jok.ix z2 (jMW.n hM zp_l0)) ?_
      refine ev_iadd dX6_checked_17 ?_
      refine ev_sipush (v := (nI 251)) dX6_checked_18 js251 ?_
      refine ev_irem dX6_checked_21 (by decide) ?_
      refine ev_istore_n (L' := [_, _, _, _]) dX6_checked_22 (by decide) rfl ?_
      refine ev_iinc (v := (l3 + (nI 1))) (L' := [_, _, _, _]) dX6_checked_23 rfl (by rw [ji_1]) (by decide) rfl ?_
      refine ev_goto 6 dX6_checked_26 rfl ?_
      exact ih _ _ _ _ _ _ h hq
def fX6_checked (n : Nat) (a0 : Nat) (a1 : Int32) (ci : jI) (cj : jJ) : Option (Int32 × jI × jJ) := if mkd a0 = 100 then fX6_checked_6 n  n a0 a1 (nI 233) (nI 0) ci cj else none
theorem metX6_checked {g : jG} {d : Nat} {K : jK} {cr : jR} {c sl : Nat} {Qr : jQ} {Qx : jX} (hM : jMW K cr) (n : Nat) (a0 : Nat) (a1 : Int32) (ci : jI) (cj : jJ) {q} (h : fX6_checked n a0 a1 ci cj = some q) (hq : Qr (some (.int q.1)) K q.2.1 q.2.2 cr) : EvM g (d + 1) mX6_checked [.ref a0, .int a1] K ci cj cr c sl Qr Qx := by
  unfold fX6_checked at h
  show Ev g (d + 1) mX6_checked 0 [.ref a0, .int a1, jU, jU] [] K ci cj cr c sl Qr Qx
  by_cases zp_a0 : mkd a0 = 100
  rotate_left
  · rw [if_neg zp_a0] at h; cases h
  rw [if_pos zp_a0] at h
  refine ev_sipush (v := (nI 233)) dX6_checked_0 js233 ?_
  refine ev_istore_n (L' := [_, _, _, _]) dX6_checked_3 (by decide) rfl ?_
  refine ev_iconst (v := (nI 0)) dX6_checked_4 jc0 ?_
  refine ev_istore_n (L' := [_, _, _, _]) dX6_checked_5 (by decide) rfl ?_
  exact wX6_checked_6 hM n   n _ _ _ _ _ _ h hq
def fX6_writes_20 (n : Nat) (t0 : Int32) (t1 : Int32) (ci : jI) (cj : jJ) : Option (jI × jJ) := if jok t1 53 then some ((ju (ju ci 1623 (t1).toNatClampNeg t0) 1547 107 (((ju ci 1623 (t1).toNatClampNeg t0) 1547 107) + (nI 1))), cj) else none
theorem wX6_writes_20 {g : jG} {d : Nat} {K : jK} {cr : jR} {c sl : Nat} {Qr : jQ} {Qx : jX} (hM : jMW K cr) (n : Nat) (t0 : Int32) (t1 : Int32) (ci : jI) (cj : jJ) {q} (h : fX6_writes_20 n  t0 t1 ci cj = some q) (hq : Qr none K q.1 q.2 cr) : Ev g (d + 1) mX6_writes 20 [.ref 1547, jU] [.int t0, .int t1, .ref 1623] K ci cj cr c sl Qr Qx := by
  unfold fX6_writes_20 at h
  by_cases z1 : jok t1 53
  rotate_left
  · rw [if_neg z1] at h; cases h
  rw [if_pos z1] at h
  refine ev_iastore dX6_writes_20 (hk1623 hM) (hl1623 hM) (jok.ix z1 (hn1623 hM)) ?_
  refine ev_aload_n dX6_writes_21 rfl ?_
  refine ev_dup dX6_writes_22 rfl ?_
  refine ev_getI dX6_writes_23 fX6_677_6 (hk1547 hM) (Or.inl (hl1547 hM)) rfl ?_
  refine ev_iconst (v := (nI 1)) dX6_writes_26 jc1 ?_
  refine ev_iadd dX6_writes_27 ?_
  refine ev_putI dX6_writes_28 (pX6_677_6 _) (hk1547 hM) (hl1547 hM) rfl rfl rfl ?_
  cases h
  exact ev_ret dX6_writes_31 rfl hq
def fX6_writes (n : Nat) (a0 : Int32) (ci : jI) (cj : jJ) : Option (jI × jJ) := if a0 = (-1) then fX6_writes_20 n  (nI 255) (ci 1547 107) ci cj else fX6_writes_20 n  a0 (ci 1547 107) ci cj
theorem metX6_writes {g : jG} {d : Nat} {K : jK} {cr : jR} {c sl : Nat} {Qr : jQ} {Qx : jX} (hM : jMW K cr) (n : Nat) (a0 : Int32) (ci : jI) (cj : jJ) {q} (h : fX6_writes n a0 ci cj = some q) (hq : Qr none K q.1 q.2 cr) : EvM g (d + 1) mX6_writes [.ref 1547, .int a0] K ci cj cr c sl Qr Qx := by
  unfold fX6_writes at h
  show Ev g (d + 1) mX6_writes 0 [.ref 1547, .int a0] [] K ci cj cr c sl Qr Qx
  refine ev_aload_n dX6_writes_0 rfl ?_
  refine ev_getR dX6_writes_1 fX6_245_6 (hk1547 hM) (Or.inl (hl1547 hM)) rfl (hr106 hM) ?_
  refine ev_aload_n dX6_writes_4 rfl ?_
  refine ev_getI dX6_writes_5 fX6_677_6 (hk1547 hM) (Or.inl (hl1547 hM)) rfl ?_
  refine ev_iload_n dX6_writes_8 rfl ?_
  refine ev_iconst (v := (-1)) dX6_writes_9 jcm1 ?_
  refine ev_icmp_ne 19 dX6_writes_10 rfl (fun z1 => ?_) (fun z1 => ?_)
  · rw [if_neg z1] at h
    refine ev_iload_n dX6_writes_19 rfl ?_
    exact ev_mask [true, false] (wX6_writes_20 hM n   _ _ _ _ h hq)
  · rw [if_pos z1] at h
    refine ev_sipush (v := (nI 255)) dX6_writes_13 js255 ?_
    refine ev_goto 20 dX6_writes_16 rfl ?_
    exact ev_mask [true, false] (wX6_writes_20 hM n   _ _ _ _ h hq)
def fX6_image_137 (n : Nat) : Nat → Int32 → jI → jJ → Option (Int32 × jI × jJ)
  | 0, _, _, _ => none
  | k + 1, l1, ci, cj => Option.bind (fX6_pairMany n  ci cj) (fun q1 => if ((nI 2) * q1.1) ≤ l1 then Option.bind (fX6_checked n 1623 (q1.2.1 1547 107) q1.2.1 q1.2.2) (fun q4 => Option.bind (fX6_writes n q4.1 q4.2.1 q4.2.2) (fun q6 => some ((q6.1 1547 107), q6.1, q6.2))) else if jok ((nI 25) + l1) 166 then Option.bind (fX6_writes n (q1.2.1 1585 (((nI 25) + l1)).toNatClampNeg) q1.2.1 q1.2.2) (fun q9 => fX6_image_137 n  k (l1 + (nI 1)) q9.1 q9.2) else none)
theorem wX6_image_137 {g : jG} {d : Nat} {K : jK} {cr : jR} {c sl : Nat} {Qr : jQ} {Qx : jX} (hM : jMW K cr) (n : Nat) : ∀ (k : Nat) (l1 : Int32) (ci : jI) (cj : jJ) {q}, fX6_image_137 n  k l1 ci cj = some q → Qr (some (.int q.1)) K q.2.1 q.2.2 cr → Ev g (d + 2) mX6_image 137 [.ref 1547, .int l1] [] K ci cj cr c sl Qr Qx := by
  intro k
  induction k with
  | zero =>
    intro l1 ci cj q h hq
    rw [fX6_image_137.eq_1] at h; cases h
  | succ k ih =>
    intro l1 ci cj q h hq
    rw [fX6_image_137.eq_2] at h
    refine ev_iload_n dX6_image_137 rfl ?_
    refine ev_iconst (v := (nI 2)) dX6_image_138 jc2 ?_
    refine ev_aload_n dX6_image_139 rfl ?_
    obtain ⟨q1, z2, h⟩ := Option.bind_eq_some_iff.mp h
    refine ev_zV0 dX6_image_140 vX6_402_6 (hk1547 hM) (Or.inl (hl1547 hM)) (Nat.le_of_ble_eq_true rfl) (Nat.le_of_ble_eq_true rfl) rfl (metX6_pairMany hM n  _ _ z2 ?_)
    show Ev g _ _ 143 _ [.int q1.1, .int (nI 2), .int l1] K q1.2.1 q1.2.2 cr c sl Qr Qx
    refine ev_imul dX6_image_143 ?_
    refine ev_icmp_ge 166 dX6_image_144 rfl (fun z3 => ?_) (fun z3 => ?_)
    · rw [if_pos z3] at h
      refine ev_aload_n dX6_image_166 rfl ?_
      refine ev_aload_n dX6_image_167 rfl ?_
      refine ev_getR dX6_image_168 fX6_245_6 (hk1547 hM) (Or.inl (hl1547 hM)) rfl (hr106 hM) ?_
      refine ev_aload_n dX6_image_171 rfl ?_
      refine ev_getI dX6_image_172 fX6_677_6 (hk1547 hM) (Or.inl (hl1547 hM)) rfl ?_
      obtain ⟨q4, z5, h⟩ := Option.bind_eq_some_iff.mp h
      refine ev_zS2 dX6_image_175 sX6_683 (Nat.le_of_ble_eq_true rfl) (Nat.le_of_ble_eq_true rfl) rfl (metX6_checked hM n _ _ _ _ z5 ?_)
      show Ev g _ _ 178 _ [.int q4.1, .ref 1547] K q4.2.1 q4.2.2 cr c sl Qr Qx
      obtain ⟨q6, z7, h⟩ := Option.bind_eq_some_iff.mp h
      refine ev_zV1 dX6_image_178 vX6_680_6 (hk1547 hM) (Or.inl (hl1547 hM)) (Nat.le_of_ble_eq_true rfl) (Nat.le_of_ble_eq_true rfl) rfl (metX6_writes hM n _ _ _ z7 ?_)
      show Ev g _ _ 181 _ [] K q6.1 q6.2 cr c sl Qr Qx
      refine ev_aload_n dX6_image_181 rfl ?_
      refine ev_getI dX6_image_182 fX6_677_6 (hk1547 hM) (Or.inl (hl1547 hM)) rfl ?_
      cases h
      exact ev_iret dX6_image_185 rfl rfl hq
    · rw [if_neg z3] at h
      refine ev_aload_n dX6_image_147 rfl ?_
      refine ev_aload_n dX6_image_148 rfl ?_
      refine ev_getR dX6_image_149 fX6_127_6 (hk1547 hM) (Or.inl (hl1547 hM)) rfl (hr50 hM) ?_
      refine ev_bipush (v := (nI 25)) dX6_image_152 jb25 ?_
      refine ev_iload_n dX6_image_154 rfl ?_
      refine ev_iadd dX6_image_155 ?_
      by_cases z8 : jok ((nI 25) + l1) 166
      rotate_left
      · rw [if_neg z8] at h; cases h
      rw [if_pos z8] at h
      refine ev_iaload dX6_image_156 (hk1585 hM) (Or.inl (hl1585 hM)) (jok.ix z8 (hn1585 hM)) ?_
      obtain ⟨q9, z10, h⟩ := Option.bind_eq_some_iff.mp h
      refine ev_zV1 dX6_image_157 vX6_680_6 (hk1547 hM) (Or.inl (hl1547 hM)) (Nat.le_of_ble_eq_true rfl) (Nat.le_of_ble_eq_true rfl) rfl (metX6_writes hM n _ _ _ z10 ?_)
      show Ev g _ _ 160 _ [] K q9.1 q9.2 cr c sl Qr Qx
      refine ev_iinc (v := (l1 + (nI 1))) (L' := [_, _]) dX6_image_160 rfl (by rw [ji_1]) (by decide) rfl ?_
      refine ev_goto 137 dX6_image_163 rfl ?_
      exact ih _ _ _ h hq
def fX6_image_65 (n : Nat) : Nat → Int32 → jI → jJ → Option (Int32 × jI × jJ)
  | 0, _, _, _ => none
  | k + 1, l1, ci, cj => Option.bind (fX6_bayMany n  ci cj) (fun q1 => if q1.1 ≤ l1 then fX6_image_137 n  n (nI 0) q1.2.1 q1.2.2 else Option.bind (fX6_hungerOf n l1 q1.2.1 q1.2.2) (fun q4 => Option.bind (fX6_writes n q4.1 q4.2.1 q4.2.2) (fun q6 => if jok ((nI 8) + ((nI 3) * l1)) 166 then Option.bind (fX6_writes n ((q6.1 1585 (((nI 8) + ((nI 3) * l1))).toNatClampNeg) / (nI 256)) q6.1 q6.2) (fun q10 => if jok ((nI 8) + ((nI 3) * l1)) 166 then Option.bind (fX6_writes n ((q10.1 1585 (((nI 8) + ((nI 3) * l1))).toNatClampNeg) - (q10.1 1585 (((nI 8) + ((nI 3) * l1))).toNatClampNeg) / (nI 256) * (nI 256)) q10.1 q10.2) (fun q14 => Option.bind (fX6_lateOf n l1 q14.1 q14.2) (fun q16 => Option.bind (fX6_writes n q16.1 q16.2.1 q16.2.2) (fun q18 => fX6_image_65 n  k (l1 + (nI 1)) q18.1 q18.2))) else none) else none)))
theorem wX6_image_65 {g : jG} {d : Nat} {K : jK} {cr : jR} {c sl : Nat} {Qr : jQ} {Qx : jX} (hM : jMW K cr) (n : Nat) : ∀ (k : Nat) (l1 : Int32) (ci : jI) (cj : jJ) {q}, fX6_image_65 n  k l1 ci cj = some q → Qr (some (.int q.1)) K q.2.1 q.2.2 cr → Ev g (d + 2) mX6_image 65 [.ref 1547, .int l1] [] K ci cj cr c sl Qr Qx := by
  intro k
  induction k with
  | zero =>
    intro l1 ci cj q h hq
    rw [fX6_image_65.eq_1] at h; cases h
  | succ k ih =>
    intro l1 ci cj q h hq
    rw [fX6_image_65.eq_2] at h
    refine ev_iload_n dX6_image_65 rfl ?_
    refine ev_aload_n dX6_image_66 rfl ?_
    obtain ⟨q1, z2, h⟩ := Option.bind_eq_some_iff.mp h
    refine ev_zV0 dX6_image_67 vX6_399_6 (hk1547 hM) (Or.inl (hl1547 hM)) (Nat.le_of_ble_eq_true rfl) (Nat.le_of_ble_eq_true rfl) rfl (metX6_bayMany hM n  _ _ z2 ?_)
    show Ev g _ _ 70 _ [.int q1.1, .int l1] K q1.2.1 q1.2.2 cr c sl Qr Qx
    refine ev_icmp_ge 135 dX6_image_70 rfl (fun z3 => ?_) (fun z3 => ?_)
    · rw [if_pos z3] at h
      refine ev_iconst (v := (nI 0)) dX6_image_135 jc0 ?_
      refine ev_istore_n (L' := [_, _]) dX6_image_136 (by decide) rfl ?_
      exact wX6_image_137 hM n   n _ _ _ h hq
    · rw [if_neg z3] at h
      refine ev_aload_n dX6_image_73 rfl ?_
      refine ev_aload_n dX6_image_74 rfl ?_
      refine ev_iload_n dX6_image_75 rfl ?_
      obtain ⟨q4, z5, h⟩ := Option.bind_eq_some_iff.mp h
      refine ev_zV1 dX6_image_76 vX6_477_6 (hk1547 hM) (Or.inl (hl1547 hM)) (Nat.le_of_ble_eq_true rfl) (Nat.le_of_ble_eq_true rfl) rfl (metX6_hungerOf hM n _ _ _ z5 ?_)
      show Ev g _ _ 79 _ [.int q4.1, .ref 1547] K q4.2.1 q4.2.2 cr c sl Qr Qx
      obtain ⟨q6, z7, h⟩ := Option.bind_eq_some_iff.mp h
      refine ev_zV1 dX6_image_79 vX6_680_6 (hk1547 hM) (Or.inl (hl1547 hM)) (Nat.le_of_ble_eq_true rfl) (Nat.le_of_ble_eq_true rfl) rfl (metX6_writes hM n _ _ _ z7 ?_)
      show Ev g _ _ 82 _ [] K q6.1 q6.2 cr c sl Qr Qx
      refine ev_aload_n dX6_image_82 rfl ?_
      refine ev_aload_n dX6_image_83 rfl ?_
      refine ev_getR dX6_image_84 fX6_127_6 (hk1547 hM) (Or.inl (hl1547 hM)) rfl (hr50 hM) ?_
      refine ev_bipush (v := (nI 8)) dX6_image_87 jb8 ?_
      refine ev_iconst (v := (nI 3)) dX6_image_89 jc3 ?_
      refine ev_iload_n dX6_image_90 rfl ?_
      refine ev_imul dX6_image_91 ?_
      refine ev_iadd dX6_image_92 ?_
      by_cases z8 : jok ((nI 8) + ((nI 3) * l1)) 166
      rotate_left
      · rw [if_neg z8] at h; cases h
      rw [if_pos z8] at h
      refine ev_iaload dX6_image_93 (hk1585 hM) (Or.inl (hl1585 hM)) (jok.ix z8 (hn1585 hM)) ?_
      refine ev_sipush (v := (nI 256)) dX6_image_94 js256 ?_
      refine ev_idiv dX6_image_97 (by decide) ?_
      obtain ⟨q10, z11, h⟩ := Option.bind_eq_some_iff.mp h
      refine ev_zV1 dX6_image_98 vX6_680_6 (hk1547 hM) (Or.inl (hl1547 hM)) (Nat.le_of_ble_eq_true rfl) (Nat.le_of_ble_eq_true rfl) rfl (metX6_writes hM n _ _ _ z11 ?_)
      show Ev g _ _ 101 _ [] K q10.1 q10.2 cr c sl Qr Qx
      refine ev_aload_n dX6_image_101 rfl ?_
      refine ev_aload_n dX6_image_102 rfl ?_
      refine ev_getR dX6_image_103 fX6_127_6 (hk1547 hM) (Or.inl (hl1547 hM)) rfl (hr50 hM) ?_
      refine ev_bipush (v := (nI 8)) dX6_image_106 jb8 ?_
      refine ev_iconst (v := (nI 3)) dX6_image_108 jc3 ?_
      refine ev_iload_n dX6_image_109 rfl ?_
      refine ev_imul dX6_image_110 ?_
      refine ev_iadd dX6_image_111 ?_
      by_cases z12 : jok ((nI 8) + ((nI 3) * l1)) 166
      rotate_left
      · rw [if_neg z12] at h; cases h
      rw [if_pos z12] at h
      refine ev_iaload dX6_image_112 (hk1585 hM) (Or.inl (hl1585 hM)) (jok.ix z12 (hn1585 hM)) ?_
      refine ev_sipush (v := (nI 256)) dX6_image_113 js256 ?_
      refine ev_irem dX6_image_116 (by decide) ?_
      obtain ⟨q14, z15, h⟩ := Option.bind_eq_some_iff.mp h
      refine ev_zV1 dX6_image_117 vX6_680_6 (hk1547 hM) (Or.inl (hl1547 hM)) (Nat.le_of_ble_eq_true rfl) (Nat.le_of_ble_eq_true rfl) rfl (metX6_writes hM n _ _ _ z15 ?_)
      show Ev g _ _ 120 _ [] K q14.1 q14.2 cr c sl Qr Qx
      refine ev_aload_n dX6_image_120 rfl ?_
      refine ev_aload_n dX6_image_121 rfl ?_
      refine ev_iload_n dX6_image_122 rfl ?_
      obtain ⟨q16, z17, h⟩ := Option.bind_eq_some_iff.mp h
      refine ev_zV1 dX6_image_123 vX6_520_6 (hk1547 hM) (Or.inl (hl1547 hM)) (Nat.le_of_ble_eq_true rfl) (Nat.le_of_ble_eq_true rfl) rfl (metX6_lateOf hM n _ _ _ z17 ?_)
      show Ev g _ _ 126 _ [.int q16.1, .ref 1547] K q16.2.1 q16.2.2 cr c sl Qr Qx
      obtain ⟨q18, z19, h⟩ := Option.bind_eq_some_iff.mp h
      refine ev_zV1 dX6_image_126 vX6_680_6 (hk1547 hM) (Or.inl (hl1547 hM)) (Nat.le_of_ble_eq_true rfl) (Nat.le_of_ble_eq_true rfl) rfl (metX6_writes hM n _ _ _ z19 ?_)
      show Ev g _ _ 129 _ [] K q18.1 q18.2 cr c sl Qr Qx
      refine ev_iinc (v := (l1 + (nI 1))) (L' := [_, _]) dX6_image_129 rfl (by rw [ji_1]) (by decide) rfl ?_
      refine ev_goto 65 dX6_image_132 rfl ?_
      exact ih _ _ _ h hq
def fX6_image_35 (n : Nat) : Nat → Int32 → jI → jJ → Option (Int32 × jI × jJ)
  | 0, _, _, _ => none
  | k + 1, l1, ci, cj => Option.bind (fX6_shoalMany n  ci cj) (fun q1 => if ((nI 2) * q1.1) ≤ l1 then fX6_image_65 n  n (nI 0) q1.2.1 q1.2.2 else if jok ((nI 1) + l1) 166 then Option.bind (fX6_writes n (q1.2.1 1585 (((nI 1) + l1)).toNatClampNeg) q1.2.1 q1.2.2) (fun q5 => fX6_image_35 n  k (l1 + (nI 1)) q5.1 q5.2) else none)
theorem wX6_image_35 {g : jG} {d : Nat} {K : jK} {cr : jR} {c sl : Nat} {Qr : jQ} {Qx : jX} (hM : jMW K cr) (n : Nat) : ∀ (k : Nat) (l1 : Int32) (ci : jI) (cj : jJ) {q}, fX6_image_35 n  k l1 ci cj = some q → Qr (some (.int q.1)) K q.2.1 q.2.2 cr → Ev g (d + 2) mX6_image 35 [.ref 1547, .int l1] [] K ci cj cr c sl Qr Qx := by
  intro k
  induction k with
  | zero =>
    intro l1 ci cj q h hq
    rw [fX6_image_35.eq_1] at h; cases h
  | succ k ih =>
    intro l1 ci cj q h hq
    rw [fX6_image_35.eq_2] at h
    refine ev_iload_n dX6_image_35 rfl ?_
    refine ev_iconst (v := (nI 2)) dX6_image_36 jc2 ?_
    refine ev_aload_n dX6_image_37 rfl ?_
    obtain ⟨q1, z2, h⟩ := Option.bind_eq_some_iff.mp h
    refine ev_zV0 dX6_image_38 vX6_405_6 (hk1547 hM) (Or.inl (hl1547 hM)) (Nat.le_of_ble_eq_true rfl) (Nat.le_of_ble_eq_true rfl) rfl (metX6_shoalMany hM n  _ _ z2 ?_)
    show Ev g _ _ 41 _ [.int q1.1, .int (nI 2), .int l1] K q1.2.1 q1.2.2 cr c sl Qr Qx
    refine ev_imul dX6_image_41 ?_
    refine ev_icmp_ge 63 dX6_image_42 rfl (fun z3 => ?_) (fun z3 => ?_)
    · rw [if_pos z3] at h
      refine ev_iconst (v := (nI 0)) dX6_image_63 jc0 ?_
      refine ev_istore_n (L' := [_, _]) dX6_image_64 (by decide) rfl ?_
      exact wX6_image_65 hM n   n _ _ _ h hq
    · rw [if_neg z3] at h
      refine ev_aload_n dX6_image_45 rfl ?_
      refine ev_aload_n dX6_image_46 rfl ?_
      refine ev_getR dX6_image_47 fX6_127_6 (hk1547 hM) (Or.inl (hl1547 hM)) rfl (hr50 hM) ?_
      refine ev_iconst (v := (nI 1)) dX6_image_50 jc1 ?_
      refine ev_iload_n dX6_image_51 rfl ?_
      refine ev_iadd dX6_image_52 ?_
      by_cases z4 : jok ((nI 1) + l1) 166
      rotate_left
      · rw [if_neg z4] at h; cases h
      rw [if_pos z4] at h
      refine ev_iaload dX6_image_53 (hk1585 hM) (Or.inl (hl1585 hM)) (jok.ix z4 (hn1585 hM)) ?_
      obtain ⟨q5, z6, h⟩ := Option.bind_eq_some_iff.mp h
      refine ev_zV1 dX6_image_54 vX6_680_6 (hk1547 hM) (Or.inl (hl1547 hM)) (Nat.le_of_ble_eq_true rfl) (Nat.le_of_ble_eq_true rfl) rfl (metX6_writes hM n _ _ _ z6 ?_)
      show Ev g _ _ 57 _ [] K q5.1 q5.2 cr c sl Qr Qx
      refine ev_iinc (v := (l1 + (nI 1))) (L' := [_, _]) dX6_image_57 rfl (by rw [ji_1]) (by decide) rfl ?_
      refine ev_goto 35 dX6_image_60 rfl ?_
      exact ih _ _ _ h hq
def fX6_image (n : Nat) (ci : jI) (cj : jJ) : Option (Int32 × jI × jJ) := if jok (nI 0) 166 then Option.bind (fX6_writes n (((ju ci 1547 107 (nI 0)) 1585 ((nI 0)).toNatClampNeg) / (nI 256)) (ju ci 1547 107 (nI 0)) cj) (fun q3 => if jok (nI 0) 166 then Option.bind (fX6_writes n ((q3.1 1585 ((nI 0)).toNatClampNeg) - (q3.1 1585 ((nI 0)).toNatClampNeg) / (nI 256) * (nI 256)) q3.1 q3.2) (fun q7 => fX6_image_35 n  n (nI 0) q7.1 q7.2) else none) else none
theorem metX6_image {g : jG} {d : Nat} {K : jK} {cr : jR} {c sl : Nat} {Qr : jQ} {Qx : jX} (hM : jMW K cr) (n : Nat) (ci : jI) (cj : jJ) {q} (h : fX6_image n  ci cj = some q) (hq : Qr (some (.int q.1)) K q.2.1 q.2.2 cr) : EvM g (d + 2) mX6_image [.ref 1547] K ci cj cr c sl Qr Qx := by
  unfold fX6_image at h
  show Ev g (d + 2) mX6_image 0 [.ref 1547, jU] [] K ci cj cr c sl Qr Qx
  refine ev_aload_n dX6_image_0 rfl ?_
  refine ev_iconst (v := (nI 0)) dX6_image_1 jc0 ?_
  refine ev_putI dX6_image_2 (pX6_677_6 _) (hk1547 hM) (hl1547 hM) rfl rfl rfl ?_
  refine ev_aload_n dX6_image_5 rfl ?_
  refine ev_aload_n dX6_image_6 rfl ?_
  refine ev_getR dX6_image_7 fX6_127_6 (hk1547 hM) (Or.inl (hl1547 hM)) rfl (hr50 hM) ?_
  refine ev_iconst (v := (nI 0)) dX6_image_10 jc0 ?_
  by_cases z1 : jok (nI 0) 166
  rotate_left
  · rw [if_neg z1] at h; cases h
  rw [if_pos z1] at h
  refine ev_iaload dX6_image_11 (hk1585 hM) (Or.inl (hl1585 hM)) (jok.ix z1 (hn1585 hM)) ?_
  refine ev_sipush (v := (nI 256)) dX6_image_12 js256 ?_
  refine ev_idiv dX6_image_15 (by decide) ?_
  obtain ⟨q3, z4, h⟩ := Option.bind_eq_some_iff.mp h
  refine ev_zV1 dX6_image_16 vX6_680_6 (hk1547 hM) (Or.inl (hl1547 hM)) (Nat.le_of_ble_eq_true rfl) (Nat.le_of_ble_eq_true rfl) rfl (metX6_writes hM n _ _ _ z4 ?_)
  show Ev g _ _ 19 _ [] K q3.1 q3.2 cr c sl Qr Qx
  refine ev_aload_n dX6_image_19 rfl ?_
  refine ev_aload_n dX6_image_20 rfl ?_
  refine ev_getR dX6_image_21 fX6_127_6 (hk1547 hM) (Or.inl (hl1547 hM)) rfl (hr50 hM) ?_
  refine ev_iconst (v := (nI 0)) dX6_image_24 jc0 ?_
  by_cases z5 : jok (nI 0) 166
  rotate_left
  · rw [if_neg z5] at h; cases h
  rw [if_pos z5] at h
  refine ev_iaload dX6_image_25 (hk1585 hM) (Or.inl (hl1585 hM)) (jok.ix z5 (hn1585 hM)) ?_
  refine ev_sipush (v := (nI 256)) dX6_image_26 js256 ?_
  refine ev_irem dX6_image_29 (by decide) ?_
  obtain ⟨q7, z8, h⟩ := Option.bind_eq_some_iff.mp h
  refine ev_zV1 dX6_image_30 vX6_680_6 (hk1547 hM) (Or.inl (hl1547 hM)) (Nat.le_of_ble_eq_true rfl) (Nat.le_of_ble_eq_true rfl) rfl (metX6_writes hM n _ _ _ z8 ?_)
  show Ev g _ _ 33 _ [] K q7.1 q7.2 cr c sl Qr Qx
  refine ev_iconst (v := (nI 0)) dX6_image_33 jc0 ?_
  refine ev_istore_n (L' := [_, _]) dX6_image_34 (by decide) rfl ?_
  exact wX6_image_35 hM n   n _ _ _ h hq
def fX6_octet_22 (n : Nat) (t0 : Int32) (ci : jI) (cj : jJ) : Option (Int32 × jI × jJ) := some (t0, ci, cj)
theorem wX6_octet_22 {g : jG} {d : Nat} {K : jK} {cr : jR} {c sl : Nat} {Qr : jQ} {Qx : jX} (hM : jMW K cr) (n : Nat) (t0 : Int32) (ci : jI) (cj : jJ) {q} (h : fX6_octet_22 n  t0 ci cj = some q) (hq : Qr (some (.int q.1)) K q.2.1 q.2.2 cr) : Ev g (d + 1) mX6_octet 22 [jU, jU] [.int t0] K ci cj cr c sl Qr Qx := by
  unfold fX6_octet_22 at h
  cases h
  exact ev_iret dX6_octet_22 rfl rfl hq
def fX6_octet_21 (n : Nat) (ci : jI) (cj : jJ) : Option (Int32 × jI × jJ) := fX6_octet_22 n  (-1) ci cj
theorem wX6_octet_21 {g : jG} {d : Nat} {K : jK} {cr : jR} {c sl : Nat} {Qr : jQ} {Qx : jX} (hM : jMW K cr) (n : Nat) (ci : jI) (cj : jJ) {q} (h : fX6_octet_21 n   ci cj = some q) (hq : Qr (some (.int q.1)) K q.2.1 q.2.2 cr) : Ev g (d + 1) mX6_octet 21 [jU, jU] [] K ci cj cr c sl Qr Qx := by
  unfold fX6_octet_21 at h
  refine ev_iconst (v := (-1)) dX6_octet_21 jcm1 ?_
  exact wX6_octet_22 hM n   _ _ _ h hq
def fX6_octet (n : Nat) (a0 : Int32) (ci : jI) (cj : jJ) : Option (Int32 × jI × jJ) := if a0 < 0 then fX6_octet_21 n   ci cj else if (ci 1547 107) ≤ a0 then fX6_octet_21 n   ci cj else if jok a0 53 then fX6_octet_22 n  (ci 1623 (a0).toNatClampNeg) ci cj else none
theorem metX6_octet {g : jG} {d : Nat} {K : jK} {cr : jR} {c sl : Nat} {Qr : jQ} {Qx : jX} (hM : jMW K cr) (n : Nat) (a0 : Int32) (ci : jI) (cj : jJ) {q} (h : fX6_octet n a0 ci cj = some q) (hq : Qr (some (.int q.1)) K q.2.1 q.2.2 cr) : EvM g (d + 1) mX6_octet [.ref 1547, .int a0] K ci cj cr c sl Qr Qx := by
  unfold fX6_octet at h
  show Ev g (d + 1) mX6_octet 0 [.ref 1547, .int a0] [] K ci cj cr c sl Qr Qx
  refine ev_iload_n dX6_octet_0 rfl ?_
  refine ev_if_lt 21 dX6_octet_1 rfl (fun z1 => ?_) (fun z1 => ?_)
  · rw [if_pos z1] at h
    exact ev_mask [false, false] (wX6_octet_21 hM n    _ _ h hq)
  · rw [if_neg z1] at h
    refine ev_iload_n dX6_octet_4 rfl ?_
    refine ev_aload_n dX6_octet_5 rfl ?_
    refine ev_getI dX6_octet_6 fX6_677_6 (hk1547 hM) (Or.inl (hl1547 hM)) rfl ?_
    refine ev_icmp_ge 21 dX6_octet_9 rfl (fun z2 => ?_) (fun z2 => ?_)
    · rw [if_pos z2] at h
      exact ev_mask [false, false] (wX6_octet_21 hM n    _ _ h hq)
    · rw [if_neg z2] at h
      refine ev_aload_n dX6_octet_12 rfl ?_
      refine ev_getR dX6_octet_13 fX6_245_6 (hk1547 hM) (Or.inl (hl1547 hM)) rfl (hr106 hM) ?_
      refine ev_iload_n dX6_octet_16 rfl ?_
      by_cases z3 : jok a0 53
      rotate_left
      · rw [if_neg z3] at h; cases h
      rw [if_pos z3] at h
      refine ev_iaload dX6_octet_17 (hk1623 hM) (Or.inl (hl1623 hM)) (jok.ix z3 (hn1623 hM)) ?_
      refine ev_goto 22 dX6_octet_18 rfl ?_
      exact ev_mask [false, false] (wX6_octet_22 hM n   _ _ _ h hq)
def fX6_isImage_76 (n : Nat) (ci : jI) (cj : jJ) : Option (Int32 × jI × jJ) := some ((nI 0), ci, cj)
theorem wX6_isImage_76 {g : jG} {d : Nat} {K : jK} {cr : jR} {c sl : Nat} {Qr : jQ} {Qx : jX} (hM : jMW K cr) (n : Nat) (ci : jI) (cj : jJ) {q} (h : fX6_isImage_76 n   ci cj = some q) (hq : Qr (some (.int q.1)) K q.2.1 q.2.2 cr) : Ev g (d + 3) mX6_isImage 76 [jU, jU, jU, jU, jU] [] K ci cj cr c sl Qr Qx := by
  unfold fX6_isImage_76 at h
  refine ev_iconst (v := (nI 0)) dX6_isImage_76 jc0 ?_
  cases h
  exact ev_iret dX6_isImage_77 rfl (by decide) hq
def fX6_isImage_248 (n : Nat) (ci : jI) (cj : jJ) : Option (Int32 × jI × jJ) := some ((nI 0), ci, cj)
theorem wX6_isImage_248 {g : jG} {d : Nat} {K : jK} {cr : jR} {c sl : Nat} {Qr : jQ} {Qx : jX} (hM : jMW K cr) (n : Nat) (ci : jI) (cj : jJ) {q} (h : fX6_isImage_248 n   ci cj = some q) (hq : Qr (some (.int q.1)) K q.2.1 q.2.2 cr) : Ev g (d + 3) mX6_isImage 248 [jU, jU, jU, jU, jU] [] K ci cj cr c sl Qr Qx := by
  unfold fX6_isImage_248 at h
  refine ev_iconst (v := (nI 0)) dX6_isImage_248 jc0 ?_
  cases h
  exact ev_iret dX6_isImage_249 rfl (by decide) hq
def fX6_isImage_214 (n : Nat) : Nat → Int32 → Int32 → jI → jJ → Option (Int32 × jI × jJ)
  | 0, _, _, _, _ => none
  | k + 1, l1, l4, ci, cj => if (l1 - (nI 1)) ≤ l4 then some ((nI 1), ci, cj) else if jok l4 1600 then if (nI 9) < (ci 1548 (l4).toNatClampNeg) then fX6_isImage_248 n   ci cj else if jok (l4 + (nI 1)) 1600 then if (ci 1548 ((l4 + (nI 1))).toNatClampNeg) ≤ (nI 99) then fX6_isImage_214 n  k l1 (l4 + (nI 2)) ci cj else fX6_isImage_248 n   ci cj else none else none
theorem wX6_isImage_214 {g : jG} {d : Nat} {K : jK} {cr : jR} {c sl : Nat} {Qr : jQ} {Qx : jX} (hM : jMW K cr) (n : Nat) : ∀ (k : Nat) (l1 : Int32) (l4 : Int32) (ci : jI) (cj : jJ) {q}, fX6_isImage_214 n  k l1 l4 ci cj = some q → Qr (some (.int q.1)) K q.2.1 q.2.2 cr → Ev g (d + 3) mX6_isImage 214 [.ref 1547, .int l1, jU, jU, .int l4] [] K ci cj cr c sl Qr Qx := by
  intro k
  induction k with
  | zero =>
    intro l1 l4 ci cj q h hq
    rw [fX6_isImage_214.eq_1] at h; cases h
  | succ k ih =>
    intro l1 l4 ci cj q h hq
    rw [fX6_isImage_214.eq_2] at h
    refine ev_iload dX6_isImage_214 rfl ?_
    refine ev_iload_n dX6_isImage_216 rfl ?_
    refine ev_iconst (v := (nI 1)) dX6_isImage_217 jc1 ?_
    refine ev_isub dX6_isImage_218 ?_
    refine ev_icmp_ge 256 dX6_isImage_219 rfl (fun z1 => ?_) (fun z1 => ?_)
    · rw [if_pos z1] at h
      refine ev_iconst (v := (nI 1)) dX6_isImage_256 jc1 ?_
      cases h
      exact ev_iret dX6_isImage_257 rfl (by decide) hq
    · rw [if_neg z1] at h
      refine ev_aload_n dX6_isImage_222 rfl ?_
      refine ev_getR dX6_isImage_223 fX6_7_6 (hk1547 hM) (Or.inl (hl1547 hM)) rfl (hr0 hM) ?_
      refine ev_iload dX6_isImage_226 rfl ?_
      by_cases z2 : jok l4 1600
      rotate_left
      · rw [if_neg z2] at h; cases h
      rw [if_pos z2] at h
      refine ev_iaload dX6_isImage_228 (hk1548 hM) (Or.inl (hl1548 hM)) (jok.ix z2 (hn1548 hM)) ?_
      refine ev_bipush (v := (nI 9)) dX6_isImage_229 jb9 ?_
      refine ev_icmp_gt 248 dX6_isImage_231 rfl (fun z3 => ?_) (fun z3 => ?_)
      · rw [if_pos z3] at h
        exact ev_mask [false, false, false, false, false] (wX6_isImage_248 hM n    _ _ h hq)
      · rw [if_neg z3] at h
        refine ev_aload_n dX6_isImage_234 rfl ?_
        refine ev_getR dX6_isImage_235 fX6_7_6 (hk1547 hM) (Or.inl (hl1547 hM)) rfl (hr0 hM) ?_
        refine ev_iload dX6_isImage_238 rfl ?_
        refine ev_iconst (v := (nI 1)) dX6_isImage_240 jc1 ?_
        refine ev_iadd dX6_isImage_241 ?_
        by_cases z4 : jok (l4 + (nI 1)) 1600
        rotate_left
        · rw [if_neg z4] at h; cases h
        rw [if_pos z4] at h
        refine ev_iaload dX6_isImage_242 (hk1548 hM) (Or.inl (hl1548 hM)) (jok.ix z4 (hn1548 hM)) ?_
        refine ev_bipush (v := (nI 99)) dX6_isImage_243 jb99 ?_
        refine ev_icmp_le 250 dX6_isImage_245 rfl (fun z5 => ?_) (fun z5 => ?_)
        · rw [if_pos z5] at h
          refine ev_iinc (v := (l4 + (nI 2))) (L' := [_, _, _, _, _]) dX6_isImage_250 rfl (by rw [ji_2]) (by decide) rfl ?_
          refine ev_goto 214 dX6_isImage_253 rfl ?_
          exact ih _ _ _ _ h hq
        · rw [if_neg z5] at h
          exact ev_mask [false, false, false, false, false] (wX6_isImage_248 hM n    _ _ h hq)
def fX6_isImage_203 (n : Nat) (ci : jI) (cj : jJ) : Option (Int32 × jI × jJ) := some ((nI 0), ci, cj)
theorem wX6_isImage_203 {g : jG} {d : Nat} {K : jK} {cr : jR} {c sl : Nat} {Qr : jQ} {Qx : jX} (hM : jMW K cr) (n : Nat) (ci : jI) (cj : jJ) {q} (h : fX6_isImage_203 n   ci cj = some q) (hq : Qr (some (.int q.1)) K q.2.1 q.2.2 cr) : Ev g (d + 3) mX6_isImage 203 [jU, jU, jU, jU, jU] [] K ci cj cr c sl Qr Qx := by
  unfold fX6_isImage_203 at h
  refine ev_iconst (v := (nI 0)) dX6_isImage_203 jc0 ?_
  cases h
  exact ev_iret dX6_isImage_204 rfl (by decide) hq
def fX6_isImage_142 (n : Nat) : Nat → Int32 → Int32 → Int32 → jI → jJ → Option (Int32 × jI × jJ)
  | 0, _, _, _, _, _ => none
  | k + 1, l1, l3, l4, ci, cj => if l3 ≤ l4 then fX6_isImage_214 n  n l1 l3 ci cj else if jok l4 1600 then if (nI 99) < (ci 1548 (l4).toNatClampNeg) then fX6_isImage_203 n   ci cj else if jok (l4 + (nI 1)) 1600 then if jok (l4 + (nI 2)) 1600 then if (nI 297) < (((nI 256) * (ci 1548 ((l4 + (nI 1))).toNatClampNeg)) + (ci 1548 ((l4 + (nI 2))).toNatClampNeg)) then fX6_isImage_203 n   ci cj else if jok (l4 + (nI 3)) 1600 then if (ci 1548 ((l4 + (nI 3))).toNatClampNeg) ≤ (nI 99) then fX6_isImage_142 n  k l1 l3 (l4 + (nI 4)) ci cj else fX6_isImage_203 n   ci cj else none else none else none else none
theorem wX6_isImage_142 {g : jG} {d : Nat} {K : jK} {cr : jR} {c sl : Nat} {Qr : jQ} {Qx : jX} (hM : jMW K cr) (n : Nat) : ∀ (k : Nat) (l1 : Int32) (l3 : Int32) (l4 : Int32) (ci : jI) (cj : jJ) {q}, fX6_isImage_142 n  k l1 l3 l4 ci cj = some q → Qr (some (.int q.1)) K q.2.1 q.2.2 cr → Ev g (d + 3) mX6_isImage 142 [.ref 1547, .int l1, jU, .int l3, .int l4] [] K ci cj cr c sl Qr Qx := by
  intro k
  induction k with
  | zero =>
    intro l1 l3 l4 ci cj q h hq
    rw [fX6_isImage_142.eq_1] at h; cases h
  | succ k ih =>
    intro l1 l3 l4 ci cj q h hq
    rw [fX6_isImage_142.eq_2] at h
    refine ev_iload dX6_isImage_142 rfl ?_
    refine ev_iload_n dX6_isImage_144 rfl ?_
    refine ev_icmp_ge 211 dX6_isImage_145 rfl (fun z1 => ?_) (fun z1 => ?_)
    · rw [if_pos z1] at h
      refine ev_iload_n dX6_isImage_211 rfl ?_
      refine ev_istore (L' := [_, _, _, _, _]) dX6_isImage_212 (by decide) rfl ?_
      exact ev_mask [true, true, false, false, true] (wX6_isImage_214 hM n   n _ _ _ _ h hq)
    · rw [if_neg z1] at h
      refine ev_aload_n dX6_isImage_148 rfl ?_
      refine ev_getR dX6_isImage_149 fX6_7_6 (hk1547 hM) (Or.inl (hl1547 hM)) rfl (hr0 hM) ?_
      refine ev_iload dX6_isImage_152 rfl ?_
      by_cases z2 : jok l4 1600
      rotate_left
      · rw [if_neg z2] at h; cases h
      rw [if_pos z2] at h
      refine ev_iaload dX6_isImage_154 (hk1548 hM) (Or.inl (hl1548 hM)) (jok.ix z2 (hn1548 hM)) ?_
      refine ev_bipush (v := (nI 99)) dX6_isImage_155 jb99 ?_
      refine ev_icmp_gt 203 dX6_isImage_157 rfl (fun z3 => ?_) (fun z3 => ?_)
      · rw [if_pos z3] at h
        exact ev_mask [false, false, false, false, false] (wX6_isImage_203 hM n    _ _ h hq)
      · rw [if_neg z3] at h
        refine ev_sipush (v := (nI 256)) dX6_isImage_160 js256 ?_
        refine ev_aload_n dX6_isImage_163 rfl ?_
        refine ev_getR dX6_isImage_164 fX6_7_6 (hk1547 hM) (Or.inl (hl1547 hM)) rfl (hr0 hM) ?_
        refine ev_iload dX6_isImage_167 rfl ?_
        refine ev_iconst (v := (nI 1)) dX6_isImage_169 jc1 ?_
        refine ev_iadd dX6_isImage_170 ?_
        by_cases z4 : jok (l4 + (nI 1)) 1600
        rotate_left
        · rw [if_neg z4] at h; cases h
        rw [if_pos z4] at h
        refine ev_iaload dX6_isImage_171 (hk1548 hM) (Or.inl (hl1548 hM)) (jok.ix z4 (hn1548 hM)) ?_
        refine ev_imul dX6_isImage_172 ?_
        refine ev_aload_n dX6_isImage_173 rfl ?_
        refine ev_getR dX6_isImage_174 fX6_7_6 (hk1547 hM) (Or.inl (hl1547 hM)) rfl (hr0 hM) ?_
        refine ev_iload dX6_isImage_177 rfl ?_
        refine ev_iconst (v := (nI 2)) dX6_isImage_179 jc2 ?_
        refine ev_iadd dX6_isImage_180 ?_
        by_cases z5 : jok (l4 + (nI 2)) 1600
        rotate_left
        · rw [if_neg z5] at h; cases h
        rw [if_pos z5] at h
        refine ev_iaload dX6_isImage_181 (hk1548 hM) (Or.inl (hl1548 hM)) (jok.ix z5 (hn1548 hM)) ?_
        refine ev_iadd dX6_isImage_182 ?_
        refine ev_sipush (v := (nI 297)) dX6_isImage_183 js297 ?_
        refine ev_icmp_gt 203 dX6_isImage_186 rfl (fun z6 => ?_) (fun z6 => ?_)
        · rw [if_pos z6] at h
          exact ev_mask [false, false, false, false, false] (wX6_isImage_203 hM n    _ _ h hq)
        · rw [if_neg z6] at h
          refine ev_aload_n dX6_isImage_189 rfl ?_
          refine ev_getR dX6_isImage_190 fX6_7_6 (hk1547 hM) (Or.inl (hl1547 hM)) rfl (hr0 hM) ?_
          refine ev_iload dX6_isImage_193 rfl ?_
          refine ev_iconst (v := (nI 3)) dX6_isImage_195 jc3 ?_
          refine ev_iadd dX6_isImage_196 ?_
          by_cases z7 : jok (l4 + (nI 3)) 1600
          rotate_left
          · rw [if_neg z7] at h; cases h
          rw [if_pos z7] at h
          refine ev_iaload dX6_isImage_197 (hk1548 hM) (Or.inl (hl1548 hM)) (jok.ix z7 (hn1548 hM)) ?_
          refine ev_bipush (v := (nI 99)) dX6_isImage_198 jb99 ?_
          refine ev_icmp_le 205 dX6_isImage_200 rfl (fun z8 => ?_) (fun z8 => ?_)
          · rw [if_pos z8] at h
            refine ev_iinc (v := (l4 + (nI 4))) (L' := [_, _, _, _, _]) dX6_isImage_205 rfl (by rw [ji_4]) (by decide) rfl ?_
            refine ev_goto 142 dX6_isImage_208 rfl ?_
            exact ih _ _ _ _ _ h hq
          · rw [if_neg z8] at h
            exact ev_mask [false, false, false, false, false] (wX6_isImage_203 hM n    _ _ h hq)
def fX6_isImage_131 (n : Nat) (ci : jI) (cj : jJ) : Option (Int32 × jI × jJ) := some ((nI 0), ci, cj)
theorem wX6_isImage_131 {g : jG} {d : Nat} {K : jK} {cr : jR} {c sl : Nat} {Qr : jQ} {Qx : jX} (hM : jMW K cr) (n : Nat) (ci : jI) (cj : jJ) {q} (h : fX6_isImage_131 n   ci cj = some q) (hq : Qr (some (.int q.1)) K q.2.1 q.2.2 cr) : Ev g (d + 3) mX6_isImage 131 [jU, jU, jU, jU, jU] [] K ci cj cr c sl Qr Qx := by
  unfold fX6_isImage_131 at h
  refine ev_iconst (v := (nI 0)) dX6_isImage_131 jc0 ?_
  cases h
  exact ev_iret dX6_isImage_132 rfl (by decide) hq
def fX6_isImage_133 (n : Nat) (rec81 : Int32 → Int32 → Int32 → Int32 → jI → jJ → Option (Int32 × jI × jJ)) (l1 : Int32) (l2 : Int32) (l3 : Int32) (l4 : Int32) (ci : jI) (cj : jJ) : Option (Int32 × jI × jJ) := rec81 l1 l2 l3 (l4 + (nI 2)) ci cj
theorem wX6_isImage_133 {g : jG} {d : Nat} {K : jK} {cr : jR} {c sl : Nat} {Qr : jQ} {Qx : jX} (hM : jMW K cr) (n : Nat) (rec81 : Int32 → Int32 → Int32 → Int32 → jI → jJ → Option (Int32 × jI × jJ)) (hrec81 : (∀ (l1 : Int32) (l2 : Int32) (l3 : Int32) (l4 : Int32) (ci : jI) (cj : jJ) {q}, rec81 l1 l2 l3 l4 ci cj = some q → Qr (some (.int q.1)) K q.2.1 q.2.2 cr → Ev g (d + 3) mX6_isImage 81 [.ref 1547, .int l1, .int l2, .int l3, .int l4] [] K ci cj cr c sl Qr Qx)) (l1 : Int32) (l2 : Int32) (l3 : Int32) (l4 : Int32) (ci : jI) (cj : jJ) {q} (h : fX6_isImage_133 n rec81 l1 l2 l3 l4 ci cj = some q) (hq : Qr (some (.int q.1)) K q.2.1 q.2.2 cr) : Ev g (d + 3) mX6_isImage 133 [.ref 1547, .int l1, .int l2, .int l3, .int l4] [] K ci cj cr c sl Qr Qx := by
  unfold fX6_isImage_133 at h
  refine ev_iinc (v := (l4 + (nI 2))) (L' := [_, _, _, _, _]) dX6_isImage_133 rfl (by rw [ji_2]) (by decide) rfl ?_
  refine ev_goto 81 dX6_isImage_136 rfl ?_
  exact hrec81 _ _ _ _ _ _ h hq
def fX6_isImage_81 (n : Nat) : Nat → Int32 → Int32 → Int32 → Int32 → jI → jJ → Option (Int32 × jI × jJ)
  | 0, _, _, _, _, _, _ => none
  | k + 1, l1, l2, l3, l4, ci, cj => if l2 ≤ l4 then fX6_isImage_142 n  n l1 l3 l2 ci cj else if jok l4 1600 then if (nI 99) < (ci 1548 (l4).toNatClampNeg) then fX6_isImage_131 n   ci cj else if jok (l4 + (nI 1)) 1600 then Option.bind (fX6_isBay n (((ci 1548 ((l4 + (nI 1))).toNatClampNeg)).toInt64) ci cj) (fun q5 => if q5.1 = 0 then if jok (l4 + (nI 1)) 1600 then if (q5.2.1 1548 ((l4 + (nI 1))).toNatClampNeg) = (nI 255) then fX6_isImage_133 n (fX6_isImage_81 n  k) l1 l2 l3 l4 q5.2.1 q5.2.2 else fX6_isImage_131 n   q5.2.1 q5.2.2 else none else fX6_isImage_133 n (fX6_isImage_81 n  k) l1 l2 l3 l4 q5.2.1 q5.2.2) else none else none
theorem wX6_isImage_81 {g : jG} {d : Nat} {K : jK} {cr : jR} {c sl : Nat} {Qr : jQ} {Qx : jX} (hM : jMW K cr) (n : Nat) : ∀ (k : Nat) (l1 : Int32) (l2 : Int32) (l3 : Int32) (l4 : Int32) (ci : jI) (cj : jJ) {q}, fX6_isImage_81 n  k l1 l2 l3 l4 ci cj = some q → Qr (some (.int q.1)) K q.2.1 q.2.2 cr → Ev g (d + 3) mX6_isImage 81 [.ref 1547, .int l1, .int l2, .int l3, .int l4] [] K ci cj cr c sl Qr Qx := by
  intro k
  induction k with
  | zero =>
    intro l1 l2 l3 l4 ci cj q h hq
    rw [fX6_isImage_81.eq_1] at h; cases h
  | succ k ih =>
    intro l1 l2 l3 l4 ci cj q h hq
    rw [fX6_isImage_81.eq_2] at h
    refine ev_iload dX6_isImage_81 rfl ?_
    refine ev_iload_n dX6_isImage_83 rfl ?_
    refine ev_icmp_ge 139 dX6_isImage_84 rfl (fun z1 => ?_) (fun z1 => ?_)
    · rw [if_pos z1] at h
      refine ev_iload_n dX6_isImage_139 rfl ?_
      refine ev_istore (L' := [_, _, _, _, _]) dX6_isImage_140 (by decide) rfl ?_
      exact ev_mask [true, true, false, true, true] (wX6_isImage_142 hM n   n _ _ _ _ _ h hq)
    · rw [if_neg z1] at h
      refine ev_aload_n dX6_isImage_87 rfl ?_
      refine ev_getR dX6_isImage_88 fX6_7_6 (hk1547 hM) (Or.inl (hl1547 hM)) rfl (hr0 hM) ?_
      refine ev_iload dX6_isImage_91 rfl ?_
      by_cases z2 : jok l4 1600
      rotate_left
      · rw [if_neg z2] at h; cases h
      rw [if_pos z2] at h
      refine ev_iaload dX6_isImage_93 (hk1548 hM) (Or.inl (hl1548 hM)) (jok.ix z2 (hn1548 hM)) ?_
      refine ev_bipush (v := (nI 99)) dX6_isImage_94 jb99 ?_
      refine ev_icmp_gt 131 dX6_isImage_96 rfl (fun z3 => ?_) (fun z3 => ?_)
      · rw [if_pos z3] at h
        exact ev_mask [false, false, false, false, false] (wX6_isImage_131 hM n    _ _ h hq)
      · rw [if_neg z3] at h
        refine ev_aload_n dX6_isImage_99 rfl ?_
        refine ev_aload_n dX6_isImage_100 rfl ?_
        refine ev_getR dX6_isImage_101 fX6_7_6 (hk1547 hM) (Or.inl (hl1547 hM)) rfl (hr0 hM) ?_
        refine ev_iload dX6_isImage_104 rfl ?_
        refine ev_iconst (v := (nI 1)) dX6_isImage_106 jc1 ?_
        refine ev_iadd dX6_isImage_107 ?_
        by_cases z4 : jok (l4 + (nI 1)) 1600
        rotate_left
        · rw [if_neg z4] at h; cases h
        rw [if_pos z4] at h
        refine ev_iaload dX6_isImage_108 (hk1548 hM) (Or.inl (hl1548 hM)) (jok.ix z4 (hn1548 hM)) ?_
        refine ev_i2l dX6_isImage_109 ?_
        obtain ⟨q5, z6, h⟩ := Option.bind_eq_some_iff.mp h
        refine ev_zV1 dX6_isImage_110 vX6_516_6 (hk1547 hM) (Or.inl (hl1547 hM)) (Nat.le_of_ble_eq_true rfl) (Nat.le_of_ble_eq_true rfl) rfl (metX6_isBay hM n _ _ _ z6 ?_)
        show Ev g _ _ 113 _ [.int q5.1] K q5.2.1 q5.2.2 cr c sl Qr Qx
        refine ev_if_ne 133 dX6_isImage_113 rfl (fun z7 => ?_) (fun z7 => ?_)
        · rw [if_neg z7] at h
          exact wX6_isImage_133 hM n _ (ih) _ _ _ _ _ _ h hq
        · rw [if_pos z7] at h
          refine ev_aload_n dX6_isImage_116 rfl ?_
          refine ev_getR dX6_isImage_117 fX6_7_6 (hk1547 hM) (Or.inl (hl1547 hM)) rfl (hr0 hM) ?_
          refine ev_iload dX6_isImage_120 rfl ?_
          refine ev_iconst (v := (nI 1)) dX6_isImage_122 jc1 ?_
          refine ev_iadd dX6_isImage_123 ?_
          by_cases z8 : jok (l4 + (nI 1)) 1600
          rotate_left
          · rw [if_neg z8] at h; cases h
          rw [if_pos z8] at h
          refine ev_iaload dX6_isImage_124 (hk1548 hM) (Or.inl (hl1548 hM)) (jok.ix z8 (hn1548 hM)) ?_
          refine ev_sipush (v := (nI 255)) dX6_isImage_125 js255 ?_
          refine ev_icmp_eq 133 dX6_isImage_128 rfl (fun z9 => ?_) (fun z9 => ?_)
          · rw [if_pos z9] at h
            exact wX6_isImage_133 hM n _ (ih) _ _ _ _ _ _ h hq
          · rw [if_neg z9] at h
            exact ev_mask [false, false, false, false, false] (wX6_isImage_131 hM n    _ _ h hq)
def fX6_isImage (n : Nat) (a0 : Int32) (ci : jI) (cj : jJ) : Option (Int32 × jI × jJ) := Option.bind (fX6_shoalMany n  ci cj) (fun q1 => Option.bind (fX6_bayMany n  q1.2.1 q1.2.2) (fun q3 => Option.bind (fX6_pairMany n  q3.2.1 q3.2.2) (fun q5 => if a0 = (((((nI 2) + ((nI 2) * q1.1)) + ((nI 4) * q3.1)) + ((nI 2) * q5.1)) + (nI 1)) then if jok (a0 - (nI 1)) 1600 then Option.bind (fX6_checked n 1548 (a0 - (nI 1)) q5.2.1 q5.2.2) (fun q9 => if (q5.2.1 1548 ((a0 - (nI 1))).toNatClampNeg) = q9.1 then if jok (nI 0) 1600 then if jok (nI 1) 1600 then if (((nI 256) * (q9.2.1 1548 ((nI 0)).toNatClampNeg)) + (q9.2.1 1548 ((nI 1)).toNatClampNeg)) ≤ (nI 999) then fX6_isImage_81 n  n a0 ((nI 2) + ((nI 2) * q1.1)) (((nI 2) + ((nI 2) * q1.1)) + ((nI 4) * q3.1)) (nI 2) q9.2.1 q9.2.2 else fX6_isImage_76 n   q9.2.1 q9.2.2 else none else none else fX6_isImage_76 n   q9.2.1 q9.2.2) else none else fX6_isImage_76 n   q5.2.1 q5.2.2)))
theorem metX6_isImage {g : jG} {d : Nat} {K : jK} {cr : jR} {c sl : Nat} {Qr : jQ} {Qx : jX} (hM : jMW K cr) (n : Nat) (a0 : Int32) (ci : jI) (cj : jJ) {q} (h : fX6_isImage n a0 ci cj = some q) (hq : Qr (some (.int q.1)) K q.2.1 q.2.2 cr) : EvM g (d + 3) mX6_isImage [.ref 1547, .int a0] K ci cj cr c sl Qr Qx := by
  unfold fX6_isImage at h
  show Ev g (d + 3) mX6_isImage 0 [.ref 1547, .int a0, jU, jU, jU] [] K ci cj cr c sl Qr Qx
  refine ev_iconst (v := (nI 2)) dX6_isImage_0 jc2 ?_
  refine ev_iconst (v := (nI 2)) dX6_isImage_1 jc2 ?_
  refine ev_aload_n dX6_isImage_2 rfl ?_
  obtain ⟨q1, z2, h⟩ := Option.bind_eq_some_iff.mp h
  refine ev_zV0 dX6_isImage_3 vX6_405_6 (hk1547 hM) (Or.inl (hl1547 hM)) (Nat.le_of_ble_eq_true rfl) (Nat.le_of_ble_eq_true rfl) rfl (metX6_shoalMany hM n  _ _ z2 ?_)
  show Ev g _ _ 6 _ [.int q1.1, .int (nI 2), .int (nI 2)] K q1.2.1 q1.2.2 cr c sl Qr Qx
  refine ev_imul dX6_isImage_6 ?_
  refine ev_iadd dX6_isImage_7 ?_
  refine ev_istore_n (L' := [_, _, _, _, _]) dX6_isImage_8 (by decide) rfl ?_
  refine ev_iload_n dX6_isImage_9 rfl ?_
  refine ev_iconst (v := (nI 4)) dX6_isImage_10 jc4 ?_
  refine ev_aload_n dX6_isImage_11 rfl ?_
  obtain ⟨q3, z4, h⟩ := Option.bind_eq_some_iff.mp h
  refine ev_zV0 dX6_isImage_12 vX6_399_6 (hk1547 hM) (Or.inl (hl1547 hM)) (Nat.le_of_ble_eq_true rfl) (Nat.le_of_ble_eq_true rfl) rfl (metX6_bayMany hM n  _ _ z4 ?_)
  show Ev g _ _ 15 _ [.int q3.1, .int (nI 4), .int ((nI 2) + ((nI 2) * q1.1))] K q3.2.1 q3.2.2 cr c sl Qr Qx
  refine ev_imul dX6_isImage_15 ?_
  refine ev_iadd dX6_isImage_16 ?_
  refine ev_istore_n (L' := [_, _, _, _, _]) dX6_isImage_17 (by decide) rfl ?_
  refine ev_iload_n dX6_isImage_18 rfl ?_
  refine ev_iload_n dX6_isImage_19 rfl ?_
  refine ev_iconst (v := (nI 2)) dX6_isImage_20 jc2 ?_
  refine ev_aload_n dX6_isImage_21 rfl ?_
  obtain ⟨q5, z6, h⟩ := Option.bind_eq_some_iff.mp h
  refine ev_zV0 dX6_isImage_22 vX6_402_6 (hk1547 hM) (Or.inl (hl1547 hM)) (Nat.le_of_ble_eq_true rfl) (Nat.le_of_ble_eq_true rfl) rfl (metX6_pairMany hM n  _ _ z6 ?_)
  show Ev g _ _ 25 _ [.int q5.1, .int (nI 2), .int (((nI 2) + ((nI 2) * q1.1)) + ((nI 4) * q3.1)), .int a0] K q5.2.1 q5.2.2 cr c sl Qr Qx
  refine ev_imul dX6_isImage_25 ?_
  refine ev_iadd dX6_isImage_26 ?_
  refine ev_iconst (v := (nI 1)) dX6_isImage_27 jc1 ?_
  refine ev_iadd dX6_isImage_28 ?_
  refine ev_icmp_ne 76 dX6_isImage_29 rfl (fun z7 => ?_) (fun z7 => ?_)
  · rw [if_neg z7] at h
    exact ev_mask [false, false, false, false, false] (wX6_isImage_76 hM n    _ _ h hq)
  · rw [if_pos z7] at h
    refine ev_aload_n dX6_isImage_32 rfl ?_
    refine ev_getR dX6_isImage_33 fX6_7_6 (hk1547 hM) (Or.inl (hl1547 hM)) rfl (hr0 hM) ?_
    refine ev_iload_n dX6_isImage_36 rfl ?_
    refine ev_iconst (v := (nI 1)) dX6_isImage_37 jc1 ?_
    refine ev_isub dX6_isImage_38 ?_
    by_cases z8 : jok (a0 - (nI 1)) 1600
    rotate_left
    · rw [if_neg z8] at h; cases h
    rw [if_pos z8] at h
    refine ev_iaload dX6_isImage_39 (hk1548 hM) (Or.inl (hl1548 hM)) (jok.ix z8 (hn1548 hM)) ?_
    refine ev_aload_n dX6_isImage_40 rfl ?_
    refine ev_getR dX6_isImage_41 fX6_7_6 (hk1547 hM) (Or.inl (hl1547 hM)) rfl (hr0 hM) ?_
    refine ev_iload_n dX6_isImage_44 rfl ?_
    refine ev_iconst (v := (nI 1)) dX6_isImage_45 jc1 ?_
    refine ev_isub dX6_isImage_46 ?_
    obtain ⟨q9, z10, h⟩ := Option.bind_eq_some_iff.mp h
    refine ev_zS2 dX6_isImage_47 sX6_683 (Nat.le_of_ble_eq_true rfl) (Nat.le_of_ble_eq_true rfl) rfl (metX6_checked hM n _ _ _ _ z10 ?_)
    show Ev g _ _ 50 _ [.int q9.1, .int (q5.2.1 1548 ((a0 - (nI 1))).toNatClampNeg)] K q9.2.1 q9.2.2 cr c sl Qr Qx
    refine ev_icmp_ne 76 dX6_isImage_50 rfl (fun z11 => ?_) (fun z11 => ?_)
    · rw [if_neg z11] at h
      exact ev_mask [false, false, false, false, false] (wX6_isImage_76 hM n    _ _ h hq)
    · rw [if_pos z11] at h
      refine ev_sipush (v := (nI 256)) dX6_isImage_53 js256 ?_
      refine ev_aload_n dX6_isImage_56 rfl ?_
      refine ev_getR dX6_isImage_57 fX6_7_6 (hk1547 hM) (Or.inl (hl1547 hM)) rfl (hr0 hM) ?_
      refine ev_iconst (v := (nI 0)) dX6_isImage_60 jc0 ?_
      by_cases z12 : jok (nI 0) 1600
      rotate_left
      · rw [if_neg z12] at h; cases h
      rw [if_pos z12] at h
      refine ev_iaload dX6_isImage_61 (hk1548 hM) (Or.inl (hl1548 hM)) (jok.ix z12 (hn1548 hM)) ?_
      refine ev_imul dX6_isImage_62 ?_
      refine ev_aload_n dX6_isImage_63 rfl ?_
      refine ev_getR dX6_isImage_64 fX6_7_6 (hk1547 hM) (Or.inl (hl1547 hM)) rfl (hr0 hM) ?_
      refine ev_iconst (v := (nI 1)) dX6_isImage_67 jc1 ?_
      by_cases z13 : jok (nI 1) 1600
      rotate_left
      · rw [if_neg z13] at h; cases h
      rw [if_pos z13] at h
      refine ev_iaload dX6_isImage_68 (hk1548 hM) (Or.inl (hl1548 hM)) (jok.ix z13 (hn1548 hM)) ?_
      refine ev_iadd dX6_isImage_69 ?_
      refine ev_sipush (v := (nI 999)) dX6_isImage_70 js999 ?_
      refine ev_icmp_le 78 dX6_isImage_73 rfl (fun z14 => ?_) (fun z14 => ?_)
      · rw [if_pos z14] at h
        refine ev_iconst (v := (nI 2)) dX6_isImage_78 jc2 ?_
        refine ev_istore (L' := [_, _, _, _, _]) dX6_isImage_79 (by decide) rfl ?_
        exact wX6_isImage_81 hM n   n _ _ _ _ _ _ h hq
      · rw [if_neg z14] at h
        exact ev_mask [false, false, false, false, false] (wX6_isImage_76 hM n    _ _ h hq)
def fX6_on_210 (n : Nat) : Nat → Int32 → Int32 → jI → jJ → Option (Int32 × jI × jJ)
  | 0, _, _, _, _ => none
  | k + 1, l2, l3, ci, cj => Option.bind (fX6_pairMany n  ci cj) (fun q1 => if ((nI 2) * q1.1) ≤ l3 then if jok (nI 45) 166 then some ((nI 1), (ju (ju q1.2.1 1585 ((nI 45)).toNatClampNeg (nI 0)) 1547 68 (nI 0)), q1.2.2) else none else if jok (l2 + l3) 1600 then if jok ((nI 25) + l3) 166 then fX6_on_210 n  k l2 (l3 + (nI 1)) (ju q1.2.1 1585 (((nI 25) + l3)).toNatClampNeg (q1.2.1 1548 ((l2 + l3)).toNatClampNeg)) q1.2.2 else none else none)
theorem wX6_on_210 {g : jG} {d : Nat} {K : jK} {cr : jR} {c sl : Nat} {Qr : jQ} {Qx : jX} (hM : jMW K cr) (n : Nat) : ∀ (k : Nat) (l2 : Int32) (l3 : Int32) (ci : jI) (cj : jJ) {q}, fX6_on_210 n  k l2 l3 ci cj = some q → Qr (some (.int q.1)) K q.2.1 q.2.2 cr → Ev g (d + 4) mX6_on 210 [.ref 1547, jU, .int l2, .int l3] [] K ci cj cr c sl Qr Qx := by
  intro k
  induction k with
  | zero =>
    intro l2 l3 ci cj q h hq
    rw [fX6_on_210.eq_1] at h; cases h
  | succ k ih =>
    intro l2 l3 ci cj q h hq
    rw [fX6_on_210.eq_2] at h
    refine ev_iload_n dX6_on_210 rfl ?_
    refine ev_iconst (v := (nI 2)) dX6_on_211 jc2 ?_
    refine ev_aload_n dX6_on_212 rfl ?_
    obtain ⟨q1, z2, h⟩ := Option.bind_eq_some_iff.mp h
    refine ev_zV0 dX6_on_213 vX6_402_6 (hk1547 hM) (Or.inl (hl1547 hM)) (Nat.le_of_ble_eq_true rfl) (Nat.le_of_ble_eq_true rfl) rfl (metX6_pairMany hM n  _ _ z2 ?_)
    show Ev g _ _ 216 _ [.int q1.1, .int (nI 2), .int l3] K q1.2.1 q1.2.2 cr c sl Qr Qx
    refine ev_imul dX6_on_216 ?_
    refine ev_icmp_ge 243 dX6_on_217 rfl (fun z3 => ?_) (fun z3 => ?_)
    · rw [if_pos z3] at h
      refine ev_aload_n dX6_on_243 rfl ?_
      refine ev_getR dX6_on_244 fX6_127_6 (hk1547 hM) (Or.inl (hl1547 hM)) rfl (hr50 hM) ?_
      refine ev_bipush (v := (nI 45)) dX6_on_247 jb45 ?_
      refine ev_iconst (v := (nI 0)) dX6_on_249 jc0 ?_
      by_cases z4 : jok (nI 45) 166
      rotate_left
      · rw [if_neg z4] at h; cases h
      rw [if_pos z4] at h
      refine ev_iastore dX6_on_250 (hk1585 hM) (hl1585 hM) (jok.ix z4 (hn1585 hM)) ?_
      refine ev_aload_n dX6_on_251 rfl ?_
      refine ev_iconst (v := (nI 0)) dX6_on_252 jc0 ?_
      refine ev_putI dX6_on_253 (pX6_393_6 _) (hk1547 hM) (hl1547 hM) rfl rfl rfl ?_
      refine ev_iconst (v := (nI 1)) dX6_on_256 jc1 ?_
      cases h
      exact ev_iret dX6_on_257 rfl (by decide) hq
    · rw [if_neg z3] at h
      refine ev_aload_n dX6_on_220 rfl ?_
      refine ev_getR dX6_on_221 fX6_127_6 (hk1547 hM) (Or.inl (hl1547 hM)) rfl (hr50 hM) ?_
      refine ev_bipush (v := (nI 25)) dX6_on_224 jb25 ?_
      refine ev_iload_n dX6_on_226 rfl ?_
      refine ev_iadd dX6_on_227 ?_
      refine ev_aload_n dX6_on_228 rfl ?_
      refine ev_getR dX6_on_229 fX6_7_6 (hk1547 hM) (Or.inl (hl1547 hM)) rfl (hr0 hM) ?_
      refine ev_iload_n dX6_on_232 rfl ?_
      refine ev_iload_n dX6_on_233 rfl ?_
      refine ev_iadd dX6_on_234 ?_
      by_cases z5 : jok (l2 + l3) 1600
      rotate_left
      · rw [if_neg z5] at h; cases h
      rw [if_pos z5] at h
      refine ev_iaload dX6_on_235 (hk1548 hM) (Or.inl (hl1548 hM)) (jok.ix z5 (hn1548 hM)) ?_
      by_cases z6 : jok ((nI 25) + l3) 166
      rotate_left
      · rw [if_neg z6] at h; cases h
      rw [if_pos z6] at h
      refine ev_iastore dX6_on_236 (hk1585 hM) (hl1585 hM) (jok.ix z6 (hn1585 hM)) ?_
      refine ev_iinc (v := (l3 + (nI 1))) (L' := [_, _, _, _]) dX6_on_237 rfl (by rw [ji_1]) (by decide) rfl ?_
      refine ev_goto 210 dX6_on_240 rfl ?_
      exact ih _ _ _ _ h hq
def fX6_on_123 (n : Nat) : Nat → Int32 → Int32 → jI → jJ → Option (Int32 × jI × jJ)
  | 0, _, _, _, _ => none
  | k + 1, l2, l3, ci, cj => Option.bind (fX6_bayMany n  ci cj) (fun q1 => if q1.1 ≤ l3 then fX6_on_210 n  n l2 (nI 0) q1.2.1 q1.2.2 else if jok l2 1600 then if jok ((nI 7) + ((nI 3) * l3)) 166 then if jok (l2 + (nI 1)) 1600 then if jok (l2 + (nI 2)) 1600 then if jok ((nI 8) + ((nI 3) * l3)) 166 then if jok (l2 + (nI 3)) 1600 then if jok ((nI 9) + ((nI 3) * l3)) 166 then fX6_on_123 n  k (l2 + (nI 4)) (l3 + (nI 1)) (ju (ju (ju q1.2.1 1585 (((nI 7) + ((nI 3) * l3))).toNatClampNeg (q1.2.1 1548 (l2).toNatClampNeg)) 1585 (((nI 8) + ((nI 3) * l3))).toNatClampNeg (((nI 256) * ((ju q1.2.1 1585 (((nI 7) + ((nI 3) * l3))).toNatClampNeg (q1.2.1 1548 (l2).toNatClampNeg)) 1548 ((l2 + (nI 1))).toNatClampNeg)) + ((ju q1.2.1 1585 (((nI 7) + ((nI 3) * l3))).toNatClampNeg (q1.2.1 1548 (l2).toNatClampNeg)) 1548 ((l2 + (nI 2))).toNatClampNeg))) 1585 (((nI 9) + ((nI 3) * l3))).toNatClampNeg ((ju (ju q1.2.1 1585 (((nI 7) + ((nI 3) * l3))).toNatClampNeg (q1.2.1 1548 (l2).toNatClampNeg)) 1585 (((nI 8) + ((nI 3) * l3))).toNatClampNeg (((nI 256) * ((ju q1.2.1 1585 (((nI 7) + ((nI 3) * l3))).toNatClampNeg (q1.2.1 1548 (l2).toNatClampNeg)) 1548 ((l2 + (nI 1))).toNatClampNeg)) + ((ju q1.2.1 1585 (((nI 7) + ((nI 3) * l3))).toNatClampNeg (q1.2.1 1548 (l2).toNatClampNeg)) 1548 ((l2 + (nI 2))).toNatClampNeg))) 1548 ((l2 + (nI 3))).toNatClampNeg)) q1.2.2 else none else none else none else none else none else none else none)
theorem wX6_on_123 {g : jG} {d : Nat} {K : jK} {cr : jR} {c sl : Nat} {Qr : jQ} {Qx : jX} (hM : jMW K cr) (n : Nat) : ∀ (k : Nat) (l2 : Int32) (l3 : Int32) (ci : jI) (cj : jJ) {q}, fX6_on_123 n  k l2 l3 ci cj = some q → Qr (some (.int q.1)) K q.2.1 q.2.2 cr → Ev g (d + 4) mX6_on 123 [.ref 1547, jU, .int l2, .int l3] [] K ci cj cr c sl Qr Qx := by
  intro k
  induction k with
  | zero =>
    intro l2 l3 ci cj q h hq
    rw [fX6_on_123.eq_1] at h; cases h
  | succ k ih =>
    intro l2 l3 ci cj q h hq
    rw [fX6_on_123.eq_2] at h
    refine ev_iload_n dX6_on_123 rfl ?_
    refine ev_aload_n dX6_on_124 rfl ?_
    obtain ⟨q1, z2, h⟩ := Option.bind_eq_some_iff.mp h
    refine ev_zV0 dX6_on_125 vX6_399_6 (hk1547 hM) (Or.inl (hl1547 hM)) (Nat.le_of_ble_eq_true rfl) (Nat.le_of_ble_eq_true rfl) rfl (metX6_bayMany hM n  _ _ z2 ?_)
    show Ev g _ _ 128 _ [.int q1.1, .int l3] K q1.2.1 q1.2.2 cr c sl Qr Qx
    refine ev_icmp_ge 208 dX6_on_128 rfl (fun z3 => ?_) (fun z3 => ?_)
    · rw [if_pos z3] at h
      refine ev_iconst (v := (nI 0)) dX6_on_208 jc0 ?_
      refine ev_istore_n (L' := [_, _, _, _]) dX6_on_209 (by decide) rfl ?_
      exact wX6_on_210 hM n   n _ _ _ _ h hq
    · rw [if_neg z3] at h
      refine ev_aload_n dX6_on_131 rfl ?_
      refine ev_getR dX6_on_132 fX6_127_6 (hk1547 hM) (Or.inl (hl1547 hM)) rfl (hr50 hM) ?_
      refine ev_bipush (v := (nI 7)) dX6_on_135 jb7 ?_
      refine ev_iconst (v := (nI 3)) dX6_on_137 jc3 ?_
      refine ev_iload_n dX6_on_138 rfl ?_
      refine ev_imul dX6_on_139 ?_
      refine ev_iadd dX6_on_140 ?_
      refine ev_aload_n dX6_on_141 rfl ?_
      refine ev_getR dX6_on_142 fX6_7_6 (hk1547 hM) (Or.inl (hl1547 hM)) rfl (hr0 hM) ?_
      refine ev_iload_n dX6_on_145 rfl ?_
      by_cases z4 : jok l2 1600
      rotate_left
      · rw [if_neg z4] at h; cases h
      rw [if_pos z4] at h
      refine ev_iaload dX6_on_146 (hk1548 hM) (Or.inl (hl1548 hM)) (jok.ix z4 (hn1548 hM)) ?_
      by_cases z5 : jok ((nI 7) + ((nI 3) * l3)) 166
      rotate_left
      · rw [if_neg z5] at h; cases h
      rw [if_pos z5] at h
      refine ev_iastore dX6_on_147 (hk1585 hM) (hl1585 hM) (jok.ix z5 (hn1585 hM)) ?_
      refine ev_aload_n dX6_on_148 rfl ?_
      refine ev_getR dX6_on_149 fX6_127_6 (hk1547 hM) (Or.inl (hl1547 hM)) rfl (hr50 hM) ?_
      refine ev_bipush (v := (nI 8)) dX6_on_152 jb8 ?_
      refine ev_iconst (v := (nI 3)) dX6_on_154 jc3 ?_
      refine ev_iload_n dX6_on_155 rfl ?_
      refine ev_imul dX6_on_156 ?_
      refine ev_iadd dX6_on_157 ?_
      refine ev_sipush (v := (nI 256)) dX6_on_158 js256 ?_
      refine ev_aload_n dX6_on_161 rfl ?_
      refine ev_getR dX6_on_162 fX6_7_6 (hk1547 hM) (Or.inl (hl1547 hM)) rfl (hr0 hM) ?_
      refine ev_iload_n dX6_on_165 rfl ?_
      refine ev_iconst (v := (nI 1)) dX6_on_166 jc1 ?_
      refine ev_iadd dX6_on_167 ?_
      by_cases z6 : jok (l2 + (nI 1)) 1600
      rotate_left
      · rw [if_neg z6] at h; cases h
      rw [if_pos z6] at h
      refine ev_iaload dX6_on_168 (hk1548 hM) (Or.inl (hl1548 hM)) (jok.ix z6 (hn1548 hM)) ?_
      refine ev_imul dX6_on_169 ?_
      refine ev_aload_n dX6_on_170 rfl ?_
      refine ev_getR dX6_on_171 fX6_7_6 (hk1547 hM) (Or.inl (hl1547 hM)) rfl (hr0 hM) ?_
      refine ev_iload_n dX6_on_174 rfl ?_
      refine ev_iconst (v := (nI 2)) dX6_on_175 jc2 ?_
      refine ev_iadd dX6_on_176 ?_
      by_cases z7 : jok (l2 + (nI 2)) 1600
      rotate_left
      · rw [if_neg z7] at h; cases h
      rw [if_pos z7] at h
      refine ev_iaload dX6_on_177 (hk1548 hM) (Or.inl (hl1548 hM)) (jok.ix z7 (hn1548 hM)) ?_
      refine ev_iadd dX6_on_178 ?_
      by_cases z8 : jok ((nI 8) + ((nI 3) * l3)) 166
      rotate_left
      · rw [if_neg z8] at h; cases h
      rw [if_pos z8] at h
      refine ev_iastore dX6_on_179 (hk1585 hM) (hl1585 hM) (jok.ix z8 (hn1585 hM)) ?_
      refine ev_aload_n dX6_on_180 rfl ?_
      refine ev_getR dX6_on_181 fX6_127_6 (hk1547 hM) (Or.inl (hl1547 hM)) rfl (hr50 hM) ?_
      refine ev_bipush (v := (nI 9)) dX6_on_184 jb9 ?_
      refine ev_iconst (v := (nI 3)) dX6_on_186 jc3 ?_
      refine ev_iload_n dX6_on_187 rfl ?_
      refine ev_imul dX6_on_188 ?_
      refine ev_iadd dX6_on_189 ?_
      refine ev_aload_n dX6_on_190 rfl ?_
      refine ev_getR dX6_on_191 fX6_7_6 (hk1547 hM) (Or.inl (hl1547 hM)) rfl (hr0 hM) ?_
      refine ev_iload_n dX6_on_194 rfl ?_
      refine ev_iconst (v := (nI 3)) dX6_on_195 jc3 ?_
      refine ev_iadd dX6_on_196 ?_
      by_cases z9 : jok (l2 + (nI 3)) 1600
      rotate_left
      · rw [if_neg z9] at h; cases h
      rw [if_pos z9] at h
      refine ev_iaload dX6_on_197 (hk1548 hM) (Or.inl (hl1548 hM)) (jok.ix z9 (hn1548 hM)) ?_
      by_cases z10 : jok ((nI 9) + ((nI 3) * l3)) 166
      rotate_left
      · rw [if_neg z10] at h; cases h
      rw [if_pos z10] at h
      refine ev_iastore dX6_on_198 (hk1585 hM) (hl1585 hM) (jok.ix z10 (hn1585 hM)) ?_
      refine ev_iinc (v := (l2 + (nI 4))) (L' := [_, _, _, _]) dX6_on_199 rfl (by rw [ji_4]) (by decide) rfl ?_
      refine ev_iinc (v := (l3 + (nI 1))) (L' := [_, _, _, _]) dX6_on_202 rfl (by rw [ji_1]) (by decide) rfl ?_
      refine ev_goto 123 dX6_on_205 rfl ?_
      exact ih _ _ _ _ h hq
def fX6_on_105 (n : Nat) (rec55 : Int32 → jI → jJ → Option (Int32 × jI × jJ)) (l2 : Int32) (t0 : Int32) (t1 : Int32) (ci : jI) (cj : jJ) : Option (Int32 × jI × jJ) := if jok t1 166 then rec55 (l2 + (nI 1)) (ju ci 1585 (t1).toNatClampNeg t0) cj else none
theorem wX6_on_105 {g : jG} {d : Nat} {K : jK} {cr : jR} {c sl : Nat} {Qr : jQ} {Qx : jX} (hM : jMW K cr) (n : Nat) (rec55 : Int32 → jI → jJ → Option (Int32 × jI × jJ)) (hrec55 : (∀ (l2 : Int32) (ci : jI) (cj : jJ) {q}, rec55 l2 ci cj = some q → Qr (some (.int q.1)) K q.2.1 q.2.2 cr → Ev g (d + 4) mX6_on 55 [.ref 1547, jU, .int l2, jU] [] K ci cj cr c sl Qr Qx)) (l2 : Int32) (t0 : Int32) (t1 : Int32) (ci : jI) (cj : jJ) {q} (h : fX6_on_105 n rec55 l2 t0 t1 ci cj = some q) (hq : Qr (some (.int q.1)) K q.2.1 q.2.2 cr) : Ev g (d + 4) mX6_on 105 [.ref 1547, jU, .int l2, jU] [.int t0, .int t1, .ref 1585] K ci cj cr c sl Qr Qx := by
  unfold fX6_on_105 at h
  by_cases z1 : jok t1 166
  rotate_left
  · rw [if_neg z1] at h; cases h
  rw [if_pos z1] at h
  refine ev_iastore dX6_on_105 (hk1585 hM) (hl1585 hM) (jok.ix z1 (hn1585 hM)) ?_
  refine ev_iinc (v := (l2 + (nI 1))) (L' := [_, _, _, _]) dX6_on_106 rfl (by rw [ji_1]) (by decide) rfl ?_
  refine ev_goto 55 dX6_on_109 rfl ?_
  exact hrec55 _ _ _ h hq
def fX6_on_97 (n : Nat) (rec55 : Int32 → jI → jJ → Option (Int32 × jI × jJ)) (l2 : Int32) (t0 : Int32) (ci : jI) (cj : jJ) : Option (Int32 × jI × jJ) := if jok ((nI 2) + l2) 1600 then fX6_on_105 n rec55 l2 (ci 1548 (((nI 2) + l2)).toNatClampNeg) t0 ci cj else none
theorem wX6_on_97 {g : jG} {d : Nat} {K : jK} {cr : jR} {c sl : Nat} {Qr : jQ} {Qx : jX} (hM : jMW K cr) (n : Nat) (rec55 : Int32 → jI → jJ → Option (Int32 × jI × jJ)) (hrec55 : (∀ (l2 : Int32) (ci : jI) (cj : jJ) {q}, rec55 l2 ci cj = some q → Qr (some (.int q.1)) K q.2.1 q.2.2 cr → Ev g (d + 4) mX6_on 55 [.ref 1547, jU, .int l2, jU] [] K ci cj cr c sl Qr Qx)) (l2 : Int32) (t0 : Int32) (ci : jI) (cj : jJ) {q} (h : fX6_on_97 n rec55 l2 t0 ci cj = some q) (hq : Qr (some (.int q.1)) K q.2.1 q.2.2 cr) : Ev g (d + 4) mX6_on 97 [.ref 1547, jU, .int l2, jU] [.int t0, .ref 1585] K ci cj cr c sl Qr Qx := by
  unfold fX6_on_97 at h
  refine ev_aload_n dX6_on_97 rfl ?_
  refine ev_getR dX6_on_98 fX6_7_6 (hk1547 hM) (Or.inl (hl1547 hM)) rfl (hr0 hM) ?_
  refine ev_iconst (v := (nI 2)) dX6_on_101 jc2 ?_
  refine ev_iload_n dX6_on_102 rfl ?_
  refine ev_iadd dX6_on_103 ?_
  by_cases z1 : jok ((nI 2) + l2) 1600
  rotate_left
  · rw [if_neg z1] at h; cases h
  rw [if_pos z1] at h
  refine ev_iaload dX6_on_104 (hk1548 hM) (Or.inl (hl1548 hM)) (jok.ix z1 (hn1548 hM)) ?_
  exact wX6_on_105 hM n _ (hrec55) _ _ _ _ _ h hq
def fX6_on_55 (n : Nat) : Nat → Int32 → jI → jJ → Option (Int32 × jI × jJ)
  | 0, _, _, _ => none
  | k + 1, l2, ci, cj => Option.bind (fX6_shoalMany n  ci cj) (fun q1 => if ((nI 2) * q1.1) ≤ l2 then Option.bind (fX6_shoalMany n  q1.2.1 q1.2.2) (fun q4 => fX6_on_123 n  n ((nI 2) + ((nI 2) * q4.1)) (nI 0) q4.2.1 q4.2.2) else if (l2 - l2 / (nI 2) * (nI 2)) = (nI 1) then if jok ((nI 2) + l2) 1600 then if (q1.2.1 1548 (((nI 2) + l2)).toNatClampNeg) = (nI 255) then fX6_on_105 n (fX6_on_55 n  k) l2 (-1) ((nI 1) + l2) q1.2.1 q1.2.2 else fX6_on_97 n (fX6_on_55 n  k) l2 ((nI 1) + l2) q1.2.1 q1.2.2 else none else fX6_on_97 n (fX6_on_55 n  k) l2 ((nI 1) + l2) q1.2.1 q1.2.2)
theorem wX6_on_55 {g : jG} {d : Nat} {K : jK} {cr : jR} {c sl : Nat} {Qr : jQ} {Qx : jX} (hM : jMW K cr) (n : Nat) : ∀ (k : Nat) (l2 : Int32) (ci : jI) (cj : jJ) {q}, fX6_on_55 n  k l2 ci cj = some q → Qr (some (.int q.1)) K q.2.1 q.2.2 cr → Ev g (d + 4) mX6_on 55 [.ref 1547, jU, .int l2, jU] [] K ci cj cr c sl Qr Qx := by
  intro k
  induction k with
  | zero =>
    intro l2 ci cj q h hq
    rw [fX6_on_55.eq_1] at h; cases h
  | succ k ih =>
    intro l2 ci cj q h hq
    rw [fX6_on_55.eq_2] at h
    refine ev_iload_n dX6_on_55 rfl ?_
    refine ev_iconst (v := (nI 2)) dX6_on_56 jc2 ?_
    refine ev_aload_n dX6_on_57 rfl ?_
    obtain ⟨q1, z2, h⟩ := Option.bind_eq_some_iff.mp h
    refine ev_zV0 dX6_on_58 vX6_405_6 (hk1547 hM) (Or.inl (hl1547 hM)) (Nat.le_of_ble_eq_true rfl) (Nat.le_of_ble_eq_true rfl) rfl (metX6_shoalMany hM n  _ _ z2 ?_)
    show Ev g _ _ 61 _ [.int q1.1, .int (nI 2), .int l2] K q1.2.1 q1.2.2 cr c sl Qr Qx
    refine ev_imul dX6_on_61 ?_
    refine ev_icmp_ge 112 dX6_on_62 rfl (fun z3 => ?_) (fun z3 => ?_)
    · rw [if_pos z3] at h
      refine ev_iconst (v := (nI 2)) dX6_on_112 jc2 ?_
      refine ev_iconst (v := (nI 2)) dX6_on_113 jc2 ?_
      refine ev_aload_n dX6_on_114 rfl ?_
      obtain ⟨q4, z5, h⟩ := Option.bind_eq_some_iff.mp h
      refine ev_zV0 dX6_on_115 vX6_405_6 (hk1547 hM) (Or.inl (hl1547 hM)) (Nat.le_of_ble_eq_true rfl) (Nat.le_of_ble_eq_true rfl) rfl (metX6_shoalMany hM n  _ _ z5 ?_)
      show Ev g _ _ 118 _ [.int q4.1, .int (nI 2), .int (nI 2)] K q4.2.1 q4.2.2 cr c sl Qr Qx
      refine ev_imul dX6_on_118 ?_
      refine ev_iadd dX6_on_119 ?_
      refine ev_istore_n (L' := [_, _, _, _]) dX6_on_120 (by decide) rfl ?_
      refine ev_iconst (v := (nI 0)) dX6_on_121 jc0 ?_
      refine ev_istore_n (L' := [_, _, _, _]) dX6_on_122 (by decide) rfl ?_
      exact wX6_on_123 hM n   n _ _ _ _ h hq
    · rw [if_neg z3] at h
      refine ev_aload_n dX6_on_65 rfl ?_
      refine ev_getR dX6_on_66 fX6_127_6 (hk1547 hM) (Or.inl (hl1547 hM)) rfl (hr50 hM) ?_
      refine ev_iconst (v := (nI 1)) dX6_on_69 jc1 ?_
      refine ev_iload_n dX6_on_70 rfl ?_
      refine ev_iadd dX6_on_71 ?_
      refine ev_iload_n dX6_on_72 rfl ?_
      refine ev_iconst (v := (nI 2)) dX6_on_73 jc2 ?_
      refine ev_irem dX6_on_74 (by decide) ?_
      refine ev_iconst (v := (nI 1)) dX6_on_75 jc1 ?_
      refine ev_icmp_ne 97 dX6_on_76 rfl (fun z7 => ?_) (fun z7 => ?_)
      · rw [if_neg z7] at h
        exact wX6_on_97 hM n _ (ih) _ _ _ _ h hq
      · rw [if_pos z7] at h
        refine ev_aload_n dX6_on_79 rfl ?_
        refine ev_getR dX6_on_80 fX6_7_6 (hk1547 hM) (Or.inl (hl1547 hM)) rfl (hr0 hM) ?_
        refine ev_iconst (v := (nI 2)) dX6_on_83 jc2 ?_
        refine ev_iload_n dX6_on_84 rfl ?_
        refine ev_iadd dX6_on_85 ?_
        by_cases z8 : jok ((nI 2) + l2) 1600
        rotate_left
        · rw [if_neg z8] at h; cases h
        rw [if_pos z8] at h
        refine ev_iaload dX6_on_86 (hk1548 hM) (Or.inl (hl1548 hM)) (jok.ix z8 (hn1548 hM)) ?_
        refine ev_sipush (v := (nI 255)) dX6_on_87 js255 ?_
        refine ev_icmp_ne 97 dX6_on_90 rfl (fun z9 => ?_) (fun z9 => ?_)
        · rw [if_neg z9] at h
          exact wX6_on_97 hM n _ (ih) _ _ _ _ h hq
        · rw [if_pos z9] at h
          refine ev_iconst (v := (-1)) dX6_on_93 jcm1 ?_
          refine ev_goto 105 dX6_on_94 rfl ?_
          exact wX6_on_105 hM n _ (ih) _ _ _ _ _ h hq
def fX6_on (n : Nat) (ci : jI) (cj : jJ) : Option (Int32 × jI × jJ) := Option.bind (fX6_isImage n (ci 1547 1) (ju ci 1547 1 (nI 0)) cj) (fun q1 => if q1.1 = 0 then if jok (nI 5) 6 then if jok (nI 5) 6 then some ((nI 0), (ju q1.2.1 1549 ((nI 5)).toNatClampNeg ((q1.2.1 1549 ((nI 5)).toNatClampNeg) + (nI 1))), q1.2.2) else none else none else if jok (nI 0) 1600 then if jok (nI 1) 1600 then if jok (nI 0) 166 then fX6_on_55 n  n (nI 0) (ju q1.2.1 1585 ((nI 0)).toNatClampNeg (((nI 256) * (q1.2.1 1548 ((nI 0)).toNatClampNeg)) + (q1.2.1 1548 ((nI 1)).toNatClampNeg))) q1.2.2 else none else none else none)
theorem metX6_on {g : jG} {d : Nat} {K : jK} {cr : jR} {c sl : Nat} {Qr : jQ} {Qx : jX} (hM : jMW K cr) (n : Nat) (ci : jI) (cj : jJ) {q} (h : fX6_on n  ci cj = some q) (hq : Qr (some (.int q.1)) K q.2.1 q.2.2 cr) : EvM g (d + 4) mX6_on [.ref 1547] K ci cj cr c sl Qr Qx := by
  unfold fX6_on at h
  show Ev g (d + 4) mX6_on 0 [.ref 1547, jU, jU, jU] [] K ci cj cr c sl Qr Qx
  refine ev_aload_n dX6_on_0 rfl ?_
  refine ev_getI dX6_on_1 fX6_248_6 (hk1547 hM) (Or.inl (hl1547 hM)) rfl ?_
  refine ev_istore_n (L' := [_, _, _, _]) dX6_on_4 (by decide) rfl ?_
  refine ev_aload_n dX6_on_5 rfl ?_
  refine ev_iconst (v := (nI 0)) dX6_on_6 jc0 ?_
  refine ev_putI dX6_on_7 (pX6_248_6 _) (hk1547 hM) (hl1547 hM) rfl rfl rfl ?_
  refine ev_aload_n dX6_on_10 rfl ?_
  refine ev_iload_n dX6_on_11 rfl ?_
  obtain ⟨q1, z2, h⟩ := Option.bind_eq_some_iff.mp h
  refine ev_zV1 dX6_on_12 vX6_687_6 (hk1547 hM) (Or.inl (hl1547 hM)) (Nat.le_of_ble_eq_true rfl) (Nat.le_of_ble_eq_true rfl) rfl (metX6_isImage hM n _ _ _ z2 ?_)
  show Ev g _ _ 15 _ [.int q1.1] K q1.2.1 q1.2.2 cr c sl Qr Qx
  refine ev_if_ne 30 dX6_on_15 rfl (fun z3 => ?_) (fun z3 => ?_)
  · rw [if_neg z3] at h
    refine ev_aload_n dX6_on_30 rfl ?_
    refine ev_getR dX6_on_31 fX6_127_6 (hk1547 hM) (Or.inl (hl1547 hM)) rfl (hr50 hM) ?_
    refine ev_iconst (v := (nI 0)) dX6_on_34 jc0 ?_
    refine ev_sipush (v := (nI 256)) dX6_on_35 js256 ?_
    refine ev_aload_n dX6_on_38 rfl ?_
    refine ev_getR dX6_on_39 fX6_7_6 (hk1547 hM) (Or.inl (hl1547 hM)) rfl (hr0 hM) ?_
    refine ev_iconst (v := (nI 0)) dX6_on_42 jc0 ?_
    by_cases z4 : jok (nI 0) 1600
    rotate_left
    · rw [if_neg z4] at h; cases h
    rw [if_pos z4] at h
    refine ev_iaload dX6_on_43 (hk1548 hM) (Or.inl (hl1548 hM)) (jok.ix z4 (hn1548 hM)) ?_
    refine ev_imul dX6_on_44 ?_
    refine ev_aload_n dX6_on_45 rfl ?_
    refine ev_getR dX6_on_46 fX6_7_6 (hk1547 hM) (Or.inl (hl1547 hM)) rfl (hr0 hM) ?_
    refine ev_iconst (v := (nI 1)) dX6_on_49 jc1 ?_
    by_cases z5 : jok (nI 1) 1600
    rotate_left
    · rw [if_neg z5] at h; cases h
    rw [if_pos z5] at h
    refine ev_iaload dX6_on_50 (hk1548 hM) (Or.inl (hl1548 hM)) (jok.ix z5 (hn1548 hM)) ?_
    refine ev_iadd dX6_on_51 ?_
    by_cases z6 : jok (nI 0) 166
    rotate_left
    · rw [if_neg z6] at h; cases h
    rw [if_pos z6] at h
    refine ev_iastore dX6_on_52 (hk1585 hM) (hl1585 hM) (jok.ix z6 (hn1585 hM)) ?_
    refine ev_iconst (v := (nI 0)) dX6_on_53 jc0 ?_
    refine ev_istore_n (L' := [_, _, _, _]) dX6_on_54 (by decide) rfl ?_
    exact ev_mask [true, false, true, false] (wX6_on_55 hM n   n _ _ _ h hq)
  · rw [if_pos z3] at h
    refine ev_aload_n dX6_on_18 rfl ?_
    refine ev_getR dX6_on_19 fX6_17_6 (hk1547 hM) (Or.inl (hl1547 hM)) rfl (hr9 hM) ?_
    refine ev_iconst (v := (nI 5)) dX6_on_22 jc5 ?_
    refine ev_dup2 dX6_on_23 rfl rfl ?_
    by_cases z7 : jok (nI 5) 6
    rotate_left
    · rw [if_neg z7] at h; cases h
    rw [if_pos z7] at h
    refine ev_iaload dX6_on_24 (hk1549 hM) (Or.inl (hl1549 hM)) (jok.ix z7 (hn1549 hM)) ?_
    refine ev_iconst (v := (nI 1)) dX6_on_25 jc1 ?_
    refine ev_iadd dX6_on_26 ?_
    by_cases z8 : jok (nI 5) 6
    rotate_left
    · rw [if_neg z8] at h; cases h
    rw [if_pos z8] at h
    refine ev_iastore dX6_on_27 (hk1549 hM) (hl1549 hM) (jok.ix z8 (hn1549 hM)) ?_
    refine ev_iconst (v := (nI 0)) dX6_on_28 jc0 ?_
    cases h
    exact ev_iret dX6_on_29 rfl (by decide) hq
def fX6_status_22 (n : Nat) (t0 : Int32) (ci : jI) (cj : jJ) : Option (Int32 × jI × jJ) := some (t0, ci, cj)
theorem wX6_status_22 {g : jG} {d : Nat} {K : jK} {cr : jR} {c sl : Nat} {Qr : jQ} {Qx : jX} (hM : jMW K cr) (n : Nat) (t0 : Int32) (ci : jI) (cj : jJ) {q} (h : fX6_status_22 n  t0 ci cj = some q) (hq : Qr (some (.int q.1)) K q.2.1 q.2.2 cr) : Ev g (d + 2) mX6_status 22 [jU, jU] [.int t0] K ci cj cr c sl Qr Qx := by
  unfold fX6_status_22 at h
  cases h
  exact ev_iret dX6_status_22 rfl rfl hq
def fX6_status (n : Nat) (a0 : Int32) (ci : jI) (cj : jJ) : Option (Int32 × jI × jJ) := Option.bind (fX6_isIn n ((a0).toInt64) (lN 0) (5 : Int64) ci cj) (fun q1 => if q1.1 = 0 then fX6_status_22 n  (-1) q1.2.1 q1.2.2 else if jok a0 6 then fX6_status_22 n  (q1.2.1 1549 (a0).toNatClampNeg) q1.2.1 q1.2.2 else none)
theorem metX6_status {g : jG} {d : Nat} {K : jK} {cr : jR} {c sl : Nat} {Qr : jQ} {Qx : jX} (hM : jMW K cr) (n : Nat) (a0 : Int32) (ci : jI) (cj : jJ) {q} (h : fX6_status n a0 ci cj = some q) (hq : Qr (some (.int q.1)) K q.2.1 q.2.2 cr) : EvM g (d + 2) mX6_status [.ref 1547, .int a0] K ci cj cr c sl Qr Qx := by
  unfold fX6_status at h
  show Ev g (d + 2) mX6_status 0 [.ref 1547, .int a0] [] K ci cj cr c sl Qr Qx
  refine ev_iload_n dX6_status_0 rfl ?_
  refine ev_i2l dX6_status_1 ?_
  refine ev_lconst (v := lN 0) dX6_status_2 rfl ?_
  refine ev_ldc2 dX6_status_3 q2305 ?_
  obtain ⟨q1, z2, h⟩ := Option.bind_eq_some_iff.mp h
  refine ev_zS3 dX6_status_6 sX6_294 (Nat.le_of_ble_eq_true rfl) (Nat.le_of_ble_eq_true rfl) rfl (metX6_isIn hM n _ _ _ _ _ z2 ?_)
  show Ev g _ _ 9 _ [.int q1.1] K q1.2.1 q1.2.2 cr c sl Qr Qx
  refine ev_if_eq 21 dX6_status_9 rfl (fun z3 => ?_) (fun z3 => ?_)
  · rw [if_pos z3] at h
    refine ev_iconst (v := (-1)) dX6_status_21 jcm1 ?_
    exact ev_mask [false, false] (wX6_status_22 hM n   _ _ _ h hq)
  · rw [if_neg z3] at h
    refine ev_aload_n dX6_status_12 rfl ?_
    refine ev_getR dX6_status_13 fX6_17_6 (hk1547 hM) (Or.inl (hl1547 hM)) rfl (hr9 hM) ?_
    refine ev_iload_n dX6_status_16 rfl ?_
    by_cases z4 : jok a0 6
    rotate_left
    · rw [if_neg z4] at h; cases h
    rw [if_pos z4] at h
    refine ev_iaload dX6_status_17 (hk1549 hM) (Or.inl (hl1549 hM)) (jok.ix z4 (hn1549 hM)) ?_
    refine ev_goto 22 dX6_status_18 rfl ?_
    exact ev_mask [false, false] (wX6_status_22 hM n   _ _ _ h hq)
