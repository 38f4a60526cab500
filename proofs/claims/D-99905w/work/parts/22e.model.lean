/-! STAGE A OF THE MODEL (printed by gen/model.py) -/
set_option maxRecDepth 100000
def fX6_allCome_151 (n : Nat) (rec50 : Int32 → jI → jJ → Option (jI × jJ)) (l1 : Int32) (ci : jI) (cj : jJ) : Option (jI × jJ) := rec50 (l1 + (nI 1)) ci cj
theorem wX6_allCome_151 {g : jG} {d : Nat} {K : jK} {cr : jR} {c sl : Nat} {Qr : jQ} {Qx : jX} (hM : jMW K cr) (n : Nat) (rec50 : Int32 → jI → jJ → Option (jI × jJ)) (hrec50 : (∀ (l1 : Int32) (ci : jI) (cj : jJ) {q}, rec50 l1 ci cj = some q → Qr none K q.1 q.2 cr → Ev g (d + 6) mX6_allCome 50 [.ref 1547, .int l1] [] K ci cj cr c sl Qr Qx)) (l1 : Int32) (ci : jI) (cj : jJ) {q} (h : fX6_allCome_151 n rec50 l1 ci cj = some q) (hq : Qr none K q.1 q.2 cr) : Ev g (d + 6) mX6_allCome 151 [.ref 1547, .int l1] [] K ci cj cr c sl Qr Qx := by
  unfold fX6_allCome_151 at h
  refine ev_iinc (v := (l1 + (nI 1))) (L' := [_, _]) dX6_allCome_151 rfl (by rw [ji_1]) (by decide) rfl ?_
  refine ev_goto 50 dX6_allCome_154 rfl ?_
  exact hrec50 _ _ _ h hq
def fX6_allCome_50 (n : Nat) : Nat → Int32 → jI → jJ → Option (jI × jJ)
  | 0, _, _, _ => none
  | k + 1, l1, ci, cj => Option.bind (fX6_shoalMany n  ci cj) (fun q1 => if q1.1 ≤ l1 then some (q1.2.1, q1.2.2) else if jok l1 3 then if jok ((nI 2) + ((nI 2) * l1)) 166 then if jok l1 3 then if ((ju q1.2.1 1585 (((nI 2) + ((nI 2) * l1))).toNatClampNeg (q1.2.1 1589 (l1).toNatClampNeg)) 1589 (l1).toNatClampNeg) = (-1) then fX6_allCome_151 n (fX6_allCome_50 n  k) l1 (ju q1.2.1 1585 (((nI 2) + ((nI 2) * l1))).toNatClampNeg (q1.2.1 1589 (l1).toNatClampNeg)) q1.2.2 else if jok l1 3 then if jok ((nI 12) + ((nI 2) * ((ju q1.2.1 1585 (((nI 2) + ((nI 2) * l1))).toNatClampNeg (q1.2.1 1589 (l1).toNatClampNeg)) 1589 (l1).toNatClampNeg))) 24 then if jok ((nI 1) + ((nI 2) * l1)) 166 then if jok l1 3 then if jok ((ju (ju q1.2.1 1585 (((nI 2) + ((nI 2) * l1))).toNatClampNeg (q1.2.1 1589 (l1).toNatClampNeg)) 1585 (((nI 1) + ((nI 2) * l1))).toNatClampNeg ((ju q1.2.1 1585 (((nI 2) + ((nI 2) * l1))).toNatClampNeg (q1.2.1 1589 (l1).toNatClampNeg)) 1579 (((nI 12) + ((nI 2) * ((ju q1.2.1 1585 (((nI 2) + ((nI 2) * l1))).toNatClampNeg (q1.2.1 1589 (l1).toNatClampNeg)) 1589 (l1).toNatClampNeg)))).toNatClampNeg)) 1589 (l1).toNatClampNeg) 6 then Option.bind (fX6_sizeOf n l1 (ju (ju q1.2.1 1585 (((nI 2) + ((nI 2) * l1))).toNatClampNeg (q1.2.1 1589 (l1).toNatClampNeg)) 1585 (((nI 1) + ((nI 2) * l1))).toNatClampNeg ((ju q1.2.1 1585 (((nI 2) + ((nI 2) * l1))).toNatClampNeg (q1.2.1 1589 (l1).toNatClampNeg)) 1579 (((nI 12) + ((nI 2) * ((ju q1.2.1 1585 (((nI 2) + ((nI 2) * l1))).toNatClampNeg (q1.2.1 1589 (l1).toNatClampNeg)) 1589 (l1).toNatClampNeg)))).toNatClampNeg)) q1.2.2) (fun q13 => if jok ((ju (ju q1.2.1 1585 (((nI 2) + ((nI 2) * l1))).toNatClampNeg (q1.2.1 1589 (l1).toNatClampNeg)) 1585 (((nI 1) + ((nI 2) * l1))).toNatClampNeg ((ju q1.2.1 1585 (((nI 2) + ((nI 2) * l1))).toNatClampNeg (q1.2.1 1589 (l1).toNatClampNeg)) 1579 (((nI 12) + ((nI 2) * ((ju q1.2.1 1585 (((nI 2) + ((nI 2) * l1))).toNatClampNeg (q1.2.1 1589 (l1).toNatClampNeg)) 1589 (l1).toNatClampNeg)))).toNatClampNeg)) 1589 (l1).toNatClampNeg) 6 then Option.bind (fX6_sizeOf n l1 (ju q13.2.1 1588 (((ju (ju q1.2.1 1585 (((nI 2) + ((nI 2) * l1))).toNatClampNeg (q1.2.1 1589 (l1).toNatClampNeg)) 1585 (((nI 1) + ((nI 2) * l1))).toNatClampNeg ((ju q1.2.1 1585 (((nI 2) + ((nI 2) * l1))).toNatClampNeg (q1.2.1 1589 (l1).toNatClampNeg)) 1579 (((nI 12) + ((nI 2) * ((ju q1.2.1 1585 (((nI 2) + ((nI 2) * l1))).toNatClampNeg (q1.2.1 1589 (l1).toNatClampNeg)) 1589 (l1).toNatClampNeg)))).toNatClampNeg)) 1589 (l1).toNatClampNeg)).toNatClampNeg (((ju (ju q1.2.1 1585 (((nI 2) + ((nI 2) * l1))).toNatClampNeg (q1.2.1 1589 (l1).toNatClampNeg)) 1585 (((nI 1) + ((nI 2) * l1))).toNatClampNeg ((ju q1.2.1 1585 (((nI 2) + ((nI 2) * l1))).toNatClampNeg (q1.2.1 1589 (l1).toNatClampNeg)) 1579 (((nI 12) + ((nI 2) * ((ju q1.2.1 1585 (((nI 2) + ((nI 2) * l1))).toNatClampNeg (q1.2.1 1589 (l1).toNatClampNeg)) 1589 (l1).toNatClampNeg)))).toNatClampNeg)) 1588 (((ju (ju q1.2.1 1585 (((nI 2) + ((nI 2) * l1))).toNatClampNeg (q1.2.1 1589 (l1).toNatClampNeg)) 1585 (((nI 1) + ((nI 2) * l1))).toNatClampNeg ((ju q1.2.1 1585 (((nI 2) + ((nI 2) * l1))).toNatClampNeg (q1.2.1 1589 (l1).toNatClampNeg)) 1579 (((nI 12) + ((nI 2) * ((ju q1.2.1 1585 (((nI 2) + ((nI 2) * l1))).toNatClampNeg (q1.2.1 1589 (l1).toNatClampNeg)) 1589 (l1).toNatClampNeg)))).toNatClampNeg)) 1589 (l1).toNatClampNeg)).toNatClampNeg) + q13.1)) q13.2.2) (fun q16 => Option.bind (fX6_isKept n l1 (ju q16.2.1 1547 60 (((ju q13.2.1 1588 (((ju (ju q1.2.1 1585 (((nI 2) + ((nI 2) * l1))).toNatClampNeg (q1.2.1 1589 (l1).toNatClampNeg)) 1585 (((nI 1) + ((nI 2) * l1))).toNatClampNeg ((ju q1.2.1 1585 (((nI 2) + ((nI 2) * l1))).toNatClampNeg (q1.2.1 1589 (l1).toNatClampNeg)) 1579 (((nI 12) + ((nI 2) * ((ju q1.2.1 1585 (((nI 2) + ((nI 2) * l1))).toNatClampNeg (q1.2.1 1589 (l1).toNatClampNeg)) 1589 (l1).toNatClampNeg)))).toNatClampNeg)) 1589 (l1).toNatClampNeg)).toNatClampNeg (((ju (ju q1.2.1 1585 (((nI 2) + ((nI 2) * l1))).toNatClampNeg (q1.2.1 1589 (l1).toNatClampNeg)) 1585 (((nI 1) + ((nI 2) * l1))).toNatClampNeg ((ju q1.2.1 1585 (((nI 2) + ((nI 2) * l1))).toNatClampNeg (q1.2.1 1589 (l1).toNatClampNeg)) 1579 (((nI 12) + ((nI 2) * ((ju q1.2.1 1585 (((nI 2) + ((nI 2) * l1))).toNatClampNeg (q1.2.1 1589 (l1).toNatClampNeg)) 1589 (l1).toNatClampNeg)))).toNatClampNeg)) 1588 (((ju (ju q1.2.1 1585 (((nI 2) + ((nI 2) * l1))).toNatClampNeg (q1.2.1 1589 (l1).toNatClampNeg)) 1585 (((nI 1) + ((nI 2) * l1))).toNatClampNeg ((ju q1.2.1 1585 (((nI 2) + ((nI 2) * l1))).toNatClampNeg (q1.2.1 1589 (l1).toNatClampNeg)) 1579 (((nI 12) + ((nI 2) * ((ju q1.2.1 1585 (((nI 2) + ((nI 2) * l1))).toNatClampNeg (q1.2.1 1589 (l1).toNatClampNeg)) 1589 (l1).toNatClampNeg)))).toNatClampNeg)) 1589 (l1).toNatClampNeg)).toNatClampNeg) + q13.1)) 1547 60) + q16.1)) q16.2.2) (fun q18 => fX6_allCome_151 n (fX6_allCome_50 n  k) l1 q18.1 q18.2)) else none) else none else none else none else none else none else none else none else none)
theorem wX6_allCome_50 {g : jG} {d : Nat} {K : jK} {cr : jR} {c sl : Nat} {Qr : jQ} {Qx : jX} (hM : jMW K cr) (n : Nat) : ∀ (k : Nat) (l1 : Int32) (ci : jI) (cj : jJ) {q}, fX6_allCome_50 n  k l1 ci cj = some q → Qr none K q.1 q.2 cr → Ev g (d + 6) mX6_allCome 50 [.ref 1547, .int l1] [] K ci cj cr c sl Qr Qx := by
  intro k
  induction k with
  | zero =>
    intro l1 ci cj q h hq
    rw [fX6_allCome_50.eq_1] at h; cases h
  | succ k ih =>
    intro l1 ci cj q h hq
    rw [fX6_allCome_50.eq_2] at h
    refine ev_iload_n dX6_allCome_50 rfl ?_
    refine ev_aload_n dX6_allCome_51 rfl ?_
    obtain ⟨q1, z2, h⟩ := Option.bind_eq_some_iff.mp h
    refine ev_zV0 dX6_allCome_52 vX6_405_6 (hk1547 hM) (Or.inl (hl1547 hM)) (Nat.le_of_ble_eq_true rfl) (Nat.le_of_ble_eq_true rfl) rfl (metX6_shoalMany hM n  _ _ z2 ?_)
    show Ev g _ _ 55 _ [.int q1.1, .int l1] K q1.2.1 q1.2.2 cr c sl Qr Qx
    refine ev_icmp_ge 157 dX6_allCome_55 rfl (fun z3 => ?_) (fun z3 => ?_)
    · rw [if_pos z3] at h
      cases h
      exact ev_ret dX6_allCome_157 rfl hq
    · rw [if_neg z3] at h
      refine ev_aload_n dX6_allCome_58 rfl ?_
      refine ev_getR dX6_allCome_59 fX6_127_6 (hk1547 hM) (Or.inl (hl1547 hM)) rfl (hr50 hM) ?_
      refine ev_iconst (v := (nI 2)) dX6_allCome_62 jc2 ?_
      refine ev_iconst (v := (nI 2)) dX6_allCome_63 jc2 ?_
      refine ev_iload_n dX6_allCome_64 rfl ?_
      refine ev_imul dX6_allCome_65 ?_
      refine ev_iadd dX6_allCome_66 ?_
      refine ev_aload_n dX6_allCome_67 rfl ?_
      refine ev_getR dX6_allCome_68 fX6_139_6 (hk1547 hM) (Or.inl (hl1547 hM)) rfl (hr61 hM) ?_
      refine ev_iload_n dX6_allCome_71 rfl ?_
      by_cases z4 : jok l1 3
      rotate_left
      · rw [if_neg z4] at h; cases h
      rw [if_pos z4] at h
      refine ev_iaload dX6_allCome_72 (hk1589 hM) (Or.inl (hl1589 hM)) (jok.ix z4 (hn1589 hM)) ?_
      by_cases z5 : jok ((nI 2) + ((nI 2) * l1)) 166
      rotate_left
      · rw [if_neg z5] at h; cases h
      rw [if_pos z5] at h
      refine ev_iastore dX6_allCome_73 (hk1585 hM) (hl1585 hM) (jok.ix z5 (hn1585 hM)) ?_
      refine ev_aload_n dX6_allCome_74 rfl ?_
      refine ev_getR dX6_allCome_75 fX6_139_6 (hk1547 hM) (Or.inl (hl1547 hM)) rfl (hr61 hM) ?_
      refine ev_iload_n dX6_allCome_78 rfl ?_
      by_cases z6 : jok l1 3
      rotate_left
      · rw [if_neg z6] at h; cases h
      rw [if_pos z6] at h
      refine ev_iaload dX6_allCome_79 (hk1589 hM) (Or.inl (hl1589 hM)) (jok.ix z6 (hn1589 hM)) ?_
      refine ev_iconst (v := (-1)) dX6_allCome_80 jcm1 ?_
      refine ev_icmp_ne 87 dX6_allCome_81 rfl (fun z7 => ?_) (fun z7 => ?_)
      · rw [if_neg z7] at h
        refine ev_aload_n dX6_allCome_87 rfl ?_
        refine ev_getR dX6_allCome_88 fX6_127_6 (hk1547 hM) (Or.inl (hl1547 hM)) rfl (hr50 hM) ?_
        refine ev_iconst (v := (nI 1)) dX6_allCome_91 jc1 ?_
        refine ev_iconst (v := (nI 2)) dX6_allCome_92 jc2 ?_
        refine ev_iload_n dX6_allCome_93 rfl ?_
        refine ev_imul dX6_allCome_94 ?_
        refine ev_iadd dX6_allCome_95 ?_
        refine ev_aload_n dX6_allCome_96 rfl ?_
        refine ev_getR dX6_allCome_97 fX6_109_6 (hk1547 hM) (Or.inl (hl1547 hM)) rfl (hr41 hM) ?_
        refine ev_bipush (v := (nI 12)) dX6_allCome_100 jb12 ?_
        refine ev_iconst (v := (nI 2)) dX6_allCome_102 jc2 ?_
        refine ev_aload_n dX6_allCome_103 rfl ?_
        refine ev_getR dX6_allCome_104 fX6_139_6 (hk1547 hM) (Or.inl (hl1547 hM)) rfl (hr61 hM) ?_
        refine ev_iload_n dX6_allCome_107 rfl ?_
        by_cases z8 : jok l1 3
        rotate_left
        · rw [if_neg z8] at h; cases h
        rw [if_pos z8] at h
        refine ev_iaload dX6_allCome_108 (hk1589 hM) (Or.inl (hl1589 hM)) (jok.ix z8 (hn1589 hM)) ?_
        refine ev_imul dX6_allCome_109 ?_
        refine ev_iadd dX6_allCome_110 ?_
        by_cases z9 : jok ((nI 12) + ((nI 2) * ((ju q1.2.1 1585 (((nI 2) + ((nI 2) * l1))).toNatClampNeg (q1.2.1 1589 (l1).toNatClampNeg)) 1589 (l1).toNatClampNeg))) 24
        rotate_left
        · rw [if_neg z9] at h; cases h
        rw [if_pos z9] at h
        refine ev_iaload dX6_allCome_111 (hk1579 hM) (Or.inl (hl1579 hM)) (jok.ix z9 (hn1579 hM)) ?_
        by_cases z10 : jok ((nI 1) + ((nI 2) * l1)) 166
        rotate_left
        · rw [if_neg z10] at h; cases h
        rw [if_pos z10] at h
        refine ev_iastore dX6_allCome_112 (hk1585 hM) (hl1585 hM) (jok.ix z10 (hn1585 hM)) ?_
        refine ev_aload_n dX6_allCome_113 rfl ?_
        refine ev_getR dX6_allCome_114 fX6_136_6 (hk1547 hM) (Or.inl (hl1547 hM)) rfl (hr57 hM) ?_
        refine ev_aload_n dX6_allCome_117 rfl ?_
        refine ev_getR dX6_allCome_118 fX6_139_6 (hk1547 hM) (Or.inl (hl1547 hM)) rfl (hr61 hM) ?_
        refine ev_iload_n dX6_allCome_121 rfl ?_
        by_cases z11 : jok l1 3
        rotate_left
        · rw [if_neg z11] at h; cases h
        rw [if_pos z11] at h
        refine ev_iaload dX6_allCome_122 (hk1589 hM) (Or.inl (hl1589 hM)) (jok.ix z11 (hn1589 hM)) ?_
        refine ev_dup2 dX6_allCome_123 rfl rfl ?_
        by_cases z12 : jok ((ju (ju q1.2.1 1585 (((nI 2) + ((nI 2) * l1))).toNatClampNeg (q1.2.1 1589 (l1).toNatClampNeg)) 1585 (((nI 1) + ((nI 2) * l1))).toNatClampNeg ((ju q1.2.1 1585 (((nI 2) + ((nI 2) * l1))).toNatClampNeg (q1.2.1 1589 (l1).toNatClampNeg)) 1579 (((nI 12) + ((nI 2) * ((ju q1.2.1 1585 (((nI 2) + ((nI 2) * l1))).toNatClampNeg (q1.2.1 1589 (l1).toNatClampNeg)) 1589 (l1).toNatClampNeg)))).toNatClampNeg)) 1589 (l1).toNatClampNeg) 6
        rotate_left
        · rw [if_neg z12] at h; cases h
        rw [if_pos z12] at h
        refine ev_iaload dX6_allCome_124 (hk1588 hM) (Or.inl (hl1588 hM)) (jok.ix z12 (hn1588 hM)) ?_
        refine ev_aload_n dX6_allCome_125 rfl ?_
        refine ev_iload_n dX6_allCome_126 rfl ?_
        obtain ⟨q13, z14, h⟩ := Option.bind_eq_some_iff.mp h
        refine ev_zV1 dX6_allCome_127 vX6_448_6 (hk1547 hM) (Or.inl (hl1547 hM)) (Nat.le_of_ble_eq_true rfl) (Nat.le_of_ble_eq_true rfl) rfl (metX6_sizeOf hM n _ _ _ z14 ?_)
        show Ev g _ _ 130 _ [.int q13.1, .int ((ju (ju q1.2.1 1585 (((nI 2) + ((nI 2) * l1))).toNatClampNeg (q1.2.1 1589 (l1).toNatClampNeg)) 1585 (((nI 1) + ((nI 2) * l1))).toNatClampNeg ((ju q1.2.1 1585 (((nI 2) + ((nI 2) * l1))).toNatClampNeg (q1.2.1 1589 (l1).toNatClampNeg)) 1579 (((nI 12) + ((nI 2) * ((ju q1.2.1 1585 (((nI 2) + ((nI 2) * l1))).toNatClampNeg (q1.2.1 1589 (l1).toNatClampNeg)) 1589 (l1).toNatClampNeg)))).toNatClampNeg)) 1588 (((ju (ju q1.2.1 1585 (((nI 2) + ((nI 2) * l1))).toNatClampNeg (q1.2.1 1589 (l1).toNatClampNeg)) 1585 (((nI 1) + ((nI 2) * l1))).toNatClampNeg ((ju q1.2.1 1585 (((nI 2) + ((nI 2) * l1))).toNatClampNeg (q1.2.1 1589 (l1).toNatClampNeg)) 1579 (((nI 12) + ((nI 2) * ((ju q1.2.1 1585 (((nI 2) + ((nI 2) * l1))).toNatClampNeg (q1.2.1 1589 (l1).toNatClampNeg)) 1589 (l1).toNatClampNeg)))).toNatClampNeg)) 1589 (l1).toNatClampNeg)).toNatClampNeg), .int ((ju (ju q1.2.1 1585 (((nI 2) + ((nI 2) * l1))).toNatClampNeg (q1.2.1 1589 (l1).toNatClampNeg)) 1585 (((nI 1) + ((nI 2) * l1))).toNatClampNeg ((ju q1.2.1 1585 (((nI 2) + ((nI 2) * l1))).toNatClampNeg (q1.2.1 1589 (l1).toNatClampNeg)) 1579 (((nI 12) + ((nI 2) * ((ju q1.2.1 1585 (((nI 2) + ((nI 2) * l1))).toNatClampNeg (q1.2.1 1589 (l1).toNatClampNeg)) 1589 (l1).toNatClampNeg)))).toNatClampNeg)) 1589 (l1).toNatClampNeg), .ref 1588] K q13.2.1 q13.2.2 cr c sl Qr Qx
        refine ev_iadd dX6_allCome_130 ?_
        by_cases z15 : jok ((ju (ju q1.2.1 1585 (((nI 2) + ((nI 2) * l1))).toNatClampNeg (q1.2.1 1589 (l1).toNatClampNeg)) 1585 (((nI 1) + ((nI 2) * l1))).toNatClampNeg ((ju q1.2.1 1585 (((nI 2) + ((nI 2) * l1))).toNatClampNeg (q1.2.1 1589 (l1).toNatClampNeg)) 1579 (((nI 12) + ((nI 2) * ((ju q1.2.1 1585 (((nI 2) + ((nI 2) * l1))).toNatClampNeg (q1.2.1 1589 (l1).toNatClampNeg)) 1589 (l1).toNatClampNeg)))).toNatClampNeg)) 1589 (l1).toNatClampNeg) 6
        rotate_left
        · rw [if_neg z15] at h; cases h
        rw [if_pos z15] at h
        refine ev_iastore dX6_allCome_131 (hk1588 hM) (hl1588 hM) (jok.ix z15 (hn1588 hM)) ?_
        refine ev_aload_n dX6_allCome_132 rfl ?_
        refine ev_dup dX6_allCome_133 rfl ?_
        refine ev_getI dX6_allCome_134 fX6_467_6 (hk1547 hM) (Or.inl (hl1547 hM)) rfl ?_
        refine ev_aload_n dX6_allCome_137 rfl ?_
        refine ev_iload_n dX6_allCome_138 rfl ?_
        obtain ⟨q16, z17, h⟩ := Option.bind_eq_some_iff.mp h
        refine ev_zV1 dX6_allCome_139 vX6_448_6 (hk1547 hM) (Or.inl (hl1547 hM)) (Nat.le_of_ble_eq_true rfl) (Nat.le_of_ble_eq_true rfl) rfl (metX6_sizeOf hM n _ _ _ z17 ?_)
        show Ev g _ _ 142 _ [.int q16.1, .int ((ju q13.2.1 1588 (((ju (ju q1.2.1 1585 (((nI 2) + ((nI 2) * l1))).toNatClampNeg (q1.2.1 1589 (l1).toNatClampNeg)) 1585 (((nI 1) + ((nI 2) * l1))).toNatClampNeg ((ju q1.2.1 1585 (((nI 2) + ((nI 2) * l1))).toNatClampNeg (q1.2.1 1589 (l1).toNatClampNeg)) 1579 (((nI 12) + ((nI 2) * ((ju q1.2.1 1585 (((nI 2) + ((nI 2) * l1))).toNatClampNeg (q1.2.1 1589 (l1).toNatClampNeg)) 1589 (l1).toNatClampNeg)))).toNatClampNeg)) 1589 (l1).toNatClampNeg)).toNatClampNeg (((ju (ju q1.2.1 1585 (((nI 2) + ((nI 2) * l1))).toNatClampNeg (q1.2.1 1589 (l1).toNatClampNeg)) 1585 (((nI 1) + ((nI 2) * l1))).toNatClampNeg ((ju q1.2.1 1585 (((nI 2) + ((nI 2) * l1))).toNatClampNeg (q1.2.1 1589 (l1).toNatClampNeg)) 1579 (((nI 12) + ((nI 2) * ((ju q1.2.1 1585 (((nI 2) + ((nI 2) * l1))).toNatClampNeg (q1.2.1 1589 (l1).toNatClampNeg)) 1589 (l1).toNatClampNeg)))).toNatClampNeg)) 1588 (((ju (ju q1.2.1 1585 (((nI 2) + ((nI 2) * l1))).toNatClampNeg (q1.2.1 1589 (l1).toNatClampNeg)) 1585 (((nI 1) + ((nI 2) * l1))).toNatClampNeg ((ju q1.2.1 1585 (((nI 2) + ((nI 2) * l1))).toNatClampNeg (q1.2.1 1589 (l1).toNatClampNeg)) 1579 (((nI 12) + ((nI 2) * ((ju q1.2.1 1585 (((nI 2) + ((nI 2) * l1))).toNatClampNeg (q1.2.1 1589 (l1).toNatClampNeg)) 1589 (l1).toNatClampNeg)))).toNatClampNeg)) 1589 (l1).toNatClampNeg)).toNatClampNeg) + q13.1)) 1547 60), .ref 1547] K q16.2.1 q16.2.2 cr c sl Qr Qx
        refine ev_iadd dX6_allCome_142 ?_
        refine ev_putI dX6_allCome_143 (pX6_467_6 _) (hk1547 hM) (hl1547 hM) rfl rfl rfl ?_
        refine ev_aload_n dX6_allCome_146 rfl ?_
        refine ev_iload_n dX6_allCome_147 rfl ?_
        obtain ⟨q18, z19, h⟩ := Option.bind_eq_some_iff.mp h
        refine ev_zV1 dX6_allCome_148 vX6_470_6 (hk1547 hM) (Or.inl (hl1547 hM)) (Nat.le_of_ble_eq_true rfl) (Nat.le_of_ble_eq_true rfl) rfl (metX6_isKept hM n _ _ _ z19 ?_)
        show Ev g _ _ 151 _ [] K q18.1 q18.2 cr c sl Qr Qx
        exact wX6_allCome_151 hM n _ (ih) _ _ _ h hq
      · rw [if_pos z7] at h
        refine ev_goto 151 dX6_allCome_84 rfl ?_
        exact wX6_allCome_151 hM n _ (ih) _ _ _ h hq
def fX6_allCome_23 (n : Nat) : Nat → Int32 → jI → jJ → Option (jI × jJ)
  | 0, _, _, _ => none
  | k + 1, l1, ci, cj => Option.bind (fX6_shoalMany n  ci cj) (fun q1 => if q1.1 ≤ l1 then fX6_allCome_50 n  n (nI 0) q1.2.1 q1.2.2 else Option.bind (fX6_comesTo n l1 q1.2.1 q1.2.2) (fun q4 => if jok l1 3 then fX6_allCome_23 n  k (l1 + (nI 1)) (ju q4.2.1 1589 (l1).toNatClampNeg q4.1) q4.2.2 else none))
theorem wX6_allCome_23 {g : jG} {d : Nat} {K : jK} {cr : jR} {c sl : Nat} {Qr : jQ} {Qx : jX} (hM : jMW K cr) (n : Nat) : ∀ (k : Nat) (l1 : Int32) (ci : jI) (cj : jJ) {q}, fX6_allCome_23 n  k l1 ci cj = some q → Qr none K q.1 q.2 cr → Ev g (d + 6) mX6_allCome 23 [.ref 1547, .int l1] [] K ci cj cr c sl Qr Qx := by
  intro k
  induction k with
  | zero =>
    intro l1 ci cj q h hq
    rw [fX6_allCome_23.eq_1] at h; cases h
  | succ k ih =>
    intro l1 ci cj q h hq
    rw [fX6_allCome_23.eq_2] at h
    refine ev_iload_n dX6_allCome_23 rfl ?_
    refine ev_aload_n dX6_allCome_24 rfl ?_
    obtain ⟨q1, z2, h⟩ := Option.bind_eq_some_iff.mp h
    refine ev_zV0 dX6_allCome_25 vX6_405_6 (hk1547 hM) (Or.inl (hl1547 hM)) (Nat.le_of_ble_eq_true rfl) (Nat.le_of_ble_eq_true rfl) rfl (metX6_shoalMany hM n  _ _ z2 ?_)
    show Ev g _ _ 28 _ [.int q1.1, .int l1] K q1.2.1 q1.2.2 cr c sl Qr Qx
    refine ev_icmp_ge 48 dX6_allCome_28 rfl (fun z3 => ?_) (fun z3 => ?_)
    · rw [if_pos z3] at h
      refine ev_iconst (v := (nI 0)) dX6_allCome_48 jc0 ?_
      refine ev_istore_n (L' := [_, _]) dX6_allCome_49 (by decide) rfl ?_
      exact wX6_allCome_50 hM n   n _ _ _ h hq
    · rw [if_neg z3] at h
      refine ev_aload_n dX6_allCome_31 rfl ?_
      refine ev_getR dX6_allCome_32 fX6_139_6 (hk1547 hM) (Or.inl (hl1547 hM)) rfl (hr61 hM) ?_
      refine ev_iload_n dX6_allCome_35 rfl ?_
      refine ev_aload_n dX6_allCome_36 rfl ?_
      refine ev_iload_n dX6_allCome_37 rfl ?_
      obtain ⟨q4, z5, h⟩ := Option.bind_eq_some_iff.mp h
      refine ev_zV1 dX6_allCome_38 vX6_464_6 (hk1547 hM) (Or.inl (hl1547 hM)) (Nat.le_of_ble_eq_true rfl) (Nat.le_of_ble_eq_true rfl) rfl (metX6_comesTo hM n _ _ _ z5 ?_)
      show Ev g _ _ 41 _ [.int q4.1, .int l1, .ref 1589] K q4.2.1 q4.2.2 cr c sl Qr Qx
      by_cases z6 : jok l1 3
      rotate_left
      · rw [if_neg z6] at h; cases h
      rw [if_pos z6] at h
      refine ev_iastore dX6_allCome_41 (hk1589 hM) (hl1589 hM) (jok.ix z6 (hn1589 hM)) ?_
      refine ev_iinc (v := (l1 + (nI 1))) (L' := [_, _]) dX6_allCome_42 rfl (by rw [ji_1]) (by decide) rfl ?_
      refine ev_goto 23 dX6_allCome_45 rfl ?_
      exact ih _ _ _ h hq
def fX6_allCome_2 (n : Nat) : Nat → Int32 → jI → jJ → Option (jI × jJ)
  | 0, _, _, _ => none
  | k + 1, l1, ci, cj => if (nI 6) ≤ l1 then fX6_allCome_23 n  n (nI 0) ci cj else if jok l1 6 then fX6_allCome_2 n  k (l1 + (nI 1)) (ju ci 1588 (l1).toNatClampNeg (nI 0)) cj else none
theorem wX6_allCome_2 {g : jG} {d : Nat} {K : jK} {cr : jR} {c sl : Nat} {Qr : jQ} {Qx : jX} (hM : jMW K cr) (n : Nat) : ∀ (k : Nat) (l1 : Int32) (ci : jI) (cj : jJ) {q}, fX6_allCome_2 n  k l1 ci cj = some q → Qr none K q.1 q.2 cr → Ev g (d + 6) mX6_allCome 2 [.ref 1547, .int l1] [] K ci cj cr c sl Qr Qx := by
  intro k
  induction k with
  | zero =>
    intro l1 ci cj q h hq
    rw [fX6_allCome_2.eq_1] at h; cases h
  | succ k ih =>
    intro l1 ci cj q h hq
    rw [fX6_allCome_2.eq_2] at h
    refine ev_iload_n dX6_allCome_2 rfl ?_
    refine ev_bipush (v := (nI 6)) dX6_allCome_3 jb6 ?_
    refine ev_icmp_ge 21 dX6_allCome_5 rfl (fun z1 => ?_) (fun z1 => ?_)
    · rw [if_pos z1] at h
      refine ev_iconst (v := (nI 0)) dX6_allCome_21 jc0 ?_
      refine ev_istore_n (L' := [_, _]) dX6_allCome_22 (by decide) rfl ?_
      exact wX6_allCome_23 hM n   n _ _ _ h hq
    · rw [if_neg z1] at h
      refine ev_aload_n dX6_allCome_8 rfl ?_
      refine ev_getR dX6_allCome_9 fX6_136_6 (hk1547 hM) (Or.inl (hl1547 hM)) rfl (hr57 hM) ?_
      refine ev_iload_n dX6_allCome_12 rfl ?_
      refine ev_iconst (v := (nI 0)) dX6_allCome_13 jc0 ?_
      by_cases z2 : jok l1 6
      rotate_left
      · rw [if_neg z2] at h; cases h
      rw [if_pos z2] at h
      refine ev_iastore dX6_allCome_14 (hk1588 hM) (hl1588 hM) (jok.ix z2 (hn1588 hM)) ?_
      refine ev_iinc (v := (l1 + (nI 1))) (L' := [_, _]) dX6_allCome_15 rfl (by rw [ji_1]) (by decide) rfl ?_
      refine ev_goto 2 dX6_allCome_18 rfl ?_
      exact ih _ _ _ h hq
def fX6_allCome (n : Nat) (ci : jI) (cj : jJ) : Option (jI × jJ) := fX6_allCome_2 n  n (nI 0) ci cj
theorem metX6_allCome {g : jG} {d : Nat} {K : jK} {cr : jR} {c sl : Nat} {Qr : jQ} {Qx : jX} (hM : jMW K cr) (n : Nat) (ci : jI) (cj : jJ) {q} (h : fX6_allCome n  ci cj = some q) (hq : Qr none K q.1 q.2 cr) : EvM g (d + 6) mX6_allCome [.ref 1547] K ci cj cr c sl Qr Qx := by
  unfold fX6_allCome at h
  show Ev g (d + 6) mX6_allCome 0 [.ref 1547, jU] [] K ci cj cr c sl Qr Qx
  refine ev_iconst (v := (nI 0)) dX6_allCome_0 jc0 ?_
  refine ev_istore_n (L' := [_, _]) dX6_allCome_1 (by decide) rfl ?_
  exact wX6_allCome_2 hM n   n _ _ _ h hq
def fX6_cut_23 (n : Nat) (t0 : Int32) (ci : jI) (cj : jJ) : Option (Int32 × jI × jJ) := some (t0, ci, cj)
theorem wX6_cut_23 {g : jG} {d : Nat} {K : jK} {cr : jR} {c sl : Nat} {Qr : jQ} {Qx : jX} (hM : jMW K cr) (n : Nat) (t0 : Int32) (ci : jI) (cj : jJ) {q} (h : fX6_cut_23 n  t0 ci cj = some q) (hq : Qr (some (.int q.1)) K q.2.1 q.2.2 cr) : Ev g (d + 1) mX6_cut 23 [jU, jU, jU] [.int t0] K ci cj cr c sl Qr Qx := by
  unfold fX6_cut_23 at h
  cases h
  exact ev_iret dX6_cut_23 rfl rfl hq
def fX6_cut (n : Nat) (a0 : Int64) (a1 : Int32) (ci : jI) (cj : jJ) : Option (Int32 × jI × jJ) := if (lN 0) ≤ a0 then if a0 ≤ (a1).toInt64 then fX6_cut_23 n  ((a0).toInt32) ci cj else fX6_cut_23 n  a1 ci cj else fX6_cut_23 n  (nI 0) ci cj
theorem metX6_cut {g : jG} {d : Nat} {K : jK} {cr : jR} {c sl : Nat} {Qr : jQ} {Qx : jX} (hM : jMW K cr) (n : Nat) (a0 : Int64) (a1 : Int32) (ci : jI) (cj : jJ) {q} (h : fX6_cut n a0 a1 ci cj = some q) (hq : Qr (some (.int q.1)) K q.2.1 q.2.2 cr) : EvM g (d + 1) mX6_cut [.long a0, .int a1] K ci cj cr c sl Qr Qx := by
  unfold fX6_cut at h
  show Ev g (d + 1) mX6_cut 0 [.long a0, jU, .int a1] [] K ci cj cr c sl Qr Qx
  refine ev_lload_n dX6_cut_0 rfl ?_
  refine ev_lconst (v := lN 0) dX6_cut_1 rfl ?_
  refine ev_lcif_ge 10 dX6_cut_2 dX6_cut_3 rfl (fun z1 => ?_) (fun z1 => ?_)
  · rw [if_pos z1] at h
    refine ev_lload_n dX6_cut_10 rfl ?_
    refine ev_iload_n dX6_cut_11 rfl ?_
    refine ev_i2l dX6_cut_12 ?_
    refine ev_lcif_le 21 dX6_cut_13 dX6_cut_14 rfl (fun z2 => ?_) (fun z2 => ?_)
    · rw [if_pos z2] at h
      refine ev_lload_n dX6_cut_21 rfl ?_
      refine ev_l2i dX6_cut_22 ?_
      exact ev_mask [false, false, false] (wX6_cut_23 hM n   _ _ _ h hq)
    · rw [if_neg z2] at h
      refine ev_iload_n dX6_cut_17 rfl ?_
      refine ev_goto 23 dX6_cut_18 rfl ?_
      exact ev_mask [false, false, false] (wX6_cut_23 hM n   _ _ _ h hq)
  · rw [if_neg z1] at h
    refine ev_iconst (v := (nI 0)) dX6_cut_6 jc0 ?_
    refine ev_goto 23 dX6_cut_7 rfl ?_
    exact ev_mask [false, false, false] (wX6_cut_23 hM n   _ _ _ h hq)
def fX6_mended (n : Nat) (a0 : Int32) (ci : jI) (cj : jJ) : Option (Int32 × jI × jJ) := Option.bind (fX6_isTold n (nI 1) ci cj) (fun q1 => if q1.1 = 0 then Option.bind (fX6_trueOf n a0 q1.2.1 q1.2.2) (fun q10 => some (q10.1, q10.2.1, q10.2.2)) else Option.bind (fX6_bayOf n a0 (ju q1.2.1 1547 53 a0) q1.2.2) (fun q4 => Option.bind (fX6_codesTell n (nI 1) (ju q4.2.1 1547 52 q4.1) q4.2.2) (fun q6 => Option.bind (fX6_cut n q6.1 (nI 9) q6.2.1 q6.2.2) (fun q8 => some (q8.1, q8.2.1, q8.2.2)))))
theorem metX6_mended {g : jG} {d : Nat} {K : jK} {cr : jR} {c sl : Nat} {Qr : jQ} {Qx : jX} (hM : jMW K cr) (n : Nat) (a0 : Int32) (ci : jI) (cj : jJ) {q} (h : fX6_mended n a0 ci cj = some q) (hq : Qr (some (.int q.1)) K q.2.1 q.2.2 cr) : EvM g (d + 4) mX6_mended [.ref 1547, .int a0] K ci cj cr c sl Qr Qx := by
  unfold fX6_mended at h
  show Ev g (d + 4) mX6_mended 0 [.ref 1547, .int a0] [] K ci cj cr c sl Qr Qx
  refine ev_aload_n dX6_mended_0 rfl ?_
  refine ev_iconst (v := (nI 1)) dX6_mended_1 jc1 ?_
  obtain ⟨q1, z2, h⟩ := Option.bind_eq_some_iff.mp h
  refine ev_zV1 dX6_mended_2 vX6_422_6 (hk1547 hM) (Or.inl (hl1547 hM)) (Nat.le_of_ble_eq_true rfl) (Nat.le_of_ble_eq_true rfl) rfl (metX6_isTold hM n _ _ _ z2 ?_)
  show Ev g _ _ 5 _ [.int q1.1] K q1.2.1 q1.2.2 cr c sl Qr Qx
  refine ev_if_ne 14 dX6_mended_5 rfl (fun z3 => ?_) (fun z3 => ?_)
  · rw [if_neg z3] at h
    refine ev_aload_n dX6_mended_14 rfl ?_
    refine ev_iload_n dX6_mended_15 rfl ?_
    refine ev_putI dX6_mended_16 (pX6_429_6 _) (hk1547 hM) (hl1547 hM) rfl rfl rfl ?_
    refine ev_aload_n dX6_mended_19 rfl ?_
    refine ev_aload_n dX6_mended_20 rfl ?_
    refine ev_iload_n dX6_mended_21 rfl ?_
    obtain ⟨q4, z5, h⟩ := Option.bind_eq_some_iff.mp h
    refine ev_zV1 dX6_mended_22 vX6_432_6 (hk1547 hM) (Or.inl (hl1547 hM)) (Nat.le_of_ble_eq_true rfl) (Nat.le_of_ble_eq_true rfl) rfl (metX6_bayOf hM n _ _ _ z5 ?_)
    show Ev g _ _ 25 _ [.int q4.1, .ref 1547] K q4.2.1 q4.2.2 cr c sl Qr Qx
    refine ev_putI dX6_mended_25 (pX6_435_6 _) (hk1547 hM) (hl1547 hM) rfl rfl rfl ?_
    refine ev_aload_n dX6_mended_28 rfl ?_
    refine ev_iconst (v := (nI 1)) dX6_mended_29 jc1 ?_
    obtain ⟨q6, z7, h⟩ := Option.bind_eq_some_iff.mp h
    refine ev_zV1 dX6_mended_30 vX6_438_6 (hk1547 hM) (Or.inl (hl1547 hM)) (Nat.le_of_ble_eq_true rfl) (Nat.le_of_ble_eq_true rfl) rfl (metX6_codesTell hM n _ _ _ z7 ?_)
    show Ev g _ _ 33 _ [.long q6.1] K q6.2.1 q6.2.2 cr c sl Qr Qx
    refine ev_bipush (v := (nI 9)) dX6_mended_33 jb9 ?_
    obtain ⟨q8, z9, h⟩ := Option.bind_eq_some_iff.mp h
    refine ev_zS2 dX6_mended_35 sX6_473 (Nat.le_of_ble_eq_true rfl) (Nat.le_of_ble_eq_true rfl) rfl (metX6_cut hM n _ _ _ _ z9 ?_)
    show Ev g _ _ 38 _ [.int q8.1] K q8.2.1 q8.2.2 cr c sl Qr Qx
    cases h
    exact ev_iret dX6_mended_38 rfl rfl hq
  · rw [if_pos z3] at h
    refine ev_aload_n dX6_mended_8 rfl ?_
    refine ev_iload_n dX6_mended_9 rfl ?_
    obtain ⟨q10, z11, h⟩ := Option.bind_eq_some_iff.mp h
    refine ev_zV1 dX6_mended_10 vX6_425_6 (hk1547 hM) (Or.inl (hl1547 hM)) (Nat.le_of_ble_eq_true rfl) (Nat.le_of_ble_eq_true rfl) rfl (metX6_trueOf hM n _ _ _ z11 ?_)
    show Ev g _ _ 13 _ [.int q10.1] K q10.2.1 q10.2.2 cr c sl Qr Qx
    cases h
    exact ev_iret dX6_mended_13 rfl rfl hq
def fX6_starved_39 (n : Nat) (t0 : Int64) (ci : jI) (cj : jJ) : Option (Int32 × jI × jJ) := Option.bind (fX6_cut n t0 (nI 99) ci cj) (fun q1 => some (q1.1, q1.2.1, q1.2.2))
theorem wX6_starved_39 {g : jG} {d : Nat} {K : jK} {cr : jR} {c sl : Nat} {Qr : jQ} {Qx : jX} (hM : jMW K cr) (n : Nat) (t0 : Int64) (ci : jI) (cj : jJ) {q} (h : fX6_starved_39 n  t0 ci cj = some q) (hq : Qr (some (.int q.1)) K q.2.1 q.2.2 cr) : Ev g (d + 4) mX6_starved 39 [jU, jU] [.long t0] K ci cj cr c sl Qr Qx := by
  unfold fX6_starved_39 at h
  refine ev_bipush (v := (nI 99)) dX6_starved_39 jb99 ?_
  obtain ⟨q1, z2, h⟩ := Option.bind_eq_some_iff.mp h
  refine ev_zS2 dX6_starved_41 sX6_473 (Nat.le_of_ble_eq_true rfl) (Nat.le_of_ble_eq_true rfl) rfl (metX6_cut hM n _ _ _ _ z2 ?_)
  show Ev g _ _ 44 _ [.int q1.1] K q1.2.1 q1.2.2 cr c sl Qr Qx
  cases h
  exact ev_iret dX6_starved_44 rfl rfl hq
def fX6_starved (n : Nat) (a0 : Int32) (ci : jI) (cj : jJ) : Option (Int32 × jI × jJ) := Option.bind (fX6_isTold n (nI 2) (ju ci 1547 52 a0) cj) (fun q1 => if q1.1 = 0 then Option.bind (fX6_hungerOf n a0 q1.2.1 q1.2.2) (fun q4 => if jok a0 6 then fX6_starved_39 n  (((q4.1).toInt64 + (9 : Int64)) - ((q4.2.1 1588 (a0).toNatClampNeg)).toInt64) q4.2.1 q4.2.2 else none) else Option.bind (fX6_codesTell n (nI 2) q1.2.1 q1.2.2) (fun q7 => fX6_starved_39 n  q7.1 q7.2.1 q7.2.2))
theorem metX6_starved {g : jG} {d : Nat} {K : jK} {cr : jR} {c sl : Nat} {Qr : jQ} {Qx : jX} (hM : jMW K cr) (n : Nat) (a0 : Int32) (ci : jI) (cj : jJ) {q} (h : fX6_starved n a0 ci cj = some q) (hq : Qr (some (.int q.1)) K q.2.1 q.2.2 cr) : EvM g (d + 4) mX6_starved [.ref 1547, .int a0] K ci cj cr c sl Qr Qx := by
  unfold fX6_starved at h
  show Ev g (d + 4) mX6_starved 0 [.ref 1547, .int a0] [] K ci cj cr c sl Qr Qx
  refine ev_aload_n dX6_starved_0 rfl ?_
  refine ev_iload_n dX6_starved_1 rfl ?_
  refine ev_putI dX6_starved_2 (pX6_435_6 _) (hk1547 hM) (hl1547 hM) rfl rfl rfl ?_
  refine ev_aload_n dX6_starved_5 rfl ?_
  refine ev_iconst (v := (nI 2)) dX6_starved_6 jc2 ?_
  obtain ⟨q1, z2, h⟩ := Option.bind_eq_some_iff.mp h
  refine ev_zV1 dX6_starved_7 vX6_422_6 (hk1547 hM) (Or.inl (hl1547 hM)) (Nat.le_of_ble_eq_true rfl) (Nat.le_of_ble_eq_true rfl) rfl (metX6_isTold hM n _ _ _ z2 ?_)
  show Ev g _ _ 10 _ [.int q1.1] K q1.2.1 q1.2.2 cr c sl Qr Qx
  refine ev_if_eq 21 dX6_starved_10 rfl (fun z3 => ?_) (fun z3 => ?_)
  · rw [if_pos z3] at h
    refine ev_aload_n dX6_starved_21 rfl ?_
    refine ev_iload_n dX6_starved_22 rfl ?_
    obtain ⟨q4, z5, h⟩ := Option.bind_eq_some_iff.mp h
    refine ev_zV1 dX6_starved_23 vX6_477_6 (hk1547 hM) (Or.inl (hl1547 hM)) (Nat.le_of_ble_eq_true rfl) (Nat.le_of_ble_eq_true rfl) rfl (metX6_hungerOf hM n _ _ _ z5 ?_)
    show Ev g _ _ 26 _ [.int q4.1] K q4.2.1 q4.2.2 cr c sl Qr Qx
    refine ev_i2l dX6_starved_26 ?_
    refine ev_ldc2 dX6_starved_27 q2394 ?_
    refine ev_ladd dX6_starved_30 ?_
    refine ev_aload_n dX6_starved_31 rfl ?_
    refine ev_getR dX6_starved_32 fX6_136_6 (hk1547 hM) (Or.inl (hl1547 hM)) rfl (hr57 hM) ?_
    refine ev_iload_n dX6_starved_35 rfl ?_
    by_cases z6 : jok a0 6
    rotate_left
    · rw [if_neg z6] at h; cases h
    rw [if_pos z6] at h
    refine ev_iaload dX6_starved_36 (hk1588 hM) (Or.inl (hl1588 hM)) (jok.ix z6 (hn1588 hM)) ?_
    refine ev_i2l dX6_starved_37 ?_
    refine ev_lsub dX6_starved_38 ?_
    exact ev_mask [false, false] (wX6_starved_39 hM n   _ _ _ h hq)
  · rw [if_neg z3] at h
    refine ev_aload_n dX6_starved_13 rfl ?_
    refine ev_iconst (v := (nI 2)) dX6_starved_14 jc2 ?_
    obtain ⟨q7, z8, h⟩ := Option.bind_eq_some_iff.mp h
    refine ev_zV1 dX6_starved_15 vX6_438_6 (hk1547 hM) (Or.inl (hl1547 hM)) (Nat.le_of_ble_eq_true rfl) (Nat.le_of_ble_eq_true rfl) rfl (metX6_codesTell hM n _ _ _ z8 ?_)
    show Ev g _ _ 18 _ [.long q7.1] K q7.2.1 q7.2.2 cr c sl Qr Qx
    refine ev_goto 39 dX6_starved_18 rfl ?_
    exact ev_mask [false, false] (wX6_starved_39 hM n   _ _ _ h hq)
def fX6_yearGoes_125 (n : Nat) : Nat → Int32 → jI → jJ → Option (jI × jJ)
  | 0, _, _, _ => none
  | k + 1, l1, ci, cj => Option.bind (fX6_bayMany n  ci cj) (fun q1 => if q1.1 ≤ l1 then if jok (nI 0) 166 then if jok (nI 0) 166 then some ((ju q1.2.1 1585 ((nI 0)).toNatClampNeg ((q1.2.1 1585 ((nI 0)).toNatClampNeg) + (nI 1))), q1.2.2) else none else none else if jok ((nI 10) + l1) 16 then if jok ((nI 7) + ((nI 3) * l1)) 166 then if jok l1 6 then if jok ((nI 8) + ((nI 3) * l1)) 166 then if jok l1 6 then if jok ((nI 9) + ((nI 3) * l1)) 166 then fX6_yearGoes_125 n  k (l1 + (nI 1)) (ju (ju (ju q1.2.1 1585 (((nI 7) + ((nI 3) * l1))).toNatClampNeg (q1.2.1 1590 (((nI 10) + l1)).toNatClampNeg)) 1585 (((nI 8) + ((nI 3) * l1))).toNatClampNeg ((ju q1.2.1 1585 (((nI 7) + ((nI 3) * l1))).toNatClampNeg (q1.2.1 1590 (((nI 10) + l1)).toNatClampNeg)) 1588 (l1).toNatClampNeg)) 1585 (((nI 9) + ((nI 3) * l1))).toNatClampNeg ((ju (ju q1.2.1 1585 (((nI 7) + ((nI 3) * l1))).toNatClampNeg (q1.2.1 1590 (((nI 10) + l1)).toNatClampNeg)) 1585 (((nI 8) + ((nI 3) * l1))).toNatClampNeg ((ju q1.2.1 1585 (((nI 7) + ((nI 3) * l1))).toNatClampNeg (q1.2.1 1590 (((nI 10) + l1)).toNatClampNeg)) 1588 (l1).toNatClampNeg)) 1587 (l1).toNatClampNeg)) q1.2.2 else none else none else none else none else none else none)
theorem wX6_yearGoes_125 {g : jG} {d : Nat} {K : jK} {cr : jR} {c sl : Nat} {Qr : jQ} {Qx : jX} (hM : jMW K cr) (n : Nat) : ∀ (k : Nat) (l1 : Int32) (ci : jI) (cj : jJ) {q}, fX6_yearGoes_125 n  k l1 ci cj = some q → Qr none K q.1 q.2 cr → Ev g (d + 7) mX6_yearGoes 125 [.ref 1547, .int l1] [] K ci cj cr c sl Qr Qx := by
  intro k
  induction k with
  | zero =>
    intro l1 ci cj q h hq
    rw [fX6_yearGoes_125.eq_1] at h; cases h
  | succ k ih =>
    intro l1 ci cj q h hq
    rw [fX6_yearGoes_125.eq_2] at h
    refine ev_iload_n dX6_yearGoes_125 rfl ?_
    refine ev_aload_n dX6_yearGoes_126 rfl ?_
    obtain ⟨q1, z2, h⟩ := Option.bind_eq_some_iff.mp h
    refine ev_zV0 dX6_yearGoes_127 vX6_399_6 (hk1547 hM) (Or.inl (hl1547 hM)) (Nat.le_of_ble_eq_true rfl) (Nat.le_of_ble_eq_true rfl) rfl (metX6_bayMany hM n  _ _ z2 ?_)
    show Ev g _ _ 130 _ [.int q1.1, .int l1] K q1.2.1 q1.2.2 cr c sl Qr Qx
    refine ev_icmp_ge 193 dX6_yearGoes_130 rfl (fun z3 => ?_) (fun z3 => ?_)
    · rw [if_pos z3] at h
      refine ev_aload_n dX6_yearGoes_193 rfl ?_
      refine ev_getR dX6_yearGoes_194 fX6_127_6 (hk1547 hM) (Or.inl (hl1547 hM)) rfl (hr50 hM) ?_
      refine ev_iconst (v := (nI 0)) dX6_yearGoes_197 jc0 ?_
      refine ev_dup2 dX6_yearGoes_198 rfl rfl ?_
      by_cases z4 : jok (nI 0) 166
      rotate_left
      · rw [if_neg z4] at h; cases h
      rw [if_pos z4] at h
      refine ev_iaload dX6_yearGoes_199 (hk1585 hM) (Or.inl (hl1585 hM)) (jok.ix z4 (hn1585 hM)) ?_
      refine ev_iconst (v := (nI 1)) dX6_yearGoes_200 jc1 ?_
      refine ev_iadd dX6_yearGoes_201 ?_
      by_cases z5 : jok (nI 0) 166
      rotate_left
      · rw [if_neg z5] at h; cases h
      rw [if_pos z5] at h
      refine ev_iastore dX6_yearGoes_202 (hk1585 hM) (hl1585 hM) (jok.ix z5 (hn1585 hM)) ?_
      cases h
      exact ev_ret dX6_yearGoes_203 rfl hq
    · rw [if_neg z3] at h
      refine ev_aload_n dX6_yearGoes_133 rfl ?_
      refine ev_getR dX6_yearGoes_134 fX6_127_6 (hk1547 hM) (Or.inl (hl1547 hM)) rfl (hr50 hM) ?_
      refine ev_bipush (v := (nI 7)) dX6_yearGoes_137 jb7 ?_
      refine ev_iconst (v := (nI 3)) dX6_yearGoes_139 jc3 ?_
      refine ev_iload_n dX6_yearGoes_140 rfl ?_
      refine ev_imul dX6_yearGoes_141 ?_
      refine ev_iadd dX6_yearGoes_142 ?_
      refine ev_aload_n dX6_yearGoes_143 rfl ?_
      refine ev_getR dX6_yearGoes_144 fX6_142_6 (hk1547 hM) (Or.inl (hl1547 hM)) rfl (hr62 hM) ?_
      refine ev_bipush (v := (nI 10)) dX6_yearGoes_147 jb10 ?_
      refine ev_iload_n dX6_yearGoes_149 rfl ?_
      refine ev_iadd dX6_yearGoes_150 ?_
      by_cases z6 : jok ((nI 10) + l1) 16
      rotate_left
      · rw [if_neg z6] at h; cases h
      rw [if_pos z6] at h
      refine ev_iaload dX6_yearGoes_151 (hk1590 hM) (Or.inl (hl1590 hM)) (jok.ix z6 (hn1590 hM)) ?_
      by_cases z7 : jok ((nI 7) + ((nI 3) * l1)) 166
      rotate_left
      · rw [if_neg z7] at h; cases h
      rw [if_pos z7] at h
      refine ev_iastore dX6_yearGoes_152 (hk1585 hM) (hl1585 hM) (jok.ix z7 (hn1585 hM)) ?_
      refine ev_aload_n dX6_yearGoes_153 rfl ?_
      refine ev_getR dX6_yearGoes_154 fX6_127_6 (hk1547 hM) (Or.inl (hl1547 hM)) rfl (hr50 hM) ?_
      refine ev_bipush (v := (nI 8)) dX6_yearGoes_157 jb8 ?_
      refine ev_iconst (v := (nI 3)) dX6_yearGoes_159 jc3 ?_
      refine ev_iload_n dX6_yearGoes_160 rfl ?_
      refine ev_imul dX6_yearGoes_161 ?_
      refine ev_iadd dX6_yearGoes_162 ?_
      refine ev_aload_n dX6_yearGoes_163 rfl ?_
      refine ev_getR dX6_yearGoes_164 fX6_136_6 (hk1547 hM) (Or.inl (hl1547 hM)) rfl (hr57 hM) ?_
      refine ev_iload_n dX6_yearGoes_167 rfl ?_
      by_cases z8 : jok l1 6
      rotate_left
      · rw [if_neg z8] at h; cases h
      rw [if_pos z8] at h
      refine ev_iaload dX6_yearGoes_168 (hk1588 hM) (Or.inl (hl1588 hM)) (jok.ix z8 (hn1588 hM)) ?_
      by_cases z9 : jok ((nI 8) + ((nI 3) * l1)) 166
      rotate_left
      · rw [if_neg z9] at h; cases h
      rw [if_pos z9] at h
      refine ev_iastore dX6_yearGoes_169 (hk1585 hM) (hl1585 hM) (jok.ix z9 (hn1585 hM)) ?_
      refine ev_aload_n dX6_yearGoes_170 rfl ?_
      refine ev_getR dX6_yearGoes_171 fX6_127_6 (hk1547 hM) (Or.inl (hl1547 hM)) rfl (hr50 hM) ?_
      refine ev_bipush (v := (nI 9)) dX6_yearGoes_174 jb9 ?_
      refine ev_iconst (v := (nI 3)) dX6_yearGoes_176 jc3 ?_
      refine ev_iload_n dX6_yearGoes_177 rfl ?_
      refine ev_imul dX6_yearGoes_178 ?_
      refine ev_iadd dX6_yearGoes_179 ?_
      refine ev_aload_n dX6_yearGoes_180 rfl ?_
      refine ev_getR dX6_yearGoes_181 fX6_133_6 (hk1547 hM) (Or.inl (hl1547 hM)) rfl (hr56 hM) ?_
      refine ev_iload_n dX6_yearGoes_184 rfl ?_
      by_cases z10 : jok l1 6
      rotate_left
      · rw [if_neg z10] at h; cases h
      rw [if_pos z10] at h
      refine ev_iaload dX6_yearGoes_185 (hk1587 hM) (Or.inl (hl1587 hM)) (jok.ix z10 (hn1587 hM)) ?_
      by_cases z11 : jok ((nI 9) + ((nI 3) * l1)) 166
      rotate_left
      · rw [if_neg z11] at h; cases h
      rw [if_pos z11] at h
      refine ev_iastore dX6_yearGoes_186 (hk1585 hM) (hl1585 hM) (jok.ix z11 (hn1585 hM)) ?_
      refine ev_iinc (v := (l1 + (nI 1))) (L' := [_, _]) dX6_yearGoes_187 rfl (by rw [ji_1]) (by decide) rfl ?_
      refine ev_goto 125 dX6_yearGoes_190 rfl ?_
      exact ih _ _ _ h hq
def fX6_yearGoes_117 (n : Nat) (rec67 : Int32 → jI → jJ → Option (jI × jJ)) (l1 : Int32) (ci : jI) (cj : jJ) : Option (jI × jJ) := rec67 (l1 + (nI 1)) ci cj
theorem wX6_yearGoes_117 {g : jG} {d : Nat} {K : jK} {cr : jR} {c sl : Nat} {Qr : jQ} {Qx : jX} (hM : jMW K cr) (n : Nat) (rec67 : Int32 → jI → jJ → Option (jI × jJ)) (hrec67 : (∀ (l1 : Int32) (ci : jI) (cj : jJ) {q}, rec67 l1 ci cj = some q → Qr none K q.1 q.2 cr → Ev g (d + 7) mX6_yearGoes 67 [.ref 1547, .int l1] [] K ci cj cr c sl Qr Qx)) (l1 : Int32) (ci : jI) (cj : jJ) {q} (h : fX6_yearGoes_117 n rec67 l1 ci cj = some q) (hq : Qr none K q.1 q.2 cr) : Ev g (d + 7) mX6_yearGoes 117 [.ref 1547, .int l1] [] K ci cj cr c sl Qr Qx := by
  unfold fX6_yearGoes_117 at h
  refine ev_iinc (v := (l1 + (nI 1))) (L' := [_, _]) dX6_yearGoes_117 rfl (by rw [ji_1]) (by decide) rfl ?_
  refine ev_goto 67 dX6_yearGoes_120 rfl ?_
  exact hrec67 _ _ _ h hq
def fX6_yearGoes_67 (n : Nat) : Nat → Int32 → jI → jJ → Option (jI × jJ)
  | 0, _, _, _ => none
  | k + 1, l1, ci, cj => Option.bind (fX6_pairMany n  ci cj) (fun q1 => if q1.1 ≤ l1 then fX6_yearGoes_125 n  n (nI 0) q1.2.1 q1.2.2 else if jok l1 16 then if jok ((nI 25) + ((nI 2) * l1)) 166 then Option.bind (fX6_sinceOf n l1 (ju q1.2.1 1585 (((nI 25) + ((nI 2) * l1))).toNatClampNeg (q1.2.1 1590 (l1).toNatClampNeg)) q1.2.2) (fun q6 => if (nI 99) ≤ q6.1 then fX6_yearGoes_117 n (fX6_yearGoes_67 n  k) l1 q6.2.1 q6.2.2 else if jok ((nI 26) + ((nI 2) * l1)) 166 then if jok ((nI 26) + ((nI 2) * l1)) 166 then fX6_yearGoes_117 n (fX6_yearGoes_67 n  k) l1 (ju q6.2.1 1585 (((nI 26) + ((nI 2) * l1))).toNatClampNeg ((q6.2.1 1585 (((nI 26) + ((nI 2) * l1))).toNatClampNeg) + (nI 1))) q6.2.2 else none else none) else none else none)
theorem wX6_yearGoes_67 {g : jG} {d : Nat} {K : jK} {cr : jR} {c sl : Nat} {Qr : jQ} {Qx : jX} (hM : jMW K cr) (n : Nat) : ∀ (k : Nat) (l1 : Int32) (ci : jI) (cj : jJ) {q}, fX6_yearGoes_67 n  k l1 ci cj = some q → Qr none K q.1 q.2 cr → Ev g (d + 7) mX6_yearGoes 67 [.ref 1547, .int l1] [] K ci cj cr c sl Qr Qx := by
  intro k
  induction k with
  | zero =>
    intro l1 ci cj q h hq
    rw [fX6_yearGoes_67.eq_1] at h; cases h
  | succ k ih =>
    intro l1 ci cj q h hq
    rw [fX6_yearGoes_67.eq_2] at h
    refine ev_iload_n dX6_yearGoes_67 rfl ?_
    refine ev_aload_n dX6_yearGoes_68 rfl ?_
    obtain ⟨q1, z2, h⟩ := Option.bind_eq_some_iff.mp h
    refine ev_zV0 dX6_yearGoes_69 vX6_402_6 (hk1547 hM) (Or.inl (hl1547 hM)) (Nat.le_of_ble_eq_true rfl) (Nat.le_of_ble_eq_true rfl) rfl (metX6_pairMany hM n  _ _ z2 ?_)
    show Ev g _ _ 72 _ [.int q1.1, .int l1] K q1.2.1 q1.2.2 cr c sl Qr Qx
    refine ev_icmp_ge 123 dX6_yearGoes_72 rfl (fun z3 => ?_) (fun z3 => ?_)
    · rw [if_pos z3] at h
      refine ev_iconst (v := (nI 0)) dX6_yearGoes_123 jc0 ?_
      refine ev_istore_n (L' := [_, _]) dX6_yearGoes_124 (by decide) rfl ?_
      exact wX6_yearGoes_125 hM n   n _ _ _ h hq
    · rw [if_neg z3] at h
      refine ev_aload_n dX6_yearGoes_75 rfl ?_
      refine ev_getR dX6_yearGoes_76 fX6_127_6 (hk1547 hM) (Or.inl (hl1547 hM)) rfl (hr50 hM) ?_
      refine ev_bipush (v := (nI 25)) dX6_yearGoes_79 jb25 ?_
      refine ev_iconst (v := (nI 2)) dX6_yearGoes_81 jc2 ?_
      refine ev_iload_n dX6_yearGoes_82 rfl ?_
      refine ev_imul dX6_yearGoes_83 ?_
      refine ev_iadd dX6_yearGoes_84 ?_
      refine ev_aload_n dX6_yearGoes_85 rfl ?_
      refine ev_getR dX6_yearGoes_86 fX6_142_6 (hk1547 hM) (Or.inl (hl1547 hM)) rfl (hr62 hM) ?_
      refine ev_iload_n dX6_yearGoes_89 rfl ?_
      by_cases z4 : jok l1 16
      rotate_left
      · rw [if_neg z4] at h; cases h
      rw [if_pos z4] at h
      refine ev_iaload dX6_yearGoes_90 (hk1590 hM) (Or.inl (hl1590 hM)) (jok.ix z4 (hn1590 hM)) ?_
      by_cases z5 : jok ((nI 25) + ((nI 2) * l1)) 166
      rotate_left
      · rw [if_neg z5] at h; cases h
      rw [if_pos z5] at h
      refine ev_iastore dX6_yearGoes_91 (hk1585 hM) (hl1585 hM) (jok.ix z5 (hn1585 hM)) ?_
      refine ev_aload_n dX6_yearGoes_92 rfl ?_
      refine ev_iload_n dX6_yearGoes_93 rfl ?_
      obtain ⟨q6, z7, h⟩ := Option.bind_eq_some_iff.mp h
      refine ev_zV1 dX6_yearGoes_94 vX6_494_6 (hk1547 hM) (Or.inl (hl1547 hM)) (Nat.le_of_ble_eq_true rfl) (Nat.le_of_ble_eq_true rfl) rfl (metX6_sinceOf hM n _ _ _ z7 ?_)
      show Ev g _ _ 97 _ [.int q6.1] K q6.2.1 q6.2.2 cr c sl Qr Qx
      refine ev_bipush (v := (nI 99)) dX6_yearGoes_97 jb99 ?_
      refine ev_icmp_ge 117 dX6_yearGoes_99 rfl (fun z8 => ?_) (fun z8 => ?_)
      · rw [if_pos z8] at h
        exact wX6_yearGoes_117 hM n _ (ih) _ _ _ h hq
      · rw [if_neg z8] at h
        refine ev_aload_n dX6_yearGoes_102 rfl ?_
        refine ev_getR dX6_yearGoes_103 fX6_127_6 (hk1547 hM) (Or.inl (hl1547 hM)) rfl (hr50 hM) ?_
        refine ev_bipush (v := (nI 26)) dX6_yearGoes_106 jb26 ?_
        refine ev_iconst (v := (nI 2)) dX6_yearGoes_108 jc2 ?_
        refine ev_iload_n dX6_yearGoes_109 rfl ?_
        refine ev_imul dX6_yearGoes_110 ?_
        refine ev_iadd dX6_yearGoes_111 ?_
        refine ev_dup2 dX6_yearGoes_112 rfl rfl ?_
        by_cases z9 : jok ((nI 26) + ((nI 2) * l1)) 166
        rotate_left
        · rw [if_neg z9] at h; cases h
        rw [if_pos z9] at h
        refine ev_iaload dX6_yearGoes_113 (hk1585 hM) (Or.inl (hl1585 hM)) (jok.ix z9 (hn1585 hM)) ?_
        refine ev_iconst (v := (nI 1)) dX6_yearGoes_114 jc1 ?_
        refine ev_iadd dX6_yearGoes_115 ?_
        by_cases z10 : jok ((nI 26) + ((nI 2) * l1)) 166
        rotate_left
        · rw [if_neg z10] at h; cases h
        rw [if_pos z10] at h
        refine ev_iastore dX6_yearGoes_116 (hk1585 hM) (hl1585 hM) (jok.ix z10 (hn1585 hM)) ?_
        exact wX6_yearGoes_117 hM n _ (ih) _ _ _ h hq
def fX6_yearGoes_37 (n : Nat) : Nat → Int32 → jI → jJ → Option (jI × jJ)
  | 0, _, _, _ => none
  | k + 1, l1, ci, cj => Option.bind (fX6_bayMany n  ci cj) (fun q1 => if q1.1 ≤ l1 then fX6_yearGoes_67 n  n (nI 0) q1.2.1 q1.2.2 else Option.bind (fX6_starved n l1 q1.2.1 q1.2.2) (fun q4 => if jok ((nI 10) + l1) 16 then fX6_yearGoes_37 n  k (l1 + (nI 1)) (ju q4.2.1 1590 (((nI 10) + l1)).toNatClampNeg q4.1) q4.2.2 else none))
theorem wX6_yearGoes_37 {g : jG} {d : Nat} {K : jK} {cr : jR} {c sl : Nat} {Qr : jQ} {Qx : jX} (hM : jMW K cr) (n : Nat) : ∀ (k : Nat) (l1 : Int32) (ci : jI) (cj : jJ) {q}, fX6_yearGoes_37 n  k l1 ci cj = some q → Qr none K q.1 q.2 cr → Ev g (d + 7) mX6_yearGoes 37 [.ref 1547, .int l1] [] K ci cj cr c sl Qr Qx := by
  intro k
  induction k with
  | zero =>
    intro l1 ci cj q h hq
    rw [fX6_yearGoes_37.eq_1] at h; cases h
  | succ k ih =>
    intro l1 ci cj q h hq
    rw [fX6_yearGoes_37.eq_2] at h
    refine ev_iload_n dX6_yearGoes_37 rfl ?_
    refine ev_aload_n dX6_yearGoes_38 rfl ?_
    obtain ⟨q1, z2, h⟩ := Option.bind_eq_some_iff.mp h
    refine ev_zV0 dX6_yearGoes_39 vX6_399_6 (hk1547 hM) (Or.inl (hl1547 hM)) (Nat.le_of_ble_eq_true rfl) (Nat.le_of_ble_eq_true rfl) rfl (metX6_bayMany hM n  _ _ z2 ?_)
    show Ev g _ _ 42 _ [.int q1.1, .int l1] K q1.2.1 q1.2.2 cr c sl Qr Qx
    refine ev_icmp_ge 65 dX6_yearGoes_42 rfl (fun z3 => ?_) (fun z3 => ?_)
    · rw [if_pos z3] at h
      refine ev_iconst (v := (nI 0)) dX6_yearGoes_65 jc0 ?_
      refine ev_istore_n (L' := [_, _]) dX6_yearGoes_66 (by decide) rfl ?_
      exact wX6_yearGoes_67 hM n   n _ _ _ h hq
    · rw [if_neg z3] at h
      refine ev_aload_n dX6_yearGoes_45 rfl ?_
      refine ev_getR dX6_yearGoes_46 fX6_142_6 (hk1547 hM) (Or.inl (hl1547 hM)) rfl (hr62 hM) ?_
      refine ev_bipush (v := (nI 10)) dX6_yearGoes_49 jb10 ?_
      refine ev_iload_n dX6_yearGoes_51 rfl ?_
      refine ev_iadd dX6_yearGoes_52 ?_
      refine ev_aload_n dX6_yearGoes_53 rfl ?_
      refine ev_iload_n dX6_yearGoes_54 rfl ?_
      obtain ⟨q4, z5, h⟩ := Option.bind_eq_some_iff.mp h
      refine ev_zV1 dX6_yearGoes_55 vX6_491_6 (hk1547 hM) (Or.inl (hl1547 hM)) (Nat.le_of_ble_eq_true rfl) (Nat.le_of_ble_eq_true rfl) rfl (metX6_starved hM n _ _ _ z5 ?_)
      show Ev g _ _ 58 _ [.int q4.1, .int ((nI 10) + l1), .ref 1590] K q4.2.1 q4.2.2 cr c sl Qr Qx
      by_cases z6 : jok ((nI 10) + l1) 16
      rotate_left
      · rw [if_neg z6] at h; cases h
      rw [if_pos z6] at h
      refine ev_iastore dX6_yearGoes_58 (hk1590 hM) (hl1590 hM) (jok.ix z6 (hn1590 hM)) ?_
      refine ev_iinc (v := (l1 + (nI 1))) (L' := [_, _]) dX6_yearGoes_59 rfl (by rw [ji_1]) (by decide) rfl ?_
      refine ev_goto 37 dX6_yearGoes_62 rfl ?_
      exact ih _ _ _ h hq
def fX6_yearGoes_10 (n : Nat) : Nat → Int32 → jI → jJ → Option (jI × jJ)
  | 0, _, _, _ => none
  | k + 1, l1, ci, cj => Option.bind (fX6_pairMany n  ci cj) (fun q1 => if q1.1 ≤ l1 then fX6_yearGoes_37 n  n (nI 0) q1.2.1 q1.2.2 else Option.bind (fX6_mended n l1 q1.2.1 q1.2.2) (fun q4 => if jok l1 16 then fX6_yearGoes_10 n  k (l1 + (nI 1)) (ju q4.2.1 1590 (l1).toNatClampNeg q4.1) q4.2.2 else none))
theorem wX6_yearGoes_10 {g : jG} {d : Nat} {K : jK} {cr : jR} {c sl : Nat} {Qr : jQ} {Qx : jX} (hM : jMW K cr) (n : Nat) : ∀ (k : Nat) (l1 : Int32) (ci : jI) (cj : jJ) {q}, fX6_yearGoes_10 n  k l1 ci cj = some q → Qr none K q.1 q.2 cr → Ev g (d + 7) mX6_yearGoes 10 [.ref 1547, .int l1] [] K ci cj cr c sl Qr Qx := by
  intro k
  induction k with
  | zero =>
    intro l1 ci cj q h hq
    rw [fX6_yearGoes_10.eq_1] at h; cases h
  | succ k ih =>
    intro l1 ci cj q h hq
    rw [fX6_yearGoes_10.eq_2] at h
    refine ev_iload_n dX6_yearGoes_10 rfl ?_
    refine ev_aload_n dX6_yearGoes_11 rfl ?_
    obtain ⟨q1, z2, h⟩ := Option.bind_eq_some_iff.mp h
    refine ev_zV0 dX6_yearGoes_12 vX6_402_6 (hk1547 hM) (Or.inl (hl1547 hM)) (Nat.le_of_ble_eq_true rfl) (Nat.le_of_ble_eq_true rfl) rfl (metX6_pairMany hM n  _ _ z2 ?_)
    show Ev g _ _ 15 _ [.int q1.1, .int l1] K q1.2.1 q1.2.2 cr c sl Qr Qx
    refine ev_icmp_ge 35 dX6_yearGoes_15 rfl (fun z3 => ?_) (fun z3 => ?_)
    · rw [if_pos z3] at h
      refine ev_iconst (v := (nI 0)) dX6_yearGoes_35 jc0 ?_
      refine ev_istore_n (L' := [_, _]) dX6_yearGoes_36 (by decide) rfl ?_
      exact wX6_yearGoes_37 hM n   n _ _ _ h hq
    · rw [if_neg z3] at h
      refine ev_aload_n dX6_yearGoes_18 rfl ?_
      refine ev_getR dX6_yearGoes_19 fX6_142_6 (hk1547 hM) (Or.inl (hl1547 hM)) rfl (hr62 hM) ?_
      refine ev_iload_n dX6_yearGoes_22 rfl ?_
      refine ev_aload_n dX6_yearGoes_23 rfl ?_
      refine ev_iload_n dX6_yearGoes_24 rfl ?_
      obtain ⟨q4, z5, h⟩ := Option.bind_eq_some_iff.mp h
      refine ev_zV1 dX6_yearGoes_25 vX6_488_6 (hk1547 hM) (Or.inl (hl1547 hM)) (Nat.le_of_ble_eq_true rfl) (Nat.le_of_ble_eq_true rfl) rfl (metX6_mended hM n _ _ _ z5 ?_)
      show Ev g _ _ 28 _ [.int q4.1, .int l1, .ref 1590] K q4.2.1 q4.2.2 cr c sl Qr Qx
      by_cases z6 : jok l1 16
      rotate_left
      · rw [if_neg z6] at h; cases h
      rw [if_pos z6] at h
      refine ev_iastore dX6_yearGoes_28 (hk1590 hM) (hl1590 hM) (jok.ix z6 (hn1590 hM)) ?_
      refine ev_iinc (v := (l1 + (nI 1))) (L' := [_, _]) dX6_yearGoes_29 rfl (by rw [ji_1]) (by decide) rfl ?_
      refine ev_goto 10 dX6_yearGoes_32 rfl ?_
      exact ih _ _ _ h hq
def fX6_yearGoes (n : Nat) (ci : jI) (cj : jJ) : Option (jI × jJ) := Option.bind (fX6_laysVows n  ci cj) (fun q1 => Option.bind (fX6_allCome n  q1.1 q1.2) (fun q3 => fX6_yearGoes_10 n  n (nI 0) q3.1 q3.2))
theorem metX6_yearGoes {g : jG} {d : Nat} {K : jK} {cr : jR} {c sl : Nat} {Qr : jQ} {Qx : jX} (hM : jMW K cr) (n : Nat) (ci : jI) (cj : jJ) {q} (h : fX6_yearGoes n  ci cj = some q) (hq : Qr none K q.1 q.2 cr) : EvM g (d + 7) mX6_yearGoes [.ref 1547] K ci cj cr c sl Qr Qx := by
  unfold fX6_yearGoes at h
  show Ev g (d + 7) mX6_yearGoes 0 [.ref 1547, jU] [] K ci cj cr c sl Qr Qx
  refine ev_aload_n dX6_yearGoes_0 rfl ?_
  obtain ⟨q1, z2, h⟩ := Option.bind_eq_some_iff.mp h
  refine ev_zV0 dX6_yearGoes_1 vX6_482_6 (hk1547 hM) (Or.inl (hl1547 hM)) (Nat.le_of_ble_eq_true rfl) (Nat.le_of_ble_eq_true rfl) rfl (metX6_laysVows hM n  _ _ z2 ?_)
  show Ev g _ _ 4 _ [] K q1.1 q1.2 cr c sl Qr Qx
  refine ev_aload_n dX6_yearGoes_4 rfl ?_
  obtain ⟨q3, z4, h⟩ := Option.bind_eq_some_iff.mp h
  refine ev_zV0 dX6_yearGoes_5 vX6_485_6 (hk1547 hM) (Or.inl (hl1547 hM)) (Nat.le_of_ble_eq_true rfl) (Nat.le_of_ble_eq_true rfl) rfl (metX6_allCome hM n  _ _ z4 ?_)
  show Ev g _ _ 8 _ [] K q3.1 q3.2 cr c sl Qr Qx
  refine ev_iconst (v := (nI 0)) dX6_yearGoes_8 jc0 ?_
  refine ev_istore_n (L' := [_, _]) dX6_yearGoes_9 (by decide) rfl ?_
  exact wX6_yearGoes_10 hM n   n _ _ _ h hq
def fX6_yearsGo_12 (n : Nat) : Nat → Int32 → Int32 → jI → jJ → Option (jI × jJ)
  | 0, _, _, _, _ => none
  | k + 1, l1, l2, ci, cj => if l1 ≤ l2 then some (ci, cj) else Option.bind (fX6_yearGoes n  ci cj) (fun q2 => fX6_yearsGo_12 n  k l1 (l2 + (nI 1)) q2.1 q2.2)
theorem wX6_yearsGo_12 {g : jG} {d : Nat} {K : jK} {cr : jR} {c sl : Nat} {Qr : jQ} {Qx : jX} (hM : jMW K cr) (n : Nat) : ∀ (k : Nat) (l1 : Int32) (l2 : Int32) (ci : jI) (cj : jJ) {q}, fX6_yearsGo_12 n  k l1 l2 ci cj = some q → Qr none K q.1 q.2 cr → Ev g (d + 8) mX6_yearsGo 12 [.ref 1547, .int l1, .int l2] [] K ci cj cr c sl Qr Qx := by
  intro k
  induction k with
  | zero =>
    intro l1 l2 ci cj q h hq
    rw [fX6_yearsGo_12.eq_1] at h; cases h
  | succ k ih =>
    intro l1 l2 ci cj q h hq
    rw [fX6_yearsGo_12.eq_2] at h
    refine ev_iload_n dX6_yearsGo_12 rfl ?_
    refine ev_iload_n dX6_yearsGo_13 rfl ?_
    refine ev_icmp_ge 27 dX6_yearsGo_14 rfl (fun z1 => ?_) (fun z1 => ?_)
    · rw [if_pos z1] at h
      cases h
      exact ev_ret dX6_yearsGo_27 rfl hq
    · rw [if_neg z1] at h
      refine ev_aload_n dX6_yearsGo_17 rfl ?_
      obtain ⟨q2, z3, h⟩ := Option.bind_eq_some_iff.mp h
      refine ev_zV0 dX6_yearsGo_18 vX6_497_6 (hk1547 hM) (Or.inl (hl1547 hM)) (Nat.le_of_ble_eq_true rfl) (Nat.le_of_ble_eq_true rfl) rfl (metX6_yearGoes hM n  _ _ z3 ?_)
      show Ev g _ _ 21 _ [] K q2.1 q2.2 cr c sl Qr Qx
      refine ev_iinc (v := (l2 + (nI 1))) (L' := [_, _, _]) dX6_yearsGo_21 rfl (by rw [ji_1]) (by decide) rfl ?_
      refine ev_goto 12 dX6_yearsGo_24 rfl ?_
      exact ih _ _ _ _ h hq
def fX6_yearsGo (n : Nat) (a0 : Int32) (ci : jI) (cj : jJ) : Option (jI × jJ) := fX6_yearsGo_12 n  n a0 (nI 0) (ju (ju ci 1547 59 (nI 0)) 1547 60 (nI 0)) cj
theorem metX6_yearsGo {g : jG} {d : Nat} {K : jK} {cr : jR} {c sl : Nat} {Qr : jQ} {Qx : jX} (hM : jMW K cr) (n : Nat) (a0 : Int32) (ci : jI) (cj : jJ) {q} (h : fX6_yearsGo n a0 ci cj = some q) (hq : Qr none K q.1 q.2 cr) : EvM g (d + 8) mX6_yearsGo [.ref 1547, .int a0] K ci cj cr c sl Qr Qx := by
  unfold fX6_yearsGo at h
  show Ev g (d + 8) mX6_yearsGo 0 [.ref 1547, .int a0, jU] [] K ci cj cr c sl Qr Qx
  refine ev_aload_n dX6_yearsGo_0 rfl ?_
  refine ev_iconst (v := (nI 0)) dX6_yearsGo_1 jc0 ?_
  refine ev_putI dX6_yearsGo_2 (pX6_457_6 _) (hk1547 hM) (hl1547 hM) rfl rfl rfl ?_
  refine ev_aload_n dX6_yearsGo_5 rfl ?_
  refine ev_iconst (v := (nI 0)) dX6_yearsGo_6 jc0 ?_
  refine ev_putI dX6_yearsGo_7 (pX6_467_6 _) (hk1547 hM) (hl1547 hM) rfl rfl rfl ?_
  refine ev_iconst (v := (nI 0)) dX6_yearsGo_10 jc0 ?_
  refine ev_istore_n (L' := [_, _, _]) dX6_yearsGo_11 (by decide) rfl ?_
  exact wX6_yearsGo_12 hM n   n _ _ _ _ h hq
def fX6_later_19 (n : Nat) (ci : jI) (cj : jJ) : Option (Int32 × jI × jJ) := some ((-1), ci, cj)
theorem wX6_later_19 {g : jG} {d : Nat} {K : jK} {cr : jR} {c sl : Nat} {Qr : jQ} {Qx : jX} (hM : jMW K cr) (n : Nat) (ci : jI) (cj : jJ) {q} (h : fX6_later_19 n   ci cj = some q) (hq : Qr (some (.int q.1)) K q.2.1 q.2.2 cr) : Ev g (d + 9) mX6_later 19 [jU, jU, jU, jU] [] K ci cj cr c sl Qr Qx := by
  unfold fX6_later_19 at h
  refine ev_iconst (v := (-1)) dX6_later_19 jcm1 ?_
  cases h
  exact ev_iret dX6_later_20 rfl rfl hq
def fX6_later (n : Nat) (a0 : Int32) (a1 : Int32) (ci : jI) (cj : jJ) : Option (Int32 × jI × jJ) := Option.bind (fX6_isShoal n a0 ci cj) (fun q1 => if q1.1 = 0 then fX6_later_19 n   q1.2.1 q1.2.2 else Option.bind (fX6_isAhead n a1 (nI 0) (nI 60) q1.2.1 q1.2.2) (fun q4 => if q4.1 = 0 then fX6_later_19 n   q4.2.1 q4.2.2 else Option.bind (fX6_putsAside n  q4.2.1 q4.2.2) (fun q7 => Option.bind (fX6_yearsGo n a1 q7.1 q7.2) (fun q9 => if jok ((nI 2) + ((nI 2) * a0)) 166 then Option.bind (fX6_takesBack n  q9.1 q9.2) (fun q12 => some ((q9.1 1585 (((nI 2) + ((nI 2) * a0))).toNatClampNeg), q12.1, q12.2)) else none))))
theorem metX6_later {g : jG} {d : Nat} {K : jK} {cr : jR} {c sl : Nat} {Qr : jQ} {Qx : jX} (hM : jMW K cr) (n : Nat) (a0 : Int32) (a1 : Int32) (ci : jI) (cj : jJ) {q} (h : fX6_later n a0 a1 ci cj = some q) (hq : Qr (some (.int q.1)) K q.2.1 q.2.2 cr) : EvM g (d + 9) mX6_later [.ref 1547, .int a0, .int a1] K ci cj cr c sl Qr Qx := by
  unfold fX6_later at h
  show Ev g (d + 9) mX6_later 0 [.ref 1547, .int a0, .int a1, jU] [] K ci cj cr c sl Qr Qx
  refine ev_aload_n dX6_later_0 rfl ?_
  refine ev_iload_n dX6_later_1 rfl ?_
  obtain ⟨q1, z2, h⟩ := Option.bind_eq_some_iff.mp h
  refine ev_zV1 dX6_later_2 vX6_526_6 (hk1547 hM) (Or.inl (hl1547 hM)) (Nat.le_of_ble_eq_true rfl) (Nat.le_of_ble_eq_true rfl) rfl (metX6_isShoal hM n _ _ _ z2 ?_)
  show Ev g _ _ 5 _ [.int q1.1] K q1.2.1 q1.2.2 cr c sl Qr Qx
  refine ev_if_eq 19 dX6_later_5 rfl (fun z3 => ?_) (fun z3 => ?_)
  · rw [if_pos z3] at h
    exact ev_mask [false, false, false, false] (wX6_later_19 hM n    _ _ h hq)
  · rw [if_neg z3] at h
    refine ev_aload_n dX6_later_8 rfl ?_
    refine ev_iload_n dX6_later_9 rfl ?_
    refine ev_iconst (v := (nI 0)) dX6_later_10 jc0 ?_
    refine ev_bipush (v := (nI 60)) dX6_later_11 jb60 ?_
    obtain ⟨q4, z5, h⟩ := Option.bind_eq_some_iff.mp h
    refine ev_zV3 dX6_later_13 vX6_531_6 (hk1547 hM) (Or.inl (hl1547 hM)) (Nat.le_of_ble_eq_true rfl) (Nat.le_of_ble_eq_true rfl) rfl (metX6_isAhead hM n _ _ _ _ _ z5 ?_)
    show Ev g _ _ 16 _ [.int q4.1] K q4.2.1 q4.2.2 cr c sl Qr Qx
    refine ev_if_ne 21 dX6_later_16 rfl (fun z6 => ?_) (fun z6 => ?_)
    · rw [if_neg z6] at h
      refine ev_aload_n dX6_later_21 rfl ?_
      obtain ⟨q7, z8, h⟩ := Option.bind_eq_some_iff.mp h
      refine ev_zV0 dX6_later_22 vX6_534_6 (hk1547 hM) (Or.inl (hl1547 hM)) (Nat.le_of_ble_eq_true rfl) (Nat.le_of_ble_eq_true rfl) rfl (metX6_putsAside hM n  _ _ z8 ?_)
      show Ev g _ _ 25 _ [] K q7.1 q7.2 cr c sl Qr Qx
      refine ev_aload_n dX6_later_25 rfl ?_
      refine ev_iload_n dX6_later_26 rfl ?_
      obtain ⟨q9, z10, h⟩ := Option.bind_eq_some_iff.mp h
      refine ev_zV1 dX6_later_27 vX6_537_6 (hk1547 hM) (Or.inl (hl1547 hM)) (Nat.le_of_ble_eq_true rfl) (Nat.le_of_ble_eq_true rfl) rfl (metX6_yearsGo hM n _ _ _ z10 ?_)
      show Ev g _ _ 30 _ [] K q9.1 q9.2 cr c sl Qr Qx
      refine ev_aload_n dX6_later_30 rfl ?_
      refine ev_getR dX6_later_31 fX6_127_6 (hk1547 hM) (Or.inl (hl1547 hM)) rfl (hr50 hM) ?_
      refine ev_iconst (v := (nI 2)) dX6_later_34 jc2 ?_
      refine ev_iconst (v := (nI 2)) dX6_later_35 jc2 ?_
      refine ev_iload_n dX6_later_36 rfl ?_
      refine ev_imul dX6_later_37 ?_
      refine ev_iadd dX6_later_38 ?_
      by_cases z11 : jok ((nI 2) + ((nI 2) * a0)) 166
      rotate_left
      · rw [if_neg z11] at h; cases h
      rw [if_pos z11] at h
      refine ev_iaload dX6_later_39 (hk1585 hM) (Or.inl (hl1585 hM)) (jok.ix z11 (hn1585 hM)) ?_
      refine ev_istore_n (L' := [_, _, _, _]) dX6_later_40 (by decide) rfl ?_
      refine ev_aload_n dX6_later_41 rfl ?_
      obtain ⟨q12, z13, h⟩ := Option.bind_eq_some_iff.mp h
      refine ev_zV0 dX6_later_42 vX6_540_6 (hk1547 hM) (Or.inl (hl1547 hM)) (Nat.le_of_ble_eq_true rfl) (Nat.le_of_ble_eq_true rfl) rfl (metX6_takesBack hM n  _ _ z13 ?_)
      show Ev g _ _ 45 _ [] K q12.1 q12.2 cr c sl Qr Qx
      refine ev_iload_n dX6_later_45 rfl ?_
      cases h
      exact ev_iret dX6_later_46 rfl rfl hq
    · rw [if_pos z6] at h
      exact ev_mask [false, false, false, false] (wX6_later_19 hM n    _ _ h hq)
def fX6_caught_20 (n : Nat) (ci : jI) (cj : jJ) : Option (Int32 × jI × jJ) := some ((-1), ci, cj)
theorem wX6_caught_20 {g : jG} {d : Nat} {K : jK} {cr : jR} {c sl : Nat} {Qr : jQ} {Qx : jX} (hM : jMW K cr) (n : Nat) (ci : jI) (cj : jJ) {q} (h : fX6_caught_20 n   ci cj = some q) (hq : Qr (some (.int q.1)) K q.2.1 q.2.2 cr) : Ev g (d + 8) mX6_caught 20 [jU, jU, jU, jU, jU] [] K ci cj cr c sl Qr Qx := by
  unfold fX6_caught_20 at h
  refine ev_iconst (v := (-1)) dX6_caught_20 jcm1 ?_
  cases h
  exact ev_iret dX6_caught_21 rfl rfl hq
def fX6_caught_31 (n : Nat) : Nat → Int32 → Int32 → Int32 → Int32 → jI → jJ → Option (Int32 × jI × jJ)
  | 0, _, _, _, _, _, _ => none
  | k + 1, l1, l2, l3, l4, ci, cj => if l2 ≤ l4 then Option.bind (fX6_takesBack n  ci cj) (fun q2 => some (l3, q2.1, q2.2)) else Option.bind (fX6_yearGoes n  ci cj) (fun q4 => if jok l1 6 then fX6_caught_31 n  k l1 l2 (l3 + (q4.1 1588 (l1).toNatClampNeg)) (l4 + (nI 1)) q4.1 q4.2 else none)
theorem wX6_caught_31 {g : jG} {d : Nat} {K : jK} {cr : jR} {c sl : Nat} {Qr : jQ} {Qx : jX} (hM : jMW K cr) (n : Nat) : ∀ (k : Nat) (l1 : Int32) (l2 : Int32) (l3 : Int32) (l4 : Int32) (ci : jI) (cj : jJ) {q}, fX6_caught_31 n  k l1 l2 l3 l4 ci cj = some q → Qr (some (.int q.1)) K q.2.1 q.2.2 cr → Ev g (d + 8) mX6_caught 31 [.ref 1547, .int l1, .int l2, .int l3, .int l4] [] K ci cj cr c sl Qr Qx := by
  intro k
  induction k with
  | zero =>
    intro l1 l2 l3 l4 ci cj q h hq
    rw [fX6_caught_31.eq_1] at h; cases h
  | succ k ih =>
    intro l1 l2 l3 l4 ci cj q h hq
    rw [fX6_caught_31.eq_2] at h
    refine ev_iload dX6_caught_31 rfl ?_
    refine ev_iload_n dX6_caught_33 rfl ?_
    refine ev_icmp_ge 56 dX6_caught_34 rfl (fun z1 => ?_) (fun z1 => ?_)
    · rw [if_pos z1] at h
      refine ev_aload_n dX6_caught_56 rfl ?_
      obtain ⟨q2, z3, h⟩ := Option.bind_eq_some_iff.mp h
      refine ev_zV0 dX6_caught_57 vX6_540_6 (hk1547 hM) (Or.inl (hl1547 hM)) (Nat.le_of_ble_eq_true rfl) (Nat.le_of_ble_eq_true rfl) rfl (metX6_takesBack hM n  _ _ z3 ?_)
      show Ev g _ _ 60 _ [] K q2.1 q2.2 cr c sl Qr Qx
      refine ev_iload_n dX6_caught_60 rfl ?_
      cases h
      exact ev_iret dX6_caught_61 rfl rfl hq
    · rw [if_neg z1] at h
      refine ev_aload_n dX6_caught_37 rfl ?_
      obtain ⟨q4, z5, h⟩ := Option.bind_eq_some_iff.mp h
      refine ev_zV0 dX6_caught_38 vX6_497_6 (hk1547 hM) (Or.inl (hl1547 hM)) (Nat.le_of_ble_eq_true rfl) (Nat.le_of_ble_eq_true rfl) rfl (metX6_yearGoes hM n  _ _ z5 ?_)
      show Ev g _ _ 41 _ [] K q4.1 q4.2 cr c sl Qr Qx
      refine ev_iload_n dX6_caught_41 rfl ?_
      refine ev_aload_n dX6_caught_42 rfl ?_
      refine ev_getR dX6_caught_43 fX6_136_6 (hk1547 hM) (Or.inl (hl1547 hM)) rfl (hr57 hM) ?_
      refine ev_iload_n dX6_caught_46 rfl ?_
      by_cases z6 : jok l1 6
      rotate_left
      · rw [if_neg z6] at h; cases h
      rw [if_pos z6] at h
      refine ev_iaload dX6_caught_47 (hk1588 hM) (Or.inl (hl1588 hM)) (jok.ix z6 (hn1588 hM)) ?_
      refine ev_iadd dX6_caught_48 ?_
      refine ev_istore_n (L' := [_, _, _, _, _]) dX6_caught_49 (by decide) rfl ?_
      refine ev_iinc (v := (l4 + (nI 1))) (L' := [_, _, _, _, _]) dX6_caught_50 rfl (by rw [ji_1]) (by decide) rfl ?_
      refine ev_goto 31 dX6_caught_53 rfl ?_
      exact ih _ _ _ _ _ _ h hq
def fX6_caught (n : Nat) (a0 : Int32) (a1 : Int32) (ci : jI) (cj : jJ) : Option (Int32 × jI × jJ) := Option.bind (fX6_isBay n ((a0).toInt64) ci cj) (fun q1 => if q1.1 = 0 then fX6_caught_20 n   q1.2.1 q1.2.2 else Option.bind (fX6_isAhead n a1 (nI 0) (nI 60) q1.2.1 q1.2.2) (fun q4 => if q4.1 = 0 then fX6_caught_20 n   q4.2.1 q4.2.2 else Option.bind (fX6_putsAside n  q4.2.1 q4.2.2) (fun q7 => fX6_caught_31 n  n a0 a1 (nI 0) (nI 0) q7.1 q7.2)))
theorem metX6_caught {g : jG} {d : Nat} {K : jK} {cr : jR} {c sl : Nat} {Qr : jQ} {Qx : jX} (hM : jMW K cr) (n : Nat) (a0 : Int32) (a1 : Int32) (ci : jI) (cj : jJ) {q} (h : fX6_caught n a0 a1 ci cj = some q) (hq : Qr (some (.int q.1)) K q.2.1 q.2.2 cr) : EvM g (d + 8) mX6_caught [.ref 1547, .int a0, .int a1] K ci cj cr c sl Qr Qx := by
  unfold fX6_caught at h
  show Ev g (d + 8) mX6_caught 0 [.ref 1547, .int a0, .int a1, jU, jU] [] K ci cj cr c sl Qr Qx
  refine ev_aload_n dX6_caught_0 rfl ?_
  refine ev_iload_n dX6_caught_1 rfl ?_
  refine ev_i2l dX6_caught_2 ?_
  obtain ⟨q1, z2, h⟩ := Option.bind_eq_some_iff.mp h
  refine ev_zV1 dX6_caught_3 vX6_516_6 (hk1547 hM) (Or.inl (hl1547 hM)) (Nat.le_of_ble_eq_true rfl) (Nat.le_of_ble_eq_true rfl) rfl (metX6_isBay hM n _ _ _ z2 ?_)
  show Ev g _ _ 6 _ [.int q1.1] K q1.2.1 q1.2.2 cr c sl Qr Qx
  refine ev_if_eq 20 dX6_caught_6 rfl (fun z3 => ?_) (fun z3 => ?_)
  · rw [if_pos z3] at h
    exact ev_mask [false, false, false, false, false] (wX6_caught_20 hM n    _ _ h hq)
  · rw [if_neg z3] at h
    refine ev_aload_n dX6_caught_9 rfl ?_
    refine ev_iload_n dX6_caught_10 rfl ?_
    refine ev_iconst (v := (nI 0)) dX6_caught_11 jc0 ?_
    refine ev_bipush (v := (nI 60)) dX6_caught_12 jb60 ?_
    obtain ⟨q4, z5, h⟩ := Option.bind_eq_some_iff.mp h
    refine ev_zV3 dX6_caught_14 vX6_531_6 (hk1547 hM) (Or.inl (hl1547 hM)) (Nat.le_of_ble_eq_true rfl) (Nat.le_of_ble_eq_true rfl) rfl (metX6_isAhead hM n _ _ _ _ _ z5 ?_)
    show Ev g _ _ 17 _ [.int q4.1] K q4.2.1 q4.2.2 cr c sl Qr Qx
    refine ev_if_ne 22 dX6_caught_17 rfl (fun z6 => ?_) (fun z6 => ?_)
    · rw [if_neg z6] at h
      refine ev_iconst (v := (nI 0)) dX6_caught_22 jc0 ?_
      refine ev_istore_n (L' := [_, _, _, _, _]) dX6_caught_23 (by decide) rfl ?_
      refine ev_aload_n dX6_caught_24 rfl ?_
      obtain ⟨q7, z8, h⟩ := Option.bind_eq_some_iff.mp h
      refine ev_zV0 dX6_caught_25 vX6_534_6 (hk1547 hM) (Or.inl (hl1547 hM)) (Nat.le_of_ble_eq_true rfl) (Nat.le_of_ble_eq_true rfl) rfl (metX6_putsAside hM n  _ _ z8 ?_)
      show Ev g _ _ 28 _ [] K q7.1 q7.2 cr c sl Qr Qx
      refine ev_iconst (v := (nI 0)) dX6_caught_28 jc0 ?_
      refine ev_istore (L' := [_, _, _, _, _]) dX6_caught_29 (by decide) rfl ?_
      exact wX6_caught_31 hM n   n _ _ _ _ _ _ h hq
    · rw [if_pos z6] at h
      exact ev_mask [false, false, false, false, false] (wX6_caught_20 hM n    _ _ h hq)
def fX6_hungry_20 (n : Nat) (ci : jI) (cj : jJ) : Option (Int32 × jI × jJ) := some ((-1), ci, cj)
theorem wX6_hungry_20 {g : jG} {d : Nat} {K : jK} {cr : jR} {c sl : Nat} {Qr : jQ} {Qx : jX} (hM : jMW K cr) (n : Nat) (ci : jI) (cj : jJ) {q} (h : fX6_hungry_20 n   ci cj = some q) (hq : Qr (some (.int q.1)) K q.2.1 q.2.2 cr) : Ev g (d + 9) mX6_hungry 20 [jU, jU, jU, jU] [] K ci cj cr c sl Qr Qx := by
  unfold fX6_hungry_20 at h
  refine ev_iconst (v := (-1)) dX6_hungry_20 jcm1 ?_
  cases h
  exact ev_iret dX6_hungry_21 rfl rfl hq
def fX6_hungry (n : Nat) (a0 : Int32) (a1 : Int32) (ci : jI) (cj : jJ) : Option (Int32 × jI × jJ) := Option.bind (fX6_isBay n ((a0).toInt64) ci cj) (fun q1 => if q1.1 = 0 then fX6_hungry_20 n   q1.2.1 q1.2.2 else Option.bind (fX6_isAhead n a1 (nI 0) (nI 60) q1.2.1 q1.2.2) (fun q4 => if q4.1 = 0 then fX6_hungry_20 n   q4.2.1 q4.2.2 else Option.bind (fX6_putsAside n  q4.2.1 q4.2.2) (fun q7 => Option.bind (fX6_yearsGo n a1 q7.1 q7.2) (fun q9 => Option.bind (fX6_hungerOf n a0 q9.1 q9.2) (fun q11 => Option.bind (fX6_takesBack n  q11.2.1 q11.2.2) (fun q13 => some (q11.1, q13.1, q13.2)))))))
theorem metX6_hungry {g : jG} {d : Nat} {K : jK} {cr : jR} {c sl : Nat} {Qr : jQ} {Qx : jX} (hM : jMW K cr) (n : Nat) (a0 : Int32) (a1 : Int32) (ci : jI) (cj : jJ) {q} (h : fX6_hungry n a0 a1 ci cj = some q) (hq : Qr (some (.int q.1)) K q.2.1 q.2.2 cr) : EvM g (d + 9) mX6_hungry [.ref 1547, .int a0, .int a1] K ci cj cr c sl Qr Qx := by
  unfold fX6_hungry at h
  show Ev g (d + 9) mX6_hungry 0 [.ref 1547, .int a0, .int a1, jU] [] K ci cj cr c sl Qr Qx
  refine ev_aload_n dX6_hungry_0 rfl ?_
  refine ev_iload_n dX6_hungry_1 rfl ?_
  refine ev_i2l dX6_hungry_2 ?_
  obtain ⟨q1, z2, h⟩ := Option.bind_eq_some_iff.mp h
  refine ev_zV1 dX6_hungry_3 vX6_516_6 (hk1547 hM) (Or.inl (hl1547 hM)) (Nat.le_of_ble_eq_true rfl) (Nat.le_of_ble_eq_true rfl) rfl (metX6_isBay hM n _ _ _ z2 ?_)
  show Ev g _ _ 6 _ [.int q1.1] K q1.2.1 q1.2.2 cr c sl Qr Qx
  refine ev_if_eq 20 dX6_hungry_6 rfl (fun z3 => ?_) (fun z3 => ?_)
  · rw [if_pos z3] at h
    exact ev_mask [false, false, false, false] (wX6_hungry_20 hM n    _ _ h hq)
  · rw [if_neg z3] at h
    refine ev_aload_n dX6_hungry_9 rfl ?_
    refine ev_iload_n dX6_hungry_10 rfl ?_
    refine ev_iconst (v := (nI 0)) dX6_hungry_11 jc0 ?_
    refine ev_bipush (v := (nI 60)) dX6_hungry_12 jb60 ?_
    obtain ⟨q4, z5, h⟩ := Option.bind_eq_some_iff.mp h
    refine ev_zV3 dX6_hungry_14 vX6_531_6 (hk1547 hM) (Or.inl (hl1547 hM)) (Nat.le_of_ble_eq_true rfl) (Nat.le_of_ble_eq_true rfl) rfl (metX6_isAhead hM n _ _ _ _ _ z5 ?_)
    show Ev g _ _ 17 _ [.int q4.1] K q4.2.1 q4.2.2 cr c sl Qr Qx
    refine ev_if_ne 22 dX6_hungry_17 rfl (fun z6 => ?_) (fun z6 => ?_)
    · rw [if_neg z6] at h
      refine ev_aload_n dX6_hungry_22 rfl ?_
      obtain ⟨q7, z8, h⟩ := Option.bind_eq_some_iff.mp h
      refine ev_zV0 dX6_hungry_23 vX6_534_6 (hk1547 hM) (Or.inl (hl1547 hM)) (Nat.le_of_ble_eq_true rfl) (Nat.le_of_ble_eq_true rfl) rfl (metX6_putsAside hM n  _ _ z8 ?_)
      show Ev g _ _ 26 _ [] K q7.1 q7.2 cr c sl Qr Qx
      refine ev_aload_n dX6_hungry_26 rfl ?_
      refine ev_iload_n dX6_hungry_27 rfl ?_
      obtain ⟨q9, z10, h⟩ := Option.bind_eq_some_iff.mp h
      refine ev_zV1 dX6_hungry_28 vX6_537_6 (hk1547 hM) (Or.inl (hl1547 hM)) (Nat.le_of_ble_eq_true rfl) (Nat.le_of_ble_eq_true rfl) rfl (metX6_yearsGo hM n _ _ _ z10 ?_)
      show Ev g _ _ 31 _ [] K q9.1 q9.2 cr c sl Qr Qx
      refine ev_aload_n dX6_hungry_31 rfl ?_
      refine ev_iload_n dX6_hungry_32 rfl ?_
      obtain ⟨q11, z12, h⟩ := Option.bind_eq_some_iff.mp h
      refine ev_zV1 dX6_hungry_33 vX6_477_6 (hk1547 hM) (Or.inl (hl1547 hM)) (Nat.le_of_ble_eq_true rfl) (Nat.le_of_ble_eq_true rfl) rfl (metX6_hungerOf hM n _ _ _ z12 ?_)
      show Ev g _ _ 36 _ [.int q11.1] K q11.2.1 q11.2.2 cr c sl Qr Qx
      refine ev_istore_n (L' := [_, _, _, _]) dX6_hungry_36 (by decide) rfl ?_
      refine ev_aload_n dX6_hungry_37 rfl ?_
      obtain ⟨q13, z14, h⟩ := Option.bind_eq_some_iff.mp h
      refine ev_zV0 dX6_hungry_38 vX6_540_6 (hk1547 hM) (Or.inl (hl1547 hM)) (Nat.le_of_ble_eq_true rfl) (Nat.le_of_ble_eq_true rfl) rfl (metX6_takesBack hM n  _ _ z14 ?_)
      show Ev g _ _ 41 _ [] K q13.1 q13.2 cr c sl Qr Qx
      refine ev_iload_n dX6_hungry_41 rfl ?_
      cases h
      exact ev_iret dX6_hungry_42 rfl rfl hq
    · rw [if_pos z6] at h
      exact ev_mask [false, false, false, false] (wX6_hungry_20 hM n    _ _ h hq)
def fX6_isSteadyFrom_12 (n : Nat) (rec2 : Int32 → Int32 → jI → jJ → Option (Int32 × jI × jJ)) : Nat → Int32 → Int32 → Int32 → jI → jJ → Option (Int32 × jI × jJ)
  | 0, _, _, _, _, _ => none
  | k + 1, l1, l2, l3, ci, cj => if (nI 5) ≤ l3 then rec2 l1 (l2 + (nI 1)) ci cj else if jok (((nI 3) * (l1 + l3)) + l2) 180 then if jok (((nI 3) * l1) + l2) 180 then if (ci 1591 ((((nI 3) * (l1 + l3)) + l2)).toNatClampNeg) = (ci 1591 ((((nI 3) * l1) + l2)).toNatClampNeg) then fX6_isSteadyFrom_12 n rec2 k l1 l2 (l3 + (nI 1)) ci cj else some ((nI 0), ci, cj) else none else none
theorem wX6_isSteadyFrom_12 {g : jG} {d : Nat} {K : jK} {cr : jR} {c sl : Nat} {Qr : jQ} {Qx : jX} (hM : jMW K cr) (n : Nat) (rec2 : Int32 → Int32 → jI → jJ → Option (Int32 × jI × jJ)) (hrec2 : (∀ (l1 : Int32) (l2 : Int32) (ci : jI) (cj : jJ) {q}, rec2 l1 l2 ci cj = some q → Qr (some (.int q.1)) K q.2.1 q.2.2 cr → Ev g (d + 2) mX6_isSteadyFrom 2 [.ref 1547, .int l1, .int l2, jU] [] K ci cj cr c sl Qr Qx)) : ∀ (k : Nat) (l1 : Int32) (l2 : Int32) (l3 : Int32) (ci : jI) (cj : jJ) {q}, fX6_isSteadyFrom_12 n rec2 k l1 l2 l3 ci cj = some q → Qr (some (.int q.1)) K q.2.1 q.2.2 cr → Ev g (d + 2) mX6_isSteadyFrom 12 [.ref 1547, .int l1, .int l2, .int l3] [] K ci cj cr c sl Qr Qx := by
  intro k
  induction k with
  | zero =>
    intro l1 l2 l3 ci cj q h hq
    rw [fX6_isSteadyFrom_12.eq_1] at h; cases h
  | succ k ih =>
    intro l1 l2 l3 ci cj q h hq
    rw [fX6_isSteadyFrom_12.eq_2] at h
    refine ev_iload_n dX6_isSteadyFrom_12 rfl ?_
    refine ev_iconst (v := (nI 5)) dX6_isSteadyFrom_13 jc5 ?_
    refine ev_icmp_ge 50 dX6_isSteadyFrom_14 rfl (fun z1 => ?_) (fun z1 => ?_)
    · rw [if_pos z1] at h
      refine ev_iinc (v := (l2 + (nI 1))) (L' := [_, _, _, _]) dX6_isSteadyFrom_50 rfl (by rw [ji_1]) (by decide) rfl ?_
      refine ev_goto 2 dX6_isSteadyFrom_53 rfl ?_
      exact ev_mask [true, true, true, false] (hrec2 _ _ _ _ h hq)
    · rw [if_neg z1] at h
      refine ev_aload_n dX6_isSteadyFrom_17 rfl ?_
      refine ev_getR dX6_isSteadyFrom_18 fX6_145_6 (hk1547 hM) (Or.inl (hl1547 hM)) rfl (hr63 hM) ?_
      refine ev_iconst (v := (nI 3)) dX6_isSteadyFrom_21 jc3 ?_
      refine ev_iload_n dX6_isSteadyFrom_22 rfl ?_
      refine ev_iload_n dX6_isSteadyFrom_23 rfl ?_
      refine ev_iadd dX6_isSteadyFrom_24 ?_
      refine ev_imul dX6_isSteadyFrom_25 ?_
      refine ev_iload_n dX6_isSteadyFrom_26 rfl ?_
      refine ev_iadd dX6_isSteadyFrom_27 ?_
      by_cases z2 : jok (((nI 3) * (l1 + l3)) + l2) 180
      rotate_left
      · rw [if_neg z2] at h; cases h
      rw [if_pos z2] at h
      refine ev_iaload dX6_isSteadyFrom_28 (hk1591 hM) (Or.inl (hl1591 hM)) (jok.ix z2 (hn1591 hM)) ?_
      refine ev_aload_n dX6_isSteadyFrom_29 rfl ?_
      refine ev_getR dX6_isSteadyFrom_30 fX6_145_6 (hk1547 hM) (Or.inl (hl1547 hM)) rfl (hr63 hM) ?_
      refine ev_iconst (v := (nI 3)) dX6_isSteadyFrom_33 jc3 ?_
      refine ev_iload_n dX6_isSteadyFrom_34 rfl ?_
      refine ev_imul dX6_isSteadyFrom_35 ?_
      refine ev_iload_n dX6_isSteadyFrom_36 rfl ?_
      refine ev_iadd dX6_isSteadyFrom_37 ?_
      by_cases z3 : jok (((nI 3) * l1) + l2) 180
      rotate_left
      · rw [if_neg z3] at h; cases h
      rw [if_pos z3] at h
      refine ev_iaload dX6_isSteadyFrom_38 (hk1591 hM) (Or.inl (hl1591 hM)) (jok.ix z3 (hn1591 hM)) ?_
      refine ev_icmp_eq 44 dX6_isSteadyFrom_39 rfl (fun z4 => ?_) (fun z4 => ?_)
      · rw [if_pos z4] at h
        refine ev_iinc (v := (l3 + (nI 1))) (L' := [_, _, _, _]) dX6_isSteadyFrom_44 rfl (by rw [ji_1]) (by decide) rfl ?_
        refine ev_goto 12 dX6_isSteadyFrom_47 rfl ?_
        exact ih _ _ _ _ _ h hq
      · rw [if_neg z4] at h
        refine ev_iconst (v := (nI 0)) dX6_isSteadyFrom_42 jc0 ?_
        cases h
        exact ev_iret dX6_isSteadyFrom_43 rfl (by decide) hq
def fX6_isSteadyFrom_2 (n : Nat) : Nat → Int32 → Int32 → jI → jJ → Option (Int32 × jI × jJ)
  | 0, _, _, _, _ => none
  | k + 1, l1, l2, ci, cj => Option.bind (fX6_shoalMany n  ci cj) (fun q1 => if q1.1 ≤ l2 then some ((nI 1), q1.2.1, q1.2.2) else fX6_isSteadyFrom_12 n (fX6_isSteadyFrom_2 n  k) n l1 l2 (nI 1) q1.2.1 q1.2.2)
theorem wX6_isSteadyFrom_2 {g : jG} {d : Nat} {K : jK} {cr : jR} {c sl : Nat} {Qr : jQ} {Qx : jX} (hM : jMW K cr) (n : Nat) : ∀ (k : Nat) (l1 : Int32) (l2 : Int32) (ci : jI) (cj : jJ) {q}, fX6_isSteadyFrom_2 n  k l1 l2 ci cj = some q → Qr (some (.int q.1)) K q.2.1 q.2.2 cr → Ev g (d + 2) mX6_isSteadyFrom 2 [.ref 1547, .int l1, .int l2, jU] [] K ci cj cr c sl Qr Qx := by
  intro k
  induction k with
  | zero =>
    intro l1 l2 ci cj q h hq
    rw [fX6_isSteadyFrom_2.eq_1] at h; cases h
  | succ k ih =>
    intro l1 l2 ci cj q h hq
    rw [fX6_isSteadyFrom_2.eq_2] at h
    refine ev_iload_n dX6_isSteadyFrom_2 rfl ?_
    refine ev_aload_n dX6_isSteadyFrom_3 rfl ?_
    obtain ⟨q1, z2, h⟩ := Option.bind_eq_some_iff.mp h
    refine ev_zV0 dX6_isSteadyFrom_4 vX6_405_6 (hk1547 hM) (Or.inl (hl1547 hM)) (Nat.le_of_ble_eq_true rfl) (Nat.le_of_ble_eq_true rfl) rfl (metX6_shoalMany hM n  _ _ z2 ?_)
    show Ev g _ _ 7 _ [.int q1.1, .int l2] K q1.2.1 q1.2.2 cr c sl Qr Qx
    refine ev_icmp_ge 56 dX6_isSteadyFrom_7 rfl (fun z3 => ?_) (fun z3 => ?_)
    · rw [if_pos z3] at h
      refine ev_iconst (v := (nI 1)) dX6_isSteadyFrom_56 jc1 ?_
      cases h
      exact ev_iret dX6_isSteadyFrom_57 rfl (by decide) hq
    · rw [if_neg z3] at h
      refine ev_iconst (v := (nI 1)) dX6_isSteadyFrom_10 jc1 ?_
      refine ev_istore_n (L' := [_, _, _, _]) dX6_isSteadyFrom_11 (by decide) rfl ?_
      exact wX6_isSteadyFrom_12 hM n _ (ih) n _ _ _ _ _ h hq
def fX6_isSteadyFrom (n : Nat) (a0 : Int32) (ci : jI) (cj : jJ) : Option (Int32 × jI × jJ) := fX6_isSteadyFrom_2 n  n a0 (nI 0) ci cj
theorem metX6_isSteadyFrom {g : jG} {d : Nat} {K : jK} {cr : jR} {c sl : Nat} {Qr : jQ} {Qx : jX} (hM : jMW K cr) (n : Nat) (a0 : Int32) (ci : jI) (cj : jJ) {q} (h : fX6_isSteadyFrom n a0 ci cj = some q) (hq : Qr (some (.int q.1)) K q.2.1 q.2.2 cr) : EvM g (d + 2) mX6_isSteadyFrom [.ref 1547, .int a0] K ci cj cr c sl Qr Qx := by
  unfold fX6_isSteadyFrom at h
  show Ev g (d + 2) mX6_isSteadyFrom 0 [.ref 1547, .int a0, jU, jU] [] K ci cj cr c sl Qr Qx
  refine ev_iconst (v := (nI 0)) dX6_isSteadyFrom_0 jc0 ?_
  refine ev_istore_n (L' := [_, _, _, _]) dX6_isSteadyFrom_1 (by decide) rfl ?_
  exact wX6_isSteadyFrom_2 hM n   n _ _ _ _ h hq
def fX6_steady_72 (n : Nat) : Nat → Int32 → Int32 → jI → jJ → Option (Int32 × jI × jJ)
  | 0, _, _, _, _ => none
  | k + 1, l1, l2, ci, cj => if l1 < (l2 + (nI 5)) then some ((-1), ci, cj) else Option.bind (fX6_isSteadyFrom n l2 ci cj) (fun q2 => if q2.1 = 0 then fX6_steady_72 n  k l1 (l2 + (nI 1)) q2.2.1 q2.2.2 else some (l2, q2.2.1, q2.2.2))
theorem wX6_steady_72 {g : jG} {d : Nat} {K : jK} {cr : jR} {c sl : Nat} {Qr : jQ} {Qx : jX} (hM : jMW K cr) (n : Nat) : ∀ (k : Nat) (l1 : Int32) (l2 : Int32) (ci : jI) (cj : jJ) {q}, fX6_steady_72 n  k l1 l2 ci cj = some q → Qr (some (.int q.1)) K q.2.1 q.2.2 cr → Ev g (d + 8) mX6_steady 72 [.ref 1547, .int l1, .int l2] [] K ci cj cr c sl Qr Qx := by
  intro k
  induction k with
  | zero =>
    intro l1 l2 ci cj q h hq
    rw [fX6_steady_72.eq_1] at h; cases h
  | succ k ih =>
    intro l1 l2 ci cj q h hq
    rw [fX6_steady_72.eq_2] at h
    refine ev_iload_n dX6_steady_72 rfl ?_
    refine ev_iconst (v := (nI 5)) dX6_steady_73 jc5 ?_
    refine ev_iadd dX6_steady_74 ?_
    refine ev_iload_n dX6_steady_75 rfl ?_
    refine ev_icmp_gt 95 dX6_steady_76 rfl (fun z1 => ?_) (fun z1 => ?_)
    · rw [if_pos z1] at h
      refine ev_iconst (v := (-1)) dX6_steady_95 jcm1 ?_
      cases h
      exact ev_iret dX6_steady_96 rfl rfl hq
    · rw [if_neg z1] at h
      refine ev_aload_n dX6_steady_79 rfl ?_
      refine ev_iload_n dX6_steady_80 rfl ?_
      obtain ⟨q2, z3, h⟩ := Option.bind_eq_some_iff.mp h
      refine ev_zV1 dX6_steady_81 vX6_543_6 (hk1547 hM) (Or.inl (hl1547 hM)) (Nat.le_of_ble_eq_true rfl) (Nat.le_of_ble_eq_true rfl) rfl (metX6_isSteadyFrom hM n _ _ _ z3 ?_)
      show Ev g _ _ 84 _ [.int q2.1] K q2.2.1 q2.2.2 cr c sl Qr Qx
      refine ev_if_eq 89 dX6_steady_84 rfl (fun z4 => ?_) (fun z4 => ?_)
      · rw [if_pos z4] at h
        refine ev_iinc (v := (l2 + (nI 1))) (L' := [_, _, _]) dX6_steady_89 rfl (by rw [ji_1]) (by decide) rfl ?_
        refine ev_goto 72 dX6_steady_92 rfl ?_
        exact ih _ _ _ _ h hq
      · rw [if_neg z4] at h
        refine ev_iload_n dX6_steady_87 rfl ?_
        cases h
        exact ev_iret dX6_steady_88 rfl rfl hq
def fX6_steady_66 (n : Nat) (l1 : Int32) (ci : jI) (cj : jJ) : Option (Int32 × jI × jJ) := Option.bind (fX6_takesBack n  ci cj) (fun q1 => fX6_steady_72 n  n l1 (nI 0) q1.1 q1.2)
theorem wX6_steady_66 {g : jG} {d : Nat} {K : jK} {cr : jR} {c sl : Nat} {Qr : jQ} {Qx : jX} (hM : jMW K cr) (n : Nat) (l1 : Int32) (ci : jI) (cj : jJ) {q} (h : fX6_steady_66 n  l1 ci cj = some q) (hq : Qr (some (.int q.1)) K q.2.1 q.2.2 cr) : Ev g (d + 8) mX6_steady 66 [.ref 1547, .int l1, jU] [] K ci cj cr c sl Qr Qx := by
  unfold fX6_steady_66 at h
  refine ev_aload_n dX6_steady_66 rfl ?_
  obtain ⟨q1, z2, h⟩ := Option.bind_eq_some_iff.mp h
  refine ev_zV0 dX6_steady_67 vX6_540_6 (hk1547 hM) (Or.inl (hl1547 hM)) (Nat.le_of_ble_eq_true rfl) (Nat.le_of_ble_eq_true rfl) rfl (metX6_takesBack hM n  _ _ z2 ?_)
  show Ev g _ _ 70 _ [] K q1.1 q1.2 cr c sl Qr Qx
  refine ev_iconst (v := (nI 0)) dX6_steady_70 jc0 ?_
  refine ev_istore_n (L' := [_, _, _]) dX6_steady_71 (by decide) rfl ?_
  exact wX6_steady_72 hM n   n _ _ _ _ h hq
def fX6_steady_30 (n : Nat) (rec6 : Int32 → jI → jJ → Option (Int32 × jI × jJ)) : Nat → Int32 → Int32 → jI → jJ → Option (Int32 × jI × jJ)
  | 0, _, _, _, _ => none
  | k + 1, l1, l2, ci, cj => Option.bind (fX6_shoalMany n  ci cj) (fun q1 => if q1.1 ≤ l2 then rec6 (l1 + (nI 1)) q1.2.1 q1.2.2 else if jok l2 3 then if jok (((nI 3) * l1) + l2) 180 then fX6_steady_30 n rec6 k l1 (l2 + (nI 1)) (ju q1.2.1 1591 ((((nI 3) * l1) + l2)).toNatClampNeg (q1.2.1 1589 (l2).toNatClampNeg)) q1.2.2 else none else none)
theorem wX6_steady_30 {g : jG} {d : Nat} {K : jK} {cr : jR} {c sl : Nat} {Qr : jQ} {Qx : jX} (hM : jMW K cr) (n : Nat) (rec6 : Int32 → jI → jJ → Option (Int32 × jI × jJ)) (hrec6 : (∀ (l1 : Int32) (ci : jI) (cj : jJ) {q}, rec6 l1 ci cj = some q → Qr (some (.int q.1)) K q.2.1 q.2.2 cr → Ev g (d + 8) mX6_steady 6 [.ref 1547, .int l1, jU] [] K ci cj cr c sl Qr Qx)) : ∀ (k : Nat) (l1 : Int32) (l2 : Int32) (ci : jI) (cj : jJ) {q}, fX6_steady_30 n rec6 k l1 l2 ci cj = some q → Qr (some (.int q.1)) K q.2.1 q.2.2 cr → Ev g (d + 8) mX6_steady 30 [.ref 1547, .int l1, .int l2] [] K ci cj cr c sl Qr Qx := by
  intro k
  induction k with
  | zero =>
    intro l1 l2 ci cj q h hq
    rw [fX6_steady_30.eq_1] at h; cases h
  | succ k ih =>
    intro l1 l2 ci cj q h hq
    rw [fX6_steady_30.eq_2] at h
    refine ev_iload_n dX6_steady_30 rfl ?_
    refine ev_aload_n dX6_steady_31 rfl ?_
    obtain ⟨q1, z2, h⟩ := Option.bind_eq_some_iff.mp h
    refine ev_zV0 dX6_steady_32 vX6_405_6 (hk1547 hM) (Or.inl (hl1547 hM)) (Nat.le_of_ble_eq_true rfl) (Nat.le_of_ble_eq_true rfl) rfl (metX6_shoalMany hM n  _ _ z2 ?_)
    show Ev g _ _ 35 _ [.int q1.1, .int l2] K q1.2.1 q1.2.2 cr c sl Qr Qx
    refine ev_icmp_ge 60 dX6_steady_35 rfl (fun z3 => ?_) (fun z3 => ?_)
    · rw [if_pos z3] at h
      refine ev_iinc (v := (l1 + (nI 1))) (L' := [_, _, _]) dX6_steady_60 rfl (by rw [ji_1]) (by decide) rfl ?_
      refine ev_goto 6 dX6_steady_63 rfl ?_
      exact ev_mask [true, true, false] (hrec6 _ _ _ h hq)
    · rw [if_neg z3] at h
      refine ev_aload_n dX6_steady_38 rfl ?_
      refine ev_getR dX6_steady_39 fX6_145_6 (hk1547 hM) (Or.inl (hl1547 hM)) rfl (hr63 hM) ?_
      refine ev_iconst (v := (nI 3)) dX6_steady_42 jc3 ?_
      refine ev_iload_n dX6_steady_43 rfl ?_
      refine ev_imul dX6_steady_44 ?_
      refine ev_iload_n dX6_steady_45 rfl ?_
      refine ev_iadd dX6_steady_46 ?_
      refine ev_aload_n dX6_steady_47 rfl ?_
      refine ev_getR dX6_steady_48 fX6_139_6 (hk1547 hM) (Or.inl (hl1547 hM)) rfl (hr61 hM) ?_
      refine ev_iload_n dX6_steady_51 rfl ?_
      by_cases z4 : jok l2 3
      rotate_left
      · rw [if_neg z4] at h; cases h
      rw [if_pos z4] at h
      refine ev_iaload dX6_steady_52 (hk1589 hM) (Or.inl (hl1589 hM)) (jok.ix z4 (hn1589 hM)) ?_
      by_cases z5 : jok (((nI 3) * l1) + l2) 180
      rotate_left
      · rw [if_neg z5] at h; cases h
      rw [if_pos z5] at h
      refine ev_iastore dX6_steady_53 (hk1591 hM) (hl1591 hM) (jok.ix z5 (hn1591 hM)) ?_
      refine ev_iinc (v := (l2 + (nI 1))) (L' := [_, _, _]) dX6_steady_54 rfl (by rw [ji_1]) (by decide) rfl ?_
      refine ev_goto 30 dX6_steady_57 rfl ?_
      exact ih _ _ _ _ h hq
def fX6_steady_6 (n : Nat) : Nat → Int32 → jI → jJ → Option (Int32 × jI × jJ)
  | 0, _, _, _ => none
  | k + 1, l1, ci, cj => if (nI 60) ≤ l1 then fX6_steady_66 n  l1 ci cj else if jok (nI 0) 166 then if (nI 999) ≤ (ci 1585 ((nI 0)).toNatClampNeg) then fX6_steady_66 n  l1 ci cj else Option.bind (fX6_yearGoes n  ci cj) (fun q4 => fX6_steady_30 n (fX6_steady_6 n  k) n l1 (nI 0) q4.1 q4.2) else none
theorem wX6_steady_6 {g : jG} {d : Nat} {K : jK} {cr : jR} {c sl : Nat} {Qr : jQ} {Qx : jX} (hM : jMW K cr) (n : Nat) : ∀ (k : Nat) (l1 : Int32) (ci : jI) (cj : jJ) {q}, fX6_steady_6 n  k l1 ci cj = some q → Qr (some (.int q.1)) K q.2.1 q.2.2 cr → Ev g (d + 8) mX6_steady 6 [.ref 1547, .int l1, jU] [] K ci cj cr c sl Qr Qx := by
  intro k
  induction k with
  | zero =>
    intro l1 ci cj q h hq
    rw [fX6_steady_6.eq_1] at h; cases h
  | succ k ih =>
    intro l1 ci cj q h hq
    rw [fX6_steady_6.eq_2] at h
    refine ev_iload_n dX6_steady_6 rfl ?_
    refine ev_bipush (v := (nI 60)) dX6_steady_7 jb60 ?_
    refine ev_icmp_ge 66 dX6_steady_9 rfl (fun z1 => ?_) (fun z1 => ?_)
    · rw [if_pos z1] at h
      exact wX6_steady_66 hM n   _ _ _ h hq
    · rw [if_neg z1] at h
      refine ev_aload_n dX6_steady_12 rfl ?_
      refine ev_getR dX6_steady_13 fX6_127_6 (hk1547 hM) (Or.inl (hl1547 hM)) rfl (hr50 hM) ?_
      refine ev_iconst (v := (nI 0)) dX6_steady_16 jc0 ?_
      by_cases z2 : jok (nI 0) 166
      rotate_left
      · rw [if_neg z2] at h; cases h
      rw [if_pos z2] at h
      refine ev_iaload dX6_steady_17 (hk1585 hM) (Or.inl (hl1585 hM)) (jok.ix z2 (hn1585 hM)) ?_
      refine ev_sipush (v := (nI 999)) dX6_steady_18 js999 ?_
      refine ev_icmp_ge 66 dX6_steady_21 rfl (fun z3 => ?_) (fun z3 => ?_)
      · rw [if_pos z3] at h
        exact wX6_steady_66 hM n   _ _ _ h hq
      · rw [if_neg z3] at h
        refine ev_aload_n dX6_steady_24 rfl ?_
        obtain ⟨q4, z5, h⟩ := Option.bind_eq_some_iff.mp h
        refine ev_zV0 dX6_steady_25 vX6_497_6 (hk1547 hM) (Or.inl (hl1547 hM)) (Nat.le_of_ble_eq_true rfl) (Nat.le_of_ble_eq_true rfl) rfl (metX6_yearGoes hM n  _ _ z5 ?_)
        show Ev g _ _ 28 _ [] K q4.1 q4.2 cr c sl Qr Qx
        refine ev_iconst (v := (nI 0)) dX6_steady_28 jc0 ?_
        refine ev_istore_n (L' := [_, _, _]) dX6_steady_29 (by decide) rfl ?_
        exact wX6_steady_30 hM n _ (ih) n _ _ _ _ h hq
def fX6_steady (n : Nat) (ci : jI) (cj : jJ) : Option (Int32 × jI × jJ) := Option.bind (fX6_putsAside n  ci cj) (fun q1 => fX6_steady_6 n  n (nI 0) q1.1 q1.2)
theorem metX6_steady {g : jG} {d : Nat} {K : jK} {cr : jR} {c sl : Nat} {Qr : jQ} {Qx : jX} (hM : jMW K cr) (n : Nat) (ci : jI) (cj : jJ) {q} (h : fX6_steady n  ci cj = some q) (hq : Qr (some (.int q.1)) K q.2.1 q.2.2 cr) : EvM g (d + 8) mX6_steady [.ref 1547] K ci cj cr c sl Qr Qx := by
  unfold fX6_steady at h
  show Ev g (d + 8) mX6_steady 0 [.ref 1547, jU, jU] [] K ci cj cr c sl Qr Qx
  refine ev_iconst (v := (nI 0)) dX6_steady_0 jc0 ?_
  refine ev_istore_n (L' := [_, _, _]) dX6_steady_1 (by decide) rfl ?_
  refine ev_aload_n dX6_steady_2 rfl ?_
  obtain ⟨q1, z2, h⟩ := Option.bind_eq_some_iff.mp h
  refine ev_zV0 dX6_steady_3 vX6_534_6 (hk1547 hM) (Or.inl (hl1547 hM)) (Nat.le_of_ble_eq_true rfl) (Nat.le_of_ble_eq_true rfl) rfl (metX6_putsAside hM n  _ _ z2 ?_)
  show Ev g _ _ 6 _ [] K q1.1 q1.2 cr c sl Qr Qx
  exact wX6_steady_6 hM n   n _ _ _ h hq
def fX6_bits_4 (n : Nat) : Nat → Int32 → Int32 → jI → jJ → Option (Int32 × jI × jJ)
  | 0, _, _, _, _ => none
  | k + 1, l1, l2, ci, cj => if l2 = 0 then some (l1, ci, cj) else fX6_bits_4 n  k (l1 + (nI 1)) (l2 &&& (l2 - (nI 1))) ci cj
theorem wX6_bits_4 {g : jG} {d : Nat} {K : jK} {cr : jR} {c sl : Nat} {Qr : jQ} {Qx : jX} (hM : jMW K cr) (n : Nat) : ∀ (k : Nat) (l1 : Int32) (l2 : Int32) (ci : jI) (cj : jJ) {q}, fX6_bits_4 n  k l1 l2 ci cj = some q → Qr (some (.int q.1)) K q.2.1 q.2.2 cr → Ev g (d + 1) mX6_bits 4 [jU, .int l1, .int l2] [] K ci cj cr c sl Qr Qx := by
  intro k
  induction k with
  | zero =>
    intro l1 l2 ci cj q h hq
    rw [fX6_bits_4.eq_1] at h; cases h
  | succ k ih =>
    intro l1 l2 ci cj q h hq
    rw [fX6_bits_4.eq_2] at h
    refine ev_iload_n dX6_bits_4 rfl ?_
    refine ev_if_eq 20 dX6_bits_5 rfl (fun z1 => ?_) (fun z1 => ?_)
    · rw [if_pos z1] at h
      refine ev_iload_n dX6_bits_20 rfl ?_
      cases h
      exact ev_iret dX6_bits_21 rfl rfl hq
    · rw [if_neg z1] at h
      refine ev_iinc (v := (l1 + (nI 1))) (L' := [_, _, _]) dX6_bits_8 rfl (by rw [ji_1]) (by decide) rfl ?_
      refine ev_iload_n dX6_bits_11 rfl ?_
      refine ev_iload_n dX6_bits_12 rfl ?_
      refine ev_iconst (v := (nI 1)) dX6_bits_13 jc1 ?_
      refine ev_isub dX6_bits_14 ?_
      refine ev_iand dX6_bits_15 ?_
      refine ev_istore_n (L' := [_, _, _]) dX6_bits_16 (by decide) rfl ?_
      refine ev_goto 4 dX6_bits_17 rfl ?_
      exact ih _ _ _ _ h hq
def fX6_bits (n : Nat) (a0 : Int32) (ci : jI) (cj : jJ) : Option (Int32 × jI × jJ) := fX6_bits_4 n  n (nI 0) a0 ci cj
theorem metX6_bits {g : jG} {d : Nat} {K : jK} {cr : jR} {c sl : Nat} {Qr : jQ} {Qx : jX} (hM : jMW K cr) (n : Nat) (a0 : Int32) (ci : jI) (cj : jJ) {q} (h : fX6_bits n a0 ci cj = some q) (hq : Qr (some (.int q.1)) K q.2.1 q.2.2 cr) : EvM g (d + 1) mX6_bits [.int a0] K ci cj cr c sl Qr Qx := by
  unfold fX6_bits at h
  show Ev g (d + 1) mX6_bits 0 [.int a0, jU, jU] [] K ci cj cr c sl Qr Qx
  refine ev_iconst (v := (nI 0)) dX6_bits_0 jc0 ?_
  refine ev_istore_n (L' := [_, _, _]) dX6_bits_1 (by decide) rfl ?_
  refine ev_iload_n dX6_bits_2 rfl ?_
  refine ev_istore_n (L' := [_, _, _]) dX6_bits_3 (by decide) rfl ?_
  exact ev_mask [false, true, true] (wX6_bits_4 hM n   n _ _ _ _ h hq)
def fX6_doesCome_3 (n : Nat) : Nat → Int32 → Int32 → Int32 → Int32 → jI → jJ → Option (Int32 × jI × jJ)
  | 0, _, _, _, _, _, _ => none
  | k + 1, l1, l2, l3, l4, ci, cj => if l3 ≤ l4 then some ((nI 0), ci, cj) else Option.bind (fX6_yearGoes n  ci cj) (fun q2 => if jok l2 3 then if (q2.1 1589 (l2).toNatClampNeg) = l1 then some ((nI 1), q2.1, q2.2) else fX6_doesCome_3 n  k l1 l2 l3 (l4 + (nI 1)) q2.1 q2.2 else none)
theorem wX6_doesCome_3 {g : jG} {d : Nat} {K : jK} {cr : jR} {c sl : Nat} {Qr : jQ} {Qx : jX} (hM : jMW K cr) (n : Nat) : ∀ (k : Nat) (l1 : Int32) (l2 : Int32) (l3 : Int32) (l4 : Int32) (ci : jI) (cj : jJ) {q}, fX6_doesCome_3 n  k l1 l2 l3 l4 ci cj = some q → Qr (some (.int q.1)) K q.2.1 q.2.2 cr → Ev g (d + 8) mX6_doesCome 3 [.ref 1547, .int l1, .int l2, .int l3, .int l4] [] K ci cj cr c sl Qr Qx := by
  intro k
  induction k with
  | zero =>
    intro l1 l2 l3 l4 ci cj q h hq
    rw [fX6_doesCome_3.eq_1] at h; cases h
  | succ k ih =>
    intro l1 l2 l3 l4 ci cj q h hq
    rw [fX6_doesCome_3.eq_2] at h
    refine ev_iload dX6_doesCome_3 rfl ?_
    refine ev_iload_n dX6_doesCome_5 rfl ?_
    refine ev_icmp_ge 31 dX6_doesCome_6 rfl (fun z1 => ?_) (fun z1 => ?_)
    · rw [if_pos z1] at h
      refine ev_iconst (v := (nI 0)) dX6_doesCome_31 jc0 ?_
      cases h
      exact ev_iret dX6_doesCome_32 rfl (by decide) hq
    · rw [if_neg z1] at h
      refine ev_aload_n dX6_doesCome_9 rfl ?_
      obtain ⟨q2, z3, h⟩ := Option.bind_eq_some_iff.mp h
      refine ev_zV0 dX6_doesCome_10 vX6_497_6 (hk1547 hM) (Or.inl (hl1547 hM)) (Nat.le_of_ble_eq_true rfl) (Nat.le_of_ble_eq_true rfl) rfl (metX6_yearGoes hM n  _ _ z3 ?_)
      show Ev g _ _ 13 _ [] K q2.1 q2.2 cr c sl Qr Qx
      refine ev_aload_n dX6_doesCome_13 rfl ?_
      refine ev_getR dX6_doesCome_14 fX6_139_6 (hk1547 hM) (Or.inl (hl1547 hM)) rfl (hr61 hM) ?_
      refine ev_iload_n dX6_doesCome_17 rfl ?_
      by_cases z4 : jok l2 3
      rotate_left
      · rw [if_neg z4] at h; cases h
      rw [if_pos z4] at h
      refine ev_iaload dX6_doesCome_18 (hk1589 hM) (Or.inl (hl1589 hM)) (jok.ix z4 (hn1589 hM)) ?_
      refine ev_iload_n dX6_doesCome_19 rfl ?_
      refine ev_icmp_ne 25 dX6_doesCome_20 rfl (fun z5 => ?_) (fun z5 => ?_)
      · rw [if_neg z5] at h
        refine ev_iinc (v := (l4 + (nI 1))) (L' := [_, _, _, _, _]) dX6_doesCome_25 rfl (by rw [ji_1]) (by decide) rfl ?_
        refine ev_goto 3 dX6_doesCome_28 rfl ?_
        exact ih _ _ _ _ _ _ h hq
      · rw [if_pos z5] at h
        refine ev_iconst (v := (nI 1)) dX6_doesCome_23 jc1 ?_
        cases h
        exact ev_iret dX6_doesCome_24 rfl (by decide) hq
def fX6_doesCome (n : Nat) (a0 : Int32) (a1 : Int32) (a2 : Int32) (ci : jI) (cj : jJ) : Option (Int32 × jI × jJ) := fX6_doesCome_3 n  n a0 a1 a2 (nI 0) ci cj
theorem metX6_doesCome {g : jG} {d : Nat} {K : jK} {cr : jR} {c sl : Nat} {Qr : jQ} {Qx : jX} (hM : jMW K cr) (n : Nat) (a0 : Int32) (a1 : Int32) (a2 : Int32) (ci : jI) (cj : jJ) {q} (h : fX6_doesCome n a0 a1 a2 ci cj = some q) (hq : Qr (some (.int q.1)) K q.2.1 q.2.2 cr) : EvM g (d + 8) mX6_doesCome [.ref 1547, .int a0, .int a1, .int a2] K ci cj cr c sl Qr Qx := by
  unfold fX6_doesCome at h
  show Ev g (d + 8) mX6_doesCome 0 [.ref 1547, .int a0, .int a1, .int a2, jU] [] K ci cj cr c sl Qr Qx
  refine ev_iconst (v := (nI 0)) dX6_doesCome_0 jc0 ?_
  refine ev_istore (L' := [_, _, _, _, _]) dX6_doesCome_1 (by decide) rfl ?_
  exact wX6_doesCome_3 hM n   n _ _ _ _ _ _ h hq
def fX6_pairsIn_27 (n : Nat) (rec4 : Int32 → Int32 → Int32 → jI → jJ → Option (Int32 × jI × jJ)) (l1 : Int32) (l2 : Int32) (l3 : Int32) (ci : jI) (cj : jJ) : Option (Int32 × jI × jJ) := rec4 l1 l2 (l3 + (nI 1)) ci cj
theorem wX6_pairsIn_27 {g : jG} {d : Nat} {K : jK} {cr : jR} {c sl : Nat} {Qr : jQ} {Qx : jX} (hM : jMW K cr) (n : Nat) (rec4 : Int32 → Int32 → Int32 → jI → jJ → Option (Int32 × jI × jJ)) (hrec4 : (∀ (l1 : Int32) (l2 : Int32) (l3 : Int32) (ci : jI) (cj : jJ) {q}, rec4 l1 l2 l3 ci cj = some q → Qr (some (.int q.1)) K q.2.1 q.2.2 cr → Ev g (d + 2) mX6_pairsIn 4 [.ref 1547, .int l1, .int l2, .int l3] [] K ci cj cr c sl Qr Qx)) (l1 : Int32) (l2 : Int32) (l3 : Int32) (ci : jI) (cj : jJ) {q} (h : fX6_pairsIn_27 n rec4 l1 l2 l3 ci cj = some q) (hq : Qr (some (.int q.1)) K q.2.1 q.2.2 cr) : Ev g (d + 2) mX6_pairsIn 27 [.ref 1547, .int l1, .int l2, .int l3] [] K ci cj cr c sl Qr Qx := by
  unfold fX6_pairsIn_27 at h
  refine ev_iinc (v := (l3 + (nI 1))) (L' := [_, _, _, _]) dX6_pairsIn_27 rfl (by rw [ji_1]) (by decide) rfl ?_
  refine ev_goto 4 dX6_pairsIn_30 rfl ?_
  exact hrec4 _ _ _ _ _ h hq
def fX6_pairsIn_4 (n : Nat) : Nat → Int32 → Int32 → Int32 → jI → jJ → Option (Int32 × jI × jJ)
  | 0, _, _, _, _, _ => none
  | k + 1, l1, l2, l3, ci, cj => Option.bind (fX6_pairMany n  ci cj) (fun q1 => if q1.1 ≤ l3 then some (l2, q1.2.1, q1.2.2) else Option.bind (fX6_bayOf n l3 q1.2.1 q1.2.2) (fun q4 => if q4.1 = l1 then fX6_pairsIn_27 n (fX6_pairsIn_4 n  k) l1 (l2 ||| ((nI 1) <<< (l3 &&& 31))) l3 q4.2.1 q4.2.2 else fX6_pairsIn_27 n (fX6_pairsIn_4 n  k) l1 l2 l3 q4.2.1 q4.2.2))
theorem wX6_pairsIn_4 {g : jG} {d : Nat} {K : jK} {cr : jR} {c sl : Nat} {Qr : jQ} {Qx : jX} (hM : jMW K cr) (n : Nat) : ∀ (k : Nat) (l1 : Int32) (l2 : Int32) (l3 : Int32) (ci : jI) (cj : jJ) {q}, fX6_pairsIn_4 n  k l1 l2 l3 ci cj = some q → Qr (some (.int q.1)) K q.2.1 q.2.2 cr → Ev g (d + 2) mX6_pairsIn 4 [.ref 1547, .int l1, .int l2, .int l3] [] K ci cj cr c sl Qr Qx := by
  intro k
  induction k with
  | zero =>
    intro l1 l2 l3 ci cj q h hq
    rw [fX6_pairsIn_4.eq_1] at h; cases h
  | succ k ih =>
    intro l1 l2 l3 ci cj q h hq
    rw [fX6_pairsIn_4.eq_2] at h
    refine ev_iload_n dX6_pairsIn_4 rfl ?_
    refine ev_aload_n dX6_pairsIn_5 rfl ?_
    obtain ⟨q1, z2, h⟩ := Option.bind_eq_some_iff.mp h
    refine ev_zV0 dX6_pairsIn_6 vX6_402_6 (hk1547 hM) (Or.inl (hl1547 hM)) (Nat.le_of_ble_eq_true rfl) (Nat.le_of_ble_eq_true rfl) rfl (metX6_pairMany hM n  _ _ z2 ?_)
    show Ev g _ _ 9 _ [.int q1.1, .int l3] K q1.2.1 q1.2.2 cr c sl Qr Qx
    refine ev_icmp_ge 33 dX6_pairsIn_9 rfl (fun z3 => ?_) (fun z3 => ?_)
    · rw [if_pos z3] at h
      refine ev_iload_n dX6_pairsIn_33 rfl ?_
      cases h
      exact ev_iret dX6_pairsIn_34 rfl rfl hq
    · rw [if_neg z3] at h
      refine ev_aload_n dX6_pairsIn_12 rfl ?_
      refine ev_iload_n dX6_pairsIn_13 rfl ?_
      obtain ⟨q4, z5, h⟩ := Option.bind_eq_some_iff.mp h
      refine ev_zV1 dX6_pairsIn_14 vX6_432_6 (hk1547 hM) (Or.inl (hl1547 hM)) (Nat.le_of_ble_eq_true rfl) (Nat.le_of_ble_eq_true rfl) rfl (metX6_bayOf hM n _ _ _ z5 ?_)
      show Ev g _ _ 17 _ [.int q4.1] K q4.2.1 q4.2.2 cr c sl Qr Qx
      refine ev_iload_n dX6_pairsIn_17 rfl ?_
      refine ev_icmp_ne 27 dX6_pairsIn_18 rfl (fun z6 => ?_) (fun z6 => ?_)
      · rw [if_neg z6] at h
        exact wX6_pairsIn_27 hM n _ (ih) _ _ _ _ _ h hq
      · rw [if_pos z6] at h
        refine ev_iload_n dX6_pairsIn_21 rfl ?_
        refine ev_iconst (v := (nI 1)) dX6_pairsIn_22 jc1 ?_
        refine ev_iload_n dX6_pairsIn_23 rfl ?_
        refine ev_ishl dX6_pairsIn_24 ?_
        refine ev_ior dX6_pairsIn_25 ?_
        refine ev_istore_n (L' := [_, _, _, _]) dX6_pairsIn_26 (by decide) rfl ?_
        exact wX6_pairsIn_27 hM n _ (ih) _ _ _ _ _ h hq
def fX6_pairsIn (n : Nat) (a0 : Int32) (ci : jI) (cj : jJ) : Option (Int32 × jI × jJ) := fX6_pairsIn_4 n  n a0 (nI 0) (nI 0) ci cj
theorem metX6_pairsIn {g : jG} {d : Nat} {K : jK} {cr : jR} {c sl : Nat} {Qr : jQ} {Qx : jX} (hM : jMW K cr) (n : Nat) (a0 : Int32) (ci : jI) (cj : jJ) {q} (h : fX6_pairsIn n a0 ci cj = some q) (hq : Qr (some (.int q.1)) K q.2.1 q.2.2 cr) : EvM g (d + 2) mX6_pairsIn [.ref 1547, .int a0] K ci cj cr c sl Qr Qx := by
  unfold fX6_pairsIn at h
  show Ev g (d + 2) mX6_pairsIn 0 [.ref 1547, .int a0, jU, jU] [] K ci cj cr c sl Qr Qx
  refine ev_iconst (v := (nI 0)) dX6_pairsIn_0 jc0 ?_
  refine ev_istore_n (L' := [_, _, _, _]) dX6_pairsIn_1 (by decide) rfl ?_
  refine ev_iconst (v := (nI 0)) dX6_pairsIn_2 jc0 ?_
  refine ev_istore_n (L' := [_, _, _, _]) dX6_pairsIn_3 (by decide) rfl ?_
  exact wX6_pairsIn_4 hM n   n _ _ _ _ _ h hq
def fX6_reconcile_28 (n : Nat) (ci : jI) (cj : jJ) : Option (Int32 × jI × jJ) := some ((-1), ci, cj)
theorem wX6_reconcile_28 {g : jG} {d : Nat} {K : jK} {cr : jR} {c sl : Nat} {Qr : jQ} {Qx : jX} (hM : jMW K cr) (n : Nat) (ci : jI) (cj : jJ) {q} (h : fX6_reconcile_28 n   ci cj = some q) (hq : Qr (some (.int q.1)) K q.2.1 q.2.2 cr) : Ev g (d + 9) mX6_reconcile 28 [jU, jU, jU, jU, jU, jU, jU, jU] [] K ci cj cr c sl Qr Qx := by
  unfold fX6_reconcile_28 at h
  refine ev_iconst (v := (-1)) dX6_reconcile_28 jcm1 ?_
  cases h
  exact ev_iret dX6_reconcile_29 rfl rfl hq
def fX6_reconcile_164 (n : Nat) (rec47 : Int32 → Int32 → Int32 → Int32 → Int32 → Int32 → jI → jJ → Option (Int32 × jI × jJ)) (l1 : Int32) (l2 : Int32) (l3 : Int32) (l4 : Int32) (l5 : Int32) (l6 : Int32) (ci : jI) (cj : jJ) : Option (Int32 × jI × jJ) := rec47 l1 l2 l3 l4 l5 (l6 + (nI 1)) ci cj
theorem wX6_reconcile_164 {g : jG} {d : Nat} {K : jK} {cr : jR} {c sl : Nat} {Qr : jQ} {Qx : jX} (hM : jMW K cr) (n : Nat) (rec47 : Int32 → Int32 → Int32 → Int32 → Int32 → Int32 → jI → jJ → Option (Int32 × jI × jJ)) (hrec47 : (∀ (l1 : Int32) (l2 : Int32) (l3 : Int32) (l4 : Int32) (l5 : Int32) (l6 : Int32) (ci : jI) (cj : jJ) {q}, rec47 l1 l2 l3 l4 l5 l6 ci cj = some q → Qr (some (.int q.1)) K q.2.1 q.2.2 cr → Ev g (d + 9) mX6_reconcile 47 [.ref 1547, .int l1, .int l2, .int l3, .int l4, .int l5, .int l6, jU] [] K ci cj cr c sl Qr Qx)) (l1 : Int32) (l2 : Int32) (l3 : Int32) (l4 : Int32) (l5 : Int32) (l6 : Int32) (ci : jI) (cj : jJ) {q} (h : fX6_reconcile_164 n rec47 l1 l2 l3 l4 l5 l6 ci cj = some q) (hq : Qr (some (.int q.1)) K q.2.1 q.2.2 cr) : Ev g (d + 9) mX6_reconcile 164 [.ref 1547, .int l1, .int l2, .int l3, .int l4, .int l5, .int l6, jU] [] K ci cj cr c sl Qr Qx := by
  unfold fX6_reconcile_164 at h
  refine ev_iinc (v := (l6 + (nI 1))) (L' := [_, _, _, _, _, _, _, _]) dX6_reconcile_164 rfl (by rw [ji_1]) (by decide) rfl ?_
  refine ev_goto 47 dX6_reconcile_167 rfl ?_
  exact hrec47 _ _ _ _ _ _ _ _ h hq
def fX6_reconcile_160 (n : Nat) (rec47 : Int32 → Int32 → Int32 → Int32 → Int32 → Int32 → jI → jJ → Option (Int32 × jI × jJ)) (l1 : Int32) (l2 : Int32) (l3 : Int32) (l4 : Int32) (l5 : Int32) (l6 : Int32) (ci : jI) (cj : jJ) : Option (Int32 × jI × jJ) := Option.bind (fX6_triesAnew n  ci cj) (fun q1 => fX6_reconcile_164 n rec47 l1 l2 l3 l4 l5 l6 q1.1 q1.2)
theorem wX6_reconcile_160 {g : jG} {d : Nat} {K : jK} {cr : jR} {c sl : Nat} {Qr : jQ} {Qx : jX} (hM : jMW K cr) (n : Nat) (rec47 : Int32 → Int32 → Int32 → Int32 → Int32 → Int32 → jI → jJ → Option (Int32 × jI × jJ)) (hrec47 : (∀ (l1 : Int32) (l2 : Int32) (l3 : Int32) (l4 : Int32) (l5 : Int32) (l6 : Int32) (ci : jI) (cj : jJ) {q}, rec47 l1 l2 l3 l4 l5 l6 ci cj = some q → Qr (some (.int q.1)) K q.2.1 q.2.2 cr → Ev g (d + 9) mX6_reconcile 47 [.ref 1547, .int l1, .int l2, .int l3, .int l4, .int l5, .int l6, jU] [] K ci cj cr c sl Qr Qx)) (l1 : Int32) (l2 : Int32) (l3 : Int32) (l4 : Int32) (l5 : Int32) (l6 : Int32) (ci : jI) (cj : jJ) {q} (h : fX6_reconcile_160 n rec47 l1 l2 l3 l4 l5 l6 ci cj = some q) (hq : Qr (some (.int q.1)) K q.2.1 q.2.2 cr) : Ev g (d + 9) mX6_reconcile 160 [.ref 1547, .int l1, .int l2, .int l3, .int l4, .int l5, .int l6, jU] [] K ci cj cr c sl Qr Qx := by
  unfold fX6_reconcile_160 at h
  refine ev_aload_n dX6_reconcile_160 rfl ?_
  obtain ⟨q1, z2, h⟩ := Option.bind_eq_some_iff.mp h
  refine ev_zV0 dX6_reconcile_161 vX6_500_6 (hk1547 hM) (Or.inl (hl1547 hM)) (Nat.le_of_ble_eq_true rfl) (Nat.le_of_ble_eq_true rfl) rfl (metX6_triesAnew hM n  _ _ z2 ?_)
  show Ev g _ _ 164 _ [] K q1.1 q1.2 cr c sl Qr Qx
  exact wX6_reconcile_164 hM n _ (hrec47) _ _ _ _ _ _ _ _ h hq
def fX6_reconcile_140 (n : Nat) (rec47 : Int32 → Int32 → Int32 → Int32 → Int32 → Int32 → jI → jJ → Option (Int32 × jI × jJ)) (rec93 : Int32 → Int32 → Int32 → Int32 → Int32 → Int32 → Int32 → jI → jJ → Option (Int32 × jI × jJ)) (l1 : Int32) (l2 : Int32) (l3 : Int32) (l4 : Int32) (l5 : Int32) (l6 : Int32) (l7 : Int32) (ci : jI) (cj : jJ) : Option (Int32 × jI × jJ) := rec93 l1 l2 l3 l4 l5 l6 (l7 + (nI 1)) ci cj
theorem wX6_reconcile_140 {g : jG} {d : Nat} {K : jK} {cr : jR} {c sl : Nat} {Qr : jQ} {Qx : jX} (hM : jMW K cr) (n : Nat) (rec47 : Int32 → Int32 → Int32 → Int32 → Int32 → Int32 → jI → jJ → Option (Int32 × jI × jJ)) (rec93 : Int32 → Int32 → Int32 → Int32 → Int32 → Int32 → Int32 → jI → jJ → Option (Int32 × jI × jJ)) (hrec47 : (∀ (l1 : Int32) (l2 : Int32) (l3 : Int32) (l4 : Int32) (l5 : Int32) (l6 : Int32) (ci : jI) (cj : jJ) {q}, rec47 l1 l2 l3 l4 l5 l6 ci cj = some q → Qr (some (.int q.1)) K q.2.1 q.2.2 cr → Ev g (d + 9) mX6_reconcile 47 [.ref 1547, .int l1, .int l2, .int l3, .int l4, .int l5, .int l6, jU] [] K ci cj cr c sl Qr Qx)) (hrec93 : (∀ (l1 : Int32) (l2 : Int32) (l3 : Int32) (l4 : Int32) (l5 : Int32) (l6 : Int32) (l7 : Int32) (ci : jI) (cj : jJ) {q}, rec93 l1 l2 l3 l4 l5 l6 l7 ci cj = some q → Qr (some (.int q.1)) K q.2.1 q.2.2 cr → Ev g (d + 9) mX6_reconcile 93 [.ref 1547, .int l1, .int l2, .int l3, .int l4, .int l5, .int l6, .int l7] [] K ci cj cr c sl Qr Qx)) (l1 : Int32) (l2 : Int32) (l3 : Int32) (l4 : Int32) (l5 : Int32) (l6 : Int32) (l7 : Int32) (ci : jI) (cj : jJ) {q} (h : fX6_reconcile_140 n rec47 rec93 l1 l2 l3 l4 l5 l6 l7 ci cj = some q) (hq : Qr (some (.int q.1)) K q.2.1 q.2.2 cr) : Ev g (d + 9) mX6_reconcile 140 [.ref 1547, .int l1, .int l2, .int l3, .int l4, .int l5, .int l6, .int l7] [] K ci cj cr c sl Qr Qx := by
  unfold fX6_reconcile_140 at h
  refine ev_iinc (v := (l7 + (nI 1))) (L' := [_, _, _, _, _, _, _, _]) dX6_reconcile_140 rfl (by rw [ji_1]) (by decide) rfl ?_
  refine ev_goto 93 dX6_reconcile_143 rfl ?_
  exact hrec93 _ _ _ _ _ _ _ _ _ h hq
def fX6_reconcile_93 (n : Nat) (rec47 : Int32 → Int32 → Int32 → Int32 → Int32 → Int32 → jI → jJ → Option (Int32 × jI × jJ)) : Nat → Int32 → Int32 → Int32 → Int32 → Int32 → Int32 → Int32 → jI → jJ → Option (Int32 × jI × jJ)
  | 0, _, _, _, _, _, _, _, _, _ => none
  | k + 1, l1, l2, l3, l4, l5, l6, l7, ci, cj => Option.bind (fX6_pairMany n  ci cj) (fun q1 => if q1.1 ≤ l7 then Option.bind (fX6_doesCome n l1 l2 l3 q1.2.1 q1.2.2) (fun q4 => if q4.1 = 0 then fX6_reconcile_160 n rec47 l1 l2 l3 l4 l5 l6 q4.2.1 q4.2.2 else fX6_reconcile_160 n rec47 l1 l2 l3 l6 l5 l6 q4.2.1 q4.2.2) else if ((l6 >>> (l7 &&& 31)) &&& (nI 1)) = (nI 1) then if jok ((nI 25) + ((nI 2) * l7)) 166 then if jok ((nI 26) + ((nI 2) * l7)) 166 then fX6_reconcile_140 n rec47 (fX6_reconcile_93 n rec47 k) l1 l2 l3 l4 l5 l6 l7 (ju (ju q1.2.1 1585 (((nI 25) + ((nI 2) * l7))).toNatClampNeg (nI 9)) 1585 (((nI 26) + ((nI 2) * l7))).toNatClampNeg (nI 0)) q1.2.2 else none else none else fX6_reconcile_140 n rec47 (fX6_reconcile_93 n rec47 k) l1 l2 l3 l4 l5 l6 l7 q1.2.1 q1.2.2)
theorem wX6_reconcile_93 {g : jG} {d : Nat} {K : jK} {cr : jR} {c sl : Nat} {Qr : jQ} {Qx : jX} (hM : jMW K cr) (n : Nat) (rec47 : Int32 → Int32 → Int32 → Int32 → Int32 → Int32 → jI → jJ → Option (Int32 × jI × jJ)) (hrec47 : (∀ (l1 : Int32) (l2 : Int32) (l3 : Int32) (l4 : Int32) (l5 : Int32) (l6 : Int32) (ci : jI) (cj : jJ) {q}, rec47 l1 l2 l3 l4 l5 l6 ci cj = some q → Qr (some (.int q.1)) K q.2.1 q.2.2 cr → Ev g (d + 9) mX6_reconcile 47 [.ref 1547, .int l1, .int l2, .int l3, .int l4, .int l5, .int l6, jU] [] K ci cj cr c sl Qr Qx)) : ∀ (k : Nat) (l1 : Int32) (l2 : Int32) (l3 : Int32) (l4 : Int32) (l5 : Int32) (l6 : Int32) (l7 : Int32) (ci : jI) (cj : jJ) {q}, fX6_reconcile_93 n rec47 k l1 l2 l3 l4 l5 l6 l7 ci cj = some q → Qr (some (.int q.1)) K q.2.1 q.2.2 cr → Ev g (d + 9) mX6_reconcile 93 [.ref 1547, .int l1, .int l2, .int l3, .int l4, .int l5, .int l6, .int l7] [] K ci cj cr c sl Qr Qx := by
  intro k
  induction k with
  | zero =>
    intro l1 l2 l3 l4 l5 l6 l7 ci cj q h hq
    rw [fX6_reconcile_93.eq_1] at h; cases h
  | succ k ih =>
    intro l1 l2 l3 l4 l5 l6 l7 ci cj q h hq
    rw [fX6_reconcile_93.eq_2] at h
    refine ev_iload dX6_reconcile_93 rfl ?_
    refine ev_aload_n dX6_reconcile_95 rfl ?_
    obtain ⟨q1, z2, h⟩ := Option.bind_eq_some_iff.mp h
    refine ev_zV0 dX6_reconcile_96 vX6_402_6 (hk1547 hM) (Or.inl (hl1547 hM)) (Nat.le_of_ble_eq_true rfl) (Nat.le_of_ble_eq_true rfl) rfl (metX6_pairMany hM n  _ _ z2 ?_)
    show Ev g _ _ 99 _ [.int q1.1, .int l7] K q1.2.1 q1.2.2 cr c sl Qr Qx
    refine ev_icmp_ge 146 dX6_reconcile_99 rfl (fun z3 => ?_) (fun z3 => ?_)
    · rw [if_pos z3] at h
      refine ev_aload_n dX6_reconcile_146 rfl ?_
      refine ev_iload_n dX6_reconcile_147 rfl ?_
      refine ev_iload_n dX6_reconcile_148 rfl ?_
      refine ev_iload_n dX6_reconcile_149 rfl ?_
      obtain ⟨q4, z5, h⟩ := Option.bind_eq_some_iff.mp h
      refine ev_zV3 dX6_reconcile_150 vX6_552_6 (hk1547 hM) (Or.inl (hl1547 hM)) (Nat.le_of_ble_eq_true rfl) (Nat.le_of_ble_eq_true rfl) rfl (metX6_doesCome hM n _ _ _ _ _ z5 ?_)
      show Ev g _ _ 153 _ [.int q4.1] K q4.2.1 q4.2.2 cr c sl Qr Qx
      refine ev_if_eq 160 dX6_reconcile_153 rfl (fun z6 => ?_) (fun z6 => ?_)
      · rw [if_pos z6] at h
        exact ev_mask [true, true, true, true, true, true, true, false] (wX6_reconcile_160 hM n _ (hrec47) _ _ _ _ _ _ _ _ h hq)
      · rw [if_neg z6] at h
        refine ev_iload dX6_reconcile_156 rfl ?_
        refine ev_istore (L' := [_, _, _, _, _, _, _, _]) dX6_reconcile_158 (by decide) rfl ?_
        exact ev_mask [true, true, true, true, true, true, true, false] (wX6_reconcile_160 hM n _ (hrec47) _ _ _ _ _ _ _ _ h hq)
    · rw [if_neg z3] at h
      refine ev_iload dX6_reconcile_102 rfl ?_
      refine ev_iload dX6_reconcile_104 rfl ?_
      refine ev_ishr dX6_reconcile_106 ?_
      refine ev_iconst (v := (nI 1)) dX6_reconcile_107 jc1 ?_
      refine ev_iand dX6_reconcile_108 ?_
      refine ev_iconst (v := (nI 1)) dX6_reconcile_109 jc1 ?_
      refine ev_icmp_ne 140 dX6_reconcile_110 rfl (fun z7 => ?_) (fun z7 => ?_)
      · rw [if_neg z7] at h
        exact wX6_reconcile_140 hM n _ _ (hrec47) (ih) _ _ _ _ _ _ _ _ _ h hq
      · rw [if_pos z7] at h
        refine ev_aload_n dX6_reconcile_113 rfl ?_
        refine ev_getR dX6_reconcile_114 fX6_127_6 (hk1547 hM) (Or.inl (hl1547 hM)) rfl (hr50 hM) ?_
        refine ev_bipush (v := (nI 25)) dX6_reconcile_117 jb25 ?_
        refine ev_iconst (v := (nI 2)) dX6_reconcile_119 jc2 ?_
        refine ev_iload dX6_reconcile_120 rfl ?_
        refine ev_imul dX6_reconcile_122 ?_
        refine ev_iadd dX6_reconcile_123 ?_
        refine ev_bipush (v := (nI 9)) dX6_reconcile_124 jb9 ?_
        by_cases z8 : jok ((nI 25) + ((nI 2) * l7)) 166
        rotate_left
        · rw [if_neg z8] at h; cases h
        rw [if_pos z8] at h
        refine ev_iastore dX6_reconcile_126 (hk1585 hM) (hl1585 hM) (jok.ix z8 (hn1585 hM)) ?_
        refine ev_aload_n dX6_reconcile_127 rfl ?_
        refine ev_getR dX6_reconcile_128 fX6_127_6 (hk1547 hM) (Or.inl (hl1547 hM)) rfl (hr50 hM) ?_
        refine ev_bipush (v := (nI 26)) dX6_reconcile_131 jb26 ?_
        refine ev_iconst (v := (nI 2)) dX6_reconcile_133 jc2 ?_
        refine ev_iload dX6_reconcile_134 rfl ?_
        refine ev_imul dX6_reconcile_136 ?_
        refine ev_iadd dX6_reconcile_137 ?_
        refine ev_iconst (v := (nI 0)) dX6_reconcile_138 jc0 ?_
        by_cases z9 : jok ((nI 26) + ((nI 2) * l7)) 166
        rotate_left
        · rw [if_neg z9] at h; cases h
        rw [if_pos z9] at h
        refine ev_iastore dX6_reconcile_139 (hk1585 hM) (hl1585 hM) (jok.ix z9 (hn1585 hM)) ?_
        exact wX6_reconcile_140 hM n _ _ (hrec47) (ih) _ _ _ _ _ _ _ _ _ h hq
def fX6_reconcile_90 (n : Nat) (rec47 : Int32 → Int32 → Int32 → Int32 → Int32 → Int32 → jI → jJ → Option (Int32 × jI × jJ)) (l1 : Int32) (l2 : Int32) (l3 : Int32) (l4 : Int32) (l5 : Int32) (l6 : Int32) (ci : jI) (cj : jJ) : Option (Int32 × jI × jJ) := fX6_reconcile_93 n rec47 n l1 l2 l3 l4 l5 l6 (nI 0) ci cj
theorem wX6_reconcile_90 {g : jG} {d : Nat} {K : jK} {cr : jR} {c sl : Nat} {Qr : jQ} {Qx : jX} (hM : jMW K cr) (n : Nat) (rec47 : Int32 → Int32 → Int32 → Int32 → Int32 → Int32 → jI → jJ → Option (Int32 × jI × jJ)) (hrec47 : (∀ (l1 : Int32) (l2 : Int32) (l3 : Int32) (l4 : Int32) (l5 : Int32) (l6 : Int32) (ci : jI) (cj : jJ) {q}, rec47 l1 l2 l3 l4 l5 l6 ci cj = some q → Qr (some (.int q.1)) K q.2.1 q.2.2 cr → Ev g (d + 9) mX6_reconcile 47 [.ref 1547, .int l1, .int l2, .int l3, .int l4, .int l5, .int l6, jU] [] K ci cj cr c sl Qr Qx)) (l1 : Int32) (l2 : Int32) (l3 : Int32) (l4 : Int32) (l5 : Int32) (l6 : Int32) (ci : jI) (cj : jJ) {q} (h : fX6_reconcile_90 n rec47 l1 l2 l3 l4 l5 l6 ci cj = some q) (hq : Qr (some (.int q.1)) K q.2.1 q.2.2 cr) : Ev g (d + 9) mX6_reconcile 90 [.ref 1547, .int l1, .int l2, .int l3, .int l4, .int l5, .int l6, jU] [] K ci cj cr c sl Qr Qx := by
  unfold fX6_reconcile_90 at h
  refine ev_iconst (v := (nI 0)) dX6_reconcile_90 jc0 ?_
  refine ev_istore (L' := [_, _, _, _, _, _, _, _]) dX6_reconcile_91 (by decide) rfl ?_
  exact wX6_reconcile_93 hM n _ (hrec47) n _ _ _ _ _ _ _ _ _ h hq
def fX6_reconcile_47 (n : Nat) : Nat → Int32 → Int32 → Int32 → Int32 → Int32 → Int32 → jI → jJ → Option (Int32 × jI × jJ)
  | 0, _, _, _, _, _, _, _, _ => none
  | k + 1, l1, l2, l3, l4, l5, l6, ci, cj => Option.bind (fX6_pairMany n  ci cj) (fun q1 => if ((nI 1) <<< (q1.1 &&& 31)) ≤ l6 then Option.bind (fX6_takesBack n  q1.2.1 q1.2.2) (fun q4 => some (l4, q4.1, q4.2)) else if (l6 &&& (l5 ^^^ (-1))) = 0 then if l4 = (-1) then fX6_reconcile_90 n (fX6_reconcile_47 n  k) l1 l2 l3 l4 l5 l6 q1.2.1 q1.2.2 else Option.bind (fX6_bits n l6 q1.2.1 q1.2.2) (fun q8 => Option.bind (fX6_bits n l4 q8.2.1 q8.2.2) (fun q10 => if q8.1 < q10.1 then fX6_reconcile_90 n (fX6_reconcile_47 n  k) l1 l2 l3 l4 l5 l6 q10.2.1 q10.2.2 else fX6_reconcile_164 n (fX6_reconcile_47 n  k) l1 l2 l3 l4 l5 l6 q10.2.1 q10.2.2)) else fX6_reconcile_164 n (fX6_reconcile_47 n  k) l1 l2 l3 l4 l5 l6 q1.2.1 q1.2.2)
theorem wX6_reconcile_47 {g : jG} {d : Nat} {K : jK} {cr : jR} {c sl : Nat} {Qr : jQ} {Qx : jX} (hM : jMW K cr) (n : Nat) : ∀ (k : Nat) (l1 : Int32) (l2 : Int32) (l3 : Int32) (l4 : Int32) (l5 : Int32) (l6 : Int32) (ci : jI) (cj : jJ) {q}, fX6_reconcile_47 n  k l1 l2 l3 l4 l5 l6 ci cj = some q → Qr (some (.int q.1)) K q.2.1 q.2.2 cr → Ev g (d + 9) mX6_reconcile 47 [.ref 1547, .int l1, .int l2, .int l3, .int l4, .int l5, .int l6, jU] [] K ci cj cr c sl Qr Qx := by
  intro k
  induction k with
  | zero =>
    intro l1 l2 l3 l4 l5 l6 ci cj q h hq
    rw [fX6_reconcile_47.eq_1] at h; cases h
  | succ k ih =>
    intro l1 l2 l3 l4 l5 l6 ci cj q h hq
    rw [fX6_reconcile_47.eq_2] at h
    refine ev_iload dX6_reconcile_47 rfl ?_
    refine ev_iconst (v := (nI 1)) dX6_reconcile_49 jc1 ?_
    refine ev_aload_n dX6_reconcile_50 rfl ?_
    obtain ⟨q1, z2, h⟩ := Option.bind_eq_some_iff.mp h
    refine ev_zV0 dX6_reconcile_51 vX6_402_6 (hk1547 hM) (Or.inl (hl1547 hM)) (Nat.le_of_ble_eq_true rfl) (Nat.le_of_ble_eq_true rfl) rfl (metX6_pairMany hM n  _ _ z2 ?_)
    show Ev g _ _ 54 _ [.int q1.1, .int (nI 1), .int l6] K q1.2.1 q1.2.2 cr c sl Qr Qx
    refine ev_ishl dX6_reconcile_54 ?_
    refine ev_icmp_ge 170 dX6_reconcile_55 rfl (fun z3 => ?_) (fun z3 => ?_)
    · rw [if_pos z3] at h
      refine ev_aload_n dX6_reconcile_170 rfl ?_
      obtain ⟨q4, z5, h⟩ := Option.bind_eq_some_iff.mp h
      refine ev_zV0 dX6_reconcile_171 vX6_540_6 (hk1547 hM) (Or.inl (hl1547 hM)) (Nat.le_of_ble_eq_true rfl) (Nat.le_of_ble_eq_true rfl) rfl (metX6_takesBack hM n  _ _ z5 ?_)
      show Ev g _ _ 174 _ [] K q4.1 q4.2 cr c sl Qr Qx
      refine ev_iload dX6_reconcile_174 rfl ?_
      cases h
      exact ev_iret dX6_reconcile_176 rfl rfl hq
    · rw [if_neg z3] at h
      refine ev_iload dX6_reconcile_58 rfl ?_
      refine ev_iload dX6_reconcile_60 rfl ?_
      refine ev_iconst (v := (-1)) dX6_reconcile_62 jcm1 ?_
      refine ev_ixor dX6_reconcile_63 ?_
      refine ev_iand dX6_reconcile_64 ?_
      refine ev_if_ne 164 dX6_reconcile_65 rfl (fun z6 => ?_) (fun z6 => ?_)
      · rw [if_neg z6] at h
        exact wX6_reconcile_164 hM n _ (ih) _ _ _ _ _ _ _ _ h hq
      · rw [if_pos z6] at h
        refine ev_iload dX6_reconcile_68 rfl ?_
        refine ev_iconst (v := (-1)) dX6_reconcile_70 jcm1 ?_
        refine ev_icmp_eq 90 dX6_reconcile_71 rfl (fun z7 => ?_) (fun z7 => ?_)
        · rw [if_pos z7] at h
          exact wX6_reconcile_90 hM n _ (ih) _ _ _ _ _ _ _ _ h hq
        · rw [if_neg z7] at h
          refine ev_iload dX6_reconcile_74 rfl ?_
          obtain ⟨q8, z9, h⟩ := Option.bind_eq_some_iff.mp h
          refine ev_zS1 dX6_reconcile_76 sX6_549 (Nat.le_of_ble_eq_true rfl) (Nat.le_of_ble_eq_true rfl) rfl (metX6_bits hM n _ _ _ z9 ?_)
          show Ev g _ _ 79 _ [.int q8.1] K q8.2.1 q8.2.2 cr c sl Qr Qx
          refine ev_iload dX6_reconcile_79 rfl ?_
          obtain ⟨q10, z11, h⟩ := Option.bind_eq_some_iff.mp h
          refine ev_zS1 dX6_reconcile_81 sX6_549 (Nat.le_of_ble_eq_true rfl) (Nat.le_of_ble_eq_true rfl) rfl (metX6_bits hM n _ _ _ z11 ?_)
          show Ev g _ _ 84 _ [.int q10.1, .int q8.1] K q10.2.1 q10.2.2 cr c sl Qr Qx
          refine ev_icmp_lt 90 dX6_reconcile_84 rfl (fun z12 => ?_) (fun z12 => ?_)
          · rw [if_pos z12] at h
            exact wX6_reconcile_90 hM n _ (ih) _ _ _ _ _ _ _ _ h hq
          · rw [if_neg z12] at h
            refine ev_goto 164 dX6_reconcile_87 rfl ?_
            exact wX6_reconcile_164 hM n _ (ih) _ _ _ _ _ _ _ _ h hq
def fX6_reconcile (n : Nat) (a0 : Int32) (a1 : Int32) (a2 : Int32) (ci : jI) (cj : jJ) : Option (Int32 × jI × jJ) := Option.bind (fX6_isBay n ((a0).toInt64) ci cj) (fun q1 => if q1.1 = 0 then fX6_reconcile_28 n   q1.2.1 q1.2.2 else Option.bind (fX6_isShoal n a1 q1.2.1 q1.2.2) (fun q4 => if q4.1 = 0 then fX6_reconcile_28 n   q4.2.1 q4.2.2 else Option.bind (fX6_isAhead n a2 (nI 1) (nI 20) q4.2.1 q4.2.2) (fun q7 => if q7.1 = 0 then fX6_reconcile_28 n   q7.2.1 q7.2.2 else Option.bind (fX6_pairsIn n a0 q7.2.1 q7.2.2) (fun q10 => Option.bind (fX6_putsAside n  q10.2.1 q10.2.2) (fun q12 => fX6_reconcile_47 n  n a0 a1 a2 (-1) q10.1 (nI 0) q12.1 q12.2)))))
theorem metX6_reconcile {g : jG} {d : Nat} {K : jK} {cr : jR} {c sl : Nat} {Qr : jQ} {Qx : jX} (hM : jMW K cr) (n : Nat) (a0 : Int32) (a1 : Int32) (a2 : Int32) (ci : jI) (cj : jJ) {q} (h : fX6_reconcile n a0 a1 a2 ci cj = some q) (hq : Qr (some (.int q.1)) K q.2.1 q.2.2 cr) : EvM g (d + 9) mX6_reconcile [.ref 1547, .int a0, .int a1, .int a2] K ci cj cr c sl Qr Qx := by
  unfold fX6_reconcile at h
  show Ev g (d + 9) mX6_reconcile 0 [.ref 1547, .int a0, .int a1, .int a2, jU, jU, jU, jU] [] K ci cj cr c sl Qr Qx
  refine ev_aload_n dX6_reconcile_0 rfl ?_
  refine ev_iload_n dX6_reconcile_1 rfl ?_
  refine ev_i2l dX6_reconcile_2 ?_
  obtain ⟨q1, z2, h⟩ := Option.bind_eq_some_iff.mp h
  refine ev_zV1 dX6_reconcile_3 vX6_516_6 (hk1547 hM) (Or.inl (hl1547 hM)) (Nat.le_of_ble_eq_true rfl) (Nat.le_of_ble_eq_true rfl) rfl (metX6_isBay hM n _ _ _ z2 ?_)
  show Ev g _ _ 6 _ [.int q1.1] K q1.2.1 q1.2.2 cr c sl Qr Qx
  refine ev_if_eq 28 dX6_reconcile_6 rfl (fun z3 => ?_) (fun z3 => ?_)
  · rw [if_pos z3] at h
    exact ev_mask [false, false, false, false, false, false, false, false] (wX6_reconcile_28 hM n    _ _ h hq)
  · rw [if_neg z3] at h
    refine ev_aload_n dX6_reconcile_9 rfl ?_
    refine ev_iload_n dX6_reconcile_10 rfl ?_
    obtain ⟨q4, z5, h⟩ := Option.bind_eq_some_iff.mp h
    refine ev_zV1 dX6_reconcile_11 vX6_526_6 (hk1547 hM) (Or.inl (hl1547 hM)) (Nat.le_of_ble_eq_true rfl) (Nat.le_of_ble_eq_true rfl) rfl (metX6_isShoal hM n _ _ _ z5 ?_)
    show Ev g _ _ 14 _ [.int q4.1] K q4.2.1 q4.2.2 cr c sl Qr Qx
    refine ev_if_eq 28 dX6_reconcile_14 rfl (fun z6 => ?_) (fun z6 => ?_)
    · rw [if_pos z6] at h
      exact ev_mask [false, false, false, false, false, false, false, false] (wX6_reconcile_28 hM n    _ _ h hq)
    · rw [if_neg z6] at h
      refine ev_aload_n dX6_reconcile_17 rfl ?_
      refine ev_iload_n dX6_reconcile_18 rfl ?_
      refine ev_iconst (v := (nI 1)) dX6_reconcile_19 jc1 ?_
      refine ev_bipush (v := (nI 20)) dX6_reconcile_20 jb20 ?_
      obtain ⟨q7, z8, h⟩ := Option.bind_eq_some_iff.mp h
      refine ev_zV3 dX6_reconcile_22 vX6_531_6 (hk1547 hM) (Or.inl (hl1547 hM)) (Nat.le_of_ble_eq_true rfl) (Nat.le_of_ble_eq_true rfl) rfl (metX6_isAhead hM n _ _ _ _ _ z8 ?_)
      show Ev g _ _ 25 _ [.int q7.1] K q7.2.1 q7.2.2 cr c sl Qr Qx
      refine ev_if_ne 30 dX6_reconcile_25 rfl (fun z9 => ?_) (fun z9 => ?_)
      · rw [if_neg z9] at h
        refine ev_iconst (v := (-1)) dX6_reconcile_30 jcm1 ?_
        refine ev_istore (L' := [_, _, _, _, _, _, _, _]) dX6_reconcile_31 (by decide) rfl ?_
        refine ev_aload_n dX6_reconcile_33 rfl ?_
        refine ev_iload_n dX6_reconcile_34 rfl ?_
        obtain ⟨q10, z11, h⟩ := Option.bind_eq_some_iff.mp h
        refine ev_zV1 dX6_reconcile_35 vX6_546_6 (hk1547 hM) (Or.inl (hl1547 hM)) (Nat.le_of_ble_eq_true rfl) (Nat.le_of_ble_eq_true rfl) rfl (metX6_pairsIn hM n _ _ _ z11 ?_)
        show Ev g _ _ 38 _ [.int q10.1] K q10.2.1 q10.2.2 cr c sl Qr Qx
        refine ev_istore (L' := [_, _, _, _, _, _, _, _]) dX6_reconcile_38 (by decide) rfl ?_
        refine ev_aload_n dX6_reconcile_40 rfl ?_
        obtain ⟨q12, z13, h⟩ := Option.bind_eq_some_iff.mp h
        refine ev_zV0 dX6_reconcile_41 vX6_534_6 (hk1547 hM) (Or.inl (hl1547 hM)) (Nat.le_of_ble_eq_true rfl) (Nat.le_of_ble_eq_true rfl) rfl (metX6_putsAside hM n  _ _ z13 ?_)
        show Ev g _ _ 44 _ [] K q12.1 q12.2 cr c sl Qr Qx
        refine ev_iconst (v := (nI 0)) dX6_reconcile_44 jc0 ?_
        refine ev_istore (L' := [_, _, _, _, _, _, _, _]) dX6_reconcile_45 (by decide) rfl ?_
        exact wX6_reconcile_47 hM n   n _ _ _ _ _ _ _ _ h hq
      · rw [if_pos z9] at h
        exact ev_mask [false, false, false, false, false, false, false, false] (wX6_reconcile_28 hM n    _ _ h hq)
def fX6_hinge_21 (n : Nat) (ci : jI) (cj : jJ) : Option (Int32 × jI × jJ) := some ((-1), ci, cj)
theorem wX6_hinge_21 {g : jG} {d : Nat} {K : jK} {cr : jR} {c sl : Nat} {Qr : jQ} {Qx : jX} (hM : jMW K cr) (n : Nat) (ci : jI) (cj : jJ) {q} (h : fX6_hinge_21 n   ci cj = some q) (hq : Qr (some (.int q.1)) K q.2.1 q.2.2 cr) : Ev g (d + 9) mX6_hinge 21 [jU, jU, jU, jU, jU, jU] [] K ci cj cr c sl Qr Qx := by
  unfold fX6_hinge_21 at h
  refine ev_iconst (v := (-1)) dX6_hinge_21 jcm1 ?_
  cases h
  exact ev_iret dX6_hinge_22 rfl rfl hq
def fX6_hinge_124 (n : Nat) (t0 : Int32) (ci : jI) (cj : jJ) : Option (Int32 × jI × jJ) := some (t0, ci, cj)
theorem wX6_hinge_124 {g : jG} {d : Nat} {K : jK} {cr : jR} {c sl : Nat} {Qr : jQ} {Qx : jX} (hM : jMW K cr) (n : Nat) (t0 : Int32) (ci : jI) (cj : jJ) {q} (h : fX6_hinge_124 n  t0 ci cj = some q) (hq : Qr (some (.int q.1)) K q.2.1 q.2.2 cr) : Ev g (d + 9) mX6_hinge 124 [jU, jU, jU, jU, jU, jU] [.int t0] K ci cj cr c sl Qr Qx := by
  unfold fX6_hinge_124 at h
  cases h
  exact ev_iret dX6_hinge_124 rfl rfl hq
def fX6_hinge_104 (n : Nat) (rec35 : Int32 → Int32 → Int32 → Int32 → Int32 → jI → jJ → Option (Int32 × jI × jJ)) (l1 : Int32) (l2 : Int32) (l3 : Int32) (l4 : Int32) (l5 : Int32) (ci : jI) (cj : jJ) : Option (Int32 × jI × jJ) := rec35 l1 l2 l3 l4 (l5 + (nI 1)) ci cj
theorem wX6_hinge_104 {g : jG} {d : Nat} {K : jK} {cr : jR} {c sl : Nat} {Qr : jQ} {Qx : jX} (hM : jMW K cr) (n : Nat) (rec35 : Int32 → Int32 → Int32 → Int32 → Int32 → jI → jJ → Option (Int32 × jI × jJ)) (hrec35 : (∀ (l1 : Int32) (l2 : Int32) (l3 : Int32) (l4 : Int32) (l5 : Int32) (ci : jI) (cj : jJ) {q}, rec35 l1 l2 l3 l4 l5 ci cj = some q → Qr (some (.int q.1)) K q.2.1 q.2.2 cr → Ev g (d + 9) mX6_hinge 35 [.ref 1547, .int l1, .int l2, .int l3, .int l4, .int l5] [] K ci cj cr c sl Qr Qx)) (l1 : Int32) (l2 : Int32) (l3 : Int32) (l4 : Int32) (l5 : Int32) (ci : jI) (cj : jJ) {q} (h : fX6_hinge_104 n rec35 l1 l2 l3 l4 l5 ci cj = some q) (hq : Qr (some (.int q.1)) K q.2.1 q.2.2 cr) : Ev g (d + 9) mX6_hinge 104 [.ref 1547, .int l1, .int l2, .int l3, .int l4, .int l5] [] K ci cj cr c sl Qr Qx := by
  unfold fX6_hinge_104 at h
  refine ev_iinc (v := (l5 + (nI 1))) (L' := [_, _, _, _, _, _]) dX6_hinge_104 rfl (by rw [ji_1]) (by decide) rfl ?_
  refine ev_goto 35 dX6_hinge_107 rfl ?_
  exact hrec35 _ _ _ _ _ _ _ h hq
def fX6_hinge_95 (n : Nat) (rec35 : Int32 → Int32 → Int32 → Int32 → Int32 → jI → jJ → Option (Int32 × jI × jJ)) (l1 : Int32) (l2 : Int32) (l5 : Int32) (ci : jI) (cj : jJ) : Option (Int32 × jI × jJ) := fX6_hinge_104 n rec35 l1 l2 l5 (ci 1547 60) l5 ci cj
theorem wX6_hinge_95 {g : jG} {d : Nat} {K : jK} {cr : jR} {c sl : Nat} {Qr : jQ} {Qx : jX} (hM : jMW K cr) (n : Nat) (rec35 : Int32 → Int32 → Int32 → Int32 → Int32 → jI → jJ → Option (Int32 × jI × jJ)) (hrec35 : (∀ (l1 : Int32) (l2 : Int32) (l3 : Int32) (l4 : Int32) (l5 : Int32) (ci : jI) (cj : jJ) {q}, rec35 l1 l2 l3 l4 l5 ci cj = some q → Qr (some (.int q.1)) K q.2.1 q.2.2 cr → Ev g (d + 9) mX6_hinge 35 [.ref 1547, .int l1, .int l2, .int l3, .int l4, .int l5] [] K ci cj cr c sl Qr Qx)) (l1 : Int32) (l2 : Int32) (l5 : Int32) (ci : jI) (cj : jJ) {q} (h : fX6_hinge_95 n rec35 l1 l2 l5 ci cj = some q) (hq : Qr (some (.int q.1)) K q.2.1 q.2.2 cr) : Ev g (d + 9) mX6_hinge 95 [.ref 1547, .int l1, .int l2, jU, jU, .int l5] [] K ci cj cr c sl Qr Qx := by
  unfold fX6_hinge_95 at h
  refine ev_iload dX6_hinge_95 rfl ?_
  refine ev_istore_n (L' := [_, _, _, _, _, _]) dX6_hinge_97 (by decide) rfl ?_
  refine ev_aload_n dX6_hinge_98 rfl ?_
  refine ev_getI dX6_hinge_99 fX6_467_6 (hk1547 hM) (Or.inl (hl1547 hM)) rfl ?_
  refine ev_istore (L' := [_, _, _, _, _, _]) dX6_hinge_102 (by decide) rfl ?_
  exact wX6_hinge_104 hM n _ (hrec35) _ _ _ _ _ _ _ h hq
def fX6_hinge_35 (n : Nat) : Nat → Int32 → Int32 → Int32 → Int32 → Int32 → jI → jJ → Option (Int32 × jI × jJ)
  | 0, _, _, _, _, _, _, _ => none
  | k + 1, l1, l2, l3, l4, l5, ci, cj => Option.bind (fX6_pairMany n  ci cj) (fun q1 => if q1.1 ≤ l5 then Option.bind (fX6_takesBack n  q1.2.1 q1.2.2) (fun q4 => if l2 = 0 then fX6_hinge_124 n  l3 q4.1 q4.2 else fX6_hinge_124 n  l4 q4.1 q4.2) else Option.bind (fX6_trueOf n l5 q1.2.1 q1.2.2) (fun q7 => if q7.1 = 0 then fX6_hinge_104 n (fX6_hinge_35 n  k) l1 l2 l3 l4 l5 q7.2.1 q7.2.2 else if jok ((nI 25) + ((nI 2) * l5)) 166 then Option.bind (fX6_yearsGo n l1 (ju q7.2.1 1585 (((nI 25) + ((nI 2) * l5))).toNatClampNeg (nI 0)) q7.2.2) (fun q11 => Option.bind (fX6_triesAnew n  q11.1 q11.2) (fun q13 => if l3 = (-1) then fX6_hinge_95 n (fX6_hinge_35 n  k) l1 l2 l5 q13.1 q13.2 else if (q13.1 1547 60) < l4 then fX6_hinge_95 n (fX6_hinge_35 n  k) l1 l2 l5 q13.1 q13.2 else fX6_hinge_104 n (fX6_hinge_35 n  k) l1 l2 l3 l4 l5 q13.1 q13.2)) else none))
theorem wX6_hinge_35 {g : jG} {d : Nat} {K : jK} {cr : jR} {c sl : Nat} {Qr : jQ} {Qx : jX} (hM : jMW K cr) (n : Nat) : ∀ (k : Nat) (l1 : Int32) (l2 : Int32) (l3 : Int32) (l4 : Int32) (l5 : Int32) (ci : jI) (cj : jJ) {q}, fX6_hinge_35 n  k l1 l2 l3 l4 l5 ci cj = some q → Qr (some (.int q.1)) K q.2.1 q.2.2 cr → Ev g (d + 9) mX6_hinge 35 [.ref 1547, .int l1, .int l2, .int l3, .int l4, .int l5] [] K ci cj cr c sl Qr Qx := by
  intro k
  induction k with
  | zero =>
    intro l1 l2 l3 l4 l5 ci cj q h hq
    rw [fX6_hinge_35.eq_1] at h; cases h
  | succ k ih =>
    intro l1 l2 l3 l4 l5 ci cj q h hq
    rw [fX6_hinge_35.eq_2] at h
    refine ev_iload dX6_hinge_35 rfl ?_
    refine ev_aload_n dX6_hinge_37 rfl ?_
    obtain ⟨q1, z2, h⟩ := Option.bind_eq_some_iff.mp h
    refine ev_zV0 dX6_hinge_38 vX6_402_6 (hk1547 hM) (Or.inl (hl1547 hM)) (Nat.le_of_ble_eq_true rfl) (Nat.le_of_ble_eq_true rfl) rfl (metX6_pairMany hM n  _ _ z2 ?_)
    show Ev g _ _ 41 _ [.int q1.1, .int l5] K q1.2.1 q1.2.2 cr c sl Qr Qx
    refine ev_icmp_ge 110 dX6_hinge_41 rfl (fun z3 => ?_) (fun z3 => ?_)
    · rw [if_pos z3] at h
      refine ev_aload_n dX6_hinge_110 rfl ?_
      obtain ⟨q4, z5, h⟩ := Option.bind_eq_some_iff.mp h
      refine ev_zV0 dX6_hinge_111 vX6_540_6 (hk1547 hM) (Or.inl (hl1547 hM)) (Nat.le_of_ble_eq_true rfl) (Nat.le_of_ble_eq_true rfl) rfl (metX6_takesBack hM n  _ _ z5 ?_)
      show Ev g _ _ 114 _ [] K q4.1 q4.2 cr c sl Qr Qx
      refine ev_iload_n dX6_hinge_114 rfl ?_
      refine ev_if_ne 122 dX6_hinge_115 rfl (fun z6 => ?_) (fun z6 => ?_)
      · rw [if_neg z6] at h
        refine ev_iload dX6_hinge_122 rfl ?_
        exact ev_mask [false, false, false, false, false, false] (wX6_hinge_124 hM n   _ _ _ h hq)
      · rw [if_pos z6] at h
        refine ev_iload_n dX6_hinge_118 rfl ?_
        refine ev_goto 124 dX6_hinge_119 rfl ?_
        exact ev_mask [false, false, false, false, false, false] (wX6_hinge_124 hM n   _ _ _ h hq)
    · rw [if_neg z3] at h
      refine ev_aload_n dX6_hinge_44 rfl ?_
      refine ev_iload dX6_hinge_45 rfl ?_
      obtain ⟨q7, z8, h⟩ := Option.bind_eq_some_iff.mp h
      refine ev_zV1 dX6_hinge_47 vX6_425_6 (hk1547 hM) (Or.inl (hl1547 hM)) (Nat.le_of_ble_eq_true rfl) (Nat.le_of_ble_eq_true rfl) rfl (metX6_trueOf hM n _ _ _ z8 ?_)
      show Ev g _ _ 50 _ [.int q7.1] K q7.2.1 q7.2.2 cr c sl Qr Qx
      refine ev_if_ne 56 dX6_hinge_50 rfl (fun z9 => ?_) (fun z9 => ?_)
      · rw [if_neg z9] at h
        refine ev_aload_n dX6_hinge_56 rfl ?_
        refine ev_getR dX6_hinge_57 fX6_127_6 (hk1547 hM) (Or.inl (hl1547 hM)) rfl (hr50 hM) ?_
        refine ev_bipush (v := (nI 25)) dX6_hinge_60 jb25 ?_
        refine ev_iconst (v := (nI 2)) dX6_hinge_62 jc2 ?_
        refine ev_iload dX6_hinge_63 rfl ?_
        refine ev_imul dX6_hinge_65 ?_
        refine ev_iadd dX6_hinge_66 ?_
        refine ev_iconst (v := (nI 0)) dX6_hinge_67 jc0 ?_
        by_cases z10 : jok ((nI 25) + ((nI 2) * l5)) 166
        rotate_left
        · rw [if_neg z10] at h; cases h
        rw [if_pos z10] at h
        refine ev_iastore dX6_hinge_68 (hk1585 hM) (hl1585 hM) (jok.ix z10 (hn1585 hM)) ?_
        refine ev_aload_n dX6_hinge_69 rfl ?_
        refine ev_iload_n dX6_hinge_70 rfl ?_
        obtain ⟨q11, z12, h⟩ := Option.bind_eq_some_iff.mp h
        refine ev_zV1 dX6_hinge_71 vX6_537_6 (hk1547 hM) (Or.inl (hl1547 hM)) (Nat.le_of_ble_eq_true rfl) (Nat.le_of_ble_eq_true rfl) rfl (metX6_yearsGo hM n _ _ _ z12 ?_)
        show Ev g _ _ 74 _ [] K q11.1 q11.2 cr c sl Qr Qx
        refine ev_aload_n dX6_hinge_74 rfl ?_
        obtain ⟨q13, z14, h⟩ := Option.bind_eq_some_iff.mp h
        refine ev_zV0 dX6_hinge_75 vX6_500_6 (hk1547 hM) (Or.inl (hl1547 hM)) (Nat.le_of_ble_eq_true rfl) (Nat.le_of_ble_eq_true rfl) rfl (metX6_triesAnew hM n  _ _ z14 ?_)
        show Ev g _ _ 78 _ [] K q13.1 q13.2 cr c sl Qr Qx
        refine ev_iload_n dX6_hinge_78 rfl ?_
        refine ev_iconst (v := (-1)) dX6_hinge_79 jcm1 ?_
        refine ev_icmp_eq 95 dX6_hinge_80 rfl (fun z15 => ?_) (fun z15 => ?_)
        · rw [if_pos z15] at h
          exact ev_mask [true, true, true, false, false, true] (wX6_hinge_95 hM n _ (ih) _ _ _ _ _ h hq)
        · rw [if_neg z15] at h
          refine ev_aload_n dX6_hinge_83 rfl ?_
          refine ev_getI dX6_hinge_84 fX6_467_6 (hk1547 hM) (Or.inl (hl1547 hM)) rfl ?_
          refine ev_iload dX6_hinge_87 rfl ?_
          refine ev_icmp_lt 95 dX6_hinge_89 rfl (fun z16 => ?_) (fun z16 => ?_)
          · rw [if_pos z16] at h
            exact ev_mask [true, true, true, false, false, true] (wX6_hinge_95 hM n _ (ih) _ _ _ _ _ h hq)
          · rw [if_neg z16] at h
            refine ev_goto 104 dX6_hinge_92 rfl ?_
            exact wX6_hinge_104 hM n _ (ih) _ _ _ _ _ _ _ h hq
      · rw [if_pos z9] at h
        refine ev_goto 104 dX6_hinge_53 rfl ?_
        exact wX6_hinge_104 hM n _ (ih) _ _ _ _ _ _ _ h hq
def fX6_hinge (n : Nat) (a0 : Int32) (a1 : Int32) (ci : jI) (cj : jJ) : Option (Int32 × jI × jJ) := Option.bind (fX6_isAhead n a0 (nI 1) (nI 40) ci cj) (fun q1 => if q1.1 = 0 then fX6_hinge_21 n   q1.2.1 q1.2.2 else Option.bind (fX6_isIn n ((a1).toInt64) (lN 0) (lN 1) q1.2.1 q1.2.2) (fun q4 => if q4.1 = 0 then fX6_hinge_21 n   q4.2.1 q4.2.2 else Option.bind (fX6_putsAside n  q4.2.1 q4.2.2) (fun q7 => fX6_hinge_35 n  n a0 a1 (-1) (-1) (nI 0) q7.1 q7.2)))
theorem metX6_hinge {g : jG} {d : Nat} {K : jK} {cr : jR} {c sl : Nat} {Qr : jQ} {Qx : jX} (hM : jMW K cr) (n : Nat) (a0 : Int32) (a1 : Int32) (ci : jI) (cj : jJ) {q} (h : fX6_hinge n a0 a1 ci cj = some q) (hq : Qr (some (.int q.1)) K q.2.1 q.2.2 cr) : EvM g (d + 9) mX6_hinge [.ref 1547, .int a0, .int a1] K ci cj cr c sl Qr Qx := by
  unfold fX6_hinge at h
  show Ev g (d + 9) mX6_hinge 0 [.ref 1547, .int a0, .int a1, jU, jU, jU] [] K ci cj cr c sl Qr Qx
  refine ev_aload_n dX6_hinge_0 rfl ?_
  refine ev_iload_n dX6_hinge_1 rfl ?_
  refine ev_iconst (v := (nI 1)) dX6_hinge_2 jc1 ?_
  refine ev_bipush (v := (nI 40)) dX6_hinge_3 jb40 ?_
  obtain ⟨q1, z2, h⟩ := Option.bind_eq_some_iff.mp h
  refine ev_zV3 dX6_hinge_5 vX6_531_6 (hk1547 hM) (Or.inl (hl1547 hM)) (Nat.le_of_ble_eq_true rfl) (Nat.le_of_ble_eq_true rfl) rfl (metX6_isAhead hM n _ _ _ _ _ z2 ?_)
  show Ev g _ _ 8 _ [.int q1.1] K q1.2.1 q1.2.2 cr c sl Qr Qx
  refine ev_if_eq 21 dX6_hinge_8 rfl (fun z3 => ?_) (fun z3 => ?_)
  · rw [if_pos z3] at h
    exact ev_mask [false, false, false, false, false, false] (wX6_hinge_21 hM n    _ _ h hq)
  · rw [if_neg z3] at h
    refine ev_iload_n dX6_hinge_11 rfl ?_
    refine ev_i2l dX6_hinge_12 ?_
    refine ev_lconst (v := lN 0) dX6_hinge_13 rfl ?_
    refine ev_lconst (v := lN 1) dX6_hinge_14 rfl ?_
    obtain ⟨q4, z5, h⟩ := Option.bind_eq_some_iff.mp h
    refine ev_zS3 dX6_hinge_15 sX6_294 (Nat.le_of_ble_eq_true rfl) (Nat.le_of_ble_eq_true rfl) rfl (metX6_isIn hM n _ _ _ _ _ z5 ?_)
    show Ev g _ _ 18 _ [.int q4.1] K q4.2.1 q4.2.2 cr c sl Qr Qx
    refine ev_if_ne 23 dX6_hinge_18 rfl (fun z6 => ?_) (fun z6 => ?_)
    · rw [if_neg z6] at h
      refine ev_iconst (v := (-1)) dX6_hinge_23 jcm1 ?_
      refine ev_istore_n (L' := [_, _, _, _, _, _]) dX6_hinge_24 (by decide) rfl ?_
      refine ev_iconst (v := (-1)) dX6_hinge_25 jcm1 ?_
      refine ev_istore (L' := [_, _, _, _, _, _]) dX6_hinge_26 (by decide) rfl ?_
      refine ev_aload_n dX6_hinge_28 rfl ?_
      obtain ⟨q7, z8, h⟩ := Option.bind_eq_some_iff.mp h
      refine ev_zV0 dX6_hinge_29 vX6_534_6 (hk1547 hM) (Or.inl (hl1547 hM)) (Nat.le_of_ble_eq_true rfl) (Nat.le_of_ble_eq_true rfl) rfl (metX6_putsAside hM n  _ _ z8 ?_)
      show Ev g _ _ 32 _ [] K q7.1 q7.2 cr c sl Qr Qx
      refine ev_iconst (v := (nI 0)) dX6_hinge_32 jc0 ?_
      refine ev_istore (L' := [_, _, _, _, _, _]) dX6_hinge_33 (by decide) rfl ?_
      exact wX6_hinge_35 hM n   n _ _ _ _ _ _ _ h hq
    · rw [if_pos z6] at h
      exact ev_mask [false, false, false, false, false, false] (wX6_hinge_21 hM n    _ _ h hq)
def fX6_odds_54 (n : Nat) (ci : jI) (cj : jJ) : Option (Int32 × jI × jJ) := some ((-1), ci, cj)
theorem wX6_odds_54 {g : jG} {d : Nat} {K : jK} {cr : jR} {c sl : Nat} {Qr : jQ} {Qx : jX} (hM : jMW K cr) (n : Nat) (ci : jI) (cj : jJ) {q} (h : fX6_odds_54 n   ci cj = some q) (hq : Qr (some (.int q.1)) K q.2.1 q.2.2 cr) : Ev g (d + 6) mX6_odds 54 [jU, jU, jU, jU, jU, jU, jU] [] K ci cj cr c sl Qr Qx := by
  unfold fX6_odds_54 at h
  refine ev_iconst (v := (-1)) dX6_odds_54 jcm1 ?_
  cases h
  exact ev_iret dX6_odds_55 rfl rfl hq
def fX6_odds_179 (n : Nat) (rec139 : Int32 → Int32 → Int32 → Int32 → Int32 → jI → jJ → Option (Int32 × jI × jJ)) (l1 : Int32) (l2 : Int32) (l4 : Int32) (l5 : Int32) (l6 : Int32) (ci : jI) (cj : jJ) : Option (Int32 × jI × jJ) := rec139 l1 l2 l4 l5 (l6 + (nI 1)) ci cj
theorem wX6_odds_179 {g : jG} {d : Nat} {K : jK} {cr : jR} {c sl : Nat} {Qr : jQ} {Qx : jX} (hM : jMW K cr) (n : Nat) (rec139 : Int32 → Int32 → Int32 → Int32 → Int32 → jI → jJ → Option (Int32 × jI × jJ)) (hrec139 : (∀ (l1 : Int32) (l2 : Int32) (l4 : Int32) (l5 : Int32) (l6 : Int32) (ci : jI) (cj : jJ) {q}, rec139 l1 l2 l4 l5 l6 ci cj = some q → Qr (some (.int q.1)) K q.2.1 q.2.2 cr → Ev g (d + 6) mX6_odds 139 [.ref 1547, .int l1, .int l2, jU, .int l4, .int l5, .int l6] [] K ci cj cr c sl Qr Qx)) (l1 : Int32) (l2 : Int32) (l4 : Int32) (l5 : Int32) (l6 : Int32) (ci : jI) (cj : jJ) {q} (h : fX6_odds_179 n rec139 l1 l2 l4 l5 l6 ci cj = some q) (hq : Qr (some (.int q.1)) K q.2.1 q.2.2 cr) : Ev g (d + 6) mX6_odds 179 [.ref 1547, .int l1, .int l2, jU, .int l4, .int l5, .int l6] [] K ci cj cr c sl Qr Qx := by
  unfold fX6_odds_179 at h
  refine ev_iinc (v := (l6 + (nI 1))) (L' := [_, _, _, _, _, _, _]) dX6_odds_179 rfl (by rw [ji_1]) (by decide) rfl ?_
  refine ev_goto 139 dX6_odds_182 rfl ?_
  exact hrec139 _ _ _ _ _ _ _ h hq
def fX6_odds_139 (n : Nat) : Nat → Int32 → Int32 → Int32 → Int32 → Int32 → jI → jJ → Option (Int32 × jI × jJ)
  | 0, _, _, _, _, _, _, _ => none
  | k + 1, l1, l2, l4, l5, l6, ci, cj => if (nI 100) ≤ l6 then if jok ((nI 1) + ((nI 2) * l1)) 166 then some (l5, (ju ci 1585 (((nI 1) + ((nI 2) * l1))).toNatClampNeg l4), cj) else none else if jok ((nI 1) + ((nI 2) * l1)) 166 then Option.bind (fX6_comesTo n l1 (ju ci 1585 (((nI 1) + ((nI 2) * l1))).toNatClampNeg l6) cj) (fun q4 => if q4.1 = l2 then if jok (nI 7) 8 then fX6_odds_179 n (fX6_odds_139 n  k) l1 l2 l4 (l5 + (q4.2.1 1577 ((nI 7)).toNatClampNeg)) l6 q4.2.1 q4.2.2 else none else fX6_odds_179 n (fX6_odds_139 n  k) l1 l2 l4 l5 l6 q4.2.1 q4.2.2) else none
theorem wX6_odds_139 {g : jG} {d : Nat} {K : jK} {cr : jR} {c sl : Nat} {Qr : jQ} {Qx : jX} (hM : jMW K cr) (n : Nat) : ∀ (k : Nat) (l1 : Int32) (l2 : Int32) (l4 : Int32) (l5 : Int32) (l6 : Int32) (ci : jI) (cj : jJ) {q}, fX6_odds_139 n  k l1 l2 l4 l5 l6 ci cj = some q → Qr (some (.int q.1)) K q.2.1 q.2.2 cr → Ev g (d + 6) mX6_odds 139 [.ref 1547, .int l1, .int l2, jU, .int l4, .int l5, .int l6] [] K ci cj cr c sl Qr Qx := by
  intro k
  induction k with
  | zero =>
    intro l1 l2 l4 l5 l6 ci cj q h hq
    rw [fX6_odds_139.eq_1] at h; cases h
  | succ k ih =>
    intro l1 l2 l4 l5 l6 ci cj q h hq
    rw [fX6_odds_139.eq_2] at h
    refine ev_iload dX6_odds_139 rfl ?_
    refine ev_bipush (v := (nI 100)) dX6_odds_141 jb100 ?_
    refine ev_icmp_ge 185 dX6_odds_143 rfl (fun z1 => ?_) (fun z1 => ?_)
    · rw [if_pos z1] at h
      refine ev_aload_n dX6_odds_185 rfl ?_
      refine ev_getR dX6_odds_186 fX6_127_6 (hk1547 hM) (Or.inl (hl1547 hM)) rfl (hr50 hM) ?_
      refine ev_iconst (v := (nI 1)) dX6_odds_189 jc1 ?_
      refine ev_iconst (v := (nI 2)) dX6_odds_190 jc2 ?_
      refine ev_iload_n dX6_odds_191 rfl ?_
      refine ev_imul dX6_odds_192 ?_
      refine ev_iadd dX6_odds_193 ?_
      refine ev_iload dX6_odds_194 rfl ?_
      by_cases z2 : jok ((nI 1) + ((nI 2) * l1)) 166
      rotate_left
      · rw [if_neg z2] at h; cases h
      rw [if_pos z2] at h
      refine ev_iastore dX6_odds_196 (hk1585 hM) (hl1585 hM) (jok.ix z2 (hn1585 hM)) ?_
      refine ev_iload dX6_odds_197 rfl ?_
      cases h
      exact ev_iret dX6_odds_199 rfl rfl hq
    · rw [if_neg z1] at h
      refine ev_aload_n dX6_odds_146 rfl ?_
      refine ev_getR dX6_odds_147 fX6_127_6 (hk1547 hM) (Or.inl (hl1547 hM)) rfl (hr50 hM) ?_
      refine ev_iconst (v := (nI 1)) dX6_odds_150 jc1 ?_
      refine ev_iconst (v := (nI 2)) dX6_odds_151 jc2 ?_
      refine ev_iload_n dX6_odds_152 rfl ?_
      refine ev_imul dX6_odds_153 ?_
      refine ev_iadd dX6_odds_154 ?_
      refine ev_iload dX6_odds_155 rfl ?_
      by_cases z3 : jok ((nI 1) + ((nI 2) * l1)) 166
      rotate_left
      · rw [if_neg z3] at h; cases h
      rw [if_pos z3] at h
      refine ev_iastore dX6_odds_157 (hk1585 hM) (hl1585 hM) (jok.ix z3 (hn1585 hM)) ?_
      refine ev_aload_n dX6_odds_158 rfl ?_
      refine ev_iload_n dX6_odds_159 rfl ?_
      obtain ⟨q4, z5, h⟩ := Option.bind_eq_some_iff.mp h
      refine ev_zV1 dX6_odds_160 vX6_464_6 (hk1547 hM) (Or.inl (hl1547 hM)) (Nat.le_of_ble_eq_true rfl) (Nat.le_of_ble_eq_true rfl) rfl (metX6_comesTo hM n _ _ _ z5 ?_)
      show Ev g _ _ 163 _ [.int q4.1] K q4.2.1 q4.2.2 cr c sl Qr Qx
      refine ev_iload_n dX6_odds_163 rfl ?_
      refine ev_icmp_ne 179 dX6_odds_164 rfl (fun z6 => ?_) (fun z6 => ?_)
      · rw [if_neg z6] at h
        exact wX6_odds_179 hM n _ (ih) _ _ _ _ _ _ _ h hq
      · rw [if_pos z6] at h
        refine ev_iload dX6_odds_167 rfl ?_
        refine ev_aload_n dX6_odds_169 rfl ?_
        refine ev_getR dX6_odds_170 fX6_102_6 (hk1547 hM) (Or.inl (hl1547 hM)) rfl (hr39 hM) ?_
        refine ev_bipush (v := (nI 7)) dX6_odds_173 jb7 ?_
        by_cases z7 : jok (nI 7) 8
        rotate_left
        · rw [if_neg z7] at h; cases h
        rw [if_pos z7] at h
        refine ev_iaload dX6_odds_175 (hk1577 hM) (Or.inl (hl1577 hM)) (jok.ix z7 (hn1577 hM)) ?_
        refine ev_iadd dX6_odds_176 ?_
        refine ev_istore (L' := [_, _, _, _, _, _, _]) dX6_odds_177 (by decide) rfl ?_
        exact wX6_odds_179 hM n _ (ih) _ _ _ _ _ _ _ h hq
def fX6_odds_134 (n : Nat) (l1 : Int32) (l2 : Int32) (l4 : Int32) (t0 : Int32) (ci : jI) (cj : jJ) : Option (Int32 × jI × jJ) := fX6_odds_139 n  n l1 l2 l4 t0 (nI 0) ci cj
theorem wX6_odds_134 {g : jG} {d : Nat} {K : jK} {cr : jR} {c sl : Nat} {Qr : jQ} {Qx : jX} (hM : jMW K cr) (n : Nat) (l1 : Int32) (l2 : Int32) (l4 : Int32) (t0 : Int32) (ci : jI) (cj : jJ) {q} (h : fX6_odds_134 n  l1 l2 l4 t0 ci cj = some q) (hq : Qr (some (.int q.1)) K q.2.1 q.2.2 cr) : Ev g (d + 6) mX6_odds 134 [.ref 1547, .int l1, .int l2, jU, .int l4, jU, jU] [.int t0] K ci cj cr c sl Qr Qx := by
  unfold fX6_odds_134 at h
  refine ev_istore (L' := [_, _, _, _, _, _, _]) dX6_odds_134 (by decide) rfl ?_
  refine ev_iconst (v := (nI 0)) dX6_odds_136 jc0 ?_
  refine ev_istore (L' := [_, _, _, _, _, _, _]) dX6_odds_137 (by decide) rfl ?_
  exact wX6_odds_139 hM n   n _ _ _ _ _ _ _ h hq
def fX6_odds_37 (n : Nat) (l1 : Int32) (l2 : Int32) (l3 : Int32) (ci : jI) (cj : jJ) : Option (Int32 × jI × jJ) := Option.bind (fX6_shoalMany n  ci cj) (fun q1 => if q1.1 = 0 then fX6_odds_54 n   q1.2.1 q1.2.2 else Option.bind (fX6_isAhead n (nI 1) (nI 1) (nI 1) q1.2.1 q1.2.2) (fun q4 => if q4.1 = 0 then fX6_odds_54 n   q4.2.1 q4.2.2 else if l3 = 0 then Option.bind (fX6_laysVows n  q4.2.1 q4.2.2) (fun q8 => if jok ((nI 1) + ((nI 2) * l1)) 166 then Option.bind (fX6_comesTo n l1 q8.1 q8.2) (fun q11 => if q11.1 = l2 then if jok (nI 7) 8 then Option.bind (fX6_shoalMany n  q11.2.1 q11.2.2) (fun q15 => if jok (nI 7) 8 then Option.bind (fX6_shoalMany n  q15.2.1 q15.2.2) (fun q18 => fX6_odds_134 n  l1 l2 (q8.1 1585 (((nI 1) + ((nI 2) * l1))).toNatClampNeg) ((((nI 100) * ((nI 100) - (q11.2.1 1577 ((nI 7)).toNatClampNeg))) * q15.1) + (((nI 100) * (q15.2.1 1577 ((nI 7)).toNatClampNeg)) * (q18.1 - (nI 1)))) q18.2.1 q18.2.2) else none) else none else fX6_odds_134 n  l1 l2 (q8.1 1585 (((nI 1) + ((nI 2) * l1))).toNatClampNeg) (nI 0) q11.2.1 q11.2.2) else none) else Option.bind (fX6_shoalMany n  q4.2.1 q4.2.2) (fun q20 => some (((nI 10000) * q20.1), q20.2.1, q20.2.2))))
theorem wX6_odds_37 {g : jG} {d : Nat} {K : jK} {cr : jR} {c sl : Nat} {Qr : jQ} {Qx : jX} (hM : jMW K cr) (n : Nat) (l1 : Int32) (l2 : Int32) (l3 : Int32) (ci : jI) (cj : jJ) {q} (h : fX6_odds_37 n  l1 l2 l3 ci cj = some q) (hq : Qr (some (.int q.1)) K q.2.1 q.2.2 cr) : Ev g (d + 6) mX6_odds 37 [.ref 1547, .int l1, .int l2, .int l3, jU, jU, jU] [] K ci cj cr c sl Qr Qx := by
  unfold fX6_odds_37 at h
  refine ev_aload_n dX6_odds_37 rfl ?_
  obtain ⟨q1, z2, h⟩ := Option.bind_eq_some_iff.mp h
  refine ev_zV0 dX6_odds_38 vX6_405_6 (hk1547 hM) (Or.inl (hl1547 hM)) (Nat.le_of_ble_eq_true rfl) (Nat.le_of_ble_eq_true rfl) rfl (metX6_shoalMany hM n  _ _ z2 ?_)
  show Ev g _ _ 41 _ [.int q1.1] K q1.2.1 q1.2.2 cr c sl Qr Qx
  refine ev_if_eq 54 dX6_odds_41 rfl (fun z3 => ?_) (fun z3 => ?_)
  · rw [if_pos z3] at h
    exact ev_mask [false, false, false, false, false, false, false] (wX6_odds_54 hM n    _ _ h hq)
  · rw [if_neg z3] at h
    refine ev_aload_n dX6_odds_44 rfl ?_
    refine ev_iconst (v := (nI 1)) dX6_odds_45 jc1 ?_
    refine ev_iconst (v := (nI 1)) dX6_odds_46 jc1 ?_
    refine ev_iconst (v := (nI 1)) dX6_odds_47 jc1 ?_
    obtain ⟨q4, z5, h⟩ := Option.bind_eq_some_iff.mp h
    refine ev_zV3 dX6_odds_48 vX6_531_6 (hk1547 hM) (Or.inl (hl1547 hM)) (Nat.le_of_ble_eq_true rfl) (Nat.le_of_ble_eq_true rfl) rfl (metX6_isAhead hM n _ _ _ _ _ z5 ?_)
    show Ev g _ _ 51 _ [.int q4.1] K q4.2.1 q4.2.2 cr c sl Qr Qx
    refine ev_if_ne 56 dX6_odds_51 rfl (fun z6 => ?_) (fun z6 => ?_)
    · rw [if_neg z6] at h
      refine ev_iload_n dX6_odds_56 rfl ?_
      refine ev_if_eq 69 dX6_odds_57 rfl (fun z7 => ?_) (fun z7 => ?_)
      · rw [if_pos z7] at h
        refine ev_aload_n dX6_odds_69 rfl ?_
        obtain ⟨q8, z9, h⟩ := Option.bind_eq_some_iff.mp h
        refine ev_zV0 dX6_odds_70 vX6_482_6 (hk1547 hM) (Or.inl (hl1547 hM)) (Nat.le_of_ble_eq_true rfl) (Nat.le_of_ble_eq_true rfl) rfl (metX6_laysVows hM n  _ _ z9 ?_)
        show Ev g _ _ 73 _ [] K q8.1 q8.2 cr c sl Qr Qx
        refine ev_aload_n dX6_odds_73 rfl ?_
        refine ev_getR dX6_odds_74 fX6_127_6 (hk1547 hM) (Or.inl (hl1547 hM)) rfl (hr50 hM) ?_
        refine ev_iconst (v := (nI 1)) dX6_odds_77 jc1 ?_
        refine ev_iconst (v := (nI 2)) dX6_odds_78 jc2 ?_
        refine ev_iload_n dX6_odds_79 rfl ?_
        refine ev_imul dX6_odds_80 ?_
        refine ev_iadd dX6_odds_81 ?_
        by_cases z10 : jok ((nI 1) + ((nI 2) * l1)) 166
        rotate_left
        · rw [if_neg z10] at h; cases h
        rw [if_pos z10] at h
        refine ev_iaload dX6_odds_82 (hk1585 hM) (Or.inl (hl1585 hM)) (jok.ix z10 (hn1585 hM)) ?_
        refine ev_istore (L' := [_, _, _, _, _, _, _]) dX6_odds_83 (by decide) rfl ?_
        refine ev_aload_n dX6_odds_85 rfl ?_
        refine ev_iload_n dX6_odds_86 rfl ?_
        obtain ⟨q11, z12, h⟩ := Option.bind_eq_some_iff.mp h
        refine ev_zV1 dX6_odds_87 vX6_464_6 (hk1547 hM) (Or.inl (hl1547 hM)) (Nat.le_of_ble_eq_true rfl) (Nat.le_of_ble_eq_true rfl) rfl (metX6_comesTo hM n _ _ _ z12 ?_)
        show Ev g _ _ 90 _ [.int q11.1] K q11.2.1 q11.2.2 cr c sl Qr Qx
        refine ev_iload_n dX6_odds_90 rfl ?_
        refine ev_icmp_ne 133 dX6_odds_91 rfl (fun z13 => ?_) (fun z13 => ?_)
        · rw [if_neg z13] at h
          refine ev_iconst (v := (nI 0)) dX6_odds_133 jc0 ?_
          exact ev_mask [true, true, true, false, true, false, false] (wX6_odds_134 hM n   _ _ _ _ _ _ h hq)
        · rw [if_pos z13] at h
          refine ev_bipush (v := (nI 100)) dX6_odds_94 jb100 ?_
          refine ev_bipush (v := (nI 100)) dX6_odds_96 jb100 ?_
          refine ev_aload_n dX6_odds_98 rfl ?_
          refine ev_getR dX6_odds_99 fX6_102_6 (hk1547 hM) (Or.inl (hl1547 hM)) rfl (hr39 hM) ?_
          refine ev_bipush (v := (nI 7)) dX6_odds_102 jb7 ?_
          by_cases z14 : jok (nI 7) 8
          rotate_left
          · rw [if_neg z14] at h; cases h
          rw [if_pos z14] at h
          refine ev_iaload dX6_odds_104 (hk1577 hM) (Or.inl (hl1577 hM)) (jok.ix z14 (hn1577 hM)) ?_
          refine ev_isub dX6_odds_105 ?_
          refine ev_imul dX6_odds_106 ?_
          refine ev_aload_n dX6_odds_107 rfl ?_
          obtain ⟨q15, z16, h⟩ := Option.bind_eq_some_iff.mp h
          refine ev_zV0 dX6_odds_108 vX6_405_6 (hk1547 hM) (Or.inl (hl1547 hM)) (Nat.le_of_ble_eq_true rfl) (Nat.le_of_ble_eq_true rfl) rfl (metX6_shoalMany hM n  _ _ z16 ?_)
          show Ev g _ _ 111 _ [.int q15.1, .int ((nI 100) * ((nI 100) - (q11.2.1 1577 ((nI 7)).toNatClampNeg)))] K q15.2.1 q15.2.2 cr c sl Qr Qx
          refine ev_imul dX6_odds_111 ?_
          refine ev_bipush (v := (nI 100)) dX6_odds_112 jb100 ?_
          refine ev_aload_n dX6_odds_114 rfl ?_
          refine ev_getR dX6_odds_115 fX6_102_6 (hk1547 hM) (Or.inl (hl1547 hM)) rfl (hr39 hM) ?_
          refine ev_bipush (v := (nI 7)) dX6_odds_118 jb7 ?_
          by_cases z17 : jok (nI 7) 8
          rotate_left
          · rw [if_neg z17] at h; cases h
          rw [if_pos z17] at h
          refine ev_iaload dX6_odds_120 (hk1577 hM) (Or.inl (hl1577 hM)) (jok.ix z17 (hn1577 hM)) ?_
          refine ev_imul dX6_odds_121 ?_
          refine ev_aload_n dX6_odds_122 rfl ?_
          obtain ⟨q18, z19, h⟩ := Option.bind_eq_some_iff.mp h
          refine ev_zV0 dX6_odds_123 vX6_405_6 (hk1547 hM) (Or.inl (hl1547 hM)) (Nat.le_of_ble_eq_true rfl) (Nat.le_of_ble_eq_true rfl) rfl (metX6_shoalMany hM n  _ _ z19 ?_)
          show Ev g _ _ 126 _ [.int q18.1, .int ((nI 100) * (q15.2.1 1577 ((nI 7)).toNatClampNeg)), .int (((nI 100) * ((nI 100) - (q11.2.1 1577 ((nI 7)).toNatClampNeg))) * q15.1)] K q18.2.1 q18.2.2 cr c sl Qr Qx
          refine ev_iconst (v := (nI 1)) dX6_odds_126 jc1 ?_
          refine ev_isub dX6_odds_127 ?_
          refine ev_imul dX6_odds_128 ?_
          refine ev_iadd dX6_odds_129 ?_
          refine ev_goto 134 dX6_odds_130 rfl ?_
          exact ev_mask [true, true, true, false, true, false, false] (wX6_odds_134 hM n   _ _ _ _ _ _ h hq)
      · rw [if_neg z7] at h
        refine ev_sipush (v := (nI 10000)) dX6_odds_60 js10000 ?_
        refine ev_aload_n dX6_odds_63 rfl ?_
        obtain ⟨q20, z21, h⟩ := Option.bind_eq_some_iff.mp h
        refine ev_zV0 dX6_odds_64 vX6_405_6 (hk1547 hM) (Or.inl (hl1547 hM)) (Nat.le_of_ble_eq_true rfl) (Nat.le_of_ble_eq_true rfl) rfl (metX6_shoalMany hM n  _ _ z21 ?_)
        show Ev g _ _ 67 _ [.int q20.1, .int (nI 10000)] K q20.2.1 q20.2.2 cr c sl Qr Qx
        refine ev_imul dX6_odds_67 ?_
        cases h
        exact ev_iret dX6_odds_68 rfl rfl hq
    · rw [if_pos z6] at h
      exact ev_mask [false, false, false, false, false, false, false] (wX6_odds_54 hM n    _ _ h hq)
def fX6_odds_15 (n : Nat) (l1 : Int32) (l2 : Int32) (t0 : Int32) (ci : jI) (cj : jJ) : Option (Int32 × jI × jJ) := if t0 = 0 then Option.bind (fX6_isShoal n l1 ci cj) (fun q2 => if q2.1 = 0 then fX6_odds_54 n   q2.2.1 q2.2.2 else Option.bind (fX6_isBay n ((l2).toInt64) q2.2.1 q2.2.2) (fun q5 => if q5.1 = 0 then fX6_odds_54 n   q5.2.1 q5.2.2 else fX6_odds_37 n  l1 l2 t0 q5.2.1 q5.2.2)) else fX6_odds_37 n  l1 l2 t0 ci cj
theorem wX6_odds_15 {g : jG} {d : Nat} {K : jK} {cr : jR} {c sl : Nat} {Qr : jQ} {Qx : jX} (hM : jMW K cr) (n : Nat) (l1 : Int32) (l2 : Int32) (t0 : Int32) (ci : jI) (cj : jJ) {q} (h : fX6_odds_15 n  l1 l2 t0 ci cj = some q) (hq : Qr (some (.int q.1)) K q.2.1 q.2.2 cr) : Ev g (d + 6) mX6_odds 15 [.ref 1547, .int l1, .int l2, jU, jU, jU, jU] [.int t0] K ci cj cr c sl Qr Qx := by
  unfold fX6_odds_15 at h
  refine ev_istore_n (L' := [_, _, _, _, _, _, _]) dX6_odds_15 (by decide) rfl ?_
  refine ev_iload_n dX6_odds_16 rfl ?_
  refine ev_if_ne 37 dX6_odds_17 rfl (fun z1 => ?_) (fun z1 => ?_)
  · rw [if_neg z1] at h
    exact wX6_odds_37 hM n   _ _ _ _ _ h hq
  · rw [if_pos z1] at h
    refine ev_aload_n dX6_odds_20 rfl ?_
    refine ev_iload_n dX6_odds_21 rfl ?_
    obtain ⟨q2, z3, h⟩ := Option.bind_eq_some_iff.mp h
    refine ev_zV1 dX6_odds_22 vX6_526_6 (hk1547 hM) (Or.inl (hl1547 hM)) (Nat.le_of_ble_eq_true rfl) (Nat.le_of_ble_eq_true rfl) rfl (metX6_isShoal hM n _ _ _ z3 ?_)
    show Ev g _ _ 25 _ [.int q2.1] K q2.2.1 q2.2.2 cr c sl Qr Qx
    refine ev_if_eq 54 dX6_odds_25 rfl (fun z4 => ?_) (fun z4 => ?_)
    · rw [if_pos z4] at h
      exact ev_mask [false, false, false, false, false, false, false] (wX6_odds_54 hM n    _ _ h hq)
    · rw [if_neg z4] at h
      refine ev_aload_n dX6_odds_28 rfl ?_
      refine ev_iload_n dX6_odds_29 rfl ?_
      refine ev_i2l dX6_odds_30 ?_
      obtain ⟨q5, z6, h⟩ := Option.bind_eq_some_iff.mp h
      refine ev_zV1 dX6_odds_31 vX6_516_6 (hk1547 hM) (Or.inl (hl1547 hM)) (Nat.le_of_ble_eq_true rfl) (Nat.le_of_ble_eq_true rfl) rfl (metX6_isBay hM n _ _ _ z6 ?_)
      show Ev g _ _ 34 _ [.int q5.1] K q5.2.1 q5.2.2 cr c sl Qr Qx
      refine ev_if_eq 54 dX6_odds_34 rfl (fun z7 => ?_) (fun z7 => ?_)
      · rw [if_pos z7] at h
        exact ev_mask [false, false, false, false, false, false, false] (wX6_odds_54 hM n    _ _ h hq)
      · rw [if_neg z7] at h
        exact wX6_odds_37 hM n   _ _ _ _ _ h hq
def fX6_odds_14 (n : Nat) (l1 : Int32) (l2 : Int32) (ci : jI) (cj : jJ) : Option (Int32 × jI × jJ) := fX6_odds_15 n  l1 l2 (nI 0) ci cj
theorem wX6_odds_14 {g : jG} {d : Nat} {K : jK} {cr : jR} {c sl : Nat} {Qr : jQ} {Qx : jX} (hM : jMW K cr) (n : Nat) (l1 : Int32) (l2 : Int32) (ci : jI) (cj : jJ) {q} (h : fX6_odds_14 n  l1 l2 ci cj = some q) (hq : Qr (some (.int q.1)) K q.2.1 q.2.2 cr) : Ev g (d + 6) mX6_odds 14 [.ref 1547, .int l1, .int l2, jU, jU, jU, jU] [] K ci cj cr c sl Qr Qx := by
  unfold fX6_odds_14 at h
  refine ev_iconst (v := (nI 0)) dX6_odds_14 jc0 ?_
  exact wX6_odds_15 hM n   _ _ _ _ _ h hq
def fX6_odds (n : Nat) (a0 : Int32) (a1 : Int32) (ci : jI) (cj : jJ) : Option (Int32 × jI × jJ) := if a0 = (-1) then if a1 = (-1) then fX6_odds_15 n  a0 a1 (nI 1) ci cj else fX6_odds_14 n  a0 a1 ci cj else fX6_odds_14 n  a0 a1 ci cj
theorem metX6_odds {g : jG} {d : Nat} {K : jK} {cr : jR} {c sl : Nat} {Qr : jQ} {Qx : jX} (hM : jMW K cr) (n : Nat) (a0 : Int32) (a1 : Int32) (ci : jI) (cj : jJ) {q} (h : fX6_odds n a0 a1 ci cj = some q) (hq : Qr (some (.int q.1)) K q.2.1 q.2.2 cr) : EvM g (d + 6) mX6_odds [.ref 1547, .int a0, .int a1] K ci cj cr c sl Qr Qx := by
  unfold fX6_odds at h
  show Ev g (d + 6) mX6_odds 0 [.ref 1547, .int a0, .int a1, jU, jU, jU, jU] [] K ci cj cr c sl Qr Qx
  refine ev_iload_n dX6_odds_0 rfl ?_
  refine ev_iconst (v := (-1)) dX6_odds_1 jcm1 ?_
  refine ev_icmp_ne 14 dX6_odds_2 rfl (fun z1 => ?_) (fun z1 => ?_)
  · rw [if_neg z1] at h
    exact wX6_odds_14 hM n   _ _ _ _ h hq
  · rw [if_pos z1] at h
    refine ev_iload_n dX6_odds_5 rfl ?_
    refine ev_iconst (v := (-1)) dX6_odds_6 jcm1 ?_
    refine ev_icmp_ne 14 dX6_odds_7 rfl (fun z2 => ?_) (fun z2 => ?_)
    · rw [if_neg z2] at h
      exact wX6_odds_14 hM n   _ _ _ _ h hq
    · rw [if_pos z2] at h
      refine ev_iconst (v := (nI 1)) dX6_odds_10 jc1 ?_
      refine ev_goto 15 dX6_odds_11 rfl ?_
      exact wX6_odds_15 hM n   _ _ _ _ _ h hq
