/-! STAGE A OF THE MODEL (printed by gen/model.py) -/
set_option maxRecDepth 100000
def fX6_hungerOf (n : Nat) (a0 : Int32) (ci : jI) (cj : jJ) : Option (Int32 × jI × jJ) := if jok ((nI 7) + ((nI 3) * a0)) 166 then some ((ci 1585 (((nI 7) + ((nI 3) * a0))).toNatClampNeg), ci, cj) else none
theorem metX6_hungerOf {g : jG} {d : Nat} {K : jK} {cr : jR} {c sl : Nat} {Qr : jQ} {Qx : jX} (hM : jMW K cr) (n : Nat) (a0 : Int32) (ci : jI) (cj : jJ) {q} (h : fX6_hungerOf n a0 ci cj = some q) (hq : Qr (some (.int q.1)) K q.2.1 q.2.2 cr) : EvM g (d + 1) mX6_hungerOf [.ref 1547, .int a0] K ci cj cr c sl Qr Qx := by
  unfold fX6_hungerOf at h
  show Ev g (d + 1) mX6_hungerOf 0 [.ref 1547, .int a0] [] K ci cj cr c sl Qr Qx
  refine ev_aload_n dX6_hungerOf_0 rfl ?_
  refine ev_getR dX6_hungerOf_1 fX6_127_6 (hk1547 hM) (Or.inl (hl1547 hM)) rfl (hr50 hM) ?_
  refine ev_bipush (v := (nI 7)) dX6_hungerOf_4 jb7 ?_
  refine ev_iconst (v := (nI 3)) dX6_hungerOf_6 jc3 ?_
  refine ev_iload_n dX6_hungerOf_7 rfl ?_
  refine ev_imul dX6_hungerOf_8 ?_
  refine ev_iadd dX6_hungerOf_9 ?_
  by_cases z1 : jok ((nI 7) + ((nI 3) * a0)) 166
  rotate_left
  · rw [if_neg z1] at h; cases h
  rw [if_pos z1] at h
  refine ev_iaload dX6_hungerOf_10 (hk1585 hM) (Or.inl (hl1585 hM)) (jok.ix z1 (hn1585 hM)) ?_
  cases h
  exact ev_iret dX6_hungerOf_11 rfl rfl hq
def fX6_lateOf (n : Nat) (a0 : Int32) (ci : jI) (cj : jJ) : Option (Int32 × jI × jJ) := if jok ((nI 9) + ((nI 3) * a0)) 166 then some ((ci 1585 (((nI 9) + ((nI 3) * a0))).toNatClampNeg), ci, cj) else none
theorem metX6_lateOf {g : jG} {d : Nat} {K : jK} {cr : jR} {c sl : Nat} {Qr : jQ} {Qx : jX} (hM : jMW K cr) (n : Nat) (a0 : Int32) (ci : jI) (cj : jJ) {q} (h : fX6_lateOf n a0 ci cj = some q) (hq : Qr (some (.int q.1)) K q.2.1 q.2.2 cr) : EvM g (d + 1) mX6_lateOf [.ref 1547, .int a0] K ci cj cr c sl Qr Qx := by
  unfold fX6_lateOf at h
  show Ev g (d + 1) mX6_lateOf 0 [.ref 1547, .int a0] [] K ci cj cr c sl Qr Qx
  refine ev_aload_n dX6_lateOf_0 rfl ?_
  refine ev_getR dX6_lateOf_1 fX6_127_6 (hk1547 hM) (Or.inl (hl1547 hM)) rfl (hr50 hM) ?_
  refine ev_bipush (v := (nI 9)) dX6_lateOf_4 jb9 ?_
  refine ev_iconst (v := (nI 3)) dX6_lateOf_6 jc3 ?_
  refine ev_iload_n dX6_lateOf_7 rfl ?_
  refine ev_imul dX6_lateOf_8 ?_
  refine ev_iadd dX6_lateOf_9 ?_
  by_cases z1 : jok ((nI 9) + ((nI 3) * a0)) 166
  rotate_left
  · rw [if_neg z1] at h; cases h
  rw [if_pos z1] at h
  refine ev_iaload dX6_lateOf_10 (hk1585 hM) (Or.inl (hl1585 hM)) (jok.ix z1 (hn1585 hM)) ?_
  cases h
  exact ev_iret dX6_lateOf_11 rfl rfl hq
def fX6_sinceOf (n : Nat) (a0 : Int32) (ci : jI) (cj : jJ) : Option (Int32 × jI × jJ) := if jok ((nI 26) + ((nI 2) * a0)) 166 then some ((ci 1585 (((nI 26) + ((nI 2) * a0))).toNatClampNeg), ci, cj) else none
theorem metX6_sinceOf {g : jG} {d : Nat} {K : jK} {cr : jR} {c sl : Nat} {Qr : jQ} {Qx : jX} (hM : jMW K cr) (n : Nat) (a0 : Int32) (ci : jI) (cj : jJ) {q} (h : fX6_sinceOf n a0 ci cj = some q) (hq : Qr (some (.int q.1)) K q.2.1 q.2.2 cr) : EvM g (d + 1) mX6_sinceOf [.ref 1547, .int a0] K ci cj cr c sl Qr Qx := by
  unfold fX6_sinceOf at h
  show Ev g (d + 1) mX6_sinceOf 0 [.ref 1547, .int a0] [] K ci cj cr c sl Qr Qx
  refine ev_aload_n dX6_sinceOf_0 rfl ?_
  refine ev_getR dX6_sinceOf_1 fX6_127_6 (hk1547 hM) (Or.inl (hl1547 hM)) rfl (hr50 hM) ?_
  refine ev_bipush (v := (nI 26)) dX6_sinceOf_4 jb26 ?_
  refine ev_iconst (v := (nI 2)) dX6_sinceOf_6 jc2 ?_
  refine ev_iload_n dX6_sinceOf_7 rfl ?_
  refine ev_imul dX6_sinceOf_8 ?_
  refine ev_iadd dX6_sinceOf_9 ?_
  by_cases z1 : jok ((nI 26) + ((nI 2) * a0)) 166
  rotate_left
  · rw [if_neg z1] at h; cases h
  rw [if_pos z1] at h
  refine ev_iaload dX6_sinceOf_10 (hk1585 hM) (Or.inl (hl1585 hM)) (jok.ix z1 (hn1585 hM)) ?_
  cases h
  exact ev_iret dX6_sinceOf_11 rfl rfl hq
def fX6_trueOf (n : Nat) (a0 : Int32) (ci : jI) (cj : jJ) : Option (Int32 × jI × jJ) := if jok ((nI 25) + ((nI 2) * a0)) 166 then some ((ci 1585 (((nI 25) + ((nI 2) * a0))).toNatClampNeg), ci, cj) else none
theorem metX6_trueOf {g : jG} {d : Nat} {K : jK} {cr : jR} {c sl : Nat} {Qr : jQ} {Qx : jX} (hM : jMW K cr) (n : Nat) (a0 : Int32) (ci : jI) (cj : jJ) {q} (h : fX6_trueOf n a0 ci cj = some q) (hq : Qr (some (.int q.1)) K q.2.1 q.2.2 cr) : EvM g (d + 1) mX6_trueOf [.ref 1547, .int a0] K ci cj cr c sl Qr Qx := by
  unfold fX6_trueOf at h
  show Ev g (d + 1) mX6_trueOf 0 [.ref 1547, .int a0] [] K ci cj cr c sl Qr Qx
  refine ev_aload_n dX6_trueOf_0 rfl ?_
  refine ev_getR dX6_trueOf_1 fX6_127_6 (hk1547 hM) (Or.inl (hl1547 hM)) rfl (hr50 hM) ?_
  refine ev_bipush (v := (nI 25)) dX6_trueOf_4 jb25 ?_
  refine ev_iconst (v := (nI 2)) dX6_trueOf_6 jc2 ?_
  refine ev_iload_n dX6_trueOf_7 rfl ?_
  refine ev_imul dX6_trueOf_8 ?_
  refine ev_iadd dX6_trueOf_9 ?_
  by_cases z1 : jok ((nI 25) + ((nI 2) * a0)) 166
  rotate_left
  · rw [if_neg z1] at h; cases h
  rw [if_pos z1] at h
  refine ev_iaload dX6_trueOf_10 (hk1585 hM) (Or.inl (hl1585 hM)) (jok.ix z1 (hn1585 hM)) ?_
  cases h
  exact ev_iret dX6_trueOf_11 rfl rfl hq
def fX6_qPartOf (n : Nat) (a0 : Int32) (a1 : Int32) (ci : jI) (cj : jJ) : Option (Int64 × jI × jJ) := if a0 = (nI 0) then Option.bind (fX6_hungerOf n (ci 1547 52) ci cj) (fun q2 => some ((q2.1).toInt64, q2.2.1, q2.2.2)) else if a0 = (nI 1) then if jok (nI 0) 166 then some (((ci 1585 ((nI 0)).toNatClampNeg)).toInt64, ci, cj) else none else if a0 = (nI 2) then if jok (ci 1547 52) 6 then some (((ci 1587 ((ci 1547 52)).toNatClampNeg)).toInt64, ci, cj) else none else if a0 = (nI 3) then Option.bind (fX6_lateOf n (ci 1547 52) ci cj) (fun q9 => some ((q9.1).toInt64, q9.2.1, q9.2.2)) else if a0 = (nI 4) then some (((ci 1547 54)).toInt64, ci, cj) else if a0 = (nI 5) then some (((ci 1547 55)).toInt64, ci, cj) else if a0 = (nI 6) then if jok (ci 1547 52) 6 then some (((ci 1588 ((ci 1547 52)).toNatClampNeg)).toInt64, ci, cj) else none else if a0 = (nI 7) then Option.bind (fX6_trueOf n (ci 1547 53) ci cj) (fun q16 => some ((q16.1).toInt64, q16.2.1, q16.2.2)) else if a0 = (nI 8) then Option.bind (fX6_sinceOf n (ci 1547 53) ci cj) (fun q19 => some ((q19.1).toInt64, q19.2.1, q19.2.2)) else if a0 = (nI 9) then some (((ci 1547 53)).toInt64, ci, cj) else some (((ci 1547 52)).toInt64, ci, cj)
theorem metX6_qPartOf {g : jG} {d : Nat} {K : jK} {cr : jR} {c sl : Nat} {Qr : jQ} {Qx : jX} (hM : jMW K cr) (n : Nat) (a0 : Int32) (a1 : Int32) (ci : jI) (cj : jJ) {q} (h : fX6_qPartOf n a0 a1 ci cj = some q) (hq : Qr (some (.long q.1)) K q.2.1 q.2.2 cr) : EvM g (d + 2) mX6_qPartOf [.ref 1547, .int a0, .int a1] K ci cj cr c sl Qr Qx := by
  unfold fX6_qPartOf at h
  show Ev g (d + 2) mX6_qPartOf 0 [.ref 1547, .int a0, .int a1] [] K ci cj cr c sl Qr Qx
  refine ev_iload_n dX6_qPartOf_0 rfl ?_
  by_cases z1 : a0 = (nI 0)
  · rw [if_pos z1] at h
    refine ev_tableIn 56 dX6_qPartOf_1 (by rw [z1]; decide) (by rw [z1]; decide) (by rw [z1]; rfl) rfl ?_
    refine ev_aload_n dX6_qPartOf_56 rfl ?_
    refine ev_aload_n dX6_qPartOf_57 rfl ?_
    refine ev_getI dX6_qPartOf_58 fX6_435_6 (hk1547 hM) (Or.inl (hl1547 hM)) rfl ?_
    obtain ⟨q2, z3, h⟩ := Option.bind_eq_some_iff.mp h
    refine ev_zV1 dX6_qPartOf_61 vX6_477_6 (hk1547 hM) (Or.inl (hl1547 hM)) (Nat.le_of_ble_eq_true rfl) (Nat.le_of_ble_eq_true rfl) rfl (metX6_hungerOf hM n _ _ _ z3 ?_)
    show Ev g _ _ 64 _ [.int q2.1] K q2.2.1 q2.2.2 cr c sl Qr Qx
    refine ev_i2l dX6_qPartOf_64 ?_
    cases h
    exact ev_lret dX6_qPartOf_65 rfl hq
  rw [if_neg z1] at h
  by_cases z4 : a0 = (nI 1)
  · rw [if_pos z4] at h
    refine ev_tableIn 66 dX6_qPartOf_1 (by rw [z4]; decide) (by rw [z4]; decide) (by rw [z4]; rfl) rfl ?_
    refine ev_aload_n dX6_qPartOf_66 rfl ?_
    refine ev_getR dX6_qPartOf_67 fX6_127_6 (hk1547 hM) (Or.inl (hl1547 hM)) rfl (hr50 hM) ?_
    refine ev_iconst (v := (nI 0)) dX6_qPartOf_70 jc0 ?_
    by_cases z5 : jok (nI 0) 166
    rotate_left
    · rw [if_neg z5] at h; cases h
    rw [if_pos z5] at h
    refine ev_iaload dX6_qPartOf_71 (hk1585 hM) (Or.inl (hl1585 hM)) (jok.ix z5 (hn1585 hM)) ?_
    refine ev_i2l dX6_qPartOf_72 ?_
    cases h
    exact ev_lret dX6_qPartOf_73 rfl hq
  rw [if_neg z4] at h
  by_cases z6 : a0 = (nI 2)
  · rw [if_pos z6] at h
    refine ev_tableIn 74 dX6_qPartOf_1 (by rw [z6]; decide) (by rw [z6]; decide) (by rw [z6]; rfl) rfl ?_
    refine ev_aload_n dX6_qPartOf_74 rfl ?_
    refine ev_getR dX6_qPartOf_75 fX6_133_6 (hk1547 hM) (Or.inl (hl1547 hM)) rfl (hr56 hM) ?_
    refine ev_aload_n dX6_qPartOf_78 rfl ?_
    refine ev_getI dX6_qPartOf_79 fX6_435_6 (hk1547 hM) (Or.inl (hl1547 hM)) rfl ?_
    by_cases z7 : jok (ci 1547 52) 6
    rotate_left
    · rw [if_neg z7] at h; cases h
    rw [if_pos z7] at h
    refine ev_iaload dX6_qPartOf_82 (hk1587 hM) (Or.inl (hl1587 hM)) (jok.ix z7 (hn1587 hM)) ?_
    refine ev_i2l dX6_qPartOf_83 ?_
    cases h
    exact ev_lret dX6_qPartOf_84 rfl hq
  rw [if_neg z6] at h
  by_cases z8 : a0 = (nI 3)
  · rw [if_pos z8] at h
    refine ev_tableIn 85 dX6_qPartOf_1 (by rw [z8]; decide) (by rw [z8]; decide) (by rw [z8]; rfl) rfl ?_
    refine ev_aload_n dX6_qPartOf_85 rfl ?_
    refine ev_aload_n dX6_qPartOf_86 rfl ?_
    refine ev_getI dX6_qPartOf_87 fX6_435_6 (hk1547 hM) (Or.inl (hl1547 hM)) rfl ?_
    obtain ⟨q9, z10, h⟩ := Option.bind_eq_some_iff.mp h
    refine ev_zV1 dX6_qPartOf_90 vX6_520_6 (hk1547 hM) (Or.inl (hl1547 hM)) (Nat.le_of_ble_eq_true rfl) (Nat.le_of_ble_eq_true rfl) rfl (metX6_lateOf hM n _ _ _ z10 ?_)
    show Ev g _ _ 93 _ [.int q9.1] K q9.2.1 q9.2.2 cr c sl Qr Qx
    refine ev_i2l dX6_qPartOf_93 ?_
    cases h
    exact ev_lret dX6_qPartOf_94 rfl hq
  rw [if_neg z8] at h
  by_cases z11 : a0 = (nI 4)
  · rw [if_pos z11] at h
    refine ev_tableIn 95 dX6_qPartOf_1 (by rw [z11]; decide) (by rw [z11]; decide) (by rw [z11]; rfl) rfl ?_
    refine ev_aload_n dX6_qPartOf_95 rfl ?_
    refine ev_getI dX6_qPartOf_96 fX6_445_6 (hk1547 hM) (Or.inl (hl1547 hM)) rfl ?_
    refine ev_i2l dX6_qPartOf_99 ?_
    cases h
    exact ev_lret dX6_qPartOf_100 rfl hq
  rw [if_neg z11] at h
  by_cases z12 : a0 = (nI 5)
  · rw [if_pos z12] at h
    refine ev_tableIn 101 dX6_qPartOf_1 (by rw [z12]; decide) (by rw [z12]; decide) (by rw [z12]; rfl) rfl ?_
    refine ev_aload_n dX6_qPartOf_101 rfl ?_
    refine ev_getI dX6_qPartOf_102 fX6_451_6 (hk1547 hM) (Or.inl (hl1547 hM)) rfl ?_
    refine ev_i2l dX6_qPartOf_105 ?_
    cases h
    exact ev_lret dX6_qPartOf_106 rfl hq
  rw [if_neg z12] at h
  by_cases z13 : a0 = (nI 6)
  · rw [if_pos z13] at h
    refine ev_tableIn 107 dX6_qPartOf_1 (by rw [z13]; decide) (by rw [z13]; decide) (by rw [z13]; rfl) rfl ?_
    refine ev_aload_n dX6_qPartOf_107 rfl ?_
    refine ev_getR dX6_qPartOf_108 fX6_136_6 (hk1547 hM) (Or.inl (hl1547 hM)) rfl (hr57 hM) ?_
    refine ev_aload_n dX6_qPartOf_111 rfl ?_
    refine ev_getI dX6_qPartOf_112 fX6_435_6 (hk1547 hM) (Or.inl (hl1547 hM)) rfl ?_
    by_cases z14 : jok (ci 1547 52) 6
    rotate_left
    · rw [if_neg z14] at h; cases h
    rw [if_pos z14] at h
    refine ev_iaload dX6_qPartOf_115 (hk1588 hM) (Or.inl (hl1588 hM)) (jok.ix z14 (hn1588 hM)) ?_
    refine ev_i2l dX6_qPartOf_116 ?_
    cases h
    exact ev_lret dX6_qPartOf_117 rfl hq
  rw [if_neg z13] at h
  by_cases z15 : a0 = (nI 7)
  · rw [if_pos z15] at h
    refine ev_tableIn 118 dX6_qPartOf_1 (by rw [z15]; decide) (by rw [z15]; decide) (by rw [z15]; rfl) rfl ?_
    refine ev_aload_n dX6_qPartOf_118 rfl ?_
    refine ev_aload_n dX6_qPartOf_119 rfl ?_
    refine ev_getI dX6_qPartOf_120 fX6_429_6 (hk1547 hM) (Or.inl (hl1547 hM)) rfl ?_
    obtain ⟨q16, z17, h⟩ := Option.bind_eq_some_iff.mp h
    refine ev_zV1 dX6_qPartOf_123 vX6_425_6 (hk1547 hM) (Or.inl (hl1547 hM)) (Nat.le_of_ble_eq_true rfl) (Nat.le_of_ble_eq_true rfl) rfl (metX6_trueOf hM n _ _ _ z17 ?_)
    show Ev g _ _ 126 _ [.int q16.1] K q16.2.1 q16.2.2 cr c sl Qr Qx
    refine ev_i2l dX6_qPartOf_126 ?_
    cases h
    exact ev_lret dX6_qPartOf_127 rfl hq
  rw [if_neg z15] at h
  by_cases z18 : a0 = (nI 8)
  · rw [if_pos z18] at h
    refine ev_tableIn 128 dX6_qPartOf_1 (by rw [z18]; decide) (by rw [z18]; decide) (by rw [z18]; rfl) rfl ?_
    refine ev_aload_n dX6_qPartOf_128 rfl ?_
    refine ev_aload_n dX6_qPartOf_129 rfl ?_
    refine ev_getI dX6_qPartOf_130 fX6_429_6 (hk1547 hM) (Or.inl (hl1547 hM)) rfl ?_
    obtain ⟨q19, z20, h⟩ := Option.bind_eq_some_iff.mp h
    refine ev_zV1 dX6_qPartOf_133 vX6_494_6 (hk1547 hM) (Or.inl (hl1547 hM)) (Nat.le_of_ble_eq_true rfl) (Nat.le_of_ble_eq_true rfl) rfl (metX6_sinceOf hM n _ _ _ z20 ?_)
    show Ev g _ _ 136 _ [.int q19.1] K q19.2.1 q19.2.2 cr c sl Qr Qx
    refine ev_i2l dX6_qPartOf_136 ?_
    cases h
    exact ev_lret dX6_qPartOf_137 rfl hq
  rw [if_neg z18] at h
  by_cases z21 : a0 = (nI 9)
  · rw [if_pos z21] at h
    refine ev_tableIn 138 dX6_qPartOf_1 (by rw [z21]; decide) (by rw [z21]; decide) (by rw [z21]; rfl) rfl ?_
    refine ev_aload_n dX6_qPartOf_138 rfl ?_
    refine ev_getI dX6_qPartOf_139 fX6_429_6 (hk1547 hM) (Or.inl (hl1547 hM)) rfl ?_
    refine ev_i2l dX6_qPartOf_142 ?_
    cases h
    exact ev_lret dX6_qPartOf_143 rfl hq
  rw [if_neg z21] at h
  refine ev_tableOut 144 dX6_qPartOf_1 (jtab_0_9 z1 z4 z6 z8 z11 z12 z13 z15 z18 z21) rfl ?_
  refine ev_aload_n dX6_qPartOf_144 rfl ?_
  refine ev_getI dX6_qPartOf_145 fX6_435_6 (hk1547 hM) (Or.inl (hl1547 hM)) rfl ?_
  refine ev_i2l dX6_qPartOf_148 ?_
  cases h
  exact ev_lret dX6_qPartOf_149 rfl hq
def fX6_codesTell_136 (n : Nat) (rec19 : Int32 → Int32 → jI → jJ → Option (Int64 × jI × jJ)) (l1 : Int32) (l2 : Int32) (ci : jI) (cj : jJ) : Option (Int64 × jI × jJ) := rec19 l1 (l2 + (nI 1)) ci cj
theorem wX6_codesTell_136 {g : jG} {d : Nat} {K : jK} {cr : jR} {c sl : Nat} {Qr : jQ} {Qx : jX} (hM : jMW K cr) (n : Nat) (rec19 : Int32 → Int32 → jI → jJ → Option (Int64 × jI × jJ)) (hrec19 : (∀ (l1 : Int32) (l2 : Int32) (ci : jI) (cj : jJ) {q}, rec19 l1 l2 ci cj = some q → Qr (some (.long q.1)) K q.2.1 q.2.2 cr → Ev g (d + 3) mX6_codesTell 19 [.ref 1547, .int l1, .int l2, jU] [] K ci cj cr c sl Qr Qx)) (l1 : Int32) (l2 : Int32) (ci : jI) (cj : jJ) {q} (h : fX6_codesTell_136 n rec19 l1 l2 ci cj = some q) (hq : Qr (some (.long q.1)) K q.2.1 q.2.2 cr) : Ev g (d + 3) mX6_codesTell 136 [.ref 1547, .int l1, .int l2, jU] [] K ci cj cr c sl Qr Qx := by
  unfold fX6_codesTell_136 at h
  refine ev_iinc (v := (l2 + (nI 1))) (L' := [_, _, _, _]) dX6_codesTell_136 rfl (by rw [ji_1]) (by decide) rfl ?_
  refine ev_goto 19 dX6_codesTell_139 rfl ?_
  exact hrec19 _ _ _ _ h hq
def fX6_codesTell_19 (n : Nat) : Nat → Int32 → Int32 → jI → jJ → Option (Int64 × jI × jJ)
  | 0, _, _, _, _ => none
  | k + 1, l1, l2, ci, cj => if jok ((nI 4) + l1) 8 then if (ci 1583 (((nI 4) + l1)).toNatClampNeg) ≤ l2 then if jok (nI 0) 1700 then some ((cj 1622 ((nI 0)).toNatClampNeg), ci, cj) else none else if jok ((nI 1600) + l2) 3200 then if (ci 1584 (((nI 1600) + l2)).toNatClampNeg) < (nI 1000) then if (ci 1584 (((nI 1600) + l2)).toNatClampNeg) < (nI 40) then if (ci 1584 (((nI 1600) + l2)).toNatClampNeg) = (nI 13) then Option.bind (fX6_qPuts n (lN 1) ci cj) (fun q13 => fX6_codesTell_136 n (fX6_codesTell_19 n  k) l1 l2 q13.1 q13.2) else if (ci 1584 (((nI 1600) + l2)).toNatClampNeg) = (nI 12) then if jok ((ci 1547 103) - (nI 1)) 1700 then if jok ((ci 1547 103) - (nI 1)) 1700 then fX6_codesTell_136 n (fX6_codesTell_19 n  k) l1 l2 ci (ju cj 1622 (((ci 1547 103) - (nI 1))).toNatClampNeg ((lN 1) - (cj 1622 (((ci 1547 103) - (nI 1))).toNatClampNeg))) else none else none else Option.bind (fX6_qJoins n (ci 1584 (((nI 1600) + l2)).toNatClampNeg) ci cj) (fun q9 => fX6_codesTell_136 n (fX6_codesTell_19 n  k) l1 l2 q9.1 q9.2) else Option.bind (fX6_qPartOf n ((ci 1584 (((nI 1600) + l2)).toNatClampNeg) - (nI 40)) (nI 0) ci cj) (fun q15 => Option.bind (fX6_qPuts n q15.1 q15.2.1 q15.2.2) (fun q17 => fX6_codesTell_136 n (fX6_codesTell_19 n  k) l1 l2 q17.1 q17.2)) else Option.bind (fX6_qPuts n ((((ci 1584 (((nI 1600) + l2)).toNatClampNeg) - (nI 1000))).toInt64) ci cj) (fun q19 => fX6_codesTell_136 n (fX6_codesTell_19 n  k) l1 l2 q19.1 q19.2) else none else none
theorem wX6_codesTell_19 {g : jG} {d : Nat} {K : jK} {cr : jR} {c sl : Nat} {Qr : jQ} {Qx : jX} (hM : jMW K cr) (n : Nat) : ∀ (k : Nat) (l1 : Int32) (l2 : Int32) (ci : jI) (cj : jJ) {q}, fX6_codesTell_19 n  k l1 l2 ci cj = some q → Qr (some (.long q.1)) K q.2.1 q.2.2 cr → Ev g (d + 3) mX6_codesTell 19 [.ref 1547, .int l1, .int l2, jU] [] K ci cj cr c sl Qr Qx := by
  intro k
  induction k with
  | zero =>
    intro l1 l2 ci cj q h hq
    rw [fX6_codesTell_19.eq_1] at h; cases h
  | succ k ih =>
    intro l1 l2 ci cj q h hq
    rw [fX6_codesTell_19.eq_2] at h
    refine ev_iload_n dX6_codesTell_19 rfl ?_
    refine ev_aload_n dX6_codesTell_20 rfl ?_
    refine ev_getR dX6_codesTell_21 fX6_121_6 (hk1547 hM) (Or.inl (hl1547 hM)) rfl (hr45 hM) ?_
    refine ev_iconst (v := (nI 4)) dX6_codesTell_24 jc4 ?_
    refine ev_iload_n dX6_codesTell_25 rfl ?_
    refine ev_iadd dX6_codesTell_26 ?_
    by_cases z1 : jok ((nI 4) + l1) 8
    rotate_left
    · rw [if_neg z1] at h; cases h
    rw [if_pos z1] at h
    refine ev_iaload dX6_codesTell_27 (hk1583 hM) (Or.inl (hl1583 hM)) (jok.ix z1 (hn1583 hM)) ?_
    refine ev_icmp_ge 142 dX6_codesTell_28 rfl (fun z2 => ?_) (fun z2 => ?_)
    · rw [if_pos z2] at h
      refine ev_aload_n dX6_codesTell_142 rfl ?_
      refine ev_getR dX6_codesTell_143 fX6_242_6 (hk1547 hM) (Or.inl (hl1547 hM)) rfl (hr102 hM) ?_
      refine ev_iconst (v := (nI 0)) dX6_codesTell_146 jc0 ?_
      by_cases z3 : jok (nI 0) 1700
      rotate_left
      · rw [if_neg z3] at h; cases h
      rw [if_pos z3] at h
      refine ev_laload dX6_codesTell_147 (hk1622 hM) (Or.inl (hl1622 hM)) (jok.ix z3 (hn1622 hM)) ?_
      cases h
      exact ev_lret dX6_codesTell_148 rfl hq
    · rw [if_neg z2] at h
      refine ev_aload_n dX6_codesTell_31 rfl ?_
      refine ev_getR dX6_codesTell_32 fX6_124_6 (hk1547 hM) (Or.inl (hl1547 hM)) rfl (hr46 hM) ?_
      refine ev_sipush (v := (nI 1600)) dX6_codesTell_35 js1600 ?_
      refine ev_iload_n dX6_codesTell_38 rfl ?_
      refine ev_iadd dX6_codesTell_39 ?_
      by_cases z4 : jok ((nI 1600) + l2) 3200
      rotate_left
      · rw [if_neg z4] at h; cases h
      rw [if_pos z4] at h
      refine ev_iaload dX6_codesTell_40 (hk1584 hM) (Or.inl (hl1584 hM)) (jok.ix z4 (hn1584 hM)) ?_
      refine ev_istore_n (L' := [_, _, _, _]) dX6_codesTell_41 (by decide) rfl ?_
      refine ev_iload_n dX6_codesTell_42 rfl ?_
      refine ev_sipush (v := (nI 1000)) dX6_codesTell_43 js1000 ?_
      refine ev_icmp_lt 62 dX6_codesTell_46 rfl (fun z5 => ?_) (fun z5 => ?_)
      · rw [if_pos z5] at h
        refine ev_iload_n dX6_codesTell_62 rfl ?_
        refine ev_bipush (v := (nI 40)) dX6_codesTell_63 jb40 ?_
        refine ev_icmp_lt 84 dX6_codesTell_65 rfl (fun z6 => ?_) (fun z6 => ?_)
        · rw [if_pos z6] at h
          refine ev_iload_n dX6_codesTell_84 rfl ?_
          refine ev_bipush (v := (nI 13)) dX6_codesTell_85 jb13 ?_
          refine ev_icmp_ne 98 dX6_codesTell_87 rfl (fun z7 => ?_) (fun z7 => ?_)
          · rw [if_neg z7] at h
            refine ev_iload_n dX6_codesTell_98 rfl ?_
            refine ev_bipush (v := (nI 12)) dX6_codesTell_99 jb12 ?_
            refine ev_icmp_ne 131 dX6_codesTell_101 rfl (fun z8 => ?_) (fun z8 => ?_)
            · rw [if_neg z8] at h
              refine ev_aload_n dX6_codesTell_131 rfl ?_
              refine ev_iload_n dX6_codesTell_132 rfl ?_
              obtain ⟨q9, z10, h⟩ := Option.bind_eq_some_iff.mp h
              refine ev_zV1 dX6_codesTell_133 vX6_419_6 (hk1547 hM) (Or.inl (hl1547 hM)) (Nat.le_of_ble_eq_true rfl) (Nat.le_of_ble_eq_true rfl) rfl (metX6_qJoins hM n _ _ _ z10 ?_)
              show Ev g _ _ 136 _ [] K q9.1 q9.2 cr c sl Qr Qx
              exact ev_mask [true, true, true, false] (wX6_codesTell_136 hM n _ (ih) _ _ _ _ h hq)
            · rw [if_pos z8] at h
              refine ev_aload_n dX6_codesTell_104 rfl ?_
              refine ev_getR dX6_codesTell_105 fX6_242_6 (hk1547 hM) (Or.inl (hl1547 hM)) rfl (hr102 hM) ?_
              refine ev_aload_n dX6_codesTell_108 rfl ?_
              refine ev_getI dX6_codesTell_109 fX6_408_6 (hk1547 hM) (Or.inl (hl1547 hM)) rfl ?_
              refine ev_iconst (v := (nI 1)) dX6_codesTell_112 jc1 ?_
              refine ev_isub dX6_codesTell_113 ?_
              refine ev_lconst (v := lN 1) dX6_codesTell_114 rfl ?_
              refine ev_aload_n dX6_codesTell_115 rfl ?_
              refine ev_getR dX6_codesTell_116 fX6_242_6 (hk1547 hM) (Or.inl (hl1547 hM)) rfl (hr102 hM) ?_
              refine ev_aload_n dX6_codesTell_119 rfl ?_
              refine ev_getI dX6_codesTell_120 fX6_408_6 (hk1547 hM) (Or.inl (hl1547 hM)) rfl ?_
              refine ev_iconst (v := (nI 1)) dX6_codesTell_123 jc1 ?_
              refine ev_isub dX6_codesTell_124 ?_
              by_cases z11 : jok ((ci 1547 103) - (nI 1)) 1700
              rotate_left
              · rw [if_neg z11] at h; cases h
              rw [if_pos z11] at h
              refine ev_laload dX6_codesTell_125 (hk1622 hM) (Or.inl (hl1622 hM)) (jok.ix z11 (hn1622 hM)) ?_
              refine ev_lsub dX6_codesTell_126 ?_
              by_cases z12 : jok ((ci 1547 103) - (nI 1)) 1700
              rotate_left
              · rw [if_neg z12] at h; cases h
              rw [if_pos z12] at h
              refine ev_lastore dX6_codesTell_127 (hk1622 hM) (hl1622 hM) (jok.ix z12 (hn1622 hM)) ?_
              refine ev_goto 136 dX6_codesTell_128 rfl ?_
              exact ev_mask [true, true, true, false] (wX6_codesTell_136 hM n _ (ih) _ _ _ _ h hq)
          · rw [if_pos z7] at h
            refine ev_aload_n dX6_codesTell_90 rfl ?_
            refine ev_lconst (v := lN 1) dX6_codesTell_91 rfl ?_
            obtain ⟨q13, z14, h⟩ := Option.bind_eq_some_iff.mp h
            refine ev_zV1 dX6_codesTell_92 vX6_411_6 (hk1547 hM) (Or.inl (hl1547 hM)) (Nat.le_of_ble_eq_true rfl) (Nat.le_of_ble_eq_true rfl) rfl (metX6_qPuts hM n _ _ _ z14 ?_)
            show Ev g _ _ 95 _ [] K q13.1 q13.2 cr c sl Qr Qx
            refine ev_goto 136 dX6_codesTell_95 rfl ?_
            exact ev_mask [true, true, true, false] (wX6_codesTell_136 hM n _ (ih) _ _ _ _ h hq)
        · rw [if_neg z6] at h
          refine ev_aload_n dX6_codesTell_68 rfl ?_
          refine ev_aload_n dX6_codesTell_69 rfl ?_
          refine ev_iload_n dX6_codesTell_70 rfl ?_
          refine ev_bipush (v := (nI 40)) dX6_codesTell_71 jb40 ?_
          refine ev_isub dX6_codesTell_73 ?_
          refine ev_iconst (v := (nI 0)) dX6_codesTell_74 jc0 ?_
          obtain ⟨q15, z16, h⟩ := Option.bind_eq_some_iff.mp h
          refine ev_zV2 dX6_codesTell_75 vX6_415_6 (hk1547 hM) (Or.inl (hl1547 hM)) (Nat.le_of_ble_eq_true rfl) (Nat.le_of_ble_eq_true rfl) rfl (metX6_qPartOf hM n _ _ _ _ z16 ?_)
          show Ev g _ _ 78 _ [.long q15.1, .ref 1547] K q15.2.1 q15.2.2 cr c sl Qr Qx
          obtain ⟨q17, z18, h⟩ := Option.bind_eq_some_iff.mp h
          refine ev_zV1 dX6_codesTell_78 vX6_411_6 (hk1547 hM) (Or.inl (hl1547 hM)) (Nat.le_of_ble_eq_true rfl) (Nat.le_of_ble_eq_true rfl) rfl (metX6_qPuts hM n _ _ _ z18 ?_)
          show Ev g _ _ 81 _ [] K q17.1 q17.2 cr c sl Qr Qx
          refine ev_goto 136 dX6_codesTell_81 rfl ?_
          exact ev_mask [true, true, true, false] (wX6_codesTell_136 hM n _ (ih) _ _ _ _ h hq)
      · rw [if_neg z5] at h
        refine ev_aload_n dX6_codesTell_49 rfl ?_
        refine ev_iload_n dX6_codesTell_50 rfl ?_
        refine ev_sipush (v := (nI 1000)) dX6_codesTell_51 js1000 ?_
        refine ev_isub dX6_codesTell_54 ?_
        refine ev_i2l dX6_codesTell_55 ?_
        obtain ⟨q19, z20, h⟩ := Option.bind_eq_some_iff.mp h
        refine ev_zV1 dX6_codesTell_56 vX6_411_6 (hk1547 hM) (Or.inl (hl1547 hM)) (Nat.le_of_ble_eq_true rfl) (Nat.le_of_ble_eq_true rfl) rfl (metX6_qPuts hM n _ _ _ z20 ?_)
        show Ev g _ _ 59 _ [] K q19.1 q19.2 cr c sl Qr Qx
        refine ev_goto 136 dX6_codesTell_59 rfl ?_
        exact ev_mask [true, true, true, false] (wX6_codesTell_136 hM n _ (ih) _ _ _ _ h hq)
def fX6_codesTell (n : Nat) (a0 : Int32) (ci : jI) (cj : jJ) : Option (Int64 × jI × jJ) := if jok ((nI 4) + a0) 8 then fX6_codesTell_19 n  n a0 ((ju (ju ci 1547 49 a0) 1547 103 (nI 0)) 1582 (((nI 4) + a0)).toNatClampNeg) (ju (ju ci 1547 49 a0) 1547 103 (nI 0)) cj else none
theorem metX6_codesTell {g : jG} {d : Nat} {K : jK} {cr : jR} {c sl : Nat} {Qr : jQ} {Qx : jX} (hM : jMW K cr) (n : Nat) (a0 : Int32) (ci : jI) (cj : jJ) {q} (h : fX6_codesTell n a0 ci cj = some q) (hq : Qr (some (.long q.1)) K q.2.1 q.2.2 cr) : EvM g (d + 3) mX6_codesTell [.ref 1547, .int a0] K ci cj cr c sl Qr Qx := by
  unfold fX6_codesTell at h
  show Ev g (d + 3) mX6_codesTell 0 [.ref 1547, .int a0, jU, jU] [] K ci cj cr c sl Qr Qx
  refine ev_aload_n dX6_codesTell_0 rfl ?_
  refine ev_iload_n dX6_codesTell_1 rfl ?_
  refine ev_putI dX6_codesTell_2 (pX6_309_6 _) (hk1547 hM) (hl1547 hM) rfl rfl rfl ?_
  refine ev_aload_n dX6_codesTell_5 rfl ?_
  refine ev_iconst (v := (nI 0)) dX6_codesTell_6 jc0 ?_
  refine ev_putI dX6_codesTell_7 (pX6_408_6 _) (hk1547 hM) (hl1547 hM) rfl rfl rfl ?_
  refine ev_aload_n dX6_codesTell_10 rfl ?_
  refine ev_getR dX6_codesTell_11 fX6_118_6 (hk1547 hM) (Or.inl (hl1547 hM)) rfl (hr44 hM) ?_
  refine ev_iconst (v := (nI 4)) dX6_codesTell_14 jc4 ?_
  refine ev_iload_n dX6_codesTell_15 rfl ?_
  refine ev_iadd dX6_codesTell_16 ?_
  by_cases z1 : jok ((nI 4) + a0) 8
  rotate_left
  · rw [if_neg z1] at h; cases h
  rw [if_pos z1] at h
  refine ev_iaload dX6_codesTell_17 (hk1582 hM) (Or.inl (hl1582 hM)) (jok.ix z1 (hn1582 hM)) ?_
  refine ev_istore_n (L' := [_, _, _, _]) dX6_codesTell_18 (by decide) rfl ?_
  exact wX6_codesTell_19 hM n   n _ _ _ _ h hq
def fX6_isTold_17 (n : Nat) (t0 : Int32) (ci : jI) (cj : jJ) : Option (Int32 × jI × jJ) := if t0 = 0 ∨ t0 = 1 then some (t0, ci, cj) else none
theorem wX6_isTold_17 {g : jG} {d : Nat} {K : jK} {cr : jR} {c sl : Nat} {Qr : jQ} {Qx : jX} (hM : jMW K cr) (n : Nat) (t0 : Int32) (ci : jI) (cj : jJ) {q} (h : fX6_isTold_17 n  t0 ci cj = some q) (hq : Qr (some (.int q.1)) K q.2.1 q.2.2 cr) : Ev g (d + 1) mX6_isTold 17 [jU, jU] [.int t0] K ci cj cr c sl Qr Qx := by
  unfold fX6_isTold_17 at h
  by_cases z1 : t0 = 0 ∨ t0 = 1
  rotate_left
  · rw [if_neg z1] at h; cases h
  rw [if_pos z1] at h
  cases h
  exact ev_iret dX6_isTold_17 rfl (jbool z1) hq
def fX6_isTold (n : Nat) (a0 : Int32) (ci : jI) (cj : jJ) : Option (Int32 × jI × jJ) := if jok ((nI 4) + a0) 8 then if (ci 1582 (((nI 4) + a0)).toNatClampNeg) = (-1) then fX6_isTold_17 n  (nI 0) ci cj else fX6_isTold_17 n  (nI 1) ci cj else none
theorem metX6_isTold {g : jG} {d : Nat} {K : jK} {cr : jR} {c sl : Nat} {Qr : jQ} {Qx : jX} (hM : jMW K cr) (n : Nat) (a0 : Int32) (ci : jI) (cj : jJ) {q} (h : fX6_isTold n a0 ci cj = some q) (hq : Qr (some (.int q.1)) K q.2.1 q.2.2 cr) : EvM g (d + 1) mX6_isTold [.ref 1547, .int a0] K ci cj cr c sl Qr Qx := by
  unfold fX6_isTold at h
  show Ev g (d + 1) mX6_isTold 0 [.ref 1547, .int a0] [] K ci cj cr c sl Qr Qx
  refine ev_aload_n dX6_isTold_0 rfl ?_
  refine ev_getR dX6_isTold_1 fX6_118_6 (hk1547 hM) (Or.inl (hl1547 hM)) rfl (hr44 hM) ?_
  refine ev_iconst (v := (nI 4)) dX6_isTold_4 jc4 ?_
  refine ev_iload_n dX6_isTold_5 rfl ?_
  refine ev_iadd dX6_isTold_6 ?_
  by_cases z1 : jok ((nI 4) + a0) 8
  rotate_left
  · rw [if_neg z1] at h; cases h
  rw [if_pos z1] at h
  refine ev_iaload dX6_isTold_7 (hk1582 hM) (Or.inl (hl1582 hM)) (jok.ix z1 (hn1582 hM)) ?_
  refine ev_iconst (v := (-1)) dX6_isTold_8 jcm1 ?_
  refine ev_icmp_eq 16 dX6_isTold_9 rfl (fun z2 => ?_) (fun z2 => ?_)
  · rw [if_pos z2] at h
    refine ev_iconst (v := (nI 0)) dX6_isTold_16 jc0 ?_
    exact ev_mask [false, false] (wX6_isTold_17 hM n   _ _ _ h hq)
  · rw [if_neg z2] at h
    refine ev_iconst (v := (nI 1)) dX6_isTold_12 jc1 ?_
    refine ev_goto 17 dX6_isTold_13 rfl ?_
    exact ev_mask [false, false] (wX6_isTold_17 hM n   _ _ _ h hq)
def fX6_doesCount_51 (n : Nat) (t0 : Int32) (ci : jI) (cj : jJ) : Option (Int32 × jI × jJ) := if t0 = 0 ∨ t0 = 1 then some (t0, ci, cj) else none
theorem wX6_doesCount_51 {g : jG} {d : Nat} {K : jK} {cr : jR} {c sl : Nat} {Qr : jQ} {Qx : jX} (hM : jMW K cr) (n : Nat) (t0 : Int32) (ci : jI) (cj : jJ) {q} (h : fX6_doesCount_51 n  t0 ci cj = some q) (hq : Qr (some (.int q.1)) K q.2.1 q.2.2 cr) : Ev g (d + 4) mX6_doesCount 51 [jU, jU] [.int t0] K ci cj cr c sl Qr Qx := by
  unfold fX6_doesCount_51 at h
  by_cases z1 : t0 = 0 ∨ t0 = 1
  rotate_left
  · rw [if_neg z1] at h; cases h
  rw [if_pos z1] at h
  cases h
  exact ev_iret dX6_doesCount_51 rfl (jbool z1) hq
def fX6_doesCount_21 (n : Nat) (t0 : Int32) (ci : jI) (cj : jJ) : Option (Int32 × jI × jJ) := if t0 = 0 ∨ t0 = 1 then some (t0, ci, cj) else none
theorem wX6_doesCount_21 {g : jG} {d : Nat} {K : jK} {cr : jR} {c sl : Nat} {Qr : jQ} {Qx : jX} (hM : jMW K cr) (n : Nat) (t0 : Int32) (ci : jI) (cj : jJ) {q} (h : fX6_doesCount_21 n  t0 ci cj = some q) (hq : Qr (some (.int q.1)) K q.2.1 q.2.2 cr) : Ev g (d + 4) mX6_doesCount 21 [jU, jU] [.int t0] K ci cj cr c sl Qr Qx := by
  unfold fX6_doesCount_21 at h
  by_cases z1 : t0 = 0 ∨ t0 = 1
  rotate_left
  · rw [if_neg z1] at h; cases h
  rw [if_pos z1] at h
  cases h
  exact ev_iret dX6_doesCount_21 rfl (jbool z1) hq
def fX6_doesCount (n : Nat) (a0 : Int32) (ci : jI) (cj : jJ) : Option (Int32 × jI × jJ) := Option.bind (fX6_isTold n (nI 3) ci cj) (fun q1 => if q1.1 = 0 then Option.bind (fX6_trueOf n a0 q1.2.1 q1.2.2) (fun q9 => if q9.1 ≤ 0 then fX6_doesCount_21 n  (nI 0) q9.2.1 q9.2.2 else fX6_doesCount_21 n  (nI 1) q9.2.1 q9.2.2) else Option.bind (fX6_bayOf n a0 (ju q1.2.1 1547 53 a0) q1.2.2) (fun q4 => Option.bind (fX6_codesTell n (nI 3) (ju q4.2.1 1547 52 q4.1) q4.2.2) (fun q6 => if q6.1 = (lN 1) then fX6_doesCount_51 n  (nI 1) q6.2.1 q6.2.2 else fX6_doesCount_51 n  (nI 0) q6.2.1 q6.2.2)))
theorem metX6_doesCount {g : jG} {d : Nat} {K : jK} {cr : jR} {c sl : Nat} {Qr : jQ} {Qx : jX} (hM : jMW K cr) (n : Nat) (a0 : Int32) (ci : jI) (cj : jJ) {q} (h : fX6_doesCount n a0 ci cj = some q) (hq : Qr (some (.int q.1)) K q.2.1 q.2.2 cr) : EvM g (d + 4) mX6_doesCount [.ref 1547, .int a0] K ci cj cr c sl Qr Qx := by
  unfold fX6_doesCount at h
  show Ev g (d + 4) mX6_doesCount 0 [.ref 1547, .int a0] [] K ci cj cr c sl Qr Qx
  refine ev_aload_n dX6_doesCount_0 rfl ?_
  refine ev_iconst (v := (nI 3)) dX6_doesCount_1 jc3 ?_
  obtain ⟨q1, z2, h⟩ := Option.bind_eq_some_iff.mp h
  refine ev_zV1 dX6_doesCount_2 vX6_422_6 (hk1547 hM) (Or.inl (hl1547 hM)) (Nat.le_of_ble_eq_true rfl) (Nat.le_of_ble_eq_true rfl) rfl (metX6_isTold hM n _ _ _ z2 ?_)
  show Ev g _ _ 5 _ [.int q1.1] K q1.2.1 q1.2.2 cr c sl Qr Qx
  refine ev_if_ne 22 dX6_doesCount_5 rfl (fun z3 => ?_) (fun z3 => ?_)
  · rw [if_neg z3] at h
    refine ev_aload_n dX6_doesCount_22 rfl ?_
    refine ev_iload_n dX6_doesCount_23 rfl ?_
    refine ev_putI dX6_doesCount_24 (pX6_429_6 _) (hk1547 hM) (hl1547 hM) rfl rfl rfl ?_
    refine ev_aload_n dX6_doesCount_27 rfl ?_
    refine ev_aload_n dX6_doesCount_28 rfl ?_
    refine ev_iload_n dX6_doesCount_29 rfl ?_
    obtain ⟨q4, z5, h⟩ := Option.bind_eq_some_iff.mp h
    refine ev_zV1 dX6_doesCount_30 vX6_432_6 (hk1547 hM) (Or.inl (hl1547 hM)) (Nat.le_of_ble_eq_true rfl) (Nat.le_of_ble_eq_true rfl) rfl (metX6_bayOf hM n _ _ _ z5 ?_)
    show Ev g _ _ 33 _ [.int q4.1, .ref 1547] K q4.2.1 q4.2.2 cr c sl Qr Qx
    refine ev_putI dX6_doesCount_33 (pX6_435_6 _) (hk1547 hM) (hl1547 hM) rfl rfl rfl ?_
    refine ev_aload_n dX6_doesCount_36 rfl ?_
    refine ev_iconst (v := (nI 3)) dX6_doesCount_37 jc3 ?_
    obtain ⟨q6, z7, h⟩ := Option.bind_eq_some_iff.mp h
    refine ev_zV1 dX6_doesCount_38 vX6_438_6 (hk1547 hM) (Or.inl (hl1547 hM)) (Nat.le_of_ble_eq_true rfl) (Nat.le_of_ble_eq_true rfl) rfl (metX6_codesTell hM n _ _ _ z7 ?_)
    show Ev g _ _ 41 _ [.long q6.1] K q6.2.1 q6.2.2 cr c sl Qr Qx
    refine ev_lconst (v := lN 1) dX6_doesCount_41 rfl ?_
    refine ev_lcif_ne 50 dX6_doesCount_42 dX6_doesCount_43 rfl (fun z8 => ?_) (fun z8 => ?_)
    · rw [if_neg z8] at h
      refine ev_iconst (v := (nI 0)) dX6_doesCount_50 jc0 ?_
      exact ev_mask [false, false] (wX6_doesCount_51 hM n   _ _ _ h hq)
    · rw [if_pos z8] at h
      refine ev_iconst (v := (nI 1)) dX6_doesCount_46 jc1 ?_
      refine ev_goto 51 dX6_doesCount_47 rfl ?_
      exact ev_mask [false, false] (wX6_doesCount_51 hM n   _ _ _ h hq)
  · rw [if_pos z3] at h
    refine ev_aload_n dX6_doesCount_8 rfl ?_
    refine ev_iload_n dX6_doesCount_9 rfl ?_
    obtain ⟨q9, z10, h⟩ := Option.bind_eq_some_iff.mp h
    refine ev_zV1 dX6_doesCount_10 vX6_425_6 (hk1547 hM) (Or.inl (hl1547 hM)) (Nat.le_of_ble_eq_true rfl) (Nat.le_of_ble_eq_true rfl) rfl (metX6_trueOf hM n _ _ _ z10 ?_)
    show Ev g _ _ 13 _ [.int q9.1] K q9.2.1 q9.2.2 cr c sl Qr Qx
    refine ev_if_le 20 dX6_doesCount_13 rfl (fun z11 => ?_) (fun z11 => ?_)
    · rw [if_pos z11] at h
      refine ev_iconst (v := (nI 0)) dX6_doesCount_20 jc0 ?_
      exact ev_mask [false, false] (wX6_doesCount_21 hM n   _ _ _ h hq)
    · rw [if_neg z11] at h
      refine ev_iconst (v := (nI 1)) dX6_doesCount_16 jc1 ?_
      refine ev_goto 21 dX6_doesCount_17 rfl ?_
      exact ev_mask [false, false] (wX6_doesCount_21 hM n   _ _ _ h hq)
def fX6_pairMany (n : Nat) (ci : jI) (cj : jJ) : Option (Int32 × jI × jJ) := if jok (nI 5) 8 then some ((ci 1577 ((nI 5)).toNatClampNeg), ci, cj) else none
theorem metX6_pairMany {g : jG} {d : Nat} {K : jK} {cr : jR} {c sl : Nat} {Qr : jQ} {Qx : jX} (hM : jMW K cr) (n : Nat) (ci : jI) (cj : jJ) {q} (h : fX6_pairMany n  ci cj = some q) (hq : Qr (some (.int q.1)) K q.2.1 q.2.2 cr) : EvM g (d + 1) mX6_pairMany [.ref 1547] K ci cj cr c sl Qr Qx := by
  unfold fX6_pairMany at h
  show Ev g (d + 1) mX6_pairMany 0 [.ref 1547] [] K ci cj cr c sl Qr Qx
  refine ev_aload_n dX6_pairMany_0 rfl ?_
  refine ev_getR dX6_pairMany_1 fX6_102_6 (hk1547 hM) (Or.inl (hl1547 hM)) rfl (hr39 hM) ?_
  refine ev_iconst (v := (nI 5)) dX6_pairMany_4 jc5 ?_
  by_cases z1 : jok (nI 5) 8
  rotate_left
  · rw [if_neg z1] at h; cases h
  rw [if_pos z1] at h
  refine ev_iaload dX6_pairMany_5 (hk1577 hM) (Or.inl (hl1577 hM)) (jok.ix z1 (hn1577 hM)) ?_
  cases h
  exact ev_iret dX6_pairMany_6 rfl rfl hq
def fX6_countMany_23 (n : Nat) (rec4 : Int32 → Int32 → jI → jJ → Option (Int32 × jI × jJ)) (l1 : Int32) (l2 : Int32) (ci : jI) (cj : jJ) : Option (Int32 × jI × jJ) := rec4 l1 (l2 + (nI 1)) ci cj
theorem wX6_countMany_23 {g : jG} {d : Nat} {K : jK} {cr : jR} {c sl : Nat} {Qr : jQ} {Qx : jX} (hM : jMW K cr) (n : Nat) (rec4 : Int32 → Int32 → jI → jJ → Option (Int32 × jI × jJ)) (hrec4 : (∀ (l1 : Int32) (l2 : Int32) (ci : jI) (cj : jJ) {q}, rec4 l1 l2 ci cj = some q → Qr (some (.int q.1)) K q.2.1 q.2.2 cr → Ev g (d + 5) mX6_countMany 4 [.ref 1547, .int l1, .int l2] [] K ci cj cr c sl Qr Qx)) (l1 : Int32) (l2 : Int32) (ci : jI) (cj : jJ) {q} (h : fX6_countMany_23 n rec4 l1 l2 ci cj = some q) (hq : Qr (some (.int q.1)) K q.2.1 q.2.2 cr) : Ev g (d + 5) mX6_countMany 23 [.ref 1547, .int l1, .int l2] [] K ci cj cr c sl Qr Qx := by
  unfold fX6_countMany_23 at h
  refine ev_iinc (v := (l2 + (nI 1))) (L' := [_, _, _]) dX6_countMany_23 rfl (by rw [ji_1]) (by decide) rfl ?_
  refine ev_goto 4 dX6_countMany_26 rfl ?_
  exact hrec4 _ _ _ _ h hq
def fX6_countMany_4 (n : Nat) : Nat → Int32 → Int32 → jI → jJ → Option (Int32 × jI × jJ)
  | 0, _, _, _, _ => none
  | k + 1, l1, l2, ci, cj => Option.bind (fX6_pairMany n  ci cj) (fun q1 => if q1.1 ≤ l2 then some (l1, q1.2.1, q1.2.2) else Option.bind (fX6_doesCount n l2 q1.2.1 q1.2.2) (fun q4 => if q4.1 = 0 then fX6_countMany_23 n (fX6_countMany_4 n  k) l1 l2 q4.2.1 q4.2.2 else fX6_countMany_23 n (fX6_countMany_4 n  k) (l1 + (nI 1)) l2 q4.2.1 q4.2.2))
theorem wX6_countMany_4 {g : jG} {d : Nat} {K : jK} {cr : jR} {c sl : Nat} {Qr : jQ} {Qx : jX} (hM : jMW K cr) (n : Nat) : ∀ (k : Nat) (l1 : Int32) (l2 : Int32) (ci : jI) (cj : jJ) {q}, fX6_countMany_4 n  k l1 l2 ci cj = some q → Qr (some (.int q.1)) K q.2.1 q.2.2 cr → Ev g (d + 5) mX6_countMany 4 [.ref 1547, .int l1, .int l2] [] K ci cj cr c sl Qr Qx := by
  intro k
  induction k with
  | zero =>
    intro l1 l2 ci cj q h hq
    rw [fX6_countMany_4.eq_1] at h; cases h
  | succ k ih =>
    intro l1 l2 ci cj q h hq
    rw [fX6_countMany_4.eq_2] at h
    refine ev_iload_n dX6_countMany_4 rfl ?_
    refine ev_aload_n dX6_countMany_5 rfl ?_
    obtain ⟨q1, z2, h⟩ := Option.bind_eq_some_iff.mp h
    refine ev_zV0 dX6_countMany_6 vX6_402_6 (hk1547 hM) (Or.inl (hl1547 hM)) (Nat.le_of_ble_eq_true rfl) (Nat.le_of_ble_eq_true rfl) rfl (metX6_pairMany hM n  _ _ z2 ?_)
    show Ev g _ _ 9 _ [.int q1.1, .int l2] K q1.2.1 q1.2.2 cr c sl Qr Qx
    refine ev_icmp_ge 29 dX6_countMany_9 rfl (fun z3 => ?_) (fun z3 => ?_)
    · rw [if_pos z3] at h
      refine ev_iload_n dX6_countMany_29 rfl ?_
      cases h
      exact ev_iret dX6_countMany_30 rfl rfl hq
    · rw [if_neg z3] at h
      refine ev_aload_n dX6_countMany_12 rfl ?_
      refine ev_iload_n dX6_countMany_13 rfl ?_
      obtain ⟨q4, z5, h⟩ := Option.bind_eq_some_iff.mp h
      refine ev_zV1 dX6_countMany_14 vX6_442_6 (hk1547 hM) (Or.inl (hl1547 hM)) (Nat.le_of_ble_eq_true rfl) (Nat.le_of_ble_eq_true rfl) rfl (metX6_doesCount hM n _ _ _ z5 ?_)
      show Ev g _ _ 17 _ [.int q4.1] K q4.2.1 q4.2.2 cr c sl Qr Qx
      refine ev_if_eq 23 dX6_countMany_17 rfl (fun z6 => ?_) (fun z6 => ?_)
      · rw [if_pos z6] at h
        exact wX6_countMany_23 hM n _ (ih) _ _ _ _ h hq
      · rw [if_neg z6] at h
        refine ev_iinc (v := (l1 + (nI 1))) (L' := [_, _, _]) dX6_countMany_20 rfl (by rw [ji_1]) (by decide) rfl ?_
        exact wX6_countMany_23 hM n _ (ih) _ _ _ _ h hq
def fX6_countMany (n : Nat) (ci : jI) (cj : jJ) : Option (Int32 × jI × jJ) := fX6_countMany_4 n  n (nI 0) (nI 0) ci cj
theorem metX6_countMany {g : jG} {d : Nat} {K : jK} {cr : jR} {c sl : Nat} {Qr : jQ} {Qx : jX} (hM : jMW K cr) (n : Nat) (ci : jI) (cj : jJ) {q} (h : fX6_countMany n  ci cj = some q) (hq : Qr (some (.int q.1)) K q.2.1 q.2.2 cr) : EvM g (d + 5) mX6_countMany [.ref 1547] K ci cj cr c sl Qr Qx := by
  unfold fX6_countMany at h
  show Ev g (d + 5) mX6_countMany 0 [.ref 1547, jU, jU] [] K ci cj cr c sl Qr Qx
  refine ev_iconst (v := (nI 0)) dX6_countMany_0 jc0 ?_
  refine ev_istore_n (L' := [_, _, _]) dX6_countMany_1 (by decide) rfl ?_
  refine ev_iconst (v := (nI 0)) dX6_countMany_2 jc0 ?_
  refine ev_istore_n (L' := [_, _, _]) dX6_countMany_3 (by decide) rfl ?_
  exact wX6_countMany_4 hM n   n _ _ _ _ h hq
def fX6_shoalMany (n : Nat) (ci : jI) (cj : jJ) : Option (Int32 × jI × jJ) := if jok (nI 6) 8 then some ((ci 1577 ((nI 6)).toNatClampNeg), ci, cj) else none
theorem metX6_shoalMany {g : jG} {d : Nat} {K : jK} {cr : jR} {c sl : Nat} {Qr : jQ} {Qx : jX} (hM : jMW K cr) (n : Nat) (ci : jI) (cj : jJ) {q} (h : fX6_shoalMany n  ci cj = some q) (hq : Qr (some (.int q.1)) K q.2.1 q.2.2 cr) : EvM g (d + 1) mX6_shoalMany [.ref 1547] K ci cj cr c sl Qr Qx := by
  unfold fX6_shoalMany at h
  show Ev g (d + 1) mX6_shoalMany 0 [.ref 1547] [] K ci cj cr c sl Qr Qx
  refine ev_aload_n dX6_shoalMany_0 rfl ?_
  refine ev_getR dX6_shoalMany_1 fX6_102_6 (hk1547 hM) (Or.inl (hl1547 hM)) rfl (hr39 hM) ?_
  refine ev_bipush (v := (nI 6)) dX6_shoalMany_4 jb6 ?_
  by_cases z1 : jok (nI 6) 8
  rotate_left
  · rw [if_neg z1] at h; cases h
  rw [if_pos z1] at h
  refine ev_iaload dX6_shoalMany_6 (hk1577 hM) (Or.inl (hl1577 hM)) (jok.ix z1 (hn1577 hM)) ?_
  cases h
  exact ev_iret dX6_shoalMany_7 rfl rfl hq
def fX6_insideMany_29 (n : Nat) (rec4 : Int32 → Int32 → jI → jJ → Option (Int32 × jI × jJ)) (l1 : Int32) (l2 : Int32) (ci : jI) (cj : jJ) : Option (Int32 × jI × jJ) := rec4 l1 (l2 + (nI 1)) ci cj
theorem wX6_insideMany_29 {g : jG} {d : Nat} {K : jK} {cr : jR} {c sl : Nat} {Qr : jQ} {Qx : jX} (hM : jMW K cr) (n : Nat) (rec4 : Int32 → Int32 → jI → jJ → Option (Int32 × jI × jJ)) (hrec4 : (∀ (l1 : Int32) (l2 : Int32) (ci : jI) (cj : jJ) {q}, rec4 l1 l2 ci cj = some q → Qr (some (.int q.1)) K q.2.1 q.2.2 cr → Ev g (d + 2) mX6_insideMany 4 [.ref 1547, .int l1, .int l2] [] K ci cj cr c sl Qr Qx)) (l1 : Int32) (l2 : Int32) (ci : jI) (cj : jJ) {q} (h : fX6_insideMany_29 n rec4 l1 l2 ci cj = some q) (hq : Qr (some (.int q.1)) K q.2.1 q.2.2 cr) : Ev g (d + 2) mX6_insideMany 29 [.ref 1547, .int l1, .int l2] [] K ci cj cr c sl Qr Qx := by
  unfold fX6_insideMany_29 at h
  refine ev_iinc (v := (l2 + (nI 1))) (L' := [_, _, _]) dX6_insideMany_29 rfl (by rw [ji_1]) (by decide) rfl ?_
  refine ev_goto 4 dX6_insideMany_32 rfl ?_
  exact hrec4 _ _ _ _ h hq
def fX6_insideMany_4 (n : Nat) : Nat → Int32 → Int32 → jI → jJ → Option (Int32 × jI × jJ)
  | 0, _, _, _, _ => none
  | k + 1, l1, l2, ci, cj => Option.bind (fX6_shoalMany n  ci cj) (fun q1 => if q1.1 ≤ l2 then some (l1, q1.2.1, q1.2.2) else if jok ((nI 2) + ((nI 2) * l2)) 166 then if (q1.2.1 1585 (((nI 2) + ((nI 2) * l2))).toNatClampNeg) = (-1) then fX6_insideMany_29 n (fX6_insideMany_4 n  k) l1 l2 q1.2.1 q1.2.2 else fX6_insideMany_29 n (fX6_insideMany_4 n  k) (l1 + (nI 1)) l2 q1.2.1 q1.2.2 else none)
theorem wX6_insideMany_4 {g : jG} {d : Nat} {K : jK} {cr : jR} {c sl : Nat} {Qr : jQ} {Qx : jX} (hM : jMW K cr) (n : Nat) : ∀ (k : Nat) (l1 : Int32) (l2 : Int32) (ci : jI) (cj : jJ) {q}, fX6_insideMany_4 n  k l1 l2 ci cj = some q → Qr (some (.int q.1)) K q.2.1 q.2.2 cr → Ev g (d + 2) mX6_insideMany 4 [.ref 1547, .int l1, .int l2] [] K ci cj cr c sl Qr Qx := by
  intro k
  induction k with
  | zero =>
    intro l1 l2 ci cj q h hq
    rw [fX6_insideMany_4.eq_1] at h; cases h
  | succ k ih =>
    intro l1 l2 ci cj q h hq
    rw [fX6_insideMany_4.eq_2] at h
    refine ev_iload_n dX6_insideMany_4 rfl ?_
    refine ev_aload_n dX6_insideMany_5 rfl ?_
    obtain ⟨q1, z2, h⟩ := Option.bind_eq_some_iff.mp h
    refine ev_zV0 dX6_insideMany_6 vX6_405_6 (hk1547 hM) (Or.inl (hl1547 hM)) (Nat.le_of_ble_eq_true rfl) (Nat.le_of_ble_eq_true rfl) rfl (metX6_shoalMany hM n  _ _ z2 ?_)
    show Ev g _ _ 9 _ [.int q1.1, .int l2] K q1.2.1 q1.2.2 cr c sl Qr Qx
    refine ev_icmp_ge 35 dX6_insideMany_9 rfl (fun z3 => ?_) (fun z3 => ?_)
    · rw [if_pos z3] at h
      refine ev_iload_n dX6_insideMany_35 rfl ?_
      cases h
      exact ev_iret dX6_insideMany_36 rfl rfl hq
    · rw [if_neg z3] at h
      refine ev_aload_n dX6_insideMany_12 rfl ?_
      refine ev_getR dX6_insideMany_13 fX6_127_6 (hk1547 hM) (Or.inl (hl1547 hM)) rfl (hr50 hM) ?_
      refine ev_iconst (v := (nI 2)) dX6_insideMany_16 jc2 ?_
      refine ev_iconst (v := (nI 2)) dX6_insideMany_17 jc2 ?_
      refine ev_iload_n dX6_insideMany_18 rfl ?_
      refine ev_imul dX6_insideMany_19 ?_
      refine ev_iadd dX6_insideMany_20 ?_
      by_cases z4 : jok ((nI 2) + ((nI 2) * l2)) 166
      rotate_left
      · rw [if_neg z4] at h; cases h
      rw [if_pos z4] at h
      refine ev_iaload dX6_insideMany_21 (hk1585 hM) (Or.inl (hl1585 hM)) (jok.ix z4 (hn1585 hM)) ?_
      refine ev_iconst (v := (-1)) dX6_insideMany_22 jcm1 ?_
      refine ev_icmp_eq 29 dX6_insideMany_23 rfl (fun z5 => ?_) (fun z5 => ?_)
      · rw [if_pos z5] at h
        exact wX6_insideMany_29 hM n _ (ih) _ _ _ _ h hq
      · rw [if_neg z5] at h
        refine ev_iinc (v := (l1 + (nI 1))) (L' := [_, _, _]) dX6_insideMany_26 rfl (by rw [ji_1]) (by decide) rfl ?_
        exact wX6_insideMany_29 hM n _ (ih) _ _ _ _ h hq
def fX6_insideMany (n : Nat) (ci : jI) (cj : jJ) : Option (Int32 × jI × jJ) := fX6_insideMany_4 n  n (nI 0) (nI 0) ci cj
theorem metX6_insideMany {g : jG} {d : Nat} {K : jK} {cr : jR} {c sl : Nat} {Qr : jQ} {Qx : jX} (hM : jMW K cr) (n : Nat) (ci : jI) (cj : jJ) {q} (h : fX6_insideMany n  ci cj = some q) (hq : Qr (some (.int q.1)) K q.2.1 q.2.2 cr) : EvM g (d + 2) mX6_insideMany [.ref 1547] K ci cj cr c sl Qr Qx := by
  unfold fX6_insideMany at h
  show Ev g (d + 2) mX6_insideMany 0 [.ref 1547, jU, jU] [] K ci cj cr c sl Qr Qx
  refine ev_iconst (v := (nI 0)) dX6_insideMany_0 jc0 ?_
  refine ev_istore_n (L' := [_, _, _]) dX6_insideMany_1 (by decide) rfl ?_
  refine ev_iconst (v := (nI 0)) dX6_insideMany_2 jc0 ?_
  refine ev_istore_n (L' := [_, _, _]) dX6_insideMany_3 (by decide) rfl ?_
  exact wX6_insideMany_4 hM n   n _ _ _ _ h hq
def fX6_has (n : Nat) (a0 : Int32) (ci : jI) (cj : jJ) : Option (Int32 × jI × jJ) := if a0 = (nI 0) then if jok ((nI 4) + a0) 8 then some ((ci 1577 (((nI 4) + a0)).toNatClampNeg), ci, cj) else none else if a0 = (nI 1) then if jok ((nI 4) + a0) 8 then some ((ci 1577 (((nI 4) + a0)).toNatClampNeg), ci, cj) else none else if a0 = (nI 2) then if jok ((nI 4) + a0) 8 then some ((ci 1577 (((nI 4) + a0)).toNatClampNeg), ci, cj) else none else if a0 = (nI 3) then if jok (nI 0) 166 then some ((ci 1585 ((nI 0)).toNatClampNeg), ci, cj) else none else if a0 = (nI 4) then Option.bind (fX6_countMany n  ci cj) (fun q10 => some (q10.1, q10.2.1, q10.2.2)) else if a0 = (nI 5) then Option.bind (fX6_insideMany n  ci cj) (fun q13 => some (q13.1, q13.2.1, q13.2.2)) else if a0 = (nI 6) then Option.bind (fX6_caughtLatest n  ci cj) (fun q16 => some (q16.1, q16.2.1, q16.2.2)) else if a0 = (nI 7) then if jok (nI 45) 166 then some ((ci 1585 ((nI 45)).toNatClampNeg), ci, cj) else none else if a0 = (nI 8) then some ((ci 1547 64), ci, cj) else if a0 = (nI 9) then some ((ci 1547 68), ci, cj) else some ((-1), ci, cj)
theorem metX6_has {g : jG} {d : Nat} {K : jK} {cr : jR} {c sl : Nat} {Qr : jQ} {Qx : jX} (hM : jMW K cr) (n : Nat) (a0 : Int32) (ci : jI) (cj : jJ) {q} (h : fX6_has n a0 ci cj = some q) (hq : Qr (some (.int q.1)) K q.2.1 q.2.2 cr) : EvM g (d + 6) mX6_has [.ref 1547, .int a0] K ci cj cr c sl Qr Qx := by
  unfold fX6_has at h
  show Ev g (d + 6) mX6_has 0 [.ref 1547, .int a0] [] K ci cj cr c sl Qr Qx
  refine ev_iload_n dX6_has_0 rfl ?_
  by_cases z1 : a0 = (nI 0)
  · rw [if_pos z1] at h
    refine ev_tableIn 56 dX6_has_1 (by rw [z1]; decide) (by rw [z1]; decide) (by rw [z1]; rfl) rfl ?_
    refine ev_aload_n dX6_has_56 rfl ?_
    refine ev_getR dX6_has_57 fX6_102_6 (hk1547 hM) (Or.inl (hl1547 hM)) rfl (hr39 hM) ?_
    refine ev_iconst (v := (nI 4)) dX6_has_60 jc4 ?_
    refine ev_iload_n dX6_has_61 rfl ?_
    refine ev_iadd dX6_has_62 ?_
    by_cases z2 : jok ((nI 4) + a0) 8
    rotate_left
    · rw [if_neg z2] at h; cases h
    rw [if_pos z2] at h
    refine ev_iaload dX6_has_63 (hk1577 hM) (Or.inl (hl1577 hM)) (jok.ix z2 (hn1577 hM)) ?_
    cases h
    exact ev_iret dX6_has_64 rfl rfl hq
  rw [if_neg z1] at h
  by_cases z3 : a0 = (nI 1)
  · rw [if_pos z3] at h
    refine ev_tableIn 56 dX6_has_1 (by rw [z3]; decide) (by rw [z3]; decide) (by rw [z3]; rfl) rfl ?_
    refine ev_aload_n dX6_has_56 rfl ?_
    refine ev_getR dX6_has_57 fX6_102_6 (hk1547 hM) (Or.inl (hl1547 hM)) rfl (hr39 hM) ?_
    refine ev_iconst (v := (nI 4)) dX6_has_60 jc4 ?_
    refine ev_iload_n dX6_has_61 rfl ?_
    refine ev_iadd dX6_has_62 ?_
    by_cases z4 : jok ((nI 4) + a0) 8
    rotate_left
    · rw [if_neg z4] at h; cases h
    rw [if_pos z4] at h
    refine ev_iaload dX6_has_63 (hk1577 hM) (Or.inl (hl1577 hM)) (jok.ix z4 (hn1577 hM)) ?_
    cases h
    exact ev_iret dX6_has_64 rfl rfl hq
  rw [if_neg z3] at h
  by_cases z5 : a0 = (nI 2)
  · rw [if_pos z5] at h
    refine ev_tableIn 56 dX6_has_1 (by rw [z5]; decide) (by rw [z5]; decide) (by rw [z5]; rfl) rfl ?_
    refine ev_aload_n dX6_has_56 rfl ?_
    refine ev_getR dX6_has_57 fX6_102_6 (hk1547 hM) (Or.inl (hl1547 hM)) rfl (hr39 hM) ?_
    refine ev_iconst (v := (nI 4)) dX6_has_60 jc4 ?_
    refine ev_iload_n dX6_has_61 rfl ?_
    refine ev_iadd dX6_has_62 ?_
    by_cases z6 : jok ((nI 4) + a0) 8
    rotate_left
    · rw [if_neg z6] at h; cases h
    rw [if_pos z6] at h
    refine ev_iaload dX6_has_63 (hk1577 hM) (Or.inl (hl1577 hM)) (jok.ix z6 (hn1577 hM)) ?_
    cases h
    exact ev_iret dX6_has_64 rfl rfl hq
  rw [if_neg z5] at h
  by_cases z7 : a0 = (nI 3)
  · rw [if_pos z7] at h
    refine ev_tableIn 65 dX6_has_1 (by rw [z7]; decide) (by rw [z7]; decide) (by rw [z7]; rfl) rfl ?_
    refine ev_aload_n dX6_has_65 rfl ?_
    refine ev_getR dX6_has_66 fX6_127_6 (hk1547 hM) (Or.inl (hl1547 hM)) rfl (hr50 hM) ?_
    refine ev_iconst (v := (nI 0)) dX6_has_69 jc0 ?_
    by_cases z8 : jok (nI 0) 166
    rotate_left
    · rw [if_neg z8] at h; cases h
    rw [if_pos z8] at h
    refine ev_iaload dX6_has_70 (hk1585 hM) (Or.inl (hl1585 hM)) (jok.ix z8 (hn1585 hM)) ?_
    cases h
    exact ev_iret dX6_has_71 rfl rfl hq
  rw [if_neg z7] at h
  by_cases z9 : a0 = (nI 4)
  · rw [if_pos z9] at h
    refine ev_tableIn 72 dX6_has_1 (by rw [z9]; decide) (by rw [z9]; decide) (by rw [z9]; rfl) rfl ?_
    refine ev_aload_n dX6_has_72 rfl ?_
    obtain ⟨q10, z11, h⟩ := Option.bind_eq_some_iff.mp h
    refine ev_zV0 dX6_has_73 vX6_503_6 (hk1547 hM) (Or.inl (hl1547 hM)) (Nat.le_of_ble_eq_true rfl) (Nat.le_of_ble_eq_true rfl) rfl (metX6_countMany hM n  _ _ z11 ?_)
    show Ev g _ _ 76 _ [.int q10.1] K q10.2.1 q10.2.2 cr c sl Qr Qx
    cases h
    exact ev_iret dX6_has_76 rfl rfl hq
  rw [if_neg z9] at h
  by_cases z12 : a0 = (nI 5)
  · rw [if_pos z12] at h
    refine ev_tableIn 77 dX6_has_1 (by rw [z12]; decide) (by rw [z12]; decide) (by rw [z12]; rfl) rfl ?_
    refine ev_aload_n dX6_has_77 rfl ?_
    obtain ⟨q13, z14, h⟩ := Option.bind_eq_some_iff.mp h
    refine ev_zV0 dX6_has_78 vX6_506_6 (hk1547 hM) (Or.inl (hl1547 hM)) (Nat.le_of_ble_eq_true rfl) (Nat.le_of_ble_eq_true rfl) rfl (metX6_insideMany hM n  _ _ z14 ?_)
    show Ev g _ _ 81 _ [.int q13.1] K q13.2.1 q13.2.2 cr c sl Qr Qx
    cases h
    exact ev_iret dX6_has_81 rfl rfl hq
  rw [if_neg z12] at h
  by_cases z15 : a0 = (nI 6)
  · rw [if_pos z15] at h
    refine ev_tableIn 82 dX6_has_1 (by rw [z15]; decide) (by rw [z15]; decide) (by rw [z15]; rfl) rfl ?_
    refine ev_aload_n dX6_has_82 rfl ?_
    obtain ⟨q16, z17, h⟩ := Option.bind_eq_some_iff.mp h
    refine ev_zV0 dX6_has_83 vX6_509_6 (hk1547 hM) (Or.inl (hl1547 hM)) (Nat.le_of_ble_eq_true rfl) (Nat.le_of_ble_eq_true rfl) rfl (metX6_caughtLatest hM n  _ _ z17 ?_)
    show Ev g _ _ 86 _ [.int q16.1] K q16.2.1 q16.2.2 cr c sl Qr Qx
    cases h
    exact ev_iret dX6_has_86 rfl rfl hq
  rw [if_neg z15] at h
  by_cases z18 : a0 = (nI 7)
  · rw [if_pos z18] at h
    refine ev_tableIn 87 dX6_has_1 (by rw [z18]; decide) (by rw [z18]; decide) (by rw [z18]; rfl) rfl ?_
    refine ev_aload_n dX6_has_87 rfl ?_
    refine ev_getR dX6_has_88 fX6_127_6 (hk1547 hM) (Or.inl (hl1547 hM)) rfl (hr50 hM) ?_
    refine ev_bipush (v := (nI 45)) dX6_has_91 jb45 ?_
    by_cases z19 : jok (nI 45) 166
    rotate_left
    · rw [if_neg z19] at h; cases h
    rw [if_pos z19] at h
    refine ev_iaload dX6_has_93 (hk1585 hM) (Or.inl (hl1585 hM)) (jok.ix z19 (hn1585 hM)) ?_
    cases h
    exact ev_iret dX6_has_94 rfl rfl hq
  rw [if_neg z18] at h
  by_cases z20 : a0 = (nI 8)
  · rw [if_pos z20] at h
    refine ev_tableIn 95 dX6_has_1 (by rw [z20]; decide) (by rw [z20]; decide) (by rw [z20]; rfl) rfl ?_
    refine ev_aload_n dX6_has_95 rfl ?_
    refine ev_getI dX6_has_96 fX6_396_6 (hk1547 hM) (Or.inl (hl1547 hM)) rfl ?_
    cases h
    exact ev_iret dX6_has_99 rfl rfl hq
  rw [if_neg z20] at h
  by_cases z21 : a0 = (nI 9)
  · rw [if_pos z21] at h
    refine ev_tableIn 100 dX6_has_1 (by rw [z21]; decide) (by rw [z21]; decide) (by rw [z21]; rfl) rfl ?_
    refine ev_aload_n dX6_has_100 rfl ?_
    refine ev_getI dX6_has_101 fX6_393_6 (hk1547 hM) (Or.inl (hl1547 hM)) rfl ?_
    cases h
    exact ev_iret dX6_has_104 rfl rfl hq
  rw [if_neg z21] at h
  refine ev_tableOut 105 dX6_has_1 (jtab_0_9 z1 z3 z5 z7 z9 z12 z15 z18 z20 z21) rfl ?_
  refine ev_iconst (v := (-1)) dX6_has_105 jcm1 ?_
  cases h
  exact ev_iret dX6_has_106 rfl rfl hq
def fX6_letter_44 (n : Nat) (ci : jI) (cj : jJ) : Option (Int32 × jI × jJ) := some ((-1), ci, cj)
theorem wX6_letter_44 {g : jG} {d : Nat} {K : jK} {cr : jR} {c sl : Nat} {Qr : jQ} {Qx : jX} (hM : jMW K cr) (n : Nat) (ci : jI) (cj : jJ) {q} (h : fX6_letter_44 n   ci cj = some q) (hq : Qr (some (.int q.1)) K q.2.1 q.2.2 cr) : Ev g (d + 2) mX6_letter 44 [jU, jU, jU, jU, jU, jU, jU, jU, jU] [] K ci cj cr c sl Qr Qx := by
  unfold fX6_letter_44 at h
  refine ev_iconst (v := (-1)) dX6_letter_44 jcm1 ?_
  cases h
  exact ev_iret dX6_letter_45 rfl rfl hq
def fX6_letter_104 (n : Nat) : Nat → Int32 → Int64 → Int32 → jI → jJ → Option (Int32 × jI × jJ)
  | 0, _, _, _, _, _ => none
  | k + 1, l3, l4, l7, ci, cj => if l7 ≤ l3 then some (((l4 - l4 / (27 : Int64) * (27 : Int64))).toInt32, ci, cj) else fX6_letter_104 n  k l3 (l4 / (27 : Int64)) (l7 + (-1)) ci cj
theorem wX6_letter_104 {g : jG} {d : Nat} {K : jK} {cr : jR} {c sl : Nat} {Qr : jQ} {Qx : jX} (hM : jMW K cr) (n : Nat) : ∀ (k : Nat) (l3 : Int32) (l4 : Int64) (l7 : Int32) (ci : jI) (cj : jJ) {q}, fX6_letter_104 n  k l3 l4 l7 ci cj = some q → Qr (some (.int q.1)) K q.2.1 q.2.2 cr → Ev g (d + 2) mX6_letter 104 [jU, jU, jU, .int l3, .long l4, jU, jU, .int l7, jU] [] K ci cj cr c sl Qr Qx := by
  intro k
  induction k with
  | zero =>
    intro l3 l4 l7 ci cj q h hq
    rw [fX6_letter_104.eq_1] at h; cases h
  | succ k ih =>
    intro l3 l4 l7 ci cj q h hq
    rw [fX6_letter_104.eq_2] at h
    refine ev_iload dX6_letter_104 rfl ?_
    refine ev_iload_n dX6_letter_106 rfl ?_
    refine ev_icmp_le 124 dX6_letter_107 rfl (fun z1 => ?_) (fun z1 => ?_)
    · rw [if_pos z1] at h
      refine ev_lload dX6_letter_124 rfl ?_
      refine ev_ldc2 dX6_letter_126 q2086 ?_
      refine ev_lrem dX6_letter_129 (by decide) ?_
      refine ev_l2i dX6_letter_130 ?_
      cases h
      exact ev_iret dX6_letter_131 rfl rfl hq
    · rw [if_neg z1] at h
      refine ev_lload dX6_letter_110 rfl ?_
      refine ev_ldc2 dX6_letter_112 q2086 ?_
      refine ev_ldiv dX6_letter_115 (by decide) ?_
      refine ev_lstore (L' := [_, _, _, _, _, _, _, _, _]) dX6_letter_116 (by decide) rfl ?_
      refine ev_iinc (v := (l7 + (-1))) (L' := [_, _, _, _, _, _, _, _, _]) dX6_letter_118 rfl (by rw [ji_m1]) (by decide) rfl ?_
      refine ev_goto 104 dX6_letter_121 rfl ?_
      exact ih _ _ _ _ _ h hq
def fX6_letter_69 (n : Nat) : Nat → Int32 → Int64 → Int32 → Int64 → jI → jJ → Option (Int32 × jI × jJ)
  | 0, _, _, _, _, _, _ => none
  | k + 1, l3, l4, l6, l7, ci, cj => if l7 ≤ (lN 0) then if l3 < l6 then fX6_letter_104 n  n l3 l4 (l6 - (nI 1)) ci cj else some ((nI 0), ci, cj) else fX6_letter_69 n  k l3 l4 (l6 + (nI 1)) (l7 / (27 : Int64)) ci cj
theorem wX6_letter_69 {g : jG} {d : Nat} {K : jK} {cr : jR} {c sl : Nat} {Qr : jQ} {Qx : jX} (hM : jMW K cr) (n : Nat) : ∀ (k : Nat) (l3 : Int32) (l4 : Int64) (l6 : Int32) (l7 : Int64) (ci : jI) (cj : jJ) {q}, fX6_letter_69 n  k l3 l4 l6 l7 ci cj = some q → Qr (some (.int q.1)) K q.2.1 q.2.2 cr → Ev g (d + 2) mX6_letter 69 [jU, jU, jU, .int l3, .long l4, jU, .int l6, .long l7, jU] [] K ci cj cr c sl Qr Qx := by
  intro k
  induction k with
  | zero =>
    intro l3 l4 l6 l7 ci cj q h hq
    rw [fX6_letter_69.eq_1] at h; cases h
  | succ k ih =>
    intro l3 l4 l6 l7 ci cj q h hq
    rw [fX6_letter_69.eq_2] at h
    refine ev_lload dX6_letter_69 rfl ?_
    refine ev_lconst (v := lN 0) dX6_letter_71 rfl ?_
    refine ev_lcif_le 90 dX6_letter_72 dX6_letter_73 rfl (fun z1 => ?_) (fun z1 => ?_)
    · rw [if_pos z1] at h
      refine ev_iload_n dX6_letter_90 rfl ?_
      refine ev_iload dX6_letter_91 rfl ?_
      refine ev_icmp_lt 98 dX6_letter_93 rfl (fun z2 => ?_) (fun z2 => ?_)
      · rw [if_pos z2] at h
        refine ev_iload dX6_letter_98 rfl ?_
        refine ev_iconst (v := (nI 1)) dX6_letter_100 jc1 ?_
        refine ev_isub dX6_letter_101 ?_
        refine ev_istore (L' := [_, _, _, _, _, _, _, _, _]) dX6_letter_102 (by decide) rfl ?_
        exact ev_mask [false, false, false, true, true, false, false, true, false] (wX6_letter_104 hM n   n _ _ _ _ _ h hq)
      · rw [if_neg z2] at h
        refine ev_iconst (v := (nI 0)) dX6_letter_96 jc0 ?_
        cases h
        exact ev_iret dX6_letter_97 rfl rfl hq
    · rw [if_neg z1] at h
      refine ev_iinc (v := (l6 + (nI 1))) (L' := [_, _, _, _, _, _, _, _, _]) dX6_letter_76 rfl (by rw [ji_1]) (by decide) rfl ?_
      refine ev_lload dX6_letter_79 rfl ?_
      refine ev_ldc2 dX6_letter_81 q2086 ?_
      refine ev_ldiv dX6_letter_84 (by decide) ?_
      refine ev_lstore (L' := [_, _, _, _, _, _, _, _, _]) dX6_letter_85 (by decide) rfl ?_
      refine ev_goto 69 dX6_letter_87 rfl ?_
      exact ih _ _ _ _ _ _ h hq
def fX6_letter (n : Nat) (a0 : Int32) (a1 : Int32) (a2 : Int32) (ci : jI) (cj : jJ) : Option (Int32 × jI × jJ) := Option.bind (fX6_isIn n ((a0).toInt64) (lN 0) (2 : Int64) ci cj) (fun q1 => if q1.1 = 0 then fX6_letter_44 n   q1.2.1 q1.2.2 else if jok ((nI 4) + a0) 8 then Option.bind (fX6_isIn n ((a1).toInt64) (lN 0) ((((q1.2.1 1577 (((nI 4) + a0)).toNatClampNeg) - (nI 1))).toInt64) q1.2.1 q1.2.2) (fun q5 => if q5.1 = 0 then fX6_letter_44 n   q5.2.1 q5.2.2 else Option.bind (fX6_isIn n ((a2).toInt64) (lN 0) (5 : Int64) q5.2.1 q5.2.2) (fun q8 => if q8.1 = 0 then fX6_letter_44 n   q8.2.1 q8.2.2 else if jok (((nI 30) + ((nI 10) * a0)) + a1) 60 then fX6_letter_69 n  n a2 (q8.2.2 1578 ((((nI 30) + ((nI 10) * a0)) + a1)).toNatClampNeg) (nI 0) (q8.2.2 1578 ((((nI 30) + ((nI 10) * a0)) + a1)).toNatClampNeg) q8.2.1 q8.2.2 else none)) else none)
theorem metX6_letter {g : jG} {d : Nat} {K : jK} {cr : jR} {c sl : Nat} {Qr : jQ} {Qx : jX} (hM : jMW K cr) (n : Nat) (a0 : Int32) (a1 : Int32) (a2 : Int32) (ci : jI) (cj : jJ) {q} (h : fX6_letter n a0 a1 a2 ci cj = some q) (hq : Qr (some (.int q.1)) K q.2.1 q.2.2 cr) : EvM g (d + 2) mX6_letter [.ref 1547, .int a0, .int a1, .int a2] K ci cj cr c sl Qr Qx := by
  unfold fX6_letter at h
  show Ev g (d + 2) mX6_letter 0 [.ref 1547, .int a0, .int a1, .int a2, jU, jU, jU, jU, jU] [] K ci cj cr c sl Qr Qx
  refine ev_iload_n dX6_letter_0 rfl ?_
  refine ev_i2l dX6_letter_1 ?_
  refine ev_lconst (v := lN 0) dX6_letter_2 rfl ?_
  refine ev_ldc2 dX6_letter_3 q2304 ?_
  obtain ⟨q1, z2, h⟩ := Option.bind_eq_some_iff.mp h
  refine ev_zS3 dX6_letter_6 sX6_294 (Nat.le_of_ble_eq_true rfl) (Nat.le_of_ble_eq_true rfl) rfl (metX6_isIn hM n _ _ _ _ _ z2 ?_)
  show Ev g _ _ 9 _ [.int q1.1] K q1.2.1 q1.2.2 cr c sl Qr Qx
  refine ev_if_eq 44 dX6_letter_9 rfl (fun z3 => ?_) (fun z3 => ?_)
  · rw [if_pos z3] at h
    exact ev_mask [false, false, false, false, false, false, false, false, false] (wX6_letter_44 hM n    _ _ h hq)
  · rw [if_neg z3] at h
    refine ev_iload_n dX6_letter_12 rfl ?_
    refine ev_i2l dX6_letter_13 ?_
    refine ev_lconst (v := lN 0) dX6_letter_14 rfl ?_
    refine ev_aload_n dX6_letter_15 rfl ?_
    refine ev_getR dX6_letter_16 fX6_102_6 (hk1547 hM) (Or.inl (hl1547 hM)) rfl (hr39 hM) ?_
    refine ev_iconst (v := (nI 4)) dX6_letter_19 jc4 ?_
    refine ev_iload_n dX6_letter_20 rfl ?_
    refine ev_iadd dX6_letter_21 ?_
    by_cases z4 : jok ((nI 4) + a0) 8
    rotate_left
    · rw [if_neg z4] at h; cases h
    rw [if_pos z4] at h
    refine ev_iaload dX6_letter_22 (hk1577 hM) (Or.inl (hl1577 hM)) (jok.ix z4 (hn1577 hM)) ?_
    refine ev_iconst (v := (nI 1)) dX6_letter_23 jc1 ?_
    refine ev_isub dX6_letter_24 ?_
    refine ev_i2l dX6_letter_25 ?_
    obtain ⟨q5, z6, h⟩ := Option.bind_eq_some_iff.mp h
    refine ev_zS3 dX6_letter_26 sX6_294 (Nat.le_of_ble_eq_true rfl) (Nat.le_of_ble_eq_true rfl) rfl (metX6_isIn hM n _ _ _ _ _ z6 ?_)
    show Ev g _ _ 29 _ [.int q5.1] K q5.2.1 q5.2.2 cr c sl Qr Qx
    refine ev_if_eq 44 dX6_letter_29 rfl (fun z7 => ?_) (fun z7 => ?_)
    · rw [if_pos z7] at h
      exact ev_mask [false, false, false, false, false, false, false, false, false] (wX6_letter_44 hM n    _ _ h hq)
    · rw [if_neg z7] at h
      refine ev_iload_n dX6_letter_32 rfl ?_
      refine ev_i2l dX6_letter_33 ?_
      refine ev_lconst (v := lN 0) dX6_letter_34 rfl ?_
      refine ev_ldc2 dX6_letter_35 q2305 ?_
      obtain ⟨q8, z9, h⟩ := Option.bind_eq_some_iff.mp h
      refine ev_zS3 dX6_letter_38 sX6_294 (Nat.le_of_ble_eq_true rfl) (Nat.le_of_ble_eq_true rfl) rfl (metX6_isIn hM n _ _ _ _ _ z9 ?_)
      show Ev g _ _ 41 _ [.int q8.1] K q8.2.1 q8.2.2 cr c sl Qr Qx
      refine ev_if_ne 46 dX6_letter_41 rfl (fun z10 => ?_) (fun z10 => ?_)
      · rw [if_neg z10] at h
        refine ev_aload_n dX6_letter_46 rfl ?_
        refine ev_getR dX6_letter_47 fX6_105_6 (hk1547 hM) (Or.inl (hl1547 hM)) rfl (hr40 hM) ?_
        refine ev_bipush (v := (nI 30)) dX6_letter_50 jb30 ?_
        refine ev_bipush (v := (nI 10)) dX6_letter_52 jb10 ?_
        refine ev_iload_n dX6_letter_54 rfl ?_
        refine ev_imul dX6_letter_55 ?_
        refine ev_iadd dX6_letter_56 ?_
        refine ev_iload_n dX6_letter_57 rfl ?_
        refine ev_iadd dX6_letter_58 ?_
        by_cases z11 : jok (((nI 30) + ((nI 10) * a0)) + a1) 60
        rotate_left
        · rw [if_neg z11] at h; cases h
        rw [if_pos z11] at h
        refine ev_laload dX6_letter_59 (hk1578 hM) (Or.inl (hl1578 hM)) (jok.ix z11 (hn1578 hM)) ?_
        refine ev_lstore (L' := [_, _, _, _, _, _, _, _, _]) dX6_letter_60 (by decide) rfl ?_
        refine ev_iconst (v := (nI 0)) dX6_letter_62 jc0 ?_
        refine ev_istore (L' := [_, _, _, _, _, _, _, _, _]) dX6_letter_63 (by decide) rfl ?_
        refine ev_lload dX6_letter_65 rfl ?_
        refine ev_lstore (L' := [_, _, _, _, _, _, _, _, _]) dX6_letter_67 (by decide) rfl ?_
        exact ev_mask [false, false, false, true, true, false, true, true, false] (wX6_letter_69 hM n   n _ _ _ _ _ _ h hq)
      · rw [if_pos z10] at h
        exact ev_mask [false, false, false, false, false, false, false, false, false] (wX6_letter_44 hM n    _ _ h hq)
def fX6_isBay (n : Nat) (a0 : Int64) (ci : jI) (cj : jJ) : Option (Int32 × jI × jJ) := Option.bind (fX6_bayMany n  ci cj) (fun q1 => Option.bind (fX6_isIn n a0 (lN 0) (((q1.1 - (nI 1))).toInt64) q1.2.1 q1.2.2) (fun q3 => if q3.1 = 0 ∨ q3.1 = 1 then some (q3.1, q3.2.1, q3.2.2) else none))
theorem metX6_isBay {g : jG} {d : Nat} {K : jK} {cr : jR} {c sl : Nat} {Qr : jQ} {Qx : jX} (hM : jMW K cr) (n : Nat) (a0 : Int64) (ci : jI) (cj : jJ) {q} (h : fX6_isBay n a0 ci cj = some q) (hq : Qr (some (.int q.1)) K q.2.1 q.2.2 cr) : EvM g (d + 2) mX6_isBay [.ref 1547, .long a0] K ci cj cr c sl Qr Qx := by
  unfold fX6_isBay at h
  show Ev g (d + 2) mX6_isBay 0 [.ref 1547, .long a0, jU] [] K ci cj cr c sl Qr Qx
  refine ev_lload_n dX6_isBay_0 rfl ?_
  refine ev_lconst (v := lN 0) dX6_isBay_1 rfl ?_
  refine ev_aload_n dX6_isBay_2 rfl ?_
  obtain ⟨q1, z2, h⟩ := Option.bind_eq_some_iff.mp h
  refine ev_zV0 dX6_isBay_3 vX6_399_6 (hk1547 hM) (Or.inl (hl1547 hM)) (Nat.le_of_ble_eq_true rfl) (Nat.le_of_ble_eq_true rfl) rfl (metX6_bayMany hM n  _ _ z2 ?_)
  show Ev g _ _ 6 _ [.int q1.1, .long (lN 0), .long a0] K q1.2.1 q1.2.2 cr c sl Qr Qx
  refine ev_iconst (v := (nI 1)) dX6_isBay_6 jc1 ?_
  refine ev_isub dX6_isBay_7 ?_
  refine ev_i2l dX6_isBay_8 ?_
  obtain ⟨q3, z4, h⟩ := Option.bind_eq_some_iff.mp h
  refine ev_zS3 dX6_isBay_9 sX6_294 (Nat.le_of_ble_eq_true rfl) (Nat.le_of_ble_eq_true rfl) rfl (metX6_isIn hM n _ _ _ _ _ z4 ?_)
  show Ev g _ _ 12 _ [.int q3.1] K q3.2.1 q3.2.2 cr c sl Qr Qx
  by_cases z5 : q3.1 = 0 ∨ q3.1 = 1
  rotate_left
  · rw [if_neg z5] at h; cases h
  rw [if_pos z5] at h
  cases h
  exact ev_iret dX6_isBay_12 rfl (jbool z5) hq
def fX6_laysVows_57 (n : Nat) (rec23 : Int32 → jI → jJ → Option (jI × jJ)) (l1 : Int32) (ci : jI) (cj : jJ) : Option (jI × jJ) := rec23 (l1 + (nI 1)) ci cj
theorem wX6_laysVows_57 {g : jG} {d : Nat} {K : jK} {cr : jR} {c sl : Nat} {Qr : jQ} {Qx : jX} (hM : jMW K cr) (n : Nat) (rec23 : Int32 → jI → jJ → Option (jI × jJ)) (hrec23 : (∀ (l1 : Int32) (ci : jI) (cj : jJ) {q}, rec23 l1 ci cj = some q → Qr none K q.1 q.2 cr → Ev g (d + 5) mX6_laysVows 23 [.ref 1547, .int l1] [] K ci cj cr c sl Qr Qx)) (l1 : Int32) (ci : jI) (cj : jJ) {q} (h : fX6_laysVows_57 n rec23 l1 ci cj = some q) (hq : Qr none K q.1 q.2 cr) : Ev g (d + 5) mX6_laysVows 57 [.ref 1547, .int l1] [] K ci cj cr c sl Qr Qx := by
  unfold fX6_laysVows_57 at h
  refine ev_iinc (v := (l1 + (nI 1))) (L' := [_, _]) dX6_laysVows_57 rfl (by rw [ji_1]) (by decide) rfl ?_
  refine ev_goto 23 dX6_laysVows_60 rfl ?_
  exact hrec23 _ _ _ h hq
def fX6_laysVows_23 (n : Nat) : Nat → Int32 → jI → jJ → Option (jI × jJ)
  | 0, _, _, _ => none
  | k + 1, l1, ci, cj => Option.bind (fX6_pairMany n  ci cj) (fun q1 => if q1.1 ≤ l1 then some (q1.2.1, q1.2.2) else Option.bind (fX6_doesCount n l1 q1.2.1 q1.2.2) (fun q4 => if q4.1 = 0 then fX6_laysVows_57 n (fX6_laysVows_23 n  k) l1 q4.2.1 q4.2.2 else Option.bind (fX6_bayOf n l1 q4.2.1 q4.2.2) (fun q7 => if jok q7.1 6 then Option.bind (fX6_trueOf n l1 q7.2.1 q7.2.2) (fun q10 => if jok q7.1 6 then fX6_laysVows_57 n (fX6_laysVows_23 n  k) l1 (ju q10.2.1 1587 (q7.1).toNatClampNeg ((q7.2.1 1587 (q7.1).toNatClampNeg) + q10.1)) q10.2.2 else none) else none)))
theorem wX6_laysVows_23 {g : jG} {d : Nat} {K : jK} {cr : jR} {c sl : Nat} {Qr : jQ} {Qx : jX} (hM : jMW K cr) (n : Nat) : ∀ (k : Nat) (l1 : Int32) (ci : jI) (cj : jJ) {q}, fX6_laysVows_23 n  k l1 ci cj = some q → Qr none K q.1 q.2 cr → Ev g (d + 5) mX6_laysVows 23 [.ref 1547, .int l1] [] K ci cj cr c sl Qr Qx := by
  intro k
  induction k with
  | zero =>
    intro l1 ci cj q h hq
    rw [fX6_laysVows_23.eq_1] at h; cases h
  | succ k ih =>
    intro l1 ci cj q h hq
    rw [fX6_laysVows_23.eq_2] at h
    refine ev_iload_n dX6_laysVows_23 rfl ?_
    refine ev_aload_n dX6_laysVows_24 rfl ?_
    obtain ⟨q1, z2, h⟩ := Option.bind_eq_some_iff.mp h
    refine ev_zV0 dX6_laysVows_25 vX6_402_6 (hk1547 hM) (Or.inl (hl1547 hM)) (Nat.le_of_ble_eq_true rfl) (Nat.le_of_ble_eq_true rfl) rfl (metX6_pairMany hM n  _ _ z2 ?_)
    show Ev g _ _ 28 _ [.int q1.1, .int l1] K q1.2.1 q1.2.2 cr c sl Qr Qx
    refine ev_icmp_ge 63 dX6_laysVows_28 rfl (fun z3 => ?_) (fun z3 => ?_)
    · rw [if_pos z3] at h
      cases h
      exact ev_ret dX6_laysVows_63 rfl hq
    · rw [if_neg z3] at h
      refine ev_aload_n dX6_laysVows_31 rfl ?_
      refine ev_iload_n dX6_laysVows_32 rfl ?_
      obtain ⟨q4, z5, h⟩ := Option.bind_eq_some_iff.mp h
      refine ev_zV1 dX6_laysVows_33 vX6_442_6 (hk1547 hM) (Or.inl (hl1547 hM)) (Nat.le_of_ble_eq_true rfl) (Nat.le_of_ble_eq_true rfl) rfl (metX6_doesCount hM n _ _ _ z5 ?_)
      show Ev g _ _ 36 _ [.int q4.1] K q4.2.1 q4.2.2 cr c sl Qr Qx
      refine ev_if_eq 57 dX6_laysVows_36 rfl (fun z6 => ?_) (fun z6 => ?_)
      · rw [if_pos z6] at h
        exact wX6_laysVows_57 hM n _ (ih) _ _ _ h hq
      · rw [if_neg z6] at h
        refine ev_aload_n dX6_laysVows_39 rfl ?_
        refine ev_getR dX6_laysVows_40 fX6_133_6 (hk1547 hM) (Or.inl (hl1547 hM)) rfl (hr56 hM) ?_
        refine ev_aload_n dX6_laysVows_43 rfl ?_
        refine ev_iload_n dX6_laysVows_44 rfl ?_
        obtain ⟨q7, z8, h⟩ := Option.bind_eq_some_iff.mp h
        refine ev_zV1 dX6_laysVows_45 vX6_432_6 (hk1547 hM) (Or.inl (hl1547 hM)) (Nat.le_of_ble_eq_true rfl) (Nat.le_of_ble_eq_true rfl) rfl (metX6_bayOf hM n _ _ _ z8 ?_)
        show Ev g _ _ 48 _ [.int q7.1, .ref 1587] K q7.2.1 q7.2.2 cr c sl Qr Qx
        refine ev_dup2 dX6_laysVows_48 rfl rfl ?_
        by_cases z9 : jok q7.1 6
        rotate_left
        · rw [if_neg z9] at h; cases h
        rw [if_pos z9] at h
        refine ev_iaload dX6_laysVows_49 (hk1587 hM) (Or.inl (hl1587 hM)) (jok.ix z9 (hn1587 hM)) ?_
        refine ev_aload_n dX6_laysVows_50 rfl ?_
        refine ev_iload_n dX6_laysVows_51 rfl ?_
        obtain ⟨q10, z11, h⟩ := Option.bind_eq_some_iff.mp h
        refine ev_zV1 dX6_laysVows_52 vX6_425_6 (hk1547 hM) (Or.inl (hl1547 hM)) (Nat.le_of_ble_eq_true rfl) (Nat.le_of_ble_eq_true rfl) rfl (metX6_trueOf hM n _ _ _ z11 ?_)
        show Ev g _ _ 55 _ [.int q10.1, .int (q7.2.1 1587 (q7.1).toNatClampNeg), .int q7.1, .ref 1587] K q10.2.1 q10.2.2 cr c sl Qr Qx
        refine ev_iadd dX6_laysVows_55 ?_
        by_cases z12 : jok q7.1 6
        rotate_left
        · rw [if_neg z12] at h; cases h
        rw [if_pos z12] at h
        refine ev_iastore dX6_laysVows_56 (hk1587 hM) (hl1587 hM) (jok.ix z12 (hn1587 hM)) ?_
        exact wX6_laysVows_57 hM n _ (ih) _ _ _ h hq
def fX6_laysVows_2 (n : Nat) : Nat → Int32 → jI → jJ → Option (jI × jJ)
  | 0, _, _, _ => none
  | k + 1, l1, ci, cj => if (nI 6) ≤ l1 then fX6_laysVows_23 n  n (nI 0) ci cj else if jok l1 6 then fX6_laysVows_2 n  k (l1 + (nI 1)) (ju ci 1587 (l1).toNatClampNeg (nI 0)) cj else none
theorem wX6_laysVows_2 {g : jG} {d : Nat} {K : jK} {cr : jR} {c sl : Nat} {Qr : jQ} {Qx : jX} (hM : jMW K cr) (n : Nat) : ∀ (k : Nat) (l1 : Int32) (ci : jI) (cj : jJ) {q}, fX6_laysVows_2 n  k l1 ci cj = some q → Qr none K q.1 q.2 cr → Ev g (d + 5) mX6_laysVows 2 [.ref 1547, .int l1] [] K ci cj cr c sl Qr Qx := by
  intro k
  induction k with
  | zero =>
    intro l1 ci cj q h hq
    rw [fX6_laysVows_2.eq_1] at h; cases h
  | succ k ih =>
    intro l1 ci cj q h hq
    rw [fX6_laysVows_2.eq_2] at h
    refine ev_iload_n dX6_laysVows_2 rfl ?_
    refine ev_bipush (v := (nI 6)) dX6_laysVows_3 jb6 ?_
    refine ev_icmp_ge 21 dX6_laysVows_5 rfl (fun z1 => ?_) (fun z1 => ?_)
    · rw [if_pos z1] at h
      refine ev_iconst (v := (nI 0)) dX6_laysVows_21 jc0 ?_
      refine ev_istore_n (L' := [_, _]) dX6_laysVows_22 (by decide) rfl ?_
      exact wX6_laysVows_23 hM n   n _ _ _ h hq
    · rw [if_neg z1] at h
      refine ev_aload_n dX6_laysVows_8 rfl ?_
      refine ev_getR dX6_laysVows_9 fX6_133_6 (hk1547 hM) (Or.inl (hl1547 hM)) rfl (hr56 hM) ?_
      refine ev_iload_n dX6_laysVows_12 rfl ?_
      refine ev_iconst (v := (nI 0)) dX6_laysVows_13 jc0 ?_
      by_cases z2 : jok l1 6
      rotate_left
      · rw [if_neg z2] at h; cases h
      rw [if_pos z2] at h
      refine ev_iastore dX6_laysVows_14 (hk1587 hM) (hl1587 hM) (jok.ix z2 (hn1587 hM)) ?_
      refine ev_iinc (v := (l1 + (nI 1))) (L' := [_, _]) dX6_laysVows_15 rfl (by rw [ji_1]) (by decide) rfl ?_
      refine ev_goto 2 dX6_laysVows_18 rfl ?_
      exact ih _ _ _ h hq
def fX6_laysVows (n : Nat) (ci : jI) (cj : jJ) : Option (jI × jJ) := fX6_laysVows_2 n  n (nI 0) ci cj
theorem metX6_laysVows {g : jG} {d : Nat} {K : jK} {cr : jR} {c sl : Nat} {Qr : jQ} {Qx : jX} (hM : jMW K cr) (n : Nat) (ci : jI) (cj : jJ) {q} (h : fX6_laysVows n  ci cj = some q) (hq : Qr none K q.1 q.2 cr) : EvM g (d + 5) mX6_laysVows [.ref 1547] K ci cj cr c sl Qr Qx := by
  unfold fX6_laysVows at h
  show Ev g (d + 5) mX6_laysVows 0 [.ref 1547, jU] [] K ci cj cr c sl Qr Qx
  refine ev_iconst (v := (nI 0)) dX6_laysVows_0 jc0 ?_
  refine ev_istore_n (L' := [_, _]) dX6_laysVows_1 (by decide) rfl ?_
  exact wX6_laysVows_2 hM n   n _ _ _ h hq
def fX6_bay (n : Nat) (a0 : Int32) (a1 : Int32) (ci : jI) (cj : jJ) : Option (Int32 × jI × jJ) := Option.bind (fX6_isBay n ((a0).toInt64) ci cj) (fun q1 => if q1.1 = 0 then some ((-1), q1.2.1, q1.2.2) else Option.bind (fX6_laysVows n  q1.2.1 q1.2.2) (fun q4 => if a1 = (nI 0) then if jok ((nI 12) + ((nI 2) * a0)) 24 then some ((q4.1 1579 (((nI 12) + ((nI 2) * a0))).toNatClampNeg), q4.1, q4.2) else none else if a1 = (nI 1) then Option.bind (fX6_hungerOf n a0 q4.1 q4.2) (fun q9 => some (q9.1, q9.2.1, q9.2.2)) else if a1 = (nI 2) then if jok a0 6 then some ((q4.1 1587 (a0).toNatClampNeg), q4.1, q4.2) else none else if a1 = (nI 3) then Option.bind (fX6_lateOf n a0 q4.1 q4.2) (fun q14 => some (q14.1, q14.2.1, q14.2.2)) else if a1 = (nI 4) then if jok ((nI 8) + ((nI 3) * a0)) 166 then some ((q4.1 1585 (((nI 8) + ((nI 3) * a0))).toNatClampNeg), q4.1, q4.2) else none else some ((-1), q4.1, q4.2)))
theorem metX6_bay {g : jG} {d : Nat} {K : jK} {cr : jR} {c sl : Nat} {Qr : jQ} {Qx : jX} (hM : jMW K cr) (n : Nat) (a0 : Int32) (a1 : Int32) (ci : jI) (cj : jJ) {q} (h : fX6_bay n a0 a1 ci cj = some q) (hq : Qr (some (.int q.1)) K q.2.1 q.2.2 cr) : EvM g (d + 6) mX6_bay [.ref 1547, .int a0, .int a1] K ci cj cr c sl Qr Qx := by
  unfold fX6_bay at h
  show Ev g (d + 6) mX6_bay 0 [.ref 1547, .int a0, .int a1] [] K ci cj cr c sl Qr Qx
  refine ev_aload_n dX6_bay_0 rfl ?_
  refine ev_iload_n dX6_bay_1 rfl ?_
  refine ev_i2l dX6_bay_2 ?_
  obtain ⟨q1, z2, h⟩ := Option.bind_eq_some_iff.mp h
  refine ev_zV1 dX6_bay_3 vX6_516_6 (hk1547 hM) (Or.inl (hl1547 hM)) (Nat.le_of_ble_eq_true rfl) (Nat.le_of_ble_eq_true rfl) rfl (metX6_isBay hM n _ _ _ z2 ?_)
  show Ev g _ _ 6 _ [.int q1.1] K q1.2.1 q1.2.2 cr c sl Qr Qx
  refine ev_if_ne 11 dX6_bay_6 rfl (fun z3 => ?_) (fun z3 => ?_)
  · rw [if_neg z3] at h
    refine ev_aload_n dX6_bay_11 rfl ?_
    obtain ⟨q4, z5, h⟩ := Option.bind_eq_some_iff.mp h
    refine ev_zV0 dX6_bay_12 vX6_482_6 (hk1547 hM) (Or.inl (hl1547 hM)) (Nat.le_of_ble_eq_true rfl) (Nat.le_of_ble_eq_true rfl) rfl (metX6_laysVows hM n  _ _ z5 ?_)
    show Ev g _ _ 15 _ [] K q4.1 q4.2 cr c sl Qr Qx
    refine ev_iload_n dX6_bay_15 rfl ?_
    by_cases z6 : a1 = (nI 0)
    · rw [if_pos z6] at h
      refine ev_tableIn 52 dX6_bay_16 (by rw [z6]; decide) (by rw [z6]; decide) (by rw [z6]; rfl) rfl ?_
      refine ev_aload_n dX6_bay_52 rfl ?_
      refine ev_getR dX6_bay_53 fX6_109_6 (hk1547 hM) (Or.inl (hl1547 hM)) rfl (hr41 hM) ?_
      refine ev_bipush (v := (nI 12)) dX6_bay_56 jb12 ?_
      refine ev_iconst (v := (nI 2)) dX6_bay_58 jc2 ?_
      refine ev_iload_n dX6_bay_59 rfl ?_
      refine ev_imul dX6_bay_60 ?_
      refine ev_iadd dX6_bay_61 ?_
      by_cases z7 : jok ((nI 12) + ((nI 2) * a0)) 24
      rotate_left
      · rw [if_neg z7] at h; cases h
      rw [if_pos z7] at h
      refine ev_iaload dX6_bay_62 (hk1579 hM) (Or.inl (hl1579 hM)) (jok.ix z7 (hn1579 hM)) ?_
      cases h
      exact ev_iret dX6_bay_63 rfl rfl hq
    rw [if_neg z6] at h
    by_cases z8 : a1 = (nI 1)
    · rw [if_pos z8] at h
      refine ev_tableIn 64 dX6_bay_16 (by rw [z8]; decide) (by rw [z8]; decide) (by rw [z8]; rfl) rfl ?_
      refine ev_aload_n dX6_bay_64 rfl ?_
      refine ev_iload_n dX6_bay_65 rfl ?_
      obtain ⟨q9, z10, h⟩ := Option.bind_eq_some_iff.mp h
      refine ev_zV1 dX6_bay_66 vX6_477_6 (hk1547 hM) (Or.inl (hl1547 hM)) (Nat.le_of_ble_eq_true rfl) (Nat.le_of_ble_eq_true rfl) rfl (metX6_hungerOf hM n _ _ _ z10 ?_)
      show Ev g _ _ 69 _ [.int q9.1] K q9.2.1 q9.2.2 cr c sl Qr Qx
      cases h
      exact ev_iret dX6_bay_69 rfl rfl hq
    rw [if_neg z8] at h
    by_cases z11 : a1 = (nI 2)
    · rw [if_pos z11] at h
      refine ev_tableIn 70 dX6_bay_16 (by rw [z11]; decide) (by rw [z11]; decide) (by rw [z11]; rfl) rfl ?_
      refine ev_aload_n dX6_bay_70 rfl ?_
      refine ev_getR dX6_bay_71 fX6_133_6 (hk1547 hM) (Or.inl (hl1547 hM)) rfl (hr56 hM) ?_
      refine ev_iload_n dX6_bay_74 rfl ?_
      by_cases z12 : jok a0 6
      rotate_left
      · rw [if_neg z12] at h; cases h
      rw [if_pos z12] at h
      refine ev_iaload dX6_bay_75 (hk1587 hM) (Or.inl (hl1587 hM)) (jok.ix z12 (hn1587 hM)) ?_
      cases h
      exact ev_iret dX6_bay_76 rfl rfl hq
    rw [if_neg z11] at h
    by_cases z13 : a1 = (nI 3)
    · rw [if_pos z13] at h
      refine ev_tableIn 77 dX6_bay_16 (by rw [z13]; decide) (by rw [z13]; decide) (by rw [z13]; rfl) rfl ?_
      refine ev_aload_n dX6_bay_77 rfl ?_
      refine ev_iload_n dX6_bay_78 rfl ?_
      obtain ⟨q14, z15, h⟩ := Option.bind_eq_some_iff.mp h
      refine ev_zV1 dX6_bay_79 vX6_520_6 (hk1547 hM) (Or.inl (hl1547 hM)) (Nat.le_of_ble_eq_true rfl) (Nat.le_of_ble_eq_true rfl) rfl (metX6_lateOf hM n _ _ _ z15 ?_)
      show Ev g _ _ 82 _ [.int q14.1] K q14.2.1 q14.2.2 cr c sl Qr Qx
      cases h
      exact ev_iret dX6_bay_82 rfl rfl hq
    rw [if_neg z13] at h
    by_cases z16 : a1 = (nI 4)
    · rw [if_pos z16] at h
      refine ev_tableIn 83 dX6_bay_16 (by rw [z16]; decide) (by rw [z16]; decide) (by rw [z16]; rfl) rfl ?_
      refine ev_aload_n dX6_bay_83 rfl ?_
      refine ev_getR dX6_bay_84 fX6_127_6 (hk1547 hM) (Or.inl (hl1547 hM)) rfl (hr50 hM) ?_
      refine ev_bipush (v := (nI 8)) dX6_bay_87 jb8 ?_
      refine ev_iconst (v := (nI 3)) dX6_bay_89 jc3 ?_
      refine ev_iload_n dX6_bay_90 rfl ?_
      refine ev_imul dX6_bay_91 ?_
      refine ev_iadd dX6_bay_92 ?_
      by_cases z17 : jok ((nI 8) + ((nI 3) * a0)) 166
      rotate_left
      · rw [if_neg z17] at h; cases h
      rw [if_pos z17] at h
      refine ev_iaload dX6_bay_93 (hk1585 hM) (Or.inl (hl1585 hM)) (jok.ix z17 (hn1585 hM)) ?_
      cases h
      exact ev_iret dX6_bay_94 rfl rfl hq
    rw [if_neg z16] at h
    refine ev_tableOut 95 dX6_bay_16 (jtab_0_4 z6 z8 z11 z13 z16) rfl ?_
    refine ev_iconst (v := (-1)) dX6_bay_95 jcm1 ?_
    cases h
    exact ev_iret dX6_bay_96 rfl rfl hq
  · rw [if_pos z3] at h
    refine ev_iconst (v := (-1)) dX6_bay_9 jcm1 ?_
    cases h
    exact ev_iret dX6_bay_10 rfl rfl hq
def fX6_isPair (n : Nat) (a0 : Int32) (ci : jI) (cj : jJ) : Option (Int32 × jI × jJ) := Option.bind (fX6_pairMany n  ci cj) (fun q1 => Option.bind (fX6_isIn n ((a0).toInt64) (lN 0) (((q1.1 - (nI 1))).toInt64) q1.2.1 q1.2.2) (fun q3 => if q3.1 = 0 ∨ q3.1 = 1 then some (q3.1, q3.2.1, q3.2.2) else none))
theorem metX6_isPair {g : jG} {d : Nat} {K : jK} {cr : jR} {c sl : Nat} {Qr : jQ} {Qx : jX} (hM : jMW K cr) (n : Nat) (a0 : Int32) (ci : jI) (cj : jJ) {q} (h : fX6_isPair n a0 ci cj = some q) (hq : Qr (some (.int q.1)) K q.2.1 q.2.2 cr) : EvM g (d + 2) mX6_isPair [.ref 1547, .int a0] K ci cj cr c sl Qr Qx := by
  unfold fX6_isPair at h
  show Ev g (d + 2) mX6_isPair 0 [.ref 1547, .int a0] [] K ci cj cr c sl Qr Qx
  refine ev_iload_n dX6_isPair_0 rfl ?_
  refine ev_i2l dX6_isPair_1 ?_
  refine ev_lconst (v := lN 0) dX6_isPair_2 rfl ?_
  refine ev_aload_n dX6_isPair_3 rfl ?_
  obtain ⟨q1, z2, h⟩ := Option.bind_eq_some_iff.mp h
  refine ev_zV0 dX6_isPair_4 vX6_402_6 (hk1547 hM) (Or.inl (hl1547 hM)) (Nat.le_of_ble_eq_true rfl) (Nat.le_of_ble_eq_true rfl) rfl (metX6_pairMany hM n  _ _ z2 ?_)
  show Ev g _ _ 7 _ [.int q1.1, .long (lN 0), .long ((a0).toInt64)] K q1.2.1 q1.2.2 cr c sl Qr Qx
  refine ev_iconst (v := (nI 1)) dX6_isPair_7 jc1 ?_
  refine ev_isub dX6_isPair_8 ?_
  refine ev_i2l dX6_isPair_9 ?_
  obtain ⟨q3, z4, h⟩ := Option.bind_eq_some_iff.mp h
  refine ev_zS3 dX6_isPair_10 sX6_294 (Nat.le_of_ble_eq_true rfl) (Nat.le_of_ble_eq_true rfl) rfl (metX6_isIn hM n _ _ _ _ _ z4 ?_)
  show Ev g _ _ 13 _ [.int q3.1] K q3.2.1 q3.2.2 cr c sl Qr Qx
  by_cases z5 : q3.1 = 0 ∨ q3.1 = 1
  rotate_left
  · rw [if_neg z5] at h; cases h
  rw [if_pos z5] at h
  cases h
  exact ev_iret dX6_isPair_13 rfl (jbool z5) hq
def fX6_pair_71 (n : Nat) (t0 : Int32) (ci : jI) (cj : jJ) : Option (Int32 × jI × jJ) := some (t0, ci, cj)
theorem wX6_pair_71 {g : jG} {d : Nat} {K : jK} {cr : jR} {c sl : Nat} {Qr : jQ} {Qx : jX} (hM : jMW K cr) (n : Nat) (t0 : Int32) (ci : jI) (cj : jJ) {q} (h : fX6_pair_71 n  t0 ci cj = some q) (hq : Qr (some (.int q.1)) K q.2.1 q.2.2 cr) : Ev g (d + 5) mX6_pair 71 [jU, jU, jU] [.int t0] K ci cj cr c sl Qr Qx := by
  unfold fX6_pair_71 at h
  cases h
  exact ev_iret dX6_pair_71 rfl rfl hq
def fX6_pair (n : Nat) (a0 : Int32) (a1 : Int32) (ci : jI) (cj : jJ) : Option (Int32 × jI × jJ) := Option.bind (fX6_isPair n a0 ci cj) (fun q1 => if q1.1 = 0 then some ((-1), q1.2.1, q1.2.2) else if a1 = (nI 0) then Option.bind (fX6_bayOf n a0 q1.2.1 q1.2.2) (fun q5 => some (q5.1, q5.2.1, q5.2.2)) else if a1 = (nI 1) then Option.bind (fX6_trueOf n a0 q1.2.1 q1.2.2) (fun q8 => some (q8.1, q8.2.1, q8.2.2)) else if a1 = (nI 2) then Option.bind (fX6_sinceOf n a0 q1.2.1 q1.2.2) (fun q11 => some (q11.1, q11.2.1, q11.2.2)) else if a1 = (nI 3) then Option.bind (fX6_doesCount n a0 q1.2.1 q1.2.2) (fun q14 => if q14.1 = 0 then fX6_pair_71 n  (nI 0) q14.2.1 q14.2.2 else fX6_pair_71 n  (nI 1) q14.2.1 q14.2.2) else some ((-1), q1.2.1, q1.2.2))
theorem metX6_pair {g : jG} {d : Nat} {K : jK} {cr : jR} {c sl : Nat} {Qr : jQ} {Qx : jX} (hM : jMW K cr) (n : Nat) (a0 : Int32) (a1 : Int32) (ci : jI) (cj : jJ) {q} (h : fX6_pair n a0 a1 ci cj = some q) (hq : Qr (some (.int q.1)) K q.2.1 q.2.2 cr) : EvM g (d + 5) mX6_pair [.ref 1547, .int a0, .int a1] K ci cj cr c sl Qr Qx := by
  unfold fX6_pair at h
  show Ev g (d + 5) mX6_pair 0 [.ref 1547, .int a0, .int a1] [] K ci cj cr c sl Qr Qx
  refine ev_aload_n dX6_pair_0 rfl ?_
  refine ev_iload_n dX6_pair_1 rfl ?_
  obtain ⟨q1, z2, h⟩ := Option.bind_eq_some_iff.mp h
  refine ev_zV1 dX6_pair_2 vX6_523_6 (hk1547 hM) (Or.inl (hl1547 hM)) (Nat.le_of_ble_eq_true rfl) (Nat.le_of_ble_eq_true rfl) rfl (metX6_isPair hM n _ _ _ z2 ?_)
  show Ev g _ _ 5 _ [.int q1.1] K q1.2.1 q1.2.2 cr c sl Qr Qx
  refine ev_if_ne 10 dX6_pair_5 rfl (fun z3 => ?_) (fun z3 => ?_)
  · rw [if_neg z3] at h
    refine ev_iload_n dX6_pair_10 rfl ?_
    by_cases z4 : a1 = (nI 0)
    · rw [if_pos z4] at h
      refine ev_tableIn 40 dX6_pair_11 (by rw [z4]; decide) (by rw [z4]; decide) (by rw [z4]; rfl) rfl ?_
      refine ev_aload_n dX6_pair_40 rfl ?_
      refine ev_iload_n dX6_pair_41 rfl ?_
      obtain ⟨q5, z6, h⟩ := Option.bind_eq_some_iff.mp h
      refine ev_zV1 dX6_pair_42 vX6_432_6 (hk1547 hM) (Or.inl (hl1547 hM)) (Nat.le_of_ble_eq_true rfl) (Nat.le_of_ble_eq_true rfl) rfl (metX6_bayOf hM n _ _ _ z6 ?_)
      show Ev g _ _ 45 _ [.int q5.1] K q5.2.1 q5.2.2 cr c sl Qr Qx
      cases h
      exact ev_iret dX6_pair_45 rfl rfl hq
    rw [if_neg z4] at h
    by_cases z7 : a1 = (nI 1)
    · rw [if_pos z7] at h
      refine ev_tableIn 46 dX6_pair_11 (by rw [z7]; decide) (by rw [z7]; decide) (by rw [z7]; rfl) rfl ?_
      refine ev_aload_n dX6_pair_46 rfl ?_
      refine ev_iload_n dX6_pair_47 rfl ?_
      obtain ⟨q8, z9, h⟩ := Option.bind_eq_some_iff.mp h
      refine ev_zV1 dX6_pair_48 vX6_425_6 (hk1547 hM) (Or.inl (hl1547 hM)) (Nat.le_of_ble_eq_true rfl) (Nat.le_of_ble_eq_true rfl) rfl (metX6_trueOf hM n _ _ _ z9 ?_)
      show Ev g _ _ 51 _ [.int q8.1] K q8.2.1 q8.2.2 cr c sl Qr Qx
      cases h
      exact ev_iret dX6_pair_51 rfl rfl hq
    rw [if_neg z7] at h
    by_cases z10 : a1 = (nI 2)
    · rw [if_pos z10] at h
      refine ev_tableIn 52 dX6_pair_11 (by rw [z10]; decide) (by rw [z10]; decide) (by rw [z10]; rfl) rfl ?_
      refine ev_aload_n dX6_pair_52 rfl ?_
      refine ev_iload_n dX6_pair_53 rfl ?_
      obtain ⟨q11, z12, h⟩ := Option.bind_eq_some_iff.mp h
      refine ev_zV1 dX6_pair_54 vX6_494_6 (hk1547 hM) (Or.inl (hl1547 hM)) (Nat.le_of_ble_eq_true rfl) (Nat.le_of_ble_eq_true rfl) rfl (metX6_sinceOf hM n _ _ _ z12 ?_)
      show Ev g _ _ 57 _ [.int q11.1] K q11.2.1 q11.2.2 cr c sl Qr Qx
      cases h
      exact ev_iret dX6_pair_57 rfl rfl hq
    rw [if_neg z10] at h
    by_cases z13 : a1 = (nI 3)
    · rw [if_pos z13] at h
      refine ev_tableIn 58 dX6_pair_11 (by rw [z13]; decide) (by rw [z13]; decide) (by rw [z13]; rfl) rfl ?_
      refine ev_aload_n dX6_pair_58 rfl ?_
      refine ev_iload_n dX6_pair_59 rfl ?_
      obtain ⟨q14, z15, h⟩ := Option.bind_eq_some_iff.mp h
      refine ev_zV1 dX6_pair_60 vX6_442_6 (hk1547 hM) (Or.inl (hl1547 hM)) (Nat.le_of_ble_eq_true rfl) (Nat.le_of_ble_eq_true rfl) rfl (metX6_doesCount hM n _ _ _ z15 ?_)
      show Ev g _ _ 63 _ [.int q14.1] K q14.2.1 q14.2.2 cr c sl Qr Qx
      refine ev_if_eq 70 dX6_pair_63 rfl (fun z16 => ?_) (fun z16 => ?_)
      · rw [if_pos z16] at h
        refine ev_iconst (v := (nI 0)) dX6_pair_70 jc0 ?_
        exact ev_mask [false, false, false] (wX6_pair_71 hM n   _ _ _ h hq)
      · rw [if_neg z16] at h
        refine ev_iconst (v := (nI 1)) dX6_pair_66 jc1 ?_
        refine ev_goto 71 dX6_pair_67 rfl ?_
        exact ev_mask [false, false, false] (wX6_pair_71 hM n   _ _ _ h hq)
    rw [if_neg z13] at h
    refine ev_tableOut 72 dX6_pair_11 (jtab_0_3 z4 z7 z10 z13) rfl ?_
    refine ev_iconst (v := (-1)) dX6_pair_72 jcm1 ?_
    cases h
    exact ev_iret dX6_pair_73 rfl rfl hq
  · rw [if_pos z3] at h
    refine ev_iconst (v := (-1)) dX6_pair_8 jcm1 ?_
    cases h
    exact ev_iret dX6_pair_9 rfl rfl hq
def fX6_isShoal (n : Nat) (a0 : Int32) (ci : jI) (cj : jJ) : Option (Int32 × jI × jJ) := Option.bind (fX6_shoalMany n  ci cj) (fun q1 => Option.bind (fX6_isIn n ((a0).toInt64) (lN 0) (((q1.1 - (nI 1))).toInt64) q1.2.1 q1.2.2) (fun q3 => if q3.1 = 0 ∨ q3.1 = 1 then some (q3.1, q3.2.1, q3.2.2) else none))
theorem metX6_isShoal {g : jG} {d : Nat} {K : jK} {cr : jR} {c sl : Nat} {Qr : jQ} {Qx : jX} (hM : jMW K cr) (n : Nat) (a0 : Int32) (ci : jI) (cj : jJ) {q} (h : fX6_isShoal n a0 ci cj = some q) (hq : Qr (some (.int q.1)) K q.2.1 q.2.2 cr) : EvM g (d + 2) mX6_isShoal [.ref 1547, .int a0] K ci cj cr c sl Qr Qx := by
  unfold fX6_isShoal at h
  show Ev g (d + 2) mX6_isShoal 0 [.ref 1547, .int a0] [] K ci cj cr c sl Qr Qx
  refine ev_iload_n dX6_isShoal_0 rfl ?_
  refine ev_i2l dX6_isShoal_1 ?_
  refine ev_lconst (v := lN 0) dX6_isShoal_2 rfl ?_
  refine ev_aload_n dX6_isShoal_3 rfl ?_
  obtain ⟨q1, z2, h⟩ := Option.bind_eq_some_iff.mp h
  refine ev_zV0 dX6_isShoal_4 vX6_405_6 (hk1547 hM) (Or.inl (hl1547 hM)) (Nat.le_of_ble_eq_true rfl) (Nat.le_of_ble_eq_true rfl) rfl (metX6_shoalMany hM n  _ _ z2 ?_)
  show Ev g _ _ 7 _ [.int q1.1, .long (lN 0), .long ((a0).toInt64)] K q1.2.1 q1.2.2 cr c sl Qr Qx
  refine ev_iconst (v := (nI 1)) dX6_isShoal_7 jc1 ?_
  refine ev_isub dX6_isShoal_8 ?_
  refine ev_i2l dX6_isShoal_9 ?_
  obtain ⟨q3, z4, h⟩ := Option.bind_eq_some_iff.mp h
  refine ev_zS3 dX6_isShoal_10 sX6_294 (Nat.le_of_ble_eq_true rfl) (Nat.le_of_ble_eq_true rfl) rfl (metX6_isIn hM n _ _ _ _ _ z4 ?_)
  show Ev g _ _ 13 _ [.int q3.1] K q3.2.1 q3.2.2 cr c sl Qr Qx
  by_cases z5 : q3.1 = 0 ∨ q3.1 = 1
  rotate_left
  · rw [if_neg z5] at h; cases h
  rw [if_pos z5] at h
  cases h
  exact ev_iret dX6_isShoal_13 rfl (jbool z5) hq
def fX6_sizeOf (n : Nat) (a0 : Int32) (ci : jI) (cj : jJ) : Option (Int32 × jI × jJ) := if jok ((nI 7) + ((nI 2) * a0)) 12 then some ((ci 1581 (((nI 7) + ((nI 2) * a0))).toNatClampNeg), ci, cj) else none
theorem metX6_sizeOf {g : jG} {d : Nat} {K : jK} {cr : jR} {c sl : Nat} {Qr : jQ} {Qx : jX} (hM : jMW K cr) (n : Nat) (a0 : Int32) (ci : jI) (cj : jJ) {q} (h : fX6_sizeOf n a0 ci cj = some q) (hq : Qr (some (.int q.1)) K q.2.1 q.2.2 cr) : EvM g (d + 1) mX6_sizeOf [.ref 1547, .int a0] K ci cj cr c sl Qr Qx := by
  unfold fX6_sizeOf at h
  show Ev g (d + 1) mX6_sizeOf 0 [.ref 1547, .int a0] [] K ci cj cr c sl Qr Qx
  refine ev_aload_n dX6_sizeOf_0 rfl ?_
  refine ev_getR dX6_sizeOf_1 fX6_115_6 (hk1547 hM) (Or.inl (hl1547 hM)) rfl (hr43 hM) ?_
  refine ev_bipush (v := (nI 7)) dX6_sizeOf_4 jb7 ?_
  refine ev_iconst (v := (nI 2)) dX6_sizeOf_6 jc2 ?_
  refine ev_iload_n dX6_sizeOf_7 rfl ?_
  refine ev_imul dX6_sizeOf_8 ?_
  refine ev_iadd dX6_sizeOf_9 ?_
  by_cases z1 : jok ((nI 7) + ((nI 2) * a0)) 12
  rotate_left
  · rw [if_neg z1] at h; cases h
  rw [if_pos z1] at h
  refine ev_iaload dX6_sizeOf_10 (hk1581 hM) (Or.inl (hl1581 hM)) (jok.ix z1 (hn1581 hM)) ?_
  cases h
  exact ev_iret dX6_sizeOf_11 rfl rfl hq
def fX6_shoal_59 (n : Nat) (t0 : Int32) (ci : jI) (cj : jJ) : Option (Int32 × jI × jJ) := some (t0, ci, cj)
theorem wX6_shoal_59 {g : jG} {d : Nat} {K : jK} {cr : jR} {c sl : Nat} {Qr : jQ} {Qx : jX} (hM : jMW K cr) (n : Nat) (t0 : Int32) (ci : jI) (cj : jJ) {q} (h : fX6_shoal_59 n  t0 ci cj = some q) (hq : Qr (some (.int q.1)) K q.2.1 q.2.2 cr) : Ev g (d + 3) mX6_shoal 59 [jU, jU, jU] [.int t0] K ci cj cr c sl Qr Qx := by
  unfold fX6_shoal_59 at h
  cases h
  exact ev_iret dX6_shoal_59 rfl rfl hq
def fX6_shoal (n : Nat) (a0 : Int32) (a1 : Int32) (ci : jI) (cj : jJ) : Option (Int32 × jI × jJ) := Option.bind (fX6_isShoal n a0 ci cj) (fun q1 => if q1.1 = 0 then some ((-1), q1.2.1, q1.2.2) else if a1 = 0 then if jok ((nI 1) + ((nI 2) * a0)) 166 then fX6_shoal_59 n  (q1.2.1 1585 (((nI 1) + ((nI 2) * a0))).toNatClampNeg) q1.2.1 q1.2.2 else none else if a1 = (nI 1) then Option.bind (fX6_sizeOf n a0 q1.2.1 q1.2.2) (fun q8 => fX6_shoal_59 n  q8.1 q8.2.1 q8.2.2) else if a1 = (nI 2) then if jok ((nI 2) + ((nI 2) * a0)) 166 then fX6_shoal_59 n  (q1.2.1 1585 (((nI 2) + ((nI 2) * a0))).toNatClampNeg) q1.2.1 q1.2.2 else none else fX6_shoal_59 n  (-1) q1.2.1 q1.2.2)
theorem metX6_shoal {g : jG} {d : Nat} {K : jK} {cr : jR} {c sl : Nat} {Qr : jQ} {Qx : jX} (hM : jMW K cr) (n : Nat) (a0 : Int32) (a1 : Int32) (ci : jI) (cj : jJ) {q} (h : fX6_shoal n a0 a1 ci cj = some q) (hq : Qr (some (.int q.1)) K q.2.1 q.2.2 cr) : EvM g (d + 3) mX6_shoal [.ref 1547, .int a0, .int a1] K ci cj cr c sl Qr Qx := by
  unfold fX6_shoal at h
  show Ev g (d + 3) mX6_shoal 0 [.ref 1547, .int a0, .int a1] [] K ci cj cr c sl Qr Qx
  refine ev_aload_n dX6_shoal_0 rfl ?_
  refine ev_iload_n dX6_shoal_1 rfl ?_
  obtain ⟨q1, z2, h⟩ := Option.bind_eq_some_iff.mp h
  refine ev_zV1 dX6_shoal_2 vX6_526_6 (hk1547 hM) (Or.inl (hl1547 hM)) (Nat.le_of_ble_eq_true rfl) (Nat.le_of_ble_eq_true rfl) rfl (metX6_isShoal hM n _ _ _ z2 ?_)
  show Ev g _ _ 5 _ [.int q1.1] K q1.2.1 q1.2.2 cr c sl Qr Qx
  refine ev_if_ne 10 dX6_shoal_5 rfl (fun z3 => ?_) (fun z3 => ?_)
  · rw [if_neg z3] at h
    refine ev_iload_n dX6_shoal_10 rfl ?_
    refine ev_if_ne 27 dX6_shoal_11 rfl (fun z4 => ?_) (fun z4 => ?_)
    · rw [if_neg z4] at h
      refine ev_iload_n dX6_shoal_27 rfl ?_
      refine ev_iconst (v := (nI 1)) dX6_shoal_28 jc1 ?_
      refine ev_icmp_ne 40 dX6_shoal_29 rfl (fun z5 => ?_) (fun z5 => ?_)
      · rw [if_neg z5] at h
        refine ev_iload_n dX6_shoal_40 rfl ?_
        refine ev_iconst (v := (nI 2)) dX6_shoal_41 jc2 ?_
        refine ev_icmp_ne 58 dX6_shoal_42 rfl (fun z6 => ?_) (fun z6 => ?_)
        · rw [if_neg z6] at h
          refine ev_iconst (v := (-1)) dX6_shoal_58 jcm1 ?_
          exact ev_mask [false, false, false] (wX6_shoal_59 hM n   _ _ _ h hq)
        · rw [if_pos z6] at h
          refine ev_aload_n dX6_shoal_45 rfl ?_
          refine ev_getR dX6_shoal_46 fX6_127_6 (hk1547 hM) (Or.inl (hl1547 hM)) rfl (hr50 hM) ?_
          refine ev_iconst (v := (nI 2)) dX6_shoal_49 jc2 ?_
          refine ev_iconst (v := (nI 2)) dX6_shoal_50 jc2 ?_
          refine ev_iload_n dX6_shoal_51 rfl ?_
          refine ev_imul dX6_shoal_52 ?_
          refine ev_iadd dX6_shoal_53 ?_
          by_cases z7 : jok ((nI 2) + ((nI 2) * a0)) 166
          rotate_left
          · rw [if_neg z7] at h; cases h
          rw [if_pos z7] at h
          refine ev_iaload dX6_shoal_54 (hk1585 hM) (Or.inl (hl1585 hM)) (jok.ix z7 (hn1585 hM)) ?_
          refine ev_goto 59 dX6_shoal_55 rfl ?_
          exact ev_mask [false, false, false] (wX6_shoal_59 hM n   _ _ _ h hq)
      · rw [if_pos z5] at h
        refine ev_aload_n dX6_shoal_32 rfl ?_
        refine ev_iload_n dX6_shoal_33 rfl ?_
        obtain ⟨q8, z9, h⟩ := Option.bind_eq_some_iff.mp h
        refine ev_zV1 dX6_shoal_34 vX6_448_6 (hk1547 hM) (Or.inl (hl1547 hM)) (Nat.le_of_ble_eq_true rfl) (Nat.le_of_ble_eq_true rfl) rfl (metX6_sizeOf hM n _ _ _ z9 ?_)
        show Ev g _ _ 37 _ [.int q8.1] K q8.2.1 q8.2.2 cr c sl Qr Qx
        refine ev_goto 59 dX6_shoal_37 rfl ?_
        exact ev_mask [false, false, false] (wX6_shoal_59 hM n   _ _ _ h hq)
    · rw [if_pos z4] at h
      refine ev_aload_n dX6_shoal_14 rfl ?_
      refine ev_getR dX6_shoal_15 fX6_127_6 (hk1547 hM) (Or.inl (hl1547 hM)) rfl (hr50 hM) ?_
      refine ev_iconst (v := (nI 1)) dX6_shoal_18 jc1 ?_
      refine ev_iconst (v := (nI 2)) dX6_shoal_19 jc2 ?_
      refine ev_iload_n dX6_shoal_20 rfl ?_
      refine ev_imul dX6_shoal_21 ?_
      refine ev_iadd dX6_shoal_22 ?_
      by_cases z10 : jok ((nI 1) + ((nI 2) * a0)) 166
      rotate_left
      · rw [if_neg z10] at h; cases h
      rw [if_pos z10] at h
      refine ev_iaload dX6_shoal_23 (hk1585 hM) (Or.inl (hl1585 hM)) (jok.ix z10 (hn1585 hM)) ?_
      refine ev_goto 59 dX6_shoal_24 rfl ?_
      exact ev_mask [false, false, false] (wX6_shoal_59 hM n   _ _ _ h hq)
  · rw [if_pos z3] at h
    refine ev_iconst (v := (-1)) dX6_shoal_8 jcm1 ?_
    cases h
    exact ev_iret dX6_shoal_9 rfl rfl hq
def fX6_luresTo_55 (n : Nat) (l1 : Int32) (t0 : Int32) (ci : jI) (cj : jJ) : Option (Int64 × jI × jJ) := Option.bind (fX6_sizeOf n l1 (ju ci 1547 54 t0) cj) (fun q1 => Option.bind (fX6_codesTell n (nI 0) (ju q1.2.1 1547 55 q1.1) q1.2.2) (fun q3 => some (q3.1, q3.2.1, q3.2.2)))
theorem wX6_luresTo_55 {g : jG} {d : Nat} {K : jK} {cr : jR} {c sl : Nat} {Qr : jQ} {Qx : jX} (hM : jMW K cr) (n : Nat) (l1 : Int32) (t0 : Int32) (ci : jI) (cj : jJ) {q} (h : fX6_luresTo_55 n  l1 t0 ci cj = some q) (hq : Qr (some (.long q.1)) K q.2.1 q.2.2 cr) : Ev g (d + 4) mX6_luresTo 55 [.ref 1547, .int l1, jU, jU] [.int t0, .ref 1547] K ci cj cr c sl Qr Qx := by
  unfold fX6_luresTo_55 at h
  refine ev_putI dX6_luresTo_55 (pX6_445_6 _) (hk1547 hM) (hl1547 hM) rfl rfl rfl ?_
  refine ev_aload_n dX6_luresTo_58 rfl ?_
  refine ev_aload_n dX6_luresTo_59 rfl ?_
  refine ev_iload_n dX6_luresTo_60 rfl ?_
  obtain ⟨q1, z2, h⟩ := Option.bind_eq_some_iff.mp h
  refine ev_zV1 dX6_luresTo_61 vX6_448_6 (hk1547 hM) (Or.inl (hl1547 hM)) (Nat.le_of_ble_eq_true rfl) (Nat.le_of_ble_eq_true rfl) rfl (metX6_sizeOf hM n _ _ _ z2 ?_)
  show Ev g _ _ 64 _ [.int q1.1, .ref 1547] K q1.2.1 q1.2.2 cr c sl Qr Qx
  refine ev_putI dX6_luresTo_64 (pX6_451_6 _) (hk1547 hM) (hl1547 hM) rfl rfl rfl ?_
  refine ev_aload_n dX6_luresTo_67 rfl ?_
  refine ev_iconst (v := (nI 0)) dX6_luresTo_68 jc0 ?_
  obtain ⟨q3, z4, h⟩ := Option.bind_eq_some_iff.mp h
  refine ev_zV1 dX6_luresTo_69 vX6_438_6 (hk1547 hM) (Or.inl (hl1547 hM)) (Nat.le_of_ble_eq_true rfl) (Nat.le_of_ble_eq_true rfl) rfl (metX6_codesTell hM n _ _ _ z4 ?_)
  show Ev g _ _ 72 _ [.long q3.1] K q3.2.1 q3.2.2 cr c sl Qr Qx
  cases h
  exact ev_lret dX6_luresTo_72 rfl hq
def fX6_luresTo (n : Nat) (a0 : Int32) (a1 : Int32) (ci : jI) (cj : jJ) : Option (Int64 × jI × jJ) := Option.bind (fX6_isTold n (nI 0) ci cj) (fun q1 => if q1.1 = 0 then if jok a1 6 then some (((q1.2.1 1587 (a1).toNatClampNeg)).toInt64, q1.2.1, q1.2.2) else none else if jok ((nI 1) + ((nI 2) * a0)) 166 then if jok ((nI 12) + ((nI 2) * a1)) 24 then if 0 ≤ (((ju q1.2.1 1547 52 a1) 1585 (((nI 1) + ((nI 2) * a0))).toNatClampNeg) - ((ju q1.2.1 1547 52 a1) 1579 (((nI 12) + ((nI 2) * a1))).toNatClampNeg)) then fX6_luresTo_55 n  a0 (((ju q1.2.1 1547 52 a1) 1585 (((nI 1) + ((nI 2) * a0))).toNatClampNeg) - ((ju q1.2.1 1547 52 a1) 1579 (((nI 12) + ((nI 2) * a1))).toNatClampNeg)) (ju q1.2.1 1547 52 a1) q1.2.2 else fX6_luresTo_55 n  a0 (-(((ju q1.2.1 1547 52 a1) 1585 (((nI 1) + ((nI 2) * a0))).toNatClampNeg) - ((ju q1.2.1 1547 52 a1) 1579 (((nI 12) + ((nI 2) * a1))).toNatClampNeg))) (ju q1.2.1 1547 52 a1) q1.2.2 else none else none)
theorem metX6_luresTo {g : jG} {d : Nat} {K : jK} {cr : jR} {c sl : Nat} {Qr : jQ} {Qx : jX} (hM : jMW K cr) (n : Nat) (a0 : Int32) (a1 : Int32) (ci : jI) (cj : jJ) {q} (h : fX6_luresTo n a0 a1 ci cj = some q) (hq : Qr (some (.long q.1)) K q.2.1 q.2.2 cr) : EvM g (d + 4) mX6_luresTo [.ref 1547, .int a0, .int a1] K ci cj cr c sl Qr Qx := by
  unfold fX6_luresTo at h
  show Ev g (d + 4) mX6_luresTo 0 [.ref 1547, .int a0, .int a1, jU] [] K ci cj cr c sl Qr Qx
  refine ev_aload_n dX6_luresTo_0 rfl ?_
  refine ev_iconst (v := (nI 0)) dX6_luresTo_1 jc0 ?_
  obtain ⟨q1, z2, h⟩ := Option.bind_eq_some_iff.mp h
  refine ev_zV1 dX6_luresTo_2 vX6_422_6 (hk1547 hM) (Or.inl (hl1547 hM)) (Nat.le_of_ble_eq_true rfl) (Nat.le_of_ble_eq_true rfl) rfl (metX6_isTold hM n _ _ _ z2 ?_)
  show Ev g _ _ 5 _ [.int q1.1] K q1.2.1 q1.2.2 cr c sl Qr Qx
  refine ev_if_ne 16 dX6_luresTo_5 rfl (fun z3 => ?_) (fun z3 => ?_)
  · rw [if_neg z3] at h
    refine ev_aload_n dX6_luresTo_16 rfl ?_
    refine ev_iload_n dX6_luresTo_17 rfl ?_
    refine ev_putI dX6_luresTo_18 (pX6_435_6 _) (hk1547 hM) (hl1547 hM) rfl rfl rfl ?_
    refine ev_aload_n dX6_luresTo_21 rfl ?_
    refine ev_getR dX6_luresTo_22 fX6_127_6 (hk1547 hM) (Or.inl (hl1547 hM)) rfl (hr50 hM) ?_
    refine ev_iconst (v := (nI 1)) dX6_luresTo_25 jc1 ?_
    refine ev_iconst (v := (nI 2)) dX6_luresTo_26 jc2 ?_
    refine ev_iload_n dX6_luresTo_27 rfl ?_
    refine ev_imul dX6_luresTo_28 ?_
    refine ev_iadd dX6_luresTo_29 ?_
    by_cases z4 : jok ((nI 1) + ((nI 2) * a0)) 166
    rotate_left
    · rw [if_neg z4] at h; cases h
    rw [if_pos z4] at h
    refine ev_iaload dX6_luresTo_30 (hk1585 hM) (Or.inl (hl1585 hM)) (jok.ix z4 (hn1585 hM)) ?_
    refine ev_aload_n dX6_luresTo_31 rfl ?_
    refine ev_getR dX6_luresTo_32 fX6_109_6 (hk1547 hM) (Or.inl (hl1547 hM)) rfl (hr41 hM) ?_
    refine ev_bipush (v := (nI 12)) dX6_luresTo_35 jb12 ?_
    refine ev_iconst (v := (nI 2)) dX6_luresTo_37 jc2 ?_
    refine ev_iload_n dX6_luresTo_38 rfl ?_
    refine ev_imul dX6_luresTo_39 ?_
    refine ev_iadd dX6_luresTo_40 ?_
    by_cases z5 : jok ((nI 12) + ((nI 2) * a1)) 24
    rotate_left
    · rw [if_neg z5] at h; cases h
    rw [if_pos z5] at h
    refine ev_iaload dX6_luresTo_41 (hk1579 hM) (Or.inl (hl1579 hM)) (jok.ix z5 (hn1579 hM)) ?_
    refine ev_isub dX6_luresTo_42 ?_
    refine ev_istore_n (L' := [_, _, _, _]) dX6_luresTo_43 (by decide) rfl ?_
    refine ev_aload_n dX6_luresTo_44 rfl ?_
    refine ev_iload_n dX6_luresTo_45 rfl ?_
    refine ev_if_ge 54 dX6_luresTo_46 rfl (fun z6 => ?_) (fun z6 => ?_)
    · rw [if_pos z6] at h
      refine ev_iload_n dX6_luresTo_54 rfl ?_
      exact ev_mask [true, true, false, false] (wX6_luresTo_55 hM n   _ _ _ _ h hq)
    · rw [if_neg z6] at h
      refine ev_iload_n dX6_luresTo_49 rfl ?_
      refine ev_ineg dX6_luresTo_50 ?_
      refine ev_goto 55 dX6_luresTo_51 rfl ?_
      exact ev_mask [true, true, false, false] (wX6_luresTo_55 hM n   _ _ _ _ h hq)
  · rw [if_pos z3] at h
    refine ev_aload_n dX6_luresTo_8 rfl ?_
    refine ev_getR dX6_luresTo_9 fX6_133_6 (hk1547 hM) (Or.inl (hl1547 hM)) rfl (hr56 hM) ?_
    refine ev_iload_n dX6_luresTo_12 rfl ?_
    by_cases z7 : jok a1 6
    rotate_left
    · rw [if_neg z7] at h; cases h
    rw [if_pos z7] at h
    refine ev_iaload dX6_luresTo_13 (hk1587 hM) (Or.inl (hl1587 hM)) (jok.ix z7 (hn1587 hM)) ?_
    refine ev_i2l dX6_luresTo_14 ?_
    cases h
    exact ev_lret dX6_luresTo_15 rfl hq
def fX6_lure_17 (n : Nat) (ci : jI) (cj : jJ) : Option (Int64 × jI × jJ) := some ((-1000000000000000 : Int64), ci, cj)
theorem wX6_lure_17 {g : jG} {d : Nat} {K : jK} {cr : jR} {c sl : Nat} {Qr : jQ} {Qx : jX} (hM : jMW K cr) (n : Nat) (ci : jI) (cj : jJ) {q} (h : fX6_lure_17 n   ci cj = some q) (hq : Qr (some (.long q.1)) K q.2.1 q.2.2 cr) : Ev g (d + 6) mX6_lure 17 [jU, jU, jU] [] K ci cj cr c sl Qr Qx := by
  unfold fX6_lure_17 at h
  refine ev_ldc2 dX6_lure_17 q2342 ?_
  cases h
  exact ev_lret dX6_lure_20 rfl hq
def fX6_lure (n : Nat) (a0 : Int32) (a1 : Int32) (ci : jI) (cj : jJ) : Option (Int64 × jI × jJ) := Option.bind (fX6_isShoal n a0 ci cj) (fun q1 => if q1.1 = 0 then fX6_lure_17 n   q1.2.1 q1.2.2 else Option.bind (fX6_isBay n ((a1).toInt64) q1.2.1 q1.2.2) (fun q4 => if q4.1 = 0 then fX6_lure_17 n   q4.2.1 q4.2.2 else Option.bind (fX6_laysVows n  q4.2.1 q4.2.2) (fun q7 => Option.bind (fX6_luresTo n a0 a1 q7.1 q7.2) (fun q9 => some (q9.1, q9.2.1, q9.2.2)))))
theorem metX6_lure {g : jG} {d : Nat} {K : jK} {cr : jR} {c sl : Nat} {Qr : jQ} {Qx : jX} (hM : jMW K cr) (n : Nat) (a0 : Int32) (a1 : Int32) (ci : jI) (cj : jJ) {q} (h : fX6_lure n a0 a1 ci cj = some q) (hq : Qr (some (.long q.1)) K q.2.1 q.2.2 cr) : EvM g (d + 6) mX6_lure [.ref 1547, .int a0, .int a1] K ci cj cr c sl Qr Qx := by
  unfold fX6_lure at h
  show Ev g (d + 6) mX6_lure 0 [.ref 1547, .int a0, .int a1] [] K ci cj cr c sl Qr Qx
  refine ev_aload_n dX6_lure_0 rfl ?_
  refine ev_iload_n dX6_lure_1 rfl ?_
  obtain ⟨q1, z2, h⟩ := Option.bind_eq_some_iff.mp h
  refine ev_zV1 dX6_lure_2 vX6_526_6 (hk1547 hM) (Or.inl (hl1547 hM)) (Nat.le_of_ble_eq_true rfl) (Nat.le_of_ble_eq_true rfl) rfl (metX6_isShoal hM n _ _ _ z2 ?_)
  show Ev g _ _ 5 _ [.int q1.1] K q1.2.1 q1.2.2 cr c sl Qr Qx
  refine ev_if_eq 17 dX6_lure_5 rfl (fun z3 => ?_) (fun z3 => ?_)
  · rw [if_pos z3] at h
    exact ev_mask [false, false, false] (wX6_lure_17 hM n    _ _ h hq)
  · rw [if_neg z3] at h
    refine ev_aload_n dX6_lure_8 rfl ?_
    refine ev_iload_n dX6_lure_9 rfl ?_
    refine ev_i2l dX6_lure_10 ?_
    obtain ⟨q4, z5, h⟩ := Option.bind_eq_some_iff.mp h
    refine ev_zV1 dX6_lure_11 vX6_516_6 (hk1547 hM) (Or.inl (hl1547 hM)) (Nat.le_of_ble_eq_true rfl) (Nat.le_of_ble_eq_true rfl) rfl (metX6_isBay hM n _ _ _ z5 ?_)
    show Ev g _ _ 14 _ [.int q4.1] K q4.2.1 q4.2.2 cr c sl Qr Qx
    refine ev_if_ne 21 dX6_lure_14 rfl (fun z6 => ?_) (fun z6 => ?_)
    · rw [if_neg z6] at h
      refine ev_aload_n dX6_lure_21 rfl ?_
      obtain ⟨q7, z8, h⟩ := Option.bind_eq_some_iff.mp h
      refine ev_zV0 dX6_lure_22 vX6_482_6 (hk1547 hM) (Or.inl (hl1547 hM)) (Nat.le_of_ble_eq_true rfl) (Nat.le_of_ble_eq_true rfl) rfl (metX6_laysVows hM n  _ _ z8 ?_)
      show Ev g _ _ 25 _ [] K q7.1 q7.2 cr c sl Qr Qx
      refine ev_aload_n dX6_lure_25 rfl ?_
      refine ev_iload_n dX6_lure_26 rfl ?_
      refine ev_iload_n dX6_lure_27 rfl ?_
      obtain ⟨q9, z10, h⟩ := Option.bind_eq_some_iff.mp h
      refine ev_zV2 dX6_lure_28 vX6_454_6 (hk1547 hM) (Or.inl (hl1547 hM)) (Nat.le_of_ble_eq_true rfl) (Nat.le_of_ble_eq_true rfl) rfl (metX6_luresTo hM n _ _ _ _ z10 ?_)
      show Ev g _ _ 31 _ [.long q9.1] K q9.2.1 q9.2.2 cr c sl Qr Qx
      cases h
      exact ev_lret dX6_lure_31 rfl hq
    · rw [if_pos z6] at h
      exact ev_mask [false, false, false] (wX6_lure_17 hM n    _ _ h hq)
def fX6_kept_48 (n : Nat) (t0 : Int32) (ci : jI) (cj : jJ) : Option (Int32 × jI × jJ) := some (t0, ci, cj)
theorem wX6_kept_48 {g : jG} {d : Nat} {K : jK} {cr : jR} {c sl : Nat} {Qr : jQ} {Qx : jX} (hM : jMW K cr) (n : Nat) (t0 : Int32) (ci : jI) (cj : jJ) {q} (h : fX6_kept_48 n  t0 ci cj = some q) (hq : Qr (some (.int q.1)) K q.2.1 q.2.2 cr) : Ev g (d + 2) mX6_kept 48 [jU, jU, jU] [.int t0] K ci cj cr c sl Qr Qx := by
  unfold fX6_kept_48 at h
  cases h
  exact ev_iret dX6_kept_48 rfl rfl hq
def fX6_kept_47 (n : Nat) (ci : jI) (cj : jJ) : Option (Int32 × jI × jJ) := fX6_kept_48 n  (-1) ci cj
theorem wX6_kept_47 {g : jG} {d : Nat} {K : jK} {cr : jR} {c sl : Nat} {Qr : jQ} {Qx : jX} (hM : jMW K cr) (n : Nat) (ci : jI) (cj : jJ) {q} (h : fX6_kept_47 n   ci cj = some q) (hq : Qr (some (.int q.1)) K q.2.1 q.2.2 cr) : Ev g (d + 2) mX6_kept 47 [jU, jU, jU] [] K ci cj cr c sl Qr Qx := by
  unfold fX6_kept_47 at h
  refine ev_iconst (v := (-1)) dX6_kept_47 jcm1 ?_
  exact wX6_kept_48 hM n   _ _ _ h hq
def fX6_kept (n : Nat) (a0 : Int32) (a1 : Int32) (ci : jI) (cj : jJ) : Option (Int32 × jI × jJ) := if jok (nI 45) 166 then Option.bind (fX6_isIn n ((a0).toInt64) (lN 0) ((((ci 1585 ((nI 45)).toNatClampNeg) - (nI 1))).toInt64) ci cj) (fun q2 => if q2.1 = 0 then fX6_kept_47 n   q2.2.1 q2.2.2 else Option.bind (fX6_isIn n ((a1).toInt64) (lN 0) (2 : Int64) q2.2.1 q2.2.2) (fun q5 => if q5.1 = 0 then fX6_kept_47 n   q5.2.1 q5.2.2 else if jok (((nI 46) + ((nI 3) * a0)) + a1) 166 then fX6_kept_48 n  (q5.2.1 1585 ((((nI 46) + ((nI 3) * a0)) + a1)).toNatClampNeg) q5.2.1 q5.2.2 else none)) else none
theorem metX6_kept {g : jG} {d : Nat} {K : jK} {cr : jR} {c sl : Nat} {Qr : jQ} {Qx : jX} (hM : jMW K cr) (n : Nat) (a0 : Int32) (a1 : Int32) (ci : jI) (cj : jJ) {q} (h : fX6_kept n a0 a1 ci cj = some q) (hq : Qr (some (.int q.1)) K q.2.1 q.2.2 cr) : EvM g (d + 2) mX6_kept [.ref 1547, .int a0, .int a1] K ci cj cr c sl Qr Qx := by
  unfold fX6_kept at h
  show Ev g (d + 2) mX6_kept 0 [.ref 1547, .int a0, .int a1] [] K ci cj cr c sl Qr Qx
  refine ev_iload_n dX6_kept_0 rfl ?_
  refine ev_i2l dX6_kept_1 ?_
  refine ev_lconst (v := lN 0) dX6_kept_2 rfl ?_
  refine ev_aload_n dX6_kept_3 rfl ?_
  refine ev_getR dX6_kept_4 fX6_127_6 (hk1547 hM) (Or.inl (hl1547 hM)) rfl (hr50 hM) ?_
  refine ev_bipush (v := (nI 45)) dX6_kept_7 jb45 ?_
  by_cases z1 : jok (nI 45) 166
  rotate_left
  · rw [if_neg z1] at h; cases h
  rw [if_pos z1] at h
  refine ev_iaload dX6_kept_9 (hk1585 hM) (Or.inl (hl1585 hM)) (jok.ix z1 (hn1585 hM)) ?_
  refine ev_iconst (v := (nI 1)) dX6_kept_10 jc1 ?_
  refine ev_isub dX6_kept_11 ?_
  refine ev_i2l dX6_kept_12 ?_
  obtain ⟨q2, z3, h⟩ := Option.bind_eq_some_iff.mp h
  refine ev_zS3 dX6_kept_13 sX6_294 (Nat.le_of_ble_eq_true rfl) (Nat.le_of_ble_eq_true rfl) rfl (metX6_isIn hM n _ _ _ _ _ z3 ?_)
  show Ev g _ _ 16 _ [.int q2.1] K q2.2.1 q2.2.2 cr c sl Qr Qx
  refine ev_if_eq 47 dX6_kept_16 rfl (fun z4 => ?_) (fun z4 => ?_)
  · rw [if_pos z4] at h
    exact ev_mask [false, false, false] (wX6_kept_47 hM n    _ _ h hq)
  · rw [if_neg z4] at h
    refine ev_iload_n dX6_kept_19 rfl ?_
    refine ev_i2l dX6_kept_20 ?_
    refine ev_lconst (v := lN 0) dX6_kept_21 rfl ?_
    refine ev_ldc2 dX6_kept_22 q2304 ?_
    obtain ⟨q5, z6, h⟩ := Option.bind_eq_some_iff.mp h
    refine ev_zS3 dX6_kept_25 sX6_294 (Nat.le_of_ble_eq_true rfl) (Nat.le_of_ble_eq_true rfl) rfl (metX6_isIn hM n _ _ _ _ _ z6 ?_)
    show Ev g _ _ 28 _ [.int q5.1] K q5.2.1 q5.2.2 cr c sl Qr Qx
    refine ev_if_eq 47 dX6_kept_28 rfl (fun z7 => ?_) (fun z7 => ?_)
    · rw [if_pos z7] at h
      exact ev_mask [false, false, false] (wX6_kept_47 hM n    _ _ h hq)
    · rw [if_neg z7] at h
      refine ev_aload_n dX6_kept_31 rfl ?_
      refine ev_getR dX6_kept_32 fX6_127_6 (hk1547 hM) (Or.inl (hl1547 hM)) rfl (hr50 hM) ?_
      refine ev_bipush (v := (nI 46)) dX6_kept_35 jb46 ?_
      refine ev_iconst (v := (nI 3)) dX6_kept_37 jc3 ?_
      refine ev_iload_n dX6_kept_38 rfl ?_
      refine ev_imul dX6_kept_39 ?_
      refine ev_iadd dX6_kept_40 ?_
      refine ev_iload_n dX6_kept_41 rfl ?_
      refine ev_iadd dX6_kept_42 ?_
      by_cases z8 : jok (((nI 46) + ((nI 3) * a0)) + a1) 166
      rotate_left
      · rw [if_neg z8] at h; cases h
      rw [if_pos z8] at h
      refine ev_iaload dX6_kept_43 (hk1585 hM) (Or.inl (hl1585 hM)) (jok.ix z8 (hn1585 hM)) ?_
      refine ev_goto 48 dX6_kept_44 rfl ?_
      exact ev_mask [false, false, false] (wX6_kept_48 hM n   _ _ _ h hq)
def fX6_isAhead_31 (n : Nat) (t0 : Int32) (ci : jI) (cj : jJ) : Option (Int32 × jI × jJ) := if t0 = 0 ∨ t0 = 1 then some (t0, ci, cj) else none
theorem wX6_isAhead_31 {g : jG} {d : Nat} {K : jK} {cr : jR} {c sl : Nat} {Qr : jQ} {Qx : jX} (hM : jMW K cr) (n : Nat) (t0 : Int32) (ci : jI) (cj : jJ) {q} (h : fX6_isAhead_31 n  t0 ci cj = some q) (hq : Qr (some (.int q.1)) K q.2.1 q.2.2 cr) : Ev g (d + 2) mX6_isAhead 31 [jU, jU, jU, jU] [.int t0] K ci cj cr c sl Qr Qx := by
  unfold fX6_isAhead_31 at h
  by_cases z1 : t0 = 0 ∨ t0 = 1
  rotate_left
  · rw [if_neg z1] at h; cases h
  rw [if_pos z1] at h
  cases h
  exact ev_iret dX6_isAhead_31 rfl (jbool z1) hq
def fX6_isAhead_30 (n : Nat) (ci : jI) (cj : jJ) : Option (Int32 × jI × jJ) := fX6_isAhead_31 n  (nI 0) ci cj
theorem wX6_isAhead_30 {g : jG} {d : Nat} {K : jK} {cr : jR} {c sl : Nat} {Qr : jQ} {Qx : jX} (hM : jMW K cr) (n : Nat) (ci : jI) (cj : jJ) {q} (h : fX6_isAhead_30 n   ci cj = some q) (hq : Qr (some (.int q.1)) K q.2.1 q.2.2 cr) : Ev g (d + 2) mX6_isAhead 30 [jU, jU, jU, jU] [] K ci cj cr c sl Qr Qx := by
  unfold fX6_isAhead_30 at h
  refine ev_iconst (v := (nI 0)) dX6_isAhead_30 jc0 ?_
  exact wX6_isAhead_31 hM n   _ _ _ h hq
def fX6_isAhead (n : Nat) (a0 : Int32) (a1 : Int32) (a2 : Int32) (ci : jI) (cj : jJ) : Option (Int32 × jI × jJ) := Option.bind (fX6_isIn n ((a0).toInt64) ((a1).toInt64) ((a2).toInt64) ci cj) (fun q1 => if q1.1 = 0 then fX6_isAhead_30 n   q1.2.1 q1.2.2 else if jok (nI 0) 166 then if (nI 999) < ((q1.2.1 1585 ((nI 0)).toNatClampNeg) + a0) then fX6_isAhead_30 n   q1.2.1 q1.2.2 else fX6_isAhead_31 n  (nI 1) q1.2.1 q1.2.2 else none)
theorem metX6_isAhead {g : jG} {d : Nat} {K : jK} {cr : jR} {c sl : Nat} {Qr : jQ} {Qx : jX} (hM : jMW K cr) (n : Nat) (a0 : Int32) (a1 : Int32) (a2 : Int32) (ci : jI) (cj : jJ) {q} (h : fX6_isAhead n a0 a1 a2 ci cj = some q) (hq : Qr (some (.int q.1)) K q.2.1 q.2.2 cr) : EvM g (d + 2) mX6_isAhead [.ref 1547, .int a0, .int a1, .int a2] K ci cj cr c sl Qr Qx := by
  unfold fX6_isAhead at h
  show Ev g (d + 2) mX6_isAhead 0 [.ref 1547, .int a0, .int a1, .int a2] [] K ci cj cr c sl Qr Qx
  refine ev_iload_n dX6_isAhead_0 rfl ?_
  refine ev_i2l dX6_isAhead_1 ?_
  refine ev_iload_n dX6_isAhead_2 rfl ?_
  refine ev_i2l dX6_isAhead_3 ?_
  refine ev_iload_n dX6_isAhead_4 rfl ?_
  refine ev_i2l dX6_isAhead_5 ?_
  obtain ⟨q1, z2, h⟩ := Option.bind_eq_some_iff.mp h
  refine ev_zS3 dX6_isAhead_6 sX6_294 (Nat.le_of_ble_eq_true rfl) (Nat.le_of_ble_eq_true rfl) rfl (metX6_isIn hM n _ _ _ _ _ z2 ?_)
  show Ev g _ _ 9 _ [.int q1.1] K q1.2.1 q1.2.2 cr c sl Qr Qx
  refine ev_if_eq 30 dX6_isAhead_9 rfl (fun z3 => ?_) (fun z3 => ?_)
  · rw [if_pos z3] at h
    exact ev_mask [false, false, false, false] (wX6_isAhead_30 hM n    _ _ h hq)
  · rw [if_neg z3] at h
    refine ev_aload_n dX6_isAhead_12 rfl ?_
    refine ev_getR dX6_isAhead_13 fX6_127_6 (hk1547 hM) (Or.inl (hl1547 hM)) rfl (hr50 hM) ?_
    refine ev_iconst (v := (nI 0)) dX6_isAhead_16 jc0 ?_
    by_cases z4 : jok (nI 0) 166
    rotate_left
    · rw [if_neg z4] at h; cases h
    rw [if_pos z4] at h
    refine ev_iaload dX6_isAhead_17 (hk1585 hM) (Or.inl (hl1585 hM)) (jok.ix z4 (hn1585 hM)) ?_
    refine ev_iload_n dX6_isAhead_18 rfl ?_
    refine ev_iadd dX6_isAhead_19 ?_
    refine ev_sipush (v := (nI 999)) dX6_isAhead_20 js999 ?_
    refine ev_icmp_gt 30 dX6_isAhead_23 rfl (fun z5 => ?_) (fun z5 => ?_)
    · rw [if_pos z5] at h
      exact ev_mask [false, false, false, false] (wX6_isAhead_30 hM n    _ _ h hq)
    · rw [if_neg z5] at h
      refine ev_iconst (v := (nI 1)) dX6_isAhead_26 jc1 ?_
      refine ev_goto 31 dX6_isAhead_27 rfl ?_
      exact ev_mask [false, false, false, false] (wX6_isAhead_31 hM n   _ _ _ h hq)
def fX6_putsAside_7 (n : Nat) : Nat → Int32 → jI → jJ → Option (jI × jJ)
  | 0, _, _, _ => none
  | k + 1, l1, ci, cj => if (nI 45) ≤ l1 then some (ci, cj) else if jok l1 166 then if jok l1 45 then fX6_putsAside_7 n  k (l1 + (nI 1)) (ju ci 1586 (l1).toNatClampNeg (ci 1585 (l1).toNatClampNeg)) cj else none else none
theorem wX6_putsAside_7 {g : jG} {d : Nat} {K : jK} {cr : jR} {c sl : Nat} {Qr : jQ} {Qx : jX} (hM : jMW K cr) (n : Nat) : ∀ (k : Nat) (l1 : Int32) (ci : jI) (cj : jJ) {q}, fX6_putsAside_7 n  k l1 ci cj = some q → Qr none K q.1 q.2 cr → Ev g (d + 1) mX6_putsAside 7 [.ref 1547, .int l1] [] K ci cj cr c sl Qr Qx := by
  intro k
  induction k with
  | zero =>
    intro l1 ci cj q h hq
    rw [fX6_putsAside_7.eq_1] at h; cases h
  | succ k ih =>
    intro l1 ci cj q h hq
    rw [fX6_putsAside_7.eq_2] at h
    refine ev_iload_n dX6_putsAside_7 rfl ?_
    refine ev_bipush (v := (nI 45)) dX6_putsAside_8 jb45 ?_
    refine ev_icmp_ge 31 dX6_putsAside_10 rfl (fun z1 => ?_) (fun z1 => ?_)
    · rw [if_pos z1] at h
      cases h
      exact ev_ret dX6_putsAside_31 rfl hq
    · rw [if_neg z1] at h
      refine ev_aload_n dX6_putsAside_13 rfl ?_
      refine ev_getR dX6_putsAside_14 fX6_130_6 (hk1547 hM) (Or.inl (hl1547 hM)) rfl (hr51 hM) ?_
      refine ev_iload_n dX6_putsAside_17 rfl ?_
      refine ev_aload_n dX6_putsAside_18 rfl ?_
      refine ev_getR dX6_putsAside_19 fX6_127_6 (hk1547 hM) (Or.inl (hl1547 hM)) rfl (hr50 hM) ?_
      refine ev_iload_n dX6_putsAside_22 rfl ?_
      by_cases z2 : jok l1 166
      rotate_left
      · rw [if_neg z2] at h; cases h
      rw [if_pos z2] at h
      refine ev_iaload dX6_putsAside_23 (hk1585 hM) (Or.inl (hl1585 hM)) (jok.ix z2 (hn1585 hM)) ?_
      by_cases z3 : jok l1 45
      rotate_left
      · rw [if_neg z3] at h; cases h
      rw [if_pos z3] at h
      refine ev_iastore dX6_putsAside_24 (hk1586 hM) (hl1586 hM) (jok.ix z3 (hn1586 hM)) ?_
      refine ev_iinc (v := (l1 + (nI 1))) (L' := [_, _]) dX6_putsAside_25 rfl (by rw [ji_1]) (by decide) rfl ?_
      refine ev_goto 7 dX6_putsAside_28 rfl ?_
      exact ih _ _ _ h hq
def fX6_putsAside (n : Nat) (ci : jI) (cj : jJ) : Option (jI × jJ) := fX6_putsAside_7 n  n (nI 0) (ju ci 1547 58 (nI 1)) cj
theorem metX6_putsAside {g : jG} {d : Nat} {K : jK} {cr : jR} {c sl : Nat} {Qr : jQ} {Qx : jX} (hM : jMW K cr) (n : Nat) (ci : jI) (cj : jJ) {q} (h : fX6_putsAside n  ci cj = some q) (hq : Qr none K q.1 q.2 cr) : EvM g (d + 1) mX6_putsAside [.ref 1547] K ci cj cr c sl Qr Qx := by
  unfold fX6_putsAside at h
  show Ev g (d + 1) mX6_putsAside 0 [.ref 1547, jU] [] K ci cj cr c sl Qr Qx
  refine ev_aload_n dX6_putsAside_0 rfl ?_
  refine ev_iconst (v := (nI 1)) dX6_putsAside_1 jc1 ?_
  refine ev_putI dX6_putsAside_2 (pX6_460_6 _) (hk1547 hM) (hl1547 hM) rfl (by decide) (by decide) ?_
  refine ev_iconst (v := (nI 0)) dX6_putsAside_5 jc0 ?_
  refine ev_istore_n (L' := [_, _]) dX6_putsAside_6 (by decide) rfl ?_
  exact wX6_putsAside_7 hM n   n _ _ _ h hq
def fX6_triesAnew_2 (n : Nat) : Nat → Int32 → jI → jJ → Option (jI × jJ)
  | 0, _, _, _ => none
  | k + 1, l1, ci, cj => if (nI 45) ≤ l1 then some (ci, cj) else if jok l1 45 then if jok l1 166 then fX6_triesAnew_2 n  k (l1 + (nI 1)) (ju ci 1585 (l1).toNatClampNeg (ci 1586 (l1).toNatClampNeg)) cj else none else none
theorem wX6_triesAnew_2 {g : jG} {d : Nat} {K : jK} {cr : jR} {c sl : Nat} {Qr : jQ} {Qx : jX} (hM : jMW K cr) (n : Nat) : ∀ (k : Nat) (l1 : Int32) (ci : jI) (cj : jJ) {q}, fX6_triesAnew_2 n  k l1 ci cj = some q → Qr none K q.1 q.2 cr → Ev g (d + 1) mX6_triesAnew 2 [.ref 1547, .int l1] [] K ci cj cr c sl Qr Qx := by
  intro k
  induction k with
  | zero =>
    intro l1 ci cj q h hq
    rw [fX6_triesAnew_2.eq_1] at h; cases h
  | succ k ih =>
    intro l1 ci cj q h hq
    rw [fX6_triesAnew_2.eq_2] at h
    refine ev_iload_n dX6_triesAnew_2 rfl ?_
    refine ev_bipush (v := (nI 45)) dX6_triesAnew_3 jb45 ?_
    refine ev_icmp_ge 26 dX6_triesAnew_5 rfl (fun z1 => ?_) (fun z1 => ?_)
    · rw [if_pos z1] at h
      cases h
      exact ev_ret dX6_triesAnew_26 rfl hq
    · rw [if_neg z1] at h
      refine ev_aload_n dX6_triesAnew_8 rfl ?_
      refine ev_getR dX6_triesAnew_9 fX6_127_6 (hk1547 hM) (Or.inl (hl1547 hM)) rfl (hr50 hM) ?_
      refine ev_iload_n dX6_triesAnew_12 rfl ?_
      refine ev_aload_n dX6_triesAnew_13 rfl ?_
      refine ev_getR dX6_triesAnew_14 fX6_130_6 (hk1547 hM) (Or.inl (hl1547 hM)) rfl (hr51 hM) ?_
      refine ev_iload_n dX6_triesAnew_17 rfl ?_
      by_cases z2 : jok l1 45
      rotate_left
      · rw [if_neg z2] at h; cases h
      rw [if_pos z2] at h
      refine ev_iaload dX6_triesAnew_18 (hk1586 hM) (Or.inl (hl1586 hM)) (jok.ix z2 (hn1586 hM)) ?_
      by_cases z3 : jok l1 166
      rotate_left
      · rw [if_neg z3] at h; cases h
      rw [if_pos z3] at h
      refine ev_iastore dX6_triesAnew_19 (hk1585 hM) (hl1585 hM) (jok.ix z3 (hn1585 hM)) ?_
      refine ev_iinc (v := (l1 + (nI 1))) (L' := [_, _]) dX6_triesAnew_20 rfl (by rw [ji_1]) (by decide) rfl ?_
      refine ev_goto 2 dX6_triesAnew_23 rfl ?_
      exact ih _ _ _ h hq
def fX6_triesAnew (n : Nat) (ci : jI) (cj : jJ) : Option (jI × jJ) := fX6_triesAnew_2 n  n (nI 0) ci cj
theorem metX6_triesAnew {g : jG} {d : Nat} {K : jK} {cr : jR} {c sl : Nat} {Qr : jQ} {Qx : jX} (hM : jMW K cr) (n : Nat) (ci : jI) (cj : jJ) {q} (h : fX6_triesAnew n  ci cj = some q) (hq : Qr none K q.1 q.2 cr) : EvM g (d + 1) mX6_triesAnew [.ref 1547] K ci cj cr c sl Qr Qx := by
  unfold fX6_triesAnew at h
  show Ev g (d + 1) mX6_triesAnew 0 [.ref 1547, jU] [] K ci cj cr c sl Qr Qx
  refine ev_iconst (v := (nI 0)) dX6_triesAnew_0 jc0 ?_
  refine ev_istore_n (L' := [_, _]) dX6_triesAnew_1 (by decide) rfl ?_
  exact wX6_triesAnew_2 hM n   n _ _ _ h hq
def fX6_takesBack (n : Nat) (ci : jI) (cj : jJ) : Option (jI × jJ) := Option.bind (fX6_triesAnew n  ci cj) (fun q1 => some ((ju q1.1 1547 58 (nI 0)), q1.2))
theorem metX6_takesBack {g : jG} {d : Nat} {K : jK} {cr : jR} {c sl : Nat} {Qr : jQ} {Qx : jX} (hM : jMW K cr) (n : Nat) (ci : jI) (cj : jJ) {q} (h : fX6_takesBack n  ci cj = some q) (hq : Qr none K q.1 q.2 cr) : EvM g (d + 2) mX6_takesBack [.ref 1547] K ci cj cr c sl Qr Qx := by
  unfold fX6_takesBack at h
  show Ev g (d + 2) mX6_takesBack 0 [.ref 1547] [] K ci cj cr c sl Qr Qx
  refine ev_aload_n dX6_takesBack_0 rfl ?_
  obtain ⟨q1, z2, h⟩ := Option.bind_eq_some_iff.mp h
  refine ev_zV0 dX6_takesBack_1 vX6_500_6 (hk1547 hM) (Or.inl (hl1547 hM)) (Nat.le_of_ble_eq_true rfl) (Nat.le_of_ble_eq_true rfl) rfl (metX6_triesAnew hM n  _ _ z2 ?_)
  show Ev g _ _ 4 _ [] K q1.1 q1.2 cr c sl Qr Qx
  refine ev_aload_n dX6_takesBack_4 rfl ?_
  refine ev_iconst (v := (nI 0)) dX6_takesBack_5 jc0 ?_
  refine ev_putI dX6_takesBack_6 (pX6_460_6 _) (hk1547 hM) (hl1547 hM) rfl (by decide) (by decide) ?_
  cases h
  exact ev_ret dX6_takesBack_9 rfl hq
def fX6_comesTo_41 (n : Nat) (rec7 : Int32 → Int32 → Int64 → Int32 → jI → jJ → Option (Int32 × jI × jJ)) (l1 : Int32) (l2 : Int32) (l3 : Int64) (l5 : Int32) (ci : jI) (cj : jJ) : Option (Int32 × jI × jJ) := rec7 l1 l2 l3 (l5 + (nI 1)) ci cj
theorem wX6_comesTo_41 {g : jG} {d : Nat} {K : jK} {cr : jR} {c sl : Nat} {Qr : jQ} {Qx : jX} (hM : jMW K cr) (n : Nat) (rec7 : Int32 → Int32 → Int64 → Int32 → jI → jJ → Option (Int32 × jI × jJ)) (hrec7 : (∀ (l1 : Int32) (l2 : Int32) (l3 : Int64) (l5 : Int32) (ci : jI) (cj : jJ) {q}, rec7 l1 l2 l3 l5 ci cj = some q → Qr (some (.int q.1)) K q.2.1 q.2.2 cr → Ev g (d + 5) mX6_comesTo 7 [.ref 1547, .int l1, .int l2, .long l3, jU, .int l5, jU, jU] [] K ci cj cr c sl Qr Qx)) (l1 : Int32) (l2 : Int32) (l3 : Int64) (l5 : Int32) (ci : jI) (cj : jJ) {q} (h : fX6_comesTo_41 n rec7 l1 l2 l3 l5 ci cj = some q) (hq : Qr (some (.int q.1)) K q.2.1 q.2.2 cr) : Ev g (d + 5) mX6_comesTo 41 [.ref 1547, .int l1, .int l2, .long l3, jU, .int l5, jU, jU] [] K ci cj cr c sl Qr Qx := by
  unfold fX6_comesTo_41 at h
  refine ev_iinc (v := (l5 + (nI 1))) (L' := [_, _, _, _, _, _, _, _]) dX6_comesTo_41 rfl (by rw [ji_1]) (by decide) rfl ?_
  refine ev_goto 7 dX6_comesTo_44 rfl ?_
  exact hrec7 _ _ _ _ _ _ h hq
def fX6_comesTo_7 (n : Nat) : Nat → Int32 → Int32 → Int64 → Int32 → jI → jJ → Option (Int32 × jI × jJ)
  | 0, _, _, _, _, _, _ => none
  | k + 1, l1, l2, l3, l5, ci, cj => Option.bind (fX6_bayMany n  ci cj) (fun q1 => if q1.1 ≤ l5 then some (l2, q1.2.1, q1.2.2) else Option.bind (fX6_luresTo n l1 l5 q1.2.1 q1.2.2) (fun q4 => if l3 < q4.1 then fX6_comesTo_41 n (fX6_comesTo_7 n  k) l1 l5 q4.1 l5 q4.2.1 q4.2.2 else fX6_comesTo_41 n (fX6_comesTo_7 n  k) l1 l2 l3 l5 q4.2.1 q4.2.2))
theorem wX6_comesTo_7 {g : jG} {d : Nat} {K : jK} {cr : jR} {c sl : Nat} {Qr : jQ} {Qx : jX} (hM : jMW K cr) (n : Nat) : ∀ (k : Nat) (l1 : Int32) (l2 : Int32) (l3 : Int64) (l5 : Int32) (ci : jI) (cj : jJ) {q}, fX6_comesTo_7 n  k l1 l2 l3 l5 ci cj = some q → Qr (some (.int q.1)) K q.2.1 q.2.2 cr → Ev g (d + 5) mX6_comesTo 7 [.ref 1547, .int l1, .int l2, .long l3, jU, .int l5, jU, jU] [] K ci cj cr c sl Qr Qx := by
  intro k
  induction k with
  | zero =>
    intro l1 l2 l3 l5 ci cj q h hq
    rw [fX6_comesTo_7.eq_1] at h; cases h
  | succ k ih =>
    intro l1 l2 l3 l5 ci cj q h hq
    rw [fX6_comesTo_7.eq_2] at h
    refine ev_iload dX6_comesTo_7 rfl ?_
    refine ev_aload_n dX6_comesTo_9 rfl ?_
    obtain ⟨q1, z2, h⟩ := Option.bind_eq_some_iff.mp h
    refine ev_zV0 dX6_comesTo_10 vX6_399_6 (hk1547 hM) (Or.inl (hl1547 hM)) (Nat.le_of_ble_eq_true rfl) (Nat.le_of_ble_eq_true rfl) rfl (metX6_bayMany hM n  _ _ z2 ?_)
    show Ev g _ _ 13 _ [.int q1.1, .int l5] K q1.2.1 q1.2.2 cr c sl Qr Qx
    refine ev_icmp_ge 47 dX6_comesTo_13 rfl (fun z3 => ?_) (fun z3 => ?_)
    · rw [if_pos z3] at h
      refine ev_iload_n dX6_comesTo_47 rfl ?_
      cases h
      exact ev_iret dX6_comesTo_48 rfl rfl hq
    · rw [if_neg z3] at h
      refine ev_aload_n dX6_comesTo_16 rfl ?_
      refine ev_iload_n dX6_comesTo_17 rfl ?_
      refine ev_iload dX6_comesTo_18 rfl ?_
      obtain ⟨q4, z5, h⟩ := Option.bind_eq_some_iff.mp h
      refine ev_zV2 dX6_comesTo_20 vX6_454_6 (hk1547 hM) (Or.inl (hl1547 hM)) (Nat.le_of_ble_eq_true rfl) (Nat.le_of_ble_eq_true rfl) rfl (metX6_luresTo hM n _ _ _ _ z5 ?_)
      show Ev g _ _ 23 _ [.long q4.1] K q4.2.1 q4.2.2 cr c sl Qr Qx
      refine ev_lstore (L' := [_, _, _, _, _, _, _, _]) dX6_comesTo_23 (by decide) rfl ?_
      refine ev_lload dX6_comesTo_25 rfl ?_
      refine ev_lload_n dX6_comesTo_27 rfl ?_
      refine ev_lcif_gt 35 dX6_comesTo_28 dX6_comesTo_29 rfl (fun z6 => ?_) (fun z6 => ?_)
      · rw [if_pos z6] at h
        refine ev_iload dX6_comesTo_35 rfl ?_
        refine ev_istore_n (L' := [_, _, _, _, _, _, _, _]) dX6_comesTo_37 (by decide) rfl ?_
        refine ev_lload dX6_comesTo_38 rfl ?_
        refine ev_lstore_n (L' := [_, _, _, _, _, _, _, _]) dX6_comesTo_40 (by decide) rfl ?_
        exact ev_mask [true, true, true, true, false, true, false, false] (wX6_comesTo_41 hM n _ (ih) _ _ _ _ _ _ h hq)
      · rw [if_neg z6] at h
        refine ev_goto 41 dX6_comesTo_32 rfl ?_
        exact ev_mask [true, true, true, true, false, true, false, false] (wX6_comesTo_41 hM n _ (ih) _ _ _ _ _ _ h hq)
def fX6_comesTo (n : Nat) (a0 : Int32) (ci : jI) (cj : jJ) : Option (Int32 × jI × jJ) := fX6_comesTo_7 n  n a0 (-1) (lN 0) (nI 0) ci cj
theorem metX6_comesTo {g : jG} {d : Nat} {K : jK} {cr : jR} {c sl : Nat} {Qr : jQ} {Qx : jX} (hM : jMW K cr) (n : Nat) (a0 : Int32) (ci : jI) (cj : jJ) {q} (h : fX6_comesTo n a0 ci cj = some q) (hq : Qr (some (.int q.1)) K q.2.1 q.2.2 cr) : EvM g (d + 5) mX6_comesTo [.ref 1547, .int a0] K ci cj cr c sl Qr Qx := by
  unfold fX6_comesTo at h
  show Ev g (d + 5) mX6_comesTo 0 [.ref 1547, .int a0, jU, jU, jU, jU, jU, jU] [] K ci cj cr c sl Qr Qx
  refine ev_iconst (v := (-1)) dX6_comesTo_0 jcm1 ?_
  refine ev_istore_n (L' := [_, _, _, _, _, _, _, _]) dX6_comesTo_1 (by decide) rfl ?_
  refine ev_lconst (v := lN 0) dX6_comesTo_2 rfl ?_
  refine ev_lstore_n (L' := [_, _, _, _, _, _, _, _]) dX6_comesTo_3 (by decide) rfl ?_
  refine ev_iconst (v := (nI 0)) dX6_comesTo_4 jc0 ?_
  refine ev_istore (L' := [_, _, _, _, _, _, _, _]) dX6_comesTo_5 (by decide) rfl ?_
  exact wX6_comesTo_7 hM n   n _ _ _ _ _ _ h hq
def fX6_isKept_74 (n : Nat) (l1 : Int32) (ci : jI) (cj : jJ) : Option (jI × jJ) := if jok (nI 45) 166 then if jok (nI 0) 166 then if jok (((nI 46) + ((nI 3) * (ci 1585 ((nI 45)).toNatClampNeg))) - (nI 3)) 166 then if jok ((((nI 46) + ((nI 3) * (ci 1585 ((nI 45)).toNatClampNeg))) - (nI 3)) + (nI 1)) 166 then if jok l1 3 then if jok ((((nI 46) + ((nI 3) * (ci 1585 ((nI 45)).toNatClampNeg))) - (nI 3)) + (nI 2)) 166 then some ((ju (ju (ju ci 1585 ((((nI 46) + ((nI 3) * (ci 1585 ((nI 45)).toNatClampNeg))) - (nI 3))).toNatClampNeg (ci 1585 ((nI 0)).toNatClampNeg)) 1585 (((((nI 46) + ((nI 3) * (ci 1585 ((nI 45)).toNatClampNeg))) - (nI 3)) + (nI 1))).toNatClampNeg l1) 1585 (((((nI 46) + ((nI 3) * (ci 1585 ((nI 45)).toNatClampNeg))) - (nI 3)) + (nI 2))).toNatClampNeg ((ju (ju ci 1585 ((((nI 46) + ((nI 3) * (ci 1585 ((nI 45)).toNatClampNeg))) - (nI 3))).toNatClampNeg (ci 1585 ((nI 0)).toNatClampNeg)) 1585 (((((nI 46) + ((nI 3) * (ci 1585 ((nI 45)).toNatClampNeg))) - (nI 3)) + (nI 1))).toNatClampNeg l1) 1589 (l1).toNatClampNeg)), cj) else none else none else none else none else none else none
theorem wX6_isKept_74 {g : jG} {d : Nat} {K : jK} {cr : jR} {c sl : Nat} {Qr : jQ} {Qx : jX} (hM : jMW K cr) (n : Nat) (l1 : Int32) (ci : jI) (cj : jJ) {q} (h : fX6_isKept_74 n  l1 ci cj = some q) (hq : Qr none K q.1 q.2 cr) : Ev g (d + 1) mX6_isKept 74 [.ref 1547, .int l1, jU] [] K ci cj cr c sl Qr Qx := by
  unfold fX6_isKept_74 at h
  refine ev_bipush (v := (nI 46)) dX6_isKept_74 jb46 ?_
  refine ev_iconst (v := (nI 3)) dX6_isKept_76 jc3 ?_
  refine ev_aload_n dX6_isKept_77 rfl ?_
  refine ev_getR dX6_isKept_78 fX6_127_6 (hk1547 hM) (Or.inl (hl1547 hM)) rfl (hr50 hM) ?_
  refine ev_bipush (v := (nI 45)) dX6_isKept_81 jb45 ?_
  by_cases z1 : jok (nI 45) 166
  rotate_left
  · rw [if_neg z1] at h; cases h
  rw [if_pos z1] at h
  refine ev_iaload dX6_isKept_83 (hk1585 hM) (Or.inl (hl1585 hM)) (jok.ix z1 (hn1585 hM)) ?_
  refine ev_imul dX6_isKept_84 ?_
  refine ev_iadd dX6_isKept_85 ?_
  refine ev_iconst (v := (nI 3)) dX6_isKept_86 jc3 ?_
  refine ev_isub dX6_isKept_87 ?_
  refine ev_istore_n (L' := [_, _, _]) dX6_isKept_88 (by decide) rfl ?_
  refine ev_aload_n dX6_isKept_89 rfl ?_
  refine ev_getR dX6_isKept_90 fX6_127_6 (hk1547 hM) (Or.inl (hl1547 hM)) rfl (hr50 hM) ?_
  refine ev_iload_n dX6_isKept_93 rfl ?_
  refine ev_aload_n dX6_isKept_94 rfl ?_
  refine ev_getR dX6_isKept_95 fX6_127_6 (hk1547 hM) (Or.inl (hl1547 hM)) rfl (hr50 hM) ?_
  refine ev_iconst (v := (nI 0)) dX6_isKept_98 jc0 ?_
  by_cases z2 : jok (nI 0) 166
  rotate_left
  · rw [if_neg z2] at h; cases h
  rw [if_pos z2] at h
  refine ev_iaload dX6_isKept_99 (hk1585 hM) (Or.inl (hl1585 hM)) (jok.ix z2 (hn1585 hM)) ?_
  by_cases z3 : jok (((nI 46) + ((nI 3) * (ci 1585 ((nI 45)).toNatClampNeg))) - (nI 3)) 166
  rotate_left
  · rw [if_neg z3] at h; cases h
  rw [if_pos z3] at h
  refine ev_iastore dX6_isKept_100 (hk1585 hM) (hl1585 hM) (jok.ix z3 (hn1585 hM)) ?_
  refine ev_aload_n dX6_isKept_101 rfl ?_
  refine ev_getR dX6_isKept_102 fX6_127_6 (hk1547 hM) (Or.inl (hl1547 hM)) rfl (hr50 hM) ?_
  refine ev_iload_n dX6_isKept_105 rfl ?_
  refine ev_iconst (v := (nI 1)) dX6_isKept_106 jc1 ?_
  refine ev_iadd dX6_isKept_107 ?_
  refine ev_iload_n dX6_isKept_108 rfl ?_
  by_cases z4 : jok ((((nI 46) + ((nI 3) * (ci 1585 ((nI 45)).toNatClampNeg))) - (nI 3)) + (nI 1)) 166
  rotate_left
  · rw [if_neg z4] at h; cases h
  rw [if_pos z4] at h
  refine ev_iastore dX6_isKept_109 (hk1585 hM) (hl1585 hM) (jok.ix z4 (hn1585 hM)) ?_
  refine ev_aload_n dX6_isKept_110 rfl ?_
  refine ev_getR dX6_isKept_111 fX6_127_6 (hk1547 hM) (Or.inl (hl1547 hM)) rfl (hr50 hM) ?_
  refine ev_iload_n dX6_isKept_114 rfl ?_
  refine ev_iconst (v := (nI 2)) dX6_isKept_115 jc2 ?_
  refine ev_iadd dX6_isKept_116 ?_
  refine ev_aload_n dX6_isKept_117 rfl ?_
  refine ev_getR dX6_isKept_118 fX6_139_6 (hk1547 hM) (Or.inl (hl1547 hM)) rfl (hr61 hM) ?_
  refine ev_iload_n dX6_isKept_121 rfl ?_
  by_cases z5 : jok l1 3
  rotate_left
  · rw [if_neg z5] at h; cases h
  rw [if_pos z5] at h
  refine ev_iaload dX6_isKept_122 (hk1589 hM) (Or.inl (hl1589 hM)) (jok.ix z5 (hn1589 hM)) ?_
  by_cases z6 : jok ((((nI 46) + ((nI 3) * (ci 1585 ((nI 45)).toNatClampNeg))) - (nI 3)) + (nI 2)) 166
  rotate_left
  · rw [if_neg z6] at h; cases h
  rw [if_pos z6] at h
  refine ev_iastore dX6_isKept_123 (hk1585 hM) (hl1585 hM) (jok.ix z6 (hn1585 hM)) ?_
  cases h
  exact ev_ret dX6_isKept_124 rfl hq
def fX6_isKept_33 (n : Nat) : Nat → Int32 → Int32 → jI → jJ → Option (jI × jJ)
  | 0, _, _, _, _ => none
  | k + 1, l1, l2, ci, cj => if (nI 163) ≤ l2 then fX6_isKept_74 n  l1 ci cj else if jok (l2 + (nI 3)) 166 then if jok l2 166 then fX6_isKept_33 n  k l1 (l2 + (nI 1)) (ju ci 1585 (l2).toNatClampNeg (ci 1585 ((l2 + (nI 3))).toNatClampNeg)) cj else none else none
theorem wX6_isKept_33 {g : jG} {d : Nat} {K : jK} {cr : jR} {c sl : Nat} {Qr : jQ} {Qx : jX} (hM : jMW K cr) (n : Nat) : ∀ (k : Nat) (l1 : Int32) (l2 : Int32) (ci : jI) (cj : jJ) {q}, fX6_isKept_33 n  k l1 l2 ci cj = some q → Qr none K q.1 q.2 cr → Ev g (d + 1) mX6_isKept 33 [.ref 1547, .int l1, .int l2] [] K ci cj cr c sl Qr Qx := by
  intro k
  induction k with
  | zero =>
    intro l1 l2 ci cj q h hq
    rw [fX6_isKept_33.eq_1] at h; cases h
  | succ k ih =>
    intro l1 l2 ci cj q h hq
    rw [fX6_isKept_33.eq_2] at h
    refine ev_iload_n dX6_isKept_33 rfl ?_
    refine ev_sipush (v := (nI 163)) dX6_isKept_34 js163 ?_
    refine ev_icmp_ge 60 dX6_isKept_37 rfl (fun z1 => ?_) (fun z1 => ?_)
    · rw [if_pos z1] at h
      refine ev_goto 74 dX6_isKept_60 rfl ?_
      exact ev_mask [true, true, false] (wX6_isKept_74 hM n   _ _ _ h hq)
    · rw [if_neg z1] at h
      refine ev_aload_n dX6_isKept_40 rfl ?_
      refine ev_getR dX6_isKept_41 fX6_127_6 (hk1547 hM) (Or.inl (hl1547 hM)) rfl (hr50 hM) ?_
      refine ev_iload_n dX6_isKept_44 rfl ?_
      refine ev_aload_n dX6_isKept_45 rfl ?_
      refine ev_getR dX6_isKept_46 fX6_127_6 (hk1547 hM) (Or.inl (hl1547 hM)) rfl (hr50 hM) ?_
      refine ev_iload_n dX6_isKept_49 rfl ?_
      refine ev_iconst (v := (nI 3)) dX6_isKept_50 jc3 ?_
      refine ev_iadd dX6_isKept_51 ?_
      by_cases z2 : jok (l2 + (nI 3)) 166
      rotate_left
      · rw [if_neg z2] at h; cases h
      rw [if_pos z2] at h
      refine ev_iaload dX6_isKept_52 (hk1585 hM) (Or.inl (hl1585 hM)) (jok.ix z2 (hn1585 hM)) ?_
      by_cases z3 : jok l2 166
      rotate_left
      · rw [if_neg z3] at h; cases h
      rw [if_pos z3] at h
      refine ev_iastore dX6_isKept_53 (hk1585 hM) (hl1585 hM) (jok.ix z3 (hn1585 hM)) ?_
      refine ev_iinc (v := (l2 + (nI 1))) (L' := [_, _, _]) dX6_isKept_54 rfl (by rw [ji_1]) (by decide) rfl ?_
      refine ev_goto 33 dX6_isKept_57 rfl ?_
      exact ih _ _ _ _ h hq
def fX6_isKept (n : Nat) (a0 : Int32) (ci : jI) (cj : jJ) : Option (jI × jJ) := if ((ju ci 1547 59 ((ci 1547 59) + (nI 1))) 1547 58) = 0 then if jok (nI 45) 166 then if ((ju ci 1547 59 ((ci 1547 59) + (nI 1))) 1585 ((nI 45)).toNatClampNeg) = (nI 40) then fX6_isKept_33 n  n a0 (nI 46) (ju ci 1547 59 ((ci 1547 59) + (nI 1))) cj else if jok (nI 45) 166 then if jok (nI 45) 166 then fX6_isKept_74 n  a0 (ju (ju ci 1547 59 ((ci 1547 59) + (nI 1))) 1585 ((nI 45)).toNatClampNeg (((ju ci 1547 59 ((ci 1547 59) + (nI 1))) 1585 ((nI 45)).toNatClampNeg) + (nI 1))) cj else none else none else none else some ((ju ci 1547 59 ((ci 1547 59) + (nI 1))), cj)
theorem metX6_isKept {g : jG} {d : Nat} {K : jK} {cr : jR} {c sl : Nat} {Qr : jQ} {Qx : jX} (hM : jMW K cr) (n : Nat) (a0 : Int32) (ci : jI) (cj : jJ) {q} (h : fX6_isKept n a0 ci cj = some q) (hq : Qr none K q.1 q.2 cr) : EvM g (d + 1) mX6_isKept [.ref 1547, .int a0] K ci cj cr c sl Qr Qx := by
  unfold fX6_isKept at h
  show Ev g (d + 1) mX6_isKept 0 [.ref 1547, .int a0, jU] [] K ci cj cr c sl Qr Qx
  refine ev_aload_n dX6_isKept_0 rfl ?_
  refine ev_dup dX6_isKept_1 rfl ?_
  refine ev_getI dX6_isKept_2 fX6_457_6 (hk1547 hM) (Or.inl (hl1547 hM)) rfl ?_
  refine ev_iconst (v := (nI 1)) dX6_isKept_5 jc1 ?_
  refine ev_iadd dX6_isKept_6 ?_
  refine ev_putI dX6_isKept_7 (pX6_457_6 _) (hk1547 hM) (hl1547 hM) rfl rfl rfl ?_
  refine ev_aload_n dX6_isKept_10 rfl ?_
  refine ev_getI dX6_isKept_11 fX6_460_6 (hk1547 hM) (Or.inl (hl1547 hM)) rfl ?_
  refine ev_if_eq 18 dX6_isKept_14 rfl (fun z1 => ?_) (fun z1 => ?_)
  · rw [if_pos z1] at h
    refine ev_aload_n dX6_isKept_18 rfl ?_
    refine ev_getR dX6_isKept_19 fX6_127_6 (hk1547 hM) (Or.inl (hl1547 hM)) rfl (hr50 hM) ?_
    refine ev_bipush (v := (nI 45)) dX6_isKept_22 jb45 ?_
    by_cases z2 : jok (nI 45) 166
    rotate_left
    · rw [if_neg z2] at h; cases h
    rw [if_pos z2] at h
    refine ev_iaload dX6_isKept_24 (hk1585 hM) (Or.inl (hl1585 hM)) (jok.ix z2 (hn1585 hM)) ?_
    refine ev_bipush (v := (nI 40)) dX6_isKept_25 jb40 ?_
    refine ev_icmp_ne 63 dX6_isKept_27 rfl (fun z3 => ?_) (fun z3 => ?_)
    · rw [if_neg z3] at h
      refine ev_aload_n dX6_isKept_63 rfl ?_
      refine ev_getR dX6_isKept_64 fX6_127_6 (hk1547 hM) (Or.inl (hl1547 hM)) rfl (hr50 hM) ?_
      refine ev_bipush (v := (nI 45)) dX6_isKept_67 jb45 ?_
      refine ev_dup2 dX6_isKept_69 rfl rfl ?_
      by_cases z4 : jok (nI 45) 166
      rotate_left
      · rw [if_neg z4] at h; cases h
      rw [if_pos z4] at h
      refine ev_iaload dX6_isKept_70 (hk1585 hM) (Or.inl (hl1585 hM)) (jok.ix z4 (hn1585 hM)) ?_
      refine ev_iconst (v := (nI 1)) dX6_isKept_71 jc1 ?_
      refine ev_iadd dX6_isKept_72 ?_
      by_cases z5 : jok (nI 45) 166
      rotate_left
      · rw [if_neg z5] at h; cases h
      rw [if_pos z5] at h
      refine ev_iastore dX6_isKept_73 (hk1585 hM) (hl1585 hM) (jok.ix z5 (hn1585 hM)) ?_
      exact wX6_isKept_74 hM n   _ _ _ h hq
    · rw [if_pos z3] at h
      refine ev_bipush (v := (nI 46)) dX6_isKept_30 jb46 ?_
      refine ev_istore_n (L' := [_, _, _]) dX6_isKept_32 (by decide) rfl ?_
      exact wX6_isKept_33 hM n   n _ _ _ _ h hq
  · rw [if_neg z1] at h
    cases h
    exact ev_ret dX6_isKept_17 rfl hq
