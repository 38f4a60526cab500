/-! STAGE A OF THE MODEL (printed by gen/model.py) -/
set_option maxRecDepth 100000
def fX6_isDigit_17 (n : Nat) (t0 : Int32) (ci : jI) (cj : jJ) : Option (Int32 × jI × jJ) := if t0 = 0 ∨ t0 = 1 then some (t0, ci, cj) else none
theorem wX6_isDigit_17 {g : jG} {d : Nat} {K : jK} {cr : jR} {c sl : Nat} {Qr : jQ} {Qx : jX} (hM : jMW K cr) (n : Nat) (t0 : Int32) (ci : jI) (cj : jJ) {q} (h : fX6_isDigit_17 n  t0 ci cj = some q) (hq : Qr (some (.int q.1)) K q.2.1 q.2.2 cr) : Ev g (d + 1) mX6_isDigit 17 [jU] [.int t0] K ci cj cr c sl Qr Qx := by
  unfold fX6_isDigit_17 at h
  by_cases z1 : t0 = 0 ∨ t0 = 1
  rotate_left
  · rw [if_neg z1] at h; cases h
  rw [if_pos z1] at h
  cases h
  exact ev_iret dX6_isDigit_17 rfl (jbool z1) hq
def fX6_isDigit_16 (n : Nat) (ci : jI) (cj : jJ) : Option (Int32 × jI × jJ) := fX6_isDigit_17 n  (nI 0) ci cj
theorem wX6_isDigit_16 {g : jG} {d : Nat} {K : jK} {cr : jR} {c sl : Nat} {Qr : jQ} {Qx : jX} (hM : jMW K cr) (n : Nat) (ci : jI) (cj : jJ) {q} (h : fX6_isDigit_16 n   ci cj = some q) (hq : Qr (some (.int q.1)) K q.2.1 q.2.2 cr) : Ev g (d + 1) mX6_isDigit 16 [jU] [] K ci cj cr c sl Qr Qx := by
  unfold fX6_isDigit_16 at h
  refine ev_iconst (v := (nI 0)) dX6_isDigit_16 jc0 ?_
  exact wX6_isDigit_17 hM n   _ _ _ h hq
def fX6_isDigit (n : Nat) (a0 : Int32) (ci : jI) (cj : jJ) : Option (Int32 × jI × jJ) := if a0 < (nI 48) then fX6_isDigit_16 n   ci cj else if (nI 57) < a0 then fX6_isDigit_16 n   ci cj else fX6_isDigit_17 n  (nI 1) ci cj
theorem metX6_isDigit {g : jG} {d : Nat} {K : jK} {cr : jR} {c sl : Nat} {Qr : jQ} {Qx : jX} (hM : jMW K cr) (n : Nat) (a0 : Int32) (ci : jI) (cj : jJ) {q} (h : fX6_isDigit n a0 ci cj = some q) (hq : Qr (some (.int q.1)) K q.2.1 q.2.2 cr) : EvM g (d + 1) mX6_isDigit [.int a0] K ci cj cr c sl Qr Qx := by
  unfold fX6_isDigit at h
  show Ev g (d + 1) mX6_isDigit 0 [.int a0] [] K ci cj cr c sl Qr Qx
  refine ev_iload_n dX6_isDigit_0 rfl ?_
  refine ev_bipush (v := (nI 48)) dX6_isDigit_1 jb48 ?_
  refine ev_icmp_lt 16 dX6_isDigit_3 rfl (fun z1 => ?_) (fun z1 => ?_)
  · rw [if_pos z1] at h
    exact ev_mask [false] (wX6_isDigit_16 hM n    _ _ h hq)
  · rw [if_neg z1] at h
    refine ev_iload_n dX6_isDigit_6 rfl ?_
    refine ev_bipush (v := (nI 57)) dX6_isDigit_7 jb57 ?_
    refine ev_icmp_gt 16 dX6_isDigit_9 rfl (fun z2 => ?_) (fun z2 => ?_)
    · rw [if_pos z2] at h
      exact ev_mask [false] (wX6_isDigit_16 hM n    _ _ h hq)
    · rw [if_neg z2] at h
      refine ev_iconst (v := (nI 1)) dX6_isDigit_12 jc1 ?_
      refine ev_goto 17 dX6_isDigit_13 rfl ?_
      exact ev_mask [false] (wX6_isDigit_17 hM n   _ _ _ h hq)
def fX6_isIn_18 (n : Nat) (t0 : Int32) (ci : jI) (cj : jJ) : Option (Int32 × jI × jJ) := if t0 = 0 ∨ t0 = 1 then some (t0, ci, cj) else none
theorem wX6_isIn_18 {g : jG} {d : Nat} {K : jK} {cr : jR} {c sl : Nat} {Qr : jQ} {Qx : jX} (hM : jMW K cr) (n : Nat) (t0 : Int32) (ci : jI) (cj : jJ) {q} (h : fX6_isIn_18 n  t0 ci cj = some q) (hq : Qr (some (.int q.1)) K q.2.1 q.2.2 cr) : Ev g (d + 1) mX6_isIn 18 [jU, jU, jU, jU, jU, jU] [.int t0] K ci cj cr c sl Qr Qx := by
  unfold fX6_isIn_18 at h
  by_cases z1 : t0 = 0 ∨ t0 = 1
  rotate_left
  · rw [if_neg z1] at h; cases h
  rw [if_pos z1] at h
  cases h
  exact ev_iret dX6_isIn_18 rfl (jbool z1) hq
def fX6_isIn_17 (n : Nat) (ci : jI) (cj : jJ) : Option (Int32 × jI × jJ) := fX6_isIn_18 n  (nI 0) ci cj
theorem wX6_isIn_17 {g : jG} {d : Nat} {K : jK} {cr : jR} {c sl : Nat} {Qr : jQ} {Qx : jX} (hM : jMW K cr) (n : Nat) (ci : jI) (cj : jJ) {q} (h : fX6_isIn_17 n   ci cj = some q) (hq : Qr (some (.int q.1)) K q.2.1 q.2.2 cr) : Ev g (d + 1) mX6_isIn 17 [jU, jU, jU, jU, jU, jU] [] K ci cj cr c sl Qr Qx := by
  unfold fX6_isIn_17 at h
  refine ev_iconst (v := (nI 0)) dX6_isIn_17 jc0 ?_
  exact wX6_isIn_18 hM n   _ _ _ h hq
def fX6_isIn (n : Nat) (a0 : Int64) (a1 : Int64) (a2 : Int64) (ci : jI) (cj : jJ) : Option (Int32 × jI × jJ) := if a0 < a1 then fX6_isIn_17 n   ci cj else if a2 < a0 then fX6_isIn_17 n   ci cj else fX6_isIn_18 n  (nI 1) ci cj
theorem metX6_isIn {g : jG} {d : Nat} {K : jK} {cr : jR} {c sl : Nat} {Qr : jQ} {Qx : jX} (hM : jMW K cr) (n : Nat) (a0 : Int64) (a1 : Int64) (a2 : Int64) (ci : jI) (cj : jJ) {q} (h : fX6_isIn n a0 a1 a2 ci cj = some q) (hq : Qr (some (.int q.1)) K q.2.1 q.2.2 cr) : EvM g (d + 1) mX6_isIn [.long a0, .long a1, .long a2] K ci cj cr c sl Qr Qx := by
  unfold fX6_isIn at h
  show Ev g (d + 1) mX6_isIn 0 [.long a0, jU, .long a1, jU, .long a2, jU] [] K ci cj cr c sl Qr Qx
  refine ev_lload_n dX6_isIn_0 rfl ?_
  refine ev_lload_n dX6_isIn_1 rfl ?_
  refine ev_lcif_lt 17 dX6_isIn_2 dX6_isIn_3 rfl (fun z1 => ?_) (fun z1 => ?_)
  · rw [if_pos z1] at h
    exact ev_mask [false, false, false, false, false, false] (wX6_isIn_17 hM n    _ _ h hq)
  · rw [if_neg z1] at h
    refine ev_lload_n dX6_isIn_6 rfl ?_
    refine ev_lload dX6_isIn_7 rfl ?_
    refine ev_lcif_gt 17 dX6_isIn_9 dX6_isIn_10 rfl (fun z2 => ?_) (fun z2 => ?_)
    · rw [if_pos z2] at h
      exact ev_mask [false, false, false, false, false, false] (wX6_isIn_17 hM n    _ _ h hq)
    · rw [if_neg z2] at h
      refine ev_iconst (v := (nI 1)) dX6_isIn_13 jc1 ?_
      refine ev_goto 18 dX6_isIn_14 rfl ?_
      exact ev_mask [false, false, false, false, false, false] (wX6_isIn_18 hM n   _ _ _ h hq)
def fX6_number_30 (n : Nat) (ci : jI) (cj : jJ) : Option (Int32 × jI × jJ) := Option.bind (fX6_fail n (nI 1) (ci 1547 2) ci cj) (fun q1 => some ((nI 0), q1.1, q1.2))
theorem wX6_number_30 {g : jG} {d : Nat} {K : jK} {cr : jR} {c sl : Nat} {Qr : jQ} {Qx : jX} (hM : jMW K cr) (n : Nat) (ci : jI) (cj : jJ) {q} (h : fX6_number_30 n   ci cj = some q) (hq : Qr (some (.int q.1)) K q.2.1 q.2.2 cr) : Ev g (d + 2) mX6_number 30 [.ref 1547, jU, jU, jU, jU] [] K ci cj cr c sl Qr Qx := by
  unfold fX6_number_30 at h
  refine ev_aload_n dX6_number_30 rfl ?_
  refine ev_iconst (v := (nI 1)) dX6_number_31 jc1 ?_
  refine ev_aload_n dX6_number_32 rfl ?_
  refine ev_getI dX6_number_33 fX6_257_6 (hk1547 hM) (Or.inl (hl1547 hM)) rfl ?_
  obtain ⟨q1, z2, h⟩ := Option.bind_eq_some_iff.mp h
  refine ev_zV2 dX6_number_36 vX6_281_6 (hk1547 hM) (Or.inl (hl1547 hM)) (Nat.le_of_ble_eq_true rfl) (Nat.le_of_ble_eq_true rfl) rfl (metX6_fail hM n _ _ _ _ z2 ?_)
  show Ev g _ _ 39 _ [] K q1.1 q1.2 cr c sl Qr Qx
  refine ev_iconst (v := (nI 0)) dX6_number_39 jc0 ?_
  cases h
  exact ev_iret dX6_number_40 rfl rfl hq
def fX6_number_164 (n : Nat) (l4 : Int32) (ci : jI) (cj : jJ) : Option (Int32 × jI × jJ) := some (l4, ci, cj)
theorem wX6_number_164 {g : jG} {d : Nat} {K : jK} {cr : jR} {c sl : Nat} {Qr : jQ} {Qx : jX} (hM : jMW K cr) (n : Nat) (l4 : Int32) (ci : jI) (cj : jJ) {q} (h : fX6_number_164 n  l4 ci cj = some q) (hq : Qr (some (.int q.1)) K q.2.1 q.2.2 cr) : Ev g (d + 2) mX6_number 164 [jU, jU, jU, jU, .int l4] [] K ci cj cr c sl Qr Qx := by
  unfold fX6_number_164 at h
  refine ev_iload dX6_number_164 rfl ?_
  cases h
  exact ev_iret dX6_number_166 rfl rfl hq
def fX6_number_129 (n : Nat) (l1 : Int32) (l2 : Int32) (l3 : Int32) (l4 : Int32) (ci : jI) (cj : jJ) : Option (Int32 × jI × jJ) := Option.bind (fX6_isIn n ((l4).toInt64) ((l1).toInt64) ((l2).toInt64) (ju (ju ci 1547 4 (ci 1547 2)) 1547 10 l3) cj) (fun q1 => if q1.1 = 0 then Option.bind (fX6_fail n (nI 2) (q1.2.1 1547 10) q1.2.1 q1.2.2) (fun q4 => fX6_number_164 n  l4 q4.1 q4.2) else fX6_number_164 n  l4 q1.2.1 q1.2.2)
theorem wX6_number_129 {g : jG} {d : Nat} {K : jK} {cr : jR} {c sl : Nat} {Qr : jQ} {Qx : jX} (hM : jMW K cr) (n : Nat) (l1 : Int32) (l2 : Int32) (l3 : Int32) (l4 : Int32) (ci : jI) (cj : jJ) {q} (h : fX6_number_129 n  l1 l2 l3 l4 ci cj = some q) (hq : Qr (some (.int q.1)) K q.2.1 q.2.2 cr) : Ev g (d + 2) mX6_number 129 [.ref 1547, .int l1, .int l2, .int l3, .int l4] [] K ci cj cr c sl Qr Qx := by
  unfold fX6_number_129 at h
  refine ev_aload_n dX6_number_129 rfl ?_
  refine ev_aload_n dX6_number_130 rfl ?_
  refine ev_getI dX6_number_131 fX6_257_6 (hk1547 hM) (Or.inl (hl1547 hM)) rfl ?_
  refine ev_putI dX6_number_134 (pX6_271_6 _) (hk1547 hM) (hl1547 hM) rfl rfl rfl ?_
  refine ev_aload_n dX6_number_137 rfl ?_
  refine ev_iload_n dX6_number_138 rfl ?_
  refine ev_putI dX6_number_139 (pX6_291_6 _) (hk1547 hM) (hl1547 hM) rfl rfl rfl ?_
  refine ev_iload dX6_number_142 rfl ?_
  refine ev_i2l dX6_number_144 ?_
  refine ev_iload_n dX6_number_145 rfl ?_
  refine ev_i2l dX6_number_146 ?_
  refine ev_iload_n dX6_number_147 rfl ?_
  refine ev_i2l dX6_number_148 ?_
  obtain ⟨q1, z2, h⟩ := Option.bind_eq_some_iff.mp h
  refine ev_zS3 dX6_number_149 sX6_294 (Nat.le_of_ble_eq_true rfl) (Nat.le_of_ble_eq_true rfl) rfl (metX6_isIn hM n _ _ _ _ _ z2 ?_)
  show Ev g _ _ 152 _ [.int q1.1] K q1.2.1 q1.2.2 cr c sl Qr Qx
  refine ev_if_ne 164 dX6_number_152 rfl (fun z3 => ?_) (fun z3 => ?_)
  · rw [if_neg z3] at h
    exact ev_mask [false, false, false, false, true] (wX6_number_164 hM n   _ _ _ h hq)
  · rw [if_pos z3] at h
    refine ev_aload_n dX6_number_155 rfl ?_
    refine ev_iconst (v := (nI 2)) dX6_number_156 jc2 ?_
    refine ev_aload_n dX6_number_157 rfl ?_
    refine ev_getI dX6_number_158 fX6_291_6 (hk1547 hM) (Or.inl (hl1547 hM)) rfl ?_
    obtain ⟨q4, z5, h⟩ := Option.bind_eq_some_iff.mp h
    refine ev_zV2 dX6_number_161 vX6_281_6 (hk1547 hM) (Or.inl (hl1547 hM)) (Nat.le_of_ble_eq_true rfl) (Nat.le_of_ble_eq_true rfl) rfl (metX6_fail hM n _ _ _ _ z5 ?_)
    show Ev g _ _ 164 _ [] K q4.1 q4.2 cr c sl Qr Qx
    exact ev_mask [false, false, false, false, true] (wX6_number_164 hM n   _ _ _ h hq)
def fX6_number_49 (n : Nat) : Nat → Int32 → Int32 → Int32 → Int32 → jI → jJ → Option (Int32 × jI × jJ)
  | 0, _, _, _, _, _, _ => none
  | k + 1, l1, l2, l3, l4, ci, cj => if (ci 1547 3) ≤ (ci 1547 2) then fX6_number_129 n  l1 l2 l3 l4 ci cj else if jok (ci 1547 2) 1600 then Option.bind (fX6_isDigit n (ci 1548 ((ci 1547 2)).toNatClampNeg) ci cj) (fun q3 => if q3.1 = 0 then fX6_number_129 n  l1 l2 l3 l4 q3.2.1 q3.2.2 else if ((q3.2.1 1547 2) - l3) = (nI 4) then Option.bind (fX6_fail n (nI 1) (q3.2.1 1547 2) q3.2.1 q3.2.2) (fun q8 => some ((nI 0), q8.1, q8.2)) else if jok (q3.2.1 1547 2) 1600 then fX6_number_49 n  k l1 l2 l3 ((((nI 10) * l4) + (q3.2.1 1548 ((q3.2.1 1547 2)).toNatClampNeg)) - (nI 48)) (ju q3.2.1 1547 2 ((q3.2.1 1547 2) + (nI 1))) q3.2.2 else none) else none
theorem wX6_number_49 {g : jG} {d : Nat} {K : jK} {cr : jR} {c sl : Nat} {Qr : jQ} {Qx : jX} (hM : jMW K cr) (n : Nat) : ∀ (k : Nat) (l1 : Int32) (l2 : Int32) (l3 : Int32) (l4 : Int32) (ci : jI) (cj : jJ) {q}, fX6_number_49 n  k l1 l2 l3 l4 ci cj = some q → Qr (some (.int q.1)) K q.2.1 q.2.2 cr → Ev g (d + 2) mX6_number 49 [.ref 1547, .int l1, .int l2, .int l3, .int l4] [] K ci cj cr c sl Qr Qx := by
  intro k
  induction k with
  | zero =>
    intro l1 l2 l3 l4 ci cj q h hq
    rw [fX6_number_49.eq_1] at h; cases h
  | succ k ih =>
    intro l1 l2 l3 l4 ci cj q h hq
    rw [fX6_number_49.eq_2] at h
    refine ev_aload_n dX6_number_49 rfl ?_
    refine ev_getI dX6_number_50 fX6_257_6 (hk1547 hM) (Or.inl (hl1547 hM)) rfl ?_
    refine ev_aload_n dX6_number_53 rfl ?_
    refine ev_getI dX6_number_54 fX6_260_6 (hk1547 hM) (Or.inl (hl1547 hM)) rfl ?_
    refine ev_icmp_ge 129 dX6_number_57 rfl (fun z1 => ?_) (fun z1 => ?_)
    · rw [if_pos z1] at h
      exact wX6_number_129 hM n   _ _ _ _ _ _ h hq
    · rw [if_neg z1] at h
      refine ev_aload_n dX6_number_60 rfl ?_
      refine ev_getR dX6_number_61 fX6_7_6 (hk1547 hM) (Or.inl (hl1547 hM)) rfl (hr0 hM) ?_
      refine ev_aload_n dX6_number_64 rfl ?_
      refine ev_getI dX6_number_65 fX6_257_6 (hk1547 hM) (Or.inl (hl1547 hM)) rfl ?_
      by_cases z2 : jok (ci 1547 2) 1600
      rotate_left
      · rw [if_neg z2] at h; cases h
      rw [if_pos z2] at h
      refine ev_iaload dX6_number_68 (hk1548 hM) (Or.inl (hl1548 hM)) (jok.ix z2 (hn1548 hM)) ?_
      obtain ⟨q3, z4, h⟩ := Option.bind_eq_some_iff.mp h
      refine ev_zS1 dX6_number_69 sX6_288 (Nat.le_of_ble_eq_true rfl) (Nat.le_of_ble_eq_true rfl) rfl (metX6_isDigit hM n _ _ _ z4 ?_)
      show Ev g _ _ 72 _ [.int q3.1] K q3.2.1 q3.2.2 cr c sl Qr Qx
      refine ev_if_eq 129 dX6_number_72 rfl (fun z5 => ?_) (fun z5 => ?_)
      · rw [if_pos z5] at h
        exact wX6_number_129 hM n   _ _ _ _ _ _ h hq
      · rw [if_neg z5] at h
        refine ev_aload_n dX6_number_75 rfl ?_
        refine ev_getI dX6_number_76 fX6_257_6 (hk1547 hM) (Or.inl (hl1547 hM)) rfl ?_
        refine ev_iload_n dX6_number_79 rfl ?_
        refine ev_isub dX6_number_80 ?_
        refine ev_iconst (v := (nI 4)) dX6_number_81 jc4 ?_
        refine ev_icmp_ne 96 dX6_number_82 rfl (fun z6 => ?_) (fun z6 => ?_)
        · rw [if_neg z6] at h
          refine ev_bipush (v := (nI 10)) dX6_number_96 jb10 ?_
          refine ev_iload dX6_number_98 rfl ?_
          refine ev_imul dX6_number_100 ?_
          refine ev_aload_n dX6_number_101 rfl ?_
          refine ev_getR dX6_number_102 fX6_7_6 (hk1547 hM) (Or.inl (hl1547 hM)) rfl (hr0 hM) ?_
          refine ev_aload_n dX6_number_105 rfl ?_
          refine ev_getI dX6_number_106 fX6_257_6 (hk1547 hM) (Or.inl (hl1547 hM)) rfl ?_
          by_cases z7 : jok (q3.2.1 1547 2) 1600
          rotate_left
          · rw [if_neg z7] at h; cases h
          rw [if_pos z7] at h
          refine ev_iaload dX6_number_109 (hk1548 hM) (Or.inl (hl1548 hM)) (jok.ix z7 (hn1548 hM)) ?_
          refine ev_iadd dX6_number_110 ?_
          refine ev_bipush (v := (nI 48)) dX6_number_111 jb48 ?_
          refine ev_isub dX6_number_113 ?_
          refine ev_istore (L' := [_, _, _, _, _]) dX6_number_114 (by decide) rfl ?_
          refine ev_aload_n dX6_number_116 rfl ?_
          refine ev_dup dX6_number_117 rfl ?_
          refine ev_getI dX6_number_118 fX6_257_6 (hk1547 hM) (Or.inl (hl1547 hM)) rfl ?_
          refine ev_iconst (v := (nI 1)) dX6_number_121 jc1 ?_
          refine ev_iadd dX6_number_122 ?_
          refine ev_putI dX6_number_123 (pX6_257_6 _) (hk1547 hM) (hl1547 hM) rfl rfl rfl ?_
          refine ev_goto 49 dX6_number_126 rfl ?_
          exact ih _ _ _ _ _ _ h hq
        · rw [if_pos z6] at h
          refine ev_aload_n dX6_number_85 rfl ?_
          refine ev_iconst (v := (nI 1)) dX6_number_86 jc1 ?_
          refine ev_aload_n dX6_number_87 rfl ?_
          refine ev_getI dX6_number_88 fX6_257_6 (hk1547 hM) (Or.inl (hl1547 hM)) rfl ?_
          obtain ⟨q8, z9, h⟩ := Option.bind_eq_some_iff.mp h
          refine ev_zV2 dX6_number_91 vX6_281_6 (hk1547 hM) (Or.inl (hl1547 hM)) (Nat.le_of_ble_eq_true rfl) (Nat.le_of_ble_eq_true rfl) rfl (metX6_fail hM n _ _ _ _ z9 ?_)
          show Ev g _ _ 94 _ [] K q8.1 q8.2 cr c sl Qr Qx
          refine ev_iconst (v := (nI 0)) dX6_number_94 jc0 ?_
          cases h
          exact ev_iret dX6_number_95 rfl rfl hq
def fX6_number (n : Nat) (a0 : Int32) (a1 : Int32) (ci : jI) (cj : jJ) : Option (Int32 × jI × jJ) := if (ci 1547 5) = 0 then Option.bind (fX6_look n  ci cj) (fun q2 => Option.bind (fX6_isDigit n q2.1 q2.2.1 q2.2.2) (fun q4 => if q4.1 = 0 then fX6_number_30 n   q4.2.1 q4.2.2 else if (q4.2.1 1547 2) = (q4.2.1 1547 4) then fX6_number_30 n   q4.2.1 q4.2.2 else fX6_number_49 n  n a0 a1 (q4.2.1 1547 2) (nI 0) q4.2.1 q4.2.2)) else some ((nI 0), ci, cj)
theorem metX6_number {g : jG} {d : Nat} {K : jK} {cr : jR} {c sl : Nat} {Qr : jQ} {Qx : jX} (hM : jMW K cr) (n : Nat) (a0 : Int32) (a1 : Int32) (ci : jI) (cj : jJ) {q} (h : fX6_number n a0 a1 ci cj = some q) (hq : Qr (some (.int q.1)) K q.2.1 q.2.2 cr) : EvM g (d + 2) mX6_number [.ref 1547, .int a0, .int a1] K ci cj cr c sl Qr Qx := by
  unfold fX6_number at h
  show Ev g (d + 2) mX6_number 0 [.ref 1547, .int a0, .int a1, jU, jU] [] K ci cj cr c sl Qr Qx
  refine ev_aload_n dX6_number_0 rfl ?_
  refine ev_getI dX6_number_1 fX6_251_6 (hk1547 hM) (Or.inl (hl1547 hM)) rfl ?_
  refine ev_if_eq 9 dX6_number_4 rfl (fun z1 => ?_) (fun z1 => ?_)
  · rw [if_pos z1] at h
    refine ev_aload_n dX6_number_9 rfl ?_
    obtain ⟨q2, z3, h⟩ := Option.bind_eq_some_iff.mp h
    refine ev_zV0 dX6_number_10 vX6_263_6 (hk1547 hM) (Or.inl (hl1547 hM)) (Nat.le_of_ble_eq_true rfl) (Nat.le_of_ble_eq_true rfl) rfl (metX6_look hM n  _ _ z3 ?_)
    show Ev g _ _ 13 _ [.int q2.1] K q2.2.1 q2.2.2 cr c sl Qr Qx
    obtain ⟨q4, z5, h⟩ := Option.bind_eq_some_iff.mp h
    refine ev_zS1 dX6_number_13 sX6_288 (Nat.le_of_ble_eq_true rfl) (Nat.le_of_ble_eq_true rfl) rfl (metX6_isDigit hM n _ _ _ z5 ?_)
    show Ev g _ _ 16 _ [.int q4.1] K q4.2.1 q4.2.2 cr c sl Qr Qx
    refine ev_if_eq 30 dX6_number_16 rfl (fun z6 => ?_) (fun z6 => ?_)
    · rw [if_pos z6] at h
      exact ev_mask [true, false, false, false, false] (wX6_number_30 hM n    _ _ h hq)
    · rw [if_neg z6] at h
      refine ev_aload_n dX6_number_19 rfl ?_
      refine ev_getI dX6_number_20 fX6_257_6 (hk1547 hM) (Or.inl (hl1547 hM)) rfl ?_
      refine ev_aload_n dX6_number_23 rfl ?_
      refine ev_getI dX6_number_24 fX6_271_6 (hk1547 hM) (Or.inl (hl1547 hM)) rfl ?_
      refine ev_icmp_ne 41 dX6_number_27 rfl (fun z7 => ?_) (fun z7 => ?_)
      · rw [if_neg z7] at h
        refine ev_aload_n dX6_number_41 rfl ?_
        refine ev_getI dX6_number_42 fX6_257_6 (hk1547 hM) (Or.inl (hl1547 hM)) rfl ?_
        refine ev_istore_n (L' := [_, _, _, _, _]) dX6_number_45 (by decide) rfl ?_
        refine ev_iconst (v := (nI 0)) dX6_number_46 jc0 ?_
        refine ev_istore (L' := [_, _, _, _, _]) dX6_number_47 (by decide) rfl ?_
        exact wX6_number_49 hM n   n _ _ _ _ _ _ h hq
      · rw [if_pos z7] at h
        exact ev_mask [true, false, false, false, false] (wX6_number_30 hM n    _ _ h hq)
  · rw [if_neg z1] at h
    refine ev_iconst (v := (nI 0)) dX6_number_7 jc0 ?_
    cases h
    exact ev_iret dX6_number_8 rfl rfl hq
def fX6_bayTold (n : Nat) (a0 : Int32) (ci : jI) (cj : jJ) : Option (jI × jJ) := Option.bind (fX6_isFull n (nI 0) (nI 6) a0 ci cj) (fun q1 => if q1.1 = 0 then Option.bind (fX6_newName n  q1.2.1 q1.2.2) (fun q4 => Option.bind (fX6_asks n 1551 q4.2.1 q4.2.2) (fun q6 => Option.bind (fX6_number n (nI 0) (nI 99) q6.1 q6.2) (fun q8 => Option.bind (fX6_asks n 1552 q8.2.1 q8.2.2) (fun q10 => Option.bind (fX6_number n (nI 0) (nI 99) q10.1 q10.2) (fun q12 => Option.bind (fX6_laid n (nI 0) q4.1 1579 q8.1 q12.1 q12.2.1 q12.2.2) (fun q14 => some (q14.1, q14.2))))))) else some (q1.2.1, q1.2.2))
theorem metX6_bayTold {g : jG} {d : Nat} {K : jK} {cr : jR} {c sl : Nat} {Qr : jQ} {Qx : jX} (hM : jMW K cr) (n : Nat) (a0 : Int32) (ci : jI) (cj : jJ) {q} (h : fX6_bayTold n a0 ci cj = some q) (hq : Qr none K q.1 q.2 cr) : EvM g (d + 6) mX6_bayTold [.ref 1547, .int a0] K ci cj cr c sl Qr Qx := by
  unfold fX6_bayTold at h
  show Ev g (d + 6) mX6_bayTold 0 [.ref 1547, .int a0, jU, jU, jU] [] K ci cj cr c sl Qr Qx
  refine ev_aload_n dX6_bayTold_0 rfl ?_
  refine ev_iconst (v := (nI 0)) dX6_bayTold_1 jc0 ?_
  refine ev_bipush (v := (nI 6)) dX6_bayTold_2 jb6 ?_
  refine ev_iload_n dX6_bayTold_4 rfl ?_
  obtain ⟨q1, z2, h⟩ := Option.bind_eq_some_iff.mp h
  refine ev_zV3 dX6_bayTold_5 vX6_322_6 (hk1547 hM) (Or.inl (hl1547 hM)) (Nat.le_of_ble_eq_true rfl) (Nat.le_of_ble_eq_true rfl) rfl (metX6_isFull hM n _ _ _ _ _ z2 ?_)
  show Ev g _ _ 8 _ [.int q1.1] K q1.2.1 q1.2.2 cr c sl Qr Qx
  refine ev_if_eq 12 dX6_bayTold_8 rfl (fun z3 => ?_) (fun z3 => ?_)
  · rw [if_pos z3] at h
    refine ev_aload_n dX6_bayTold_12 rfl ?_
    obtain ⟨q4, z5, h⟩ := Option.bind_eq_some_iff.mp h
    refine ev_zV0 dX6_bayTold_13 vX6_326_6 (hk1547 hM) (Or.inl (hl1547 hM)) (Nat.le_of_ble_eq_true rfl) (Nat.le_of_ble_eq_true rfl) rfl (metX6_newName hM n  _ _ z5 ?_)
    show Ev g _ _ 16 _ [.long q4.1] K q4.2.1 q4.2.2 cr c sl Qr Qx
    refine ev_lstore_n (L' := [_, _, _, _, _]) dX6_bayTold_16 (by decide) rfl ?_
    refine ev_aload_n dX6_bayTold_17 rfl ?_
    refine ev_aload_n dX6_bayTold_18 rfl ?_
    refine ev_getR dX6_bayTold_19 fX6_24_6 (hk1547 hM) (Or.inl (hl1547 hM)) rfl (hr12 hM) ?_
    obtain ⟨q6, z7, h⟩ := Option.bind_eq_some_iff.mp h
    refine ev_zV1 dX6_bayTold_22 vX6_329_6 (hk1547 hM) (Or.inl (hl1547 hM)) (Nat.le_of_ble_eq_true rfl) (Nat.le_of_ble_eq_true rfl) rfl (metX6_asks hM n _ _ _ z7 ?_)
    show Ev g _ _ 25 _ [] K q6.1 q6.2 cr c sl Qr Qx
    refine ev_aload_n dX6_bayTold_25 rfl ?_
    refine ev_iconst (v := (nI 0)) dX6_bayTold_26 jc0 ?_
    refine ev_bipush (v := (nI 99)) dX6_bayTold_27 jb99 ?_
    obtain ⟨q8, z9, h⟩ := Option.bind_eq_some_iff.mp h
    refine ev_zV2 dX6_bayTold_29 vX6_333_6 (hk1547 hM) (Or.inl (hl1547 hM)) (Nat.le_of_ble_eq_true rfl) (Nat.le_of_ble_eq_true rfl) rfl (metX6_number hM n _ _ _ _ z9 ?_)
    show Ev g _ _ 32 _ [.int q8.1] K q8.2.1 q8.2.2 cr c sl Qr Qx
    refine ev_istore (L' := [_, _, _, _, _]) dX6_bayTold_32 (by decide) rfl ?_
    refine ev_aload_n dX6_bayTold_34 rfl ?_
    refine ev_aload_n dX6_bayTold_35 rfl ?_
    refine ev_getR dX6_bayTold_36 fX6_27_6 (hk1547 hM) (Or.inl (hl1547 hM)) rfl (hr13 hM) ?_
    obtain ⟨q10, z11, h⟩ := Option.bind_eq_some_iff.mp h
    refine ev_zV1 dX6_bayTold_39 vX6_329_6 (hk1547 hM) (Or.inl (hl1547 hM)) (Nat.le_of_ble_eq_true rfl) (Nat.le_of_ble_eq_true rfl) rfl (metX6_asks hM n _ _ _ z11 ?_)
    show Ev g _ _ 42 _ [] K q10.1 q10.2 cr c sl Qr Qx
    refine ev_aload_n dX6_bayTold_42 rfl ?_
    refine ev_iconst (v := (nI 0)) dX6_bayTold_43 jc0 ?_
    refine ev_lload_n dX6_bayTold_44 rfl ?_
    refine ev_aload_n dX6_bayTold_45 rfl ?_
    refine ev_getR dX6_bayTold_46 fX6_109_6 (hk1547 hM) (Or.inl (hl1547 hM)) rfl (hr41 hM) ?_
    refine ev_iload dX6_bayTold_49 rfl ?_
    refine ev_aload_n dX6_bayTold_51 rfl ?_
    refine ev_iconst (v := (nI 0)) dX6_bayTold_52 jc0 ?_
    refine ev_bipush (v := (nI 99)) dX6_bayTold_53 jb99 ?_
    obtain ⟨q12, z13, h⟩ := Option.bind_eq_some_iff.mp h
    refine ev_zV2 dX6_bayTold_55 vX6_333_6 (hk1547 hM) (Or.inl (hl1547 hM)) (Nat.le_of_ble_eq_true rfl) (Nat.le_of_ble_eq_true rfl) rfl (metX6_number hM n _ _ _ _ z13 ?_)
    show Ev g _ _ 58 _ [.int q12.1, .int q8.1, .ref 1579, .long q4.1, .int (nI 0), .ref 1547] K q12.2.1 q12.2.2 cr c sl Qr Qx
    obtain ⟨q14, z15, h⟩ := Option.bind_eq_some_iff.mp h
    refine ev_zV5 dX6_bayTold_58 vX6_337_6 (hk1547 hM) (Or.inl (hl1547 hM)) (Nat.le_of_ble_eq_true rfl) (Nat.le_of_ble_eq_true rfl) rfl (metX6_laid hM n _ _ _ _ _ _ _ z15 ?_)
    show Ev g _ _ 61 _ [] K q14.1 q14.2 cr c sl Qr Qx
    cases h
    exact ev_ret dX6_bayTold_61 rfl hq
  · rw [if_neg z3] at h
    cases h
    exact ev_ret dX6_bayTold_11 rfl hq
def fX6_qCode (n : Nat) (a0 : Int32) (ci : jI) (cj : jJ) : Option (jI × jJ) := if jok (ci 1547 97) 1700 then some ((ju (ju ci 1620 ((ci 1547 97)).toNatClampNeg a0) 1547 97 (((ju ci 1620 ((ci 1547 97)).toNatClampNeg a0) 1547 97) + (nI 1))), cj) else none
theorem metX6_qCode {g : jG} {d : Nat} {K : jK} {cr : jR} {c sl : Nat} {Qr : jQ} {Qx : jX} (hM : jMW K cr) (n : Nat) (a0 : Int32) (ci : jI) (cj : jJ) {q} (h : fX6_qCode n a0 ci cj = some q) (hq : Qr none K q.1 q.2 cr) : EvM g (d + 1) mX6_qCode [.ref 1547, .int a0] K ci cj cr c sl Qr Qx := by
  unfold fX6_qCode at h
  show Ev g (d + 1) mX6_qCode 0 [.ref 1547, .int a0] [] K ci cj cr c sl Qr Qx
  refine ev_aload_n dX6_qCode_0 rfl ?_
  refine ev_getR dX6_qCode_1 fX6_236_6 (hk1547 hM) (Or.inl (hl1547 hM)) rfl (hr96 hM) ?_
  refine ev_aload_n dX6_qCode_4 rfl ?_
  refine ev_getI dX6_qCode_5 fX6_344_6 (hk1547 hM) (Or.inl (hl1547 hM)) rfl ?_
  refine ev_iload_n dX6_qCode_8 rfl ?_
  by_cases z1 : jok (ci 1547 97) 1700
  rotate_left
  · rw [if_neg z1] at h; cases h
  rw [if_pos z1] at h
  refine ev_iastore dX6_qCode_9 (hk1620 hM) (hl1620 hM) (jok.ix z1 (hn1620 hM)) ?_
  refine ev_aload_n dX6_qCode_10 rfl ?_
  refine ev_dup dX6_qCode_11 rfl ?_
  refine ev_getI dX6_qCode_12 fX6_344_6 (hk1547 hM) (Or.inl (hl1547 hM)) rfl ?_
  refine ev_iconst (v := (nI 1)) dX6_qCode_15 jc1 ?_
  refine ev_iadd dX6_qCode_16 ?_
  refine ev_putI dX6_qCode_17 (pX6_344_6 _) (hk1547 hM) (hl1547 hM) rfl rfl rfl ?_
  cases h
  exact ev_ret dX6_qCode_20 rfl hq
def fX6_qDrops (n : Nat) (ci : jI) (cj : jJ) : Option (jI × jJ) := if jok ((ju ci 1547 99 ((ci 1547 99) - (nI 1))) 1547 99) 1700 then Option.bind (fX6_qCode n ((ju ci 1547 99 ((ci 1547 99) - (nI 1))) 1621 (((ju ci 1547 99 ((ci 1547 99) - (nI 1))) 1547 99)).toNatClampNeg) (ju ci 1547 99 ((ci 1547 99) - (nI 1))) cj) (fun q2 => some (q2.1, q2.2)) else none
theorem metX6_qDrops {g : jG} {d : Nat} {K : jK} {cr : jR} {c sl : Nat} {Qr : jQ} {Qx : jX} (hM : jMW K cr) (n : Nat) (ci : jI) (cj : jJ) {q} (h : fX6_qDrops n  ci cj = some q) (hq : Qr none K q.1 q.2 cr) : EvM g (d + 2) mX6_qDrops [.ref 1547] K ci cj cr c sl Qr Qx := by
  unfold fX6_qDrops at h
  show Ev g (d + 2) mX6_qDrops 0 [.ref 1547] [] K ci cj cr c sl Qr Qx
  refine ev_aload_n dX6_qDrops_0 rfl ?_
  refine ev_dup dX6_qDrops_1 rfl ?_
  refine ev_getI dX6_qDrops_2 fX6_347_6 (hk1547 hM) (Or.inl (hl1547 hM)) rfl ?_
  refine ev_iconst (v := (nI 1)) dX6_qDrops_5 jc1 ?_
  refine ev_isub dX6_qDrops_6 ?_
  refine ev_putI dX6_qDrops_7 (pX6_347_6 _) (hk1547 hM) (hl1547 hM) rfl rfl rfl ?_
  refine ev_aload_n dX6_qDrops_10 rfl ?_
  refine ev_aload_n dX6_qDrops_11 rfl ?_
  refine ev_getR dX6_qDrops_12 fX6_239_6 (hk1547 hM) (Or.inl (hl1547 hM)) rfl (hr98 hM) ?_
  refine ev_aload_n dX6_qDrops_15 rfl ?_
  refine ev_getI dX6_qDrops_16 fX6_347_6 (hk1547 hM) (Or.inl (hl1547 hM)) rfl ?_
  by_cases z1 : jok ((ju ci 1547 99 ((ci 1547 99) - (nI 1))) 1547 99) 1700
  rotate_left
  · rw [if_neg z1] at h; cases h
  rw [if_pos z1] at h
  refine ev_iaload dX6_qDrops_19 (hk1621 hM) (Or.inl (hl1621 hM)) (jok.ix z1 (hn1621 hM)) ?_
  obtain ⟨q2, z3, h⟩ := Option.bind_eq_some_iff.mp h
  refine ev_zV1 dX6_qDrops_20 vX6_589_6 (hk1547 hM) (Or.inl (hl1547 hM)) (Nat.le_of_ble_eq_true rfl) (Nat.le_of_ble_eq_true rfl) rfl (metX6_qCode hM n _ _ _ z3 ?_)
  show Ev g _ _ 23 _ [] K q2.1 q2.2 cr c sl Qr Qx
  cases h
  exact ev_ret dX6_qDrops_23 rfl hq
def fX6_qIsBracket_17 (n : Nat) (t0 : Int32) (ci : jI) (cj : jJ) : Option (Int32 × jI × jJ) := if t0 = 0 ∨ t0 = 1 then some (t0, ci, cj) else none
theorem wX6_qIsBracket_17 {g : jG} {d : Nat} {K : jK} {cr : jR} {c sl : Nat} {Qr : jQ} {Qx : jX} (hM : jMW K cr) (n : Nat) (t0 : Int32) (ci : jI) (cj : jJ) {q} (h : fX6_qIsBracket_17 n  t0 ci cj = some q) (hq : Qr (some (.int q.1)) K q.2.1 q.2.2 cr) : Ev g (d + 1) mX6_qIsBracket 17 [jU] [.int t0] K ci cj cr c sl Qr Qx := by
  unfold fX6_qIsBracket_17 at h
  by_cases z1 : t0 = 0 ∨ t0 = 1
  rotate_left
  · rw [if_neg z1] at h; cases h
  rw [if_pos z1] at h
  cases h
  exact ev_iret dX6_qIsBracket_17 rfl (jbool z1) hq
def fX6_qIsBracket_16 (n : Nat) (ci : jI) (cj : jJ) : Option (Int32 × jI × jJ) := fX6_qIsBracket_17 n  (nI 0) ci cj
theorem wX6_qIsBracket_16 {g : jG} {d : Nat} {K : jK} {cr : jR} {c sl : Nat} {Qr : jQ} {Qx : jX} (hM : jMW K cr) (n : Nat) (ci : jI) (cj : jJ) {q} (h : fX6_qIsBracket_16 n   ci cj = some q) (hq : Qr (some (.int q.1)) K q.2.1 q.2.2 cr) : Ev g (d + 1) mX6_qIsBracket 16 [jU] [] K ci cj cr c sl Qr Qx := by
  unfold fX6_qIsBracket_16 at h
  refine ev_iconst (v := (nI 0)) dX6_qIsBracket_16 jc0 ?_
  exact wX6_qIsBracket_17 hM n   _ _ _ h hq
def fX6_qIsBracket (n : Nat) (a0 : Int32) (ci : jI) (cj : jJ) : Option (Int32 × jI × jJ) := if a0 < (nI 20) then fX6_qIsBracket_16 n   ci cj else if (nI 24) < a0 then fX6_qIsBracket_16 n   ci cj else fX6_qIsBracket_17 n  (nI 1) ci cj
theorem metX6_qIsBracket {g : jG} {d : Nat} {K : jK} {cr : jR} {c sl : Nat} {Qr : jQ} {Qx : jX} (hM : jMW K cr) (n : Nat) (a0 : Int32) (ci : jI) (cj : jJ) {q} (h : fX6_qIsBracket n a0 ci cj = some q) (hq : Qr (some (.int q.1)) K q.2.1 q.2.2 cr) : EvM g (d + 1) mX6_qIsBracket [.int a0] K ci cj cr c sl Qr Qx := by
  unfold fX6_qIsBracket at h
  show Ev g (d + 1) mX6_qIsBracket 0 [.int a0] [] K ci cj cr c sl Qr Qx
  refine ev_iload_n dX6_qIsBracket_0 rfl ?_
  refine ev_bipush (v := (nI 20)) dX6_qIsBracket_1 jb20 ?_
  refine ev_icmp_lt 16 dX6_qIsBracket_3 rfl (fun z1 => ?_) (fun z1 => ?_)
  · rw [if_pos z1] at h
    exact ev_mask [false] (wX6_qIsBracket_16 hM n    _ _ h hq)
  · rw [if_neg z1] at h
    refine ev_iload_n dX6_qIsBracket_6 rfl ?_
    refine ev_bipush (v := (nI 24)) dX6_qIsBracket_7 jb24 ?_
    refine ev_icmp_gt 16 dX6_qIsBracket_9 rfl (fun z2 => ?_) (fun z2 => ?_)
    · rw [if_pos z2] at h
      exact ev_mask [false] (wX6_qIsBracket_16 hM n    _ _ h hq)
    · rw [if_neg z2] at h
      refine ev_iconst (v := (nI 1)) dX6_qIsBracket_12 jc1 ?_
      refine ev_goto 17 dX6_qIsBracket_13 rfl ?_
      exact ev_mask [false] (wX6_qIsBracket_17 hM n   _ _ _ h hq)
def fX6_qBracket_51 (n : Nat) (t0 : Int32) (ci : jI) (cj : jJ) : Option (Int32 × jI × jJ) := some (t0, ci, cj)
theorem wX6_qBracket_51 {g : jG} {d : Nat} {K : jK} {cr : jR} {c sl : Nat} {Qr : jQ} {Qx : jX} (hM : jMW K cr) (n : Nat) (t0 : Int32) (ci : jI) (cj : jJ) {q} (h : fX6_qBracket_51 n  t0 ci cj = some q) (hq : Qr (some (.int q.1)) K q.2.1 q.2.2 cr) : Ev g (d + 2) mX6_qBracket 51 [jU, jU] [.int t0] K ci cj cr c sl Qr Qx := by
  unfold fX6_qBracket_51 at h
  cases h
  exact ev_iret dX6_qBracket_51 rfl rfl hq
def fX6_qBracket_33 (n : Nat) (l1 : Int32) (ci : jI) (cj : jJ) : Option (Int32 × jI × jJ) := if l1 < (ci 1547 101) then fX6_qBracket_51 n  (-1) ci cj else if jok l1 1700 then fX6_qBracket_51 n  (ci 1621 (l1).toNatClampNeg) ci cj else none
theorem wX6_qBracket_33 {g : jG} {d : Nat} {K : jK} {cr : jR} {c sl : Nat} {Qr : jQ} {Qx : jX} (hM : jMW K cr) (n : Nat) (l1 : Int32) (ci : jI) (cj : jJ) {q} (h : fX6_qBracket_33 n  l1 ci cj = some q) (hq : Qr (some (.int q.1)) K q.2.1 q.2.2 cr) : Ev g (d + 2) mX6_qBracket 33 [.ref 1547, .int l1] [] K ci cj cr c sl Qr Qx := by
  unfold fX6_qBracket_33 at h
  refine ev_iload_n dX6_qBracket_33 rfl ?_
  refine ev_aload_n dX6_qBracket_34 rfl ?_
  refine ev_getI dX6_qBracket_35 fX6_353_6 (hk1547 hM) (Or.inl (hl1547 hM)) rfl ?_
  refine ev_icmp_lt 50 dX6_qBracket_38 rfl (fun z1 => ?_) (fun z1 => ?_)
  · rw [if_pos z1] at h
    refine ev_iconst (v := (-1)) dX6_qBracket_50 jcm1 ?_
    exact ev_mask [false, false] (wX6_qBracket_51 hM n   _ _ _ h hq)
  · rw [if_neg z1] at h
    refine ev_aload_n dX6_qBracket_41 rfl ?_
    refine ev_getR dX6_qBracket_42 fX6_239_6 (hk1547 hM) (Or.inl (hl1547 hM)) rfl (hr98 hM) ?_
    refine ev_iload_n dX6_qBracket_45 rfl ?_
    by_cases z2 : jok l1 1700
    rotate_left
    · rw [if_neg z2] at h; cases h
    rw [if_pos z2] at h
    refine ev_iaload dX6_qBracket_46 (hk1621 hM) (Or.inl (hl1621 hM)) (jok.ix z2 (hn1621 hM)) ?_
    refine ev_goto 51 dX6_qBracket_47 rfl ?_
    exact ev_mask [false, false] (wX6_qBracket_51 hM n   _ _ _ h hq)
def fX6_qBracket_7 (n : Nat) : Nat → Int32 → jI → jJ → Option (Int32 × jI × jJ)
  | 0, _, _, _ => none
  | k + 1, l1, ci, cj => if l1 < (ci 1547 101) then fX6_qBracket_33 n  l1 ci cj else if jok l1 1700 then Option.bind (fX6_qIsBracket n (ci 1621 (l1).toNatClampNeg) ci cj) (fun q3 => if q3.1 = 0 then fX6_qBracket_7 n  k (l1 + (-1)) q3.2.1 q3.2.2 else fX6_qBracket_33 n  l1 q3.2.1 q3.2.2) else none
theorem wX6_qBracket_7 {g : jG} {d : Nat} {K : jK} {cr : jR} {c sl : Nat} {Qr : jQ} {Qx : jX} (hM : jMW K cr) (n : Nat) : ∀ (k : Nat) (l1 : Int32) (ci : jI) (cj : jJ) {q}, fX6_qBracket_7 n  k l1 ci cj = some q → Qr (some (.int q.1)) K q.2.1 q.2.2 cr → Ev g (d + 2) mX6_qBracket 7 [.ref 1547, .int l1] [] K ci cj cr c sl Qr Qx := by
  intro k
  induction k with
  | zero =>
    intro l1 ci cj q h hq
    rw [fX6_qBracket_7.eq_1] at h; cases h
  | succ k ih =>
    intro l1 ci cj q h hq
    rw [fX6_qBracket_7.eq_2] at h
    refine ev_iload_n dX6_qBracket_7 rfl ?_
    refine ev_aload_n dX6_qBracket_8 rfl ?_
    refine ev_getI dX6_qBracket_9 fX6_353_6 (hk1547 hM) (Or.inl (hl1547 hM)) rfl ?_
    refine ev_icmp_lt 33 dX6_qBracket_12 rfl (fun z1 => ?_) (fun z1 => ?_)
    · rw [if_pos z1] at h
      exact wX6_qBracket_33 hM n   _ _ _ h hq
    · rw [if_neg z1] at h
      refine ev_aload_n dX6_qBracket_15 rfl ?_
      refine ev_getR dX6_qBracket_16 fX6_239_6 (hk1547 hM) (Or.inl (hl1547 hM)) rfl (hr98 hM) ?_
      refine ev_iload_n dX6_qBracket_19 rfl ?_
      by_cases z2 : jok l1 1700
      rotate_left
      · rw [if_neg z2] at h; cases h
      rw [if_pos z2] at h
      refine ev_iaload dX6_qBracket_20 (hk1621 hM) (Or.inl (hl1621 hM)) (jok.ix z2 (hn1621 hM)) ?_
      obtain ⟨q3, z4, h⟩ := Option.bind_eq_some_iff.mp h
      refine ev_zS1 dX6_qBracket_21 sX6_592 (Nat.le_of_ble_eq_true rfl) (Nat.le_of_ble_eq_true rfl) rfl (metX6_qIsBracket hM n _ _ _ z4 ?_)
      show Ev g _ _ 24 _ [.int q3.1] K q3.2.1 q3.2.2 cr c sl Qr Qx
      refine ev_if_ne 33 dX6_qBracket_24 rfl (fun z5 => ?_) (fun z5 => ?_)
      · rw [if_neg z5] at h
        exact wX6_qBracket_33 hM n   _ _ _ h hq
      · rw [if_pos z5] at h
        refine ev_iinc (v := (l1 + (-1))) (L' := [_, _]) dX6_qBracket_27 rfl (by rw [ji_m1]) (by decide) rfl ?_
        refine ev_goto 7 dX6_qBracket_30 rfl ?_
        exact ih _ _ _ h hq
def fX6_qBracket (n : Nat) (ci : jI) (cj : jJ) : Option (Int32 × jI × jJ) := fX6_qBracket_7 n  n ((ci 1547 99) - (nI 1)) ci cj
theorem metX6_qBracket {g : jG} {d : Nat} {K : jK} {cr : jR} {c sl : Nat} {Qr : jQ} {Qx : jX} (hM : jMW K cr) (n : Nat) (ci : jI) (cj : jJ) {q} (h : fX6_qBracket n  ci cj = some q) (hq : Qr (some (.int q.1)) K q.2.1 q.2.2 cr) : EvM g (d + 2) mX6_qBracket [.ref 1547] K ci cj cr c sl Qr Qx := by
  unfold fX6_qBracket at h
  show Ev g (d + 2) mX6_qBracket 0 [.ref 1547, jU] [] K ci cj cr c sl Qr Qx
  refine ev_aload_n dX6_qBracket_0 rfl ?_
  refine ev_getI dX6_qBracket_1 fX6_347_6 (hk1547 hM) (Or.inl (hl1547 hM)) rfl ?_
  refine ev_iconst (v := (nI 1)) dX6_qBracket_4 jc1 ?_
  refine ev_isub dX6_qBracket_5 ?_
  refine ev_istore_n (L' := [_, _]) dX6_qBracket_6 (by decide) rfl ?_
  exact wX6_qBracket_7 hM n   n _ _ _ h hq
def fX6_qDropsToBracket_35 (n : Nat) (ci : jI) (cj : jJ) : Option (jI × jJ) := some (ci, cj)
theorem wX6_qDropsToBracket_35 {g : jG} {d : Nat} {K : jK} {cr : jR} {c sl : Nat} {Qr : jQ} {Qx : jX} (hM : jMW K cr) (n : Nat) (ci : jI) (cj : jJ) {q} (h : fX6_qDropsToBracket_35 n   ci cj = some q) (hq : Qr none K q.1 q.2 cr) : Ev g (d + 3) mX6_qDropsToBracket 35 [jU] [] K ci cj cr c sl Qr Qx := by
  unfold fX6_qDropsToBracket_35 at h
  cases h
  exact ev_ret dX6_qDropsToBracket_35 rfl hq
def fX6_qDropsToBracket_0 (n : Nat) : Nat → jI → jJ → Option (jI × jJ)
  | 0, _, _ => none
  | k + 1, ci, cj => if (ci 1547 99) ≤ (ci 1547 101) then fX6_qDropsToBracket_35 n   ci cj else if jok ((ci 1547 99) - (nI 1)) 1700 then Option.bind (fX6_qIsBracket n (ci 1621 (((ci 1547 99) - (nI 1))).toNatClampNeg) ci cj) (fun q3 => if q3.1 = 0 then Option.bind (fX6_qDrops n  q3.2.1 q3.2.2) (fun q6 => fX6_qDropsToBracket_0 n  k  q6.1 q6.2) else fX6_qDropsToBracket_35 n   q3.2.1 q3.2.2) else none
theorem wX6_qDropsToBracket_0 {g : jG} {d : Nat} {K : jK} {cr : jR} {c sl : Nat} {Qr : jQ} {Qx : jX} (hM : jMW K cr) (n : Nat) : ∀ (k : Nat) (ci : jI) (cj : jJ) {q}, fX6_qDropsToBracket_0 n  k  ci cj = some q → Qr none K q.1 q.2 cr → Ev g (d + 3) mX6_qDropsToBracket 0 [.ref 1547] [] K ci cj cr c sl Qr Qx := by
  intro k
  induction k with
  | zero =>
    intro  ci cj q h hq
    rw [fX6_qDropsToBracket_0.eq_1] at h; cases h
  | succ k ih =>
    intro  ci cj q h hq
    rw [fX6_qDropsToBracket_0.eq_2] at h
    refine ev_aload_n dX6_qDropsToBracket_0 rfl ?_
    refine ev_getI dX6_qDropsToBracket_1 fX6_347_6 (hk1547 hM) (Or.inl (hl1547 hM)) rfl ?_
    refine ev_aload_n dX6_qDropsToBracket_4 rfl ?_
    refine ev_getI dX6_qDropsToBracket_5 fX6_353_6 (hk1547 hM) (Or.inl (hl1547 hM)) rfl ?_
    refine ev_icmp_le 35 dX6_qDropsToBracket_8 rfl (fun z1 => ?_) (fun z1 => ?_)
    · rw [if_pos z1] at h
      exact ev_mask [false] (wX6_qDropsToBracket_35 hM n    _ _ h hq)
    · rw [if_neg z1] at h
      refine ev_aload_n dX6_qDropsToBracket_11 rfl ?_
      refine ev_getR dX6_qDropsToBracket_12 fX6_239_6 (hk1547 hM) (Or.inl (hl1547 hM)) rfl (hr98 hM) ?_
      refine ev_aload_n dX6_qDropsToBracket_15 rfl ?_
      refine ev_getI dX6_qDropsToBracket_16 fX6_347_6 (hk1547 hM) (Or.inl (hl1547 hM)) rfl ?_
      refine ev_iconst (v := (nI 1)) dX6_qDropsToBracket_19 jc1 ?_
      refine ev_isub dX6_qDropsToBracket_20 ?_
      by_cases z2 : jok ((ci 1547 99) - (nI 1)) 1700
      rotate_left
      · rw [if_neg z2] at h; cases h
      rw [if_pos z2] at h
      refine ev_iaload dX6_qDropsToBracket_21 (hk1621 hM) (Or.inl (hl1621 hM)) (jok.ix z2 (hn1621 hM)) ?_
      obtain ⟨q3, z4, h⟩ := Option.bind_eq_some_iff.mp h
      refine ev_zS1 dX6_qDropsToBracket_22 sX6_592 (Nat.le_of_ble_eq_true rfl) (Nat.le_of_ble_eq_true rfl) rfl (metX6_qIsBracket hM n _ _ _ z4 ?_)
      show Ev g _ _ 25 _ [.int q3.1] K q3.2.1 q3.2.2 cr c sl Qr Qx
      refine ev_if_ne 35 dX6_qDropsToBracket_25 rfl (fun z5 => ?_) (fun z5 => ?_)
      · rw [if_neg z5] at h
        exact ev_mask [false] (wX6_qDropsToBracket_35 hM n    _ _ h hq)
      · rw [if_pos z5] at h
        refine ev_aload_n dX6_qDropsToBracket_28 rfl ?_
        obtain ⟨q6, z7, h⟩ := Option.bind_eq_some_iff.mp h
        refine ev_zV0 dX6_qDropsToBracket_29 vX6_595_6 (hk1547 hM) (Or.inl (hl1547 hM)) (Nat.le_of_ble_eq_true rfl) (Nat.le_of_ble_eq_true rfl) rfl (metX6_qDrops hM n  _ _ z7 ?_)
        show Ev g _ _ 32 _ [] K q6.1 q6.2 cr c sl Qr Qx
        refine ev_goto 0 dX6_qDropsToBracket_32 rfl ?_
        exact ih  _ _ h hq
def fX6_qDropsToBracket (n : Nat) (ci : jI) (cj : jJ) : Option (jI × jJ) := fX6_qDropsToBracket_0 n  n  ci cj
theorem metX6_qDropsToBracket {g : jG} {d : Nat} {K : jK} {cr : jR} {c sl : Nat} {Qr : jQ} {Qx : jX} (hM : jMW K cr) (n : Nat) (ci : jI) (cj : jJ) {q} (h : fX6_qDropsToBracket n  ci cj = some q) (hq : Qr none K q.1 q.2 cr) : EvM g (d + 3) mX6_qDropsToBracket [.ref 1547] K ci cj cr c sl Qr Qx := by
  unfold fX6_qDropsToBracket at h
  show Ev g (d + 3) mX6_qDropsToBracket 0 [.ref 1547] [] K ci cj cr c sl Qr Qx
  exact wX6_qDropsToBracket_0 hM n   n  _ _ h hq
def fX6_qEndsPart_51 (n : Nat) (ci : jI) (cj : jJ) : Option (jI × jJ) := some (ci, cj)
theorem wX6_qEndsPart_51 {g : jG} {d : Nat} {K : jK} {cr : jR} {c sl : Nat} {Qr : jQ} {Qx : jX} (hM : jMW K cr) (n : Nat) (ci : jI) (cj : jJ) {q} (h : fX6_qEndsPart_51 n   ci cj = some q) (hq : Qr none K q.1 q.2 cr) : Ev g (d + 3) mX6_qEndsPart 51 [jU] [] K ci cj cr c sl Qr Qx := by
  unfold fX6_qEndsPart_51 at h
  cases h
  exact ev_ret dX6_qEndsPart_51 rfl hq
def fX6_qEndsPart_0 (n : Nat) : Nat → jI → jJ → Option (jI × jJ)
  | 0, _, _ => none
  | k + 1, ci, cj => if (ci 1547 5) = 0 then if (ci 1547 99) ≤ (ci 1547 101) then fX6_qEndsPart_51 n   ci cj else if jok ((ci 1547 99) - (nI 1)) 1700 then if (ci 1621 (((ci 1547 99) - (nI 1))).toNatClampNeg) < (nI 60) then fX6_qEndsPart_51 n   ci cj else Option.bind (fX6_qDrops n  (ju ci 1547 100 ((ci 1547 100) - (nI 1))) cj) (fun q5 => fX6_qEndsPart_0 n  k  q5.1 q5.2) else none else fX6_qEndsPart_51 n   ci cj
theorem wX6_qEndsPart_0 {g : jG} {d : Nat} {K : jK} {cr : jR} {c sl : Nat} {Qr : jQ} {Qx : jX} (hM : jMW K cr) (n : Nat) : ∀ (k : Nat) (ci : jI) (cj : jJ) {q}, fX6_qEndsPart_0 n  k  ci cj = some q → Qr none K q.1 q.2 cr → Ev g (d + 3) mX6_qEndsPart 0 [.ref 1547] [] K ci cj cr c sl Qr Qx := by
  intro k
  induction k with
  | zero =>
    intro  ci cj q h hq
    rw [fX6_qEndsPart_0.eq_1] at h; cases h
  | succ k ih =>
    intro  ci cj q h hq
    rw [fX6_qEndsPart_0.eq_2] at h
    refine ev_aload_n dX6_qEndsPart_0 rfl ?_
    refine ev_getI dX6_qEndsPart_1 fX6_251_6 (hk1547 hM) (Or.inl (hl1547 hM)) rfl ?_
    refine ev_if_ne 51 dX6_qEndsPart_4 rfl (fun z1 => ?_) (fun z1 => ?_)
    · rw [if_neg z1] at h
      exact ev_mask [false] (wX6_qEndsPart_51 hM n    _ _ h hq)
    · rw [if_pos z1] at h
      refine ev_aload_n dX6_qEndsPart_7 rfl ?_
      refine ev_getI dX6_qEndsPart_8 fX6_347_6 (hk1547 hM) (Or.inl (hl1547 hM)) rfl ?_
      refine ev_aload_n dX6_qEndsPart_11 rfl ?_
      refine ev_getI dX6_qEndsPart_12 fX6_353_6 (hk1547 hM) (Or.inl (hl1547 hM)) rfl ?_
      refine ev_icmp_le 51 dX6_qEndsPart_15 rfl (fun z2 => ?_) (fun z2 => ?_)
      · rw [if_pos z2] at h
        exact ev_mask [false] (wX6_qEndsPart_51 hM n    _ _ h hq)
      · rw [if_neg z2] at h
        refine ev_aload_n dX6_qEndsPart_18 rfl ?_
        refine ev_getR dX6_qEndsPart_19 fX6_239_6 (hk1547 hM) (Or.inl (hl1547 hM)) rfl (hr98 hM) ?_
        refine ev_aload_n dX6_qEndsPart_22 rfl ?_
        refine ev_getI dX6_qEndsPart_23 fX6_347_6 (hk1547 hM) (Or.inl (hl1547 hM)) rfl ?_
        refine ev_iconst (v := (nI 1)) dX6_qEndsPart_26 jc1 ?_
        refine ev_isub dX6_qEndsPart_27 ?_
        by_cases z3 : jok ((ci 1547 99) - (nI 1)) 1700
        rotate_left
        · rw [if_neg z3] at h; cases h
        rw [if_pos z3] at h
        refine ev_iaload dX6_qEndsPart_28 (hk1621 hM) (Or.inl (hl1621 hM)) (jok.ix z3 (hn1621 hM)) ?_
        refine ev_bipush (v := (nI 60)) dX6_qEndsPart_29 jb60 ?_
        refine ev_icmp_lt 51 dX6_qEndsPart_31 rfl (fun z4 => ?_) (fun z4 => ?_)
        · rw [if_pos z4] at h
          exact ev_mask [false] (wX6_qEndsPart_51 hM n    _ _ h hq)
        · rw [if_neg z4] at h
          refine ev_aload_n dX6_qEndsPart_34 rfl ?_
          refine ev_dup dX6_qEndsPart_35 rfl ?_
          refine ev_getI dX6_qEndsPart_36 fX6_350_6 (hk1547 hM) (Or.inl (hl1547 hM)) rfl ?_
          refine ev_iconst (v := (nI 1)) dX6_qEndsPart_39 jc1 ?_
          refine ev_isub dX6_qEndsPart_40 ?_
          refine ev_putI dX6_qEndsPart_41 (pX6_350_6 _) (hk1547 hM) (hl1547 hM) rfl rfl rfl ?_
          refine ev_aload_n dX6_qEndsPart_44 rfl ?_
          obtain ⟨q5, z6, h⟩ := Option.bind_eq_some_iff.mp h
          refine ev_zV0 dX6_qEndsPart_45 vX6_595_6 (hk1547 hM) (Or.inl (hl1547 hM)) (Nat.le_of_ble_eq_true rfl) (Nat.le_of_ble_eq_true rfl) rfl (metX6_qDrops hM n  _ _ z6 ?_)
          show Ev g _ _ 48 _ [] K q5.1 q5.2 cr c sl Qr Qx
          refine ev_goto 0 dX6_qEndsPart_48 rfl ?_
          exact ih  _ _ h hq
def fX6_qEndsPart (n : Nat) (ci : jI) (cj : jJ) : Option (jI × jJ) := fX6_qEndsPart_0 n  n  ci cj
theorem metX6_qEndsPart {g : jG} {d : Nat} {K : jK} {cr : jR} {c sl : Nat} {Qr : jQ} {Qx : jX} (hM : jMW K cr) (n : Nat) (ci : jI) (cj : jJ) {q} (h : fX6_qEndsPart n  ci cj = some q) (hq : Qr none K q.1 q.2 cr) : EvM g (d + 3) mX6_qEndsPart [.ref 1547] K ci cj cr c sl Qr Qx := by
  unfold fX6_qEndsPart at h
  show Ev g (d + 3) mX6_qEndsPart 0 [.ref 1547] [] K ci cj cr c sl Qr Qx
  exact wX6_qEndsPart_0 hM n   n  _ _ h hq
def fX6_qIsOn_27 (n : Nat) (t0 : Int32) (ci : jI) (cj : jJ) : Option (Int32 × jI × jJ) := if t0 = 0 ∨ t0 = 1 then some (t0, ci, cj) else none
theorem wX6_qIsOn_27 {g : jG} {d : Nat} {K : jK} {cr : jR} {c sl : Nat} {Qr : jQ} {Qx : jX} (hM : jMW K cr) (n : Nat) (t0 : Int32) (ci : jI) (cj : jJ) {q} (h : fX6_qIsOn_27 n  t0 ci cj = some q) (hq : Qr (some (.int q.1)) K q.2.1 q.2.2 cr) : Ev g (d + 1) mX6_qIsOn 27 [jU, jU] [.int t0] K ci cj cr c sl Qr Qx := by
  unfold fX6_qIsOn_27 at h
  by_cases z1 : t0 = 0 ∨ t0 = 1
  rotate_left
  · rw [if_neg z1] at h; cases h
  rw [if_pos z1] at h
  cases h
  exact ev_iret dX6_qIsOn_27 rfl (jbool z1) hq
def fX6_qIsOn_26 (n : Nat) (ci : jI) (cj : jJ) : Option (Int32 × jI × jJ) := fX6_qIsOn_27 n  (nI 0) ci cj
theorem wX6_qIsOn_26 {g : jG} {d : Nat} {K : jK} {cr : jR} {c sl : Nat} {Qr : jQ} {Qx : jX} (hM : jMW K cr) (n : Nat) (ci : jI) (cj : jJ) {q} (h : fX6_qIsOn_26 n   ci cj = some q) (hq : Qr (some (.int q.1)) K q.2.1 q.2.2 cr) : Ev g (d + 1) mX6_qIsOn 26 [jU, jU] [] K ci cj cr c sl Qr Qx := by
  unfold fX6_qIsOn_26 at h
  refine ev_iconst (v := (nI 0)) dX6_qIsOn_26 jc0 ?_
  exact wX6_qIsOn_27 hM n   _ _ _ h hq
def fX6_qIsOn (n : Nat) (a0 : Int32) (ci : jI) (cj : jJ) : Option (Int32 × jI × jJ) := if (ci 1547 99) ≤ 0 then fX6_qIsOn_26 n   ci cj else if jok ((ci 1547 99) - (nI 1)) 1700 then if (ci 1621 (((ci 1547 99) - (nI 1))).toNatClampNeg) = a0 then fX6_qIsOn_27 n  (nI 1) ci cj else fX6_qIsOn_26 n   ci cj else none
theorem metX6_qIsOn {g : jG} {d : Nat} {K : jK} {cr : jR} {c sl : Nat} {Qr : jQ} {Qx : jX} (hM : jMW K cr) (n : Nat) (a0 : Int32) (ci : jI) (cj : jJ) {q} (h : fX6_qIsOn n a0 ci cj = some q) (hq : Qr (some (.int q.1)) K q.2.1 q.2.2 cr) : EvM g (d + 1) mX6_qIsOn [.ref 1547, .int a0] K ci cj cr c sl Qr Qx := by
  unfold fX6_qIsOn at h
  show Ev g (d + 1) mX6_qIsOn 0 [.ref 1547, .int a0] [] K ci cj cr c sl Qr Qx
  refine ev_aload_n dX6_qIsOn_0 rfl ?_
  refine ev_getI dX6_qIsOn_1 fX6_347_6 (hk1547 hM) (Or.inl (hl1547 hM)) rfl ?_
  refine ev_if_le 26 dX6_qIsOn_4 rfl (fun z1 => ?_) (fun z1 => ?_)
  · rw [if_pos z1] at h
    exact ev_mask [false, false] (wX6_qIsOn_26 hM n    _ _ h hq)
  · rw [if_neg z1] at h
    refine ev_aload_n dX6_qIsOn_7 rfl ?_
    refine ev_getR dX6_qIsOn_8 fX6_239_6 (hk1547 hM) (Or.inl (hl1547 hM)) rfl (hr98 hM) ?_
    refine ev_aload_n dX6_qIsOn_11 rfl ?_
    refine ev_getI dX6_qIsOn_12 fX6_347_6 (hk1547 hM) (Or.inl (hl1547 hM)) rfl ?_
    refine ev_iconst (v := (nI 1)) dX6_qIsOn_15 jc1 ?_
    refine ev_isub dX6_qIsOn_16 ?_
    by_cases z2 : jok ((ci 1547 99) - (nI 1)) 1700
    rotate_left
    · rw [if_neg z2] at h; cases h
    rw [if_pos z2] at h
    refine ev_iaload dX6_qIsOn_17 (hk1621 hM) (Or.inl (hl1621 hM)) (jok.ix z2 (hn1621 hM)) ?_
    refine ev_iload_n dX6_qIsOn_18 rfl ?_
    refine ev_icmp_ne 26 dX6_qIsOn_19 rfl (fun z3 => ?_) (fun z3 => ?_)
    · rw [if_neg z3] at h
      exact ev_mask [false, false] (wX6_qIsOn_26 hM n    _ _ h hq)
    · rw [if_pos z3] at h
      refine ev_iconst (v := (nI 1)) dX6_qIsOn_22 jc1 ?_
      refine ev_goto 27 dX6_qIsOn_23 rfl ?_
      exact ev_mask [false, false] (wX6_qIsOn_27 hM n   _ _ _ h hq)
def fX6_qGoesOn_178 (n : Nat) (rec162 : Int32 → jI → jJ → Option (Int32 × jI × jJ)) (l1 : Int32) (ci : jI) (cj : jJ) : Option (Int32 × jI × jJ) := Option.bind (fX6_qDrops n  ci cj) (fun q1 => rec162 l1 q1.1 q1.2)
theorem wX6_qGoesOn_178 {g : jG} {d : Nat} {K : jK} {cr : jR} {c sl : Nat} {Qr : jQ} {Qx : jX} (hM : jMW K cr) (n : Nat) (rec162 : Int32 → jI → jJ → Option (Int32 × jI × jJ)) (hrec162 : (∀ (l1 : Int32) (ci : jI) (cj : jJ) {q}, rec162 l1 ci cj = some q → Qr (some (.int q.1)) K q.2.1 q.2.2 cr → Ev g (d + 4) mX6_qGoesOn 162 [.ref 1547, .int l1] [] K ci cj cr c sl Qr Qx)) (l1 : Int32) (ci : jI) (cj : jJ) {q} (h : fX6_qGoesOn_178 n rec162 l1 ci cj = some q) (hq : Qr (some (.int q.1)) K q.2.1 q.2.2 cr) : Ev g (d + 4) mX6_qGoesOn 178 [.ref 1547, .int l1] [] K ci cj cr c sl Qr Qx := by
  unfold fX6_qGoesOn_178 at h
  refine ev_aload_n dX6_qGoesOn_178 rfl ?_
  obtain ⟨q1, z2, h⟩ := Option.bind_eq_some_iff.mp h
  refine ev_zV0 dX6_qGoesOn_179 vX6_595_6 (hk1547 hM) (Or.inl (hl1547 hM)) (Nat.le_of_ble_eq_true rfl) (Nat.le_of_ble_eq_true rfl) rfl (metX6_qDrops hM n  _ _ z2 ?_)
  show Ev g _ _ 182 _ [] K q1.1 q1.2 cr c sl Qr Qx
  refine ev_goto 162 dX6_qGoesOn_182 rfl ?_
  exact hrec162 _ _ _ h hq
def fX6_qGoesOn_162 (n : Nat) : Nat → Int32 → jI → jJ → Option (Int32 × jI × jJ)
  | 0, _, _, _ => none
  | k + 1, l1, ci, cj => Option.bind (fX6_qIsOn n (nI 3) ci cj) (fun q1 => if q1.1 = 0 then Option.bind (fX6_qIsOn n (nI 4) q1.2.1 q1.2.2) (fun q4 => if q4.1 = 0 then if jok (q4.2.1 1547 99) 1700 then some ((nI 1), (ju (ju q4.2.1 1621 ((q4.2.1 1547 99)).toNatClampNeg l1) 1547 99 (((ju q4.2.1 1621 ((q4.2.1 1547 99)).toNatClampNeg l1) 1547 99) + (nI 1))), q4.2.2) else none else fX6_qGoesOn_178 n (fX6_qGoesOn_162 n  k) l1 q4.2.1 q4.2.2) else fX6_qGoesOn_178 n (fX6_qGoesOn_162 n  k) l1 q1.2.1 q1.2.2)
theorem wX6_qGoesOn_162 {g : jG} {d : Nat} {K : jK} {cr : jR} {c sl : Nat} {Qr : jQ} {Qx : jX} (hM : jMW K cr) (n : Nat) : ∀ (k : Nat) (l1 : Int32) (ci : jI) (cj : jJ) {q}, fX6_qGoesOn_162 n  k l1 ci cj = some q → Qr (some (.int q.1)) K q.2.1 q.2.2 cr → Ev g (d + 4) mX6_qGoesOn 162 [.ref 1547, .int l1] [] K ci cj cr c sl Qr Qx := by
  intro k
  induction k with
  | zero =>
    intro l1 ci cj q h hq
    rw [fX6_qGoesOn_162.eq_1] at h; cases h
  | succ k ih =>
    intro l1 ci cj q h hq
    rw [fX6_qGoesOn_162.eq_2] at h
    refine ev_aload_n dX6_qGoesOn_162 rfl ?_
    refine ev_iconst (v := (nI 3)) dX6_qGoesOn_163 jc3 ?_
    obtain ⟨q1, z2, h⟩ := Option.bind_eq_some_iff.mp h
    refine ev_zV1 dX6_qGoesOn_164 vX6_622_6 (hk1547 hM) (Or.inl (hl1547 hM)) (Nat.le_of_ble_eq_true rfl) (Nat.le_of_ble_eq_true rfl) rfl (metX6_qIsOn hM n _ _ _ z2 ?_)
    show Ev g _ _ 167 _ [.int q1.1] K q1.2.1 q1.2.2 cr c sl Qr Qx
    refine ev_if_ne 178 dX6_qGoesOn_167 rfl (fun z3 => ?_) (fun z3 => ?_)
    · rw [if_neg z3] at h
      exact wX6_qGoesOn_178 hM n _ (ih) _ _ _ h hq
    · rw [if_pos z3] at h
      refine ev_aload_n dX6_qGoesOn_170 rfl ?_
      refine ev_iconst (v := (nI 4)) dX6_qGoesOn_171 jc4 ?_
      obtain ⟨q4, z5, h⟩ := Option.bind_eq_some_iff.mp h
      refine ev_zV1 dX6_qGoesOn_172 vX6_622_6 (hk1547 hM) (Or.inl (hl1547 hM)) (Nat.le_of_ble_eq_true rfl) (Nat.le_of_ble_eq_true rfl) rfl (metX6_qIsOn hM n _ _ _ z5 ?_)
      show Ev g _ _ 175 _ [.int q4.1] K q4.2.1 q4.2.2 cr c sl Qr Qx
      refine ev_if_eq 185 dX6_qGoesOn_175 rfl (fun z6 => ?_) (fun z6 => ?_)
      · rw [if_pos z6] at h
        refine ev_aload_n dX6_qGoesOn_185 rfl ?_
        refine ev_getR dX6_qGoesOn_186 fX6_239_6 (hk1547 hM) (Or.inl (hl1547 hM)) rfl (hr98 hM) ?_
        refine ev_aload_n dX6_qGoesOn_189 rfl ?_
        refine ev_getI dX6_qGoesOn_190 fX6_347_6 (hk1547 hM) (Or.inl (hl1547 hM)) rfl ?_
        refine ev_iload_n dX6_qGoesOn_193 rfl ?_
        by_cases z7 : jok (q4.2.1 1547 99) 1700
        rotate_left
        · rw [if_neg z7] at h; cases h
        rw [if_pos z7] at h
        refine ev_iastore dX6_qGoesOn_194 (hk1621 hM) (hl1621 hM) (jok.ix z7 (hn1621 hM)) ?_
        refine ev_aload_n dX6_qGoesOn_195 rfl ?_
        refine ev_dup dX6_qGoesOn_196 rfl ?_
        refine ev_getI dX6_qGoesOn_197 fX6_347_6 (hk1547 hM) (Or.inl (hl1547 hM)) rfl ?_
        refine ev_iconst (v := (nI 1)) dX6_qGoesOn_200 jc1 ?_
        refine ev_iadd dX6_qGoesOn_201 ?_
        refine ev_putI dX6_qGoesOn_202 (pX6_347_6 _) (hk1547 hM) (hl1547 hM) rfl rfl rfl ?_
        refine ev_iconst (v := (nI 1)) dX6_qGoesOn_205 jc1 ?_
        cases h
        exact ev_iret dX6_qGoesOn_206 rfl (by decide) hq
      · rw [if_neg z6] at h
        exact wX6_qGoesOn_178 hM n _ (ih) _ _ _ h hq
def fX6_qGoesOn_161 (n : Nat) (t0 : Int32) (ci : jI) (cj : jJ) : Option (Int32 × jI × jJ) := fX6_qGoesOn_162 n  n t0 ci cj
theorem wX6_qGoesOn_161 {g : jG} {d : Nat} {K : jK} {cr : jR} {c sl : Nat} {Qr : jQ} {Qx : jX} (hM : jMW K cr) (n : Nat) (t0 : Int32) (ci : jI) (cj : jJ) {q} (h : fX6_qGoesOn_161 n  t0 ci cj = some q) (hq : Qr (some (.int q.1)) K q.2.1 q.2.2 cr) : Ev g (d + 4) mX6_qGoesOn 161 [.ref 1547, jU] [.int t0] K ci cj cr c sl Qr Qx := by
  unfold fX6_qGoesOn_161 at h
  refine ev_istore_n (L' := [_, _]) dX6_qGoesOn_161 (by decide) rfl ?_
  exact wX6_qGoesOn_162 hM n   n _ _ _ h hq
def fX6_qGoesOn_140 (n : Nat) (ci : jI) (cj : jJ) : Option (Int32 × jI × jJ) := if jok ((ci 1547 2) - (nI 1)) 1600 then if (ci 1548 (((ci 1547 2) - (nI 1))).toNatClampNeg) = (nI 42) then fX6_qGoesOn_161 n  (nI 3) ci cj else fX6_qGoesOn_161 n  (nI 4) ci cj else none
theorem wX6_qGoesOn_140 {g : jG} {d : Nat} {K : jK} {cr : jR} {c sl : Nat} {Qr : jQ} {Qx : jX} (hM : jMW K cr) (n : Nat) (ci : jI) (cj : jJ) {q} (h : fX6_qGoesOn_140 n   ci cj = some q) (hq : Qr (some (.int q.1)) K q.2.1 q.2.2 cr) : Ev g (d + 4) mX6_qGoesOn 140 [.ref 1547, jU] [] K ci cj cr c sl Qr Qx := by
  unfold fX6_qGoesOn_140 at h
  refine ev_aload_n dX6_qGoesOn_140 rfl ?_
  refine ev_getR dX6_qGoesOn_141 fX6_7_6 (hk1547 hM) (Or.inl (hl1547 hM)) rfl (hr0 hM) ?_
  refine ev_aload_n dX6_qGoesOn_144 rfl ?_
  refine ev_getI dX6_qGoesOn_145 fX6_257_6 (hk1547 hM) (Or.inl (hl1547 hM)) rfl ?_
  refine ev_iconst (v := (nI 1)) dX6_qGoesOn_148 jc1 ?_
  refine ev_isub dX6_qGoesOn_149 ?_
  by_cases z1 : jok ((ci 1547 2) - (nI 1)) 1600
  rotate_left
  · rw [if_neg z1] at h; cases h
  rw [if_pos z1] at h
  refine ev_iaload dX6_qGoesOn_150 (hk1548 hM) (Or.inl (hl1548 hM)) (jok.ix z1 (hn1548 hM)) ?_
  refine ev_bipush (v := (nI 42)) dX6_qGoesOn_151 jb42 ?_
  refine ev_icmp_ne 160 dX6_qGoesOn_153 rfl (fun z2 => ?_) (fun z2 => ?_)
  · rw [if_neg z2] at h
    refine ev_iconst (v := (nI 4)) dX6_qGoesOn_160 jc4 ?_
    exact wX6_qGoesOn_161 hM n   _ _ _ h hq
  · rw [if_pos z2] at h
    refine ev_iconst (v := (nI 3)) dX6_qGoesOn_156 jc3 ?_
    refine ev_goto 161 dX6_qGoesOn_157 rfl ?_
    exact wX6_qGoesOn_161 hM n   _ _ _ h hq
def fX6_qGoesOn_279 (n : Nat) (rec247 : Int32 → jI → jJ → Option (Int32 × jI × jJ)) (l1 : Int32) (ci : jI) (cj : jJ) : Option (Int32 × jI × jJ) := Option.bind (fX6_qDrops n  ci cj) (fun q1 => rec247 l1 q1.1 q1.2)
theorem wX6_qGoesOn_279 {g : jG} {d : Nat} {K : jK} {cr : jR} {c sl : Nat} {Qr : jQ} {Qx : jX} (hM : jMW K cr) (n : Nat) (rec247 : Int32 → jI → jJ → Option (Int32 × jI × jJ)) (hrec247 : (∀ (l1 : Int32) (ci : jI) (cj : jJ) {q}, rec247 l1 ci cj = some q → Qr (some (.int q.1)) K q.2.1 q.2.2 cr → Ev g (d + 4) mX6_qGoesOn 247 [.ref 1547, .int l1] [] K ci cj cr c sl Qr Qx)) (l1 : Int32) (ci : jI) (cj : jJ) {q} (h : fX6_qGoesOn_279 n rec247 l1 ci cj = some q) (hq : Qr (some (.int q.1)) K q.2.1 q.2.2 cr) : Ev g (d + 4) mX6_qGoesOn 279 [.ref 1547, .int l1] [] K ci cj cr c sl Qr Qx := by
  unfold fX6_qGoesOn_279 at h
  refine ev_aload_n dX6_qGoesOn_279 rfl ?_
  obtain ⟨q1, z2, h⟩ := Option.bind_eq_some_iff.mp h
  refine ev_zV0 dX6_qGoesOn_280 vX6_595_6 (hk1547 hM) (Or.inl (hl1547 hM)) (Nat.le_of_ble_eq_true rfl) (Nat.le_of_ble_eq_true rfl) rfl (metX6_qDrops hM n  _ _ z2 ?_)
  show Ev g _ _ 283 _ [] K q1.1 q1.2 cr c sl Qr Qx
  refine ev_goto 247 dX6_qGoesOn_283 rfl ?_
  exact hrec247 _ _ _ h hq
def fX6_qGoesOn_247 (n : Nat) : Nat → Int32 → jI → jJ → Option (Int32 × jI × jJ)
  | 0, _, _, _ => none
  | k + 1, l1, ci, cj => Option.bind (fX6_qIsOn n (nI 3) ci cj) (fun q1 => if q1.1 = 0 then Option.bind (fX6_qIsOn n (nI 4) q1.2.1 q1.2.2) (fun q4 => if q4.1 = 0 then Option.bind (fX6_qIsOn n (nI 1) q4.2.1 q4.2.2) (fun q7 => if q7.1 = 0 then Option.bind (fX6_qIsOn n (nI 2) q7.2.1 q7.2.2) (fun q10 => if q10.1 = 0 then if jok (q10.2.1 1547 99) 1700 then some ((nI 1), (ju (ju q10.2.1 1621 ((q10.2.1 1547 99)).toNatClampNeg l1) 1547 99 (((ju q10.2.1 1621 ((q10.2.1 1547 99)).toNatClampNeg l1) 1547 99) + (nI 1))), q10.2.2) else none else fX6_qGoesOn_279 n (fX6_qGoesOn_247 n  k) l1 q10.2.1 q10.2.2) else fX6_qGoesOn_279 n (fX6_qGoesOn_247 n  k) l1 q7.2.1 q7.2.2) else fX6_qGoesOn_279 n (fX6_qGoesOn_247 n  k) l1 q4.2.1 q4.2.2) else fX6_qGoesOn_279 n (fX6_qGoesOn_247 n  k) l1 q1.2.1 q1.2.2)
theorem wX6_qGoesOn_247 {g : jG} {d : Nat} {K : jK} {cr : jR} {c sl : Nat} {Qr : jQ} {Qx : jX} (hM : jMW K cr) (n : Nat) : ∀ (k : Nat) (l1 : Int32) (ci : jI) (cj : jJ) {q}, fX6_qGoesOn_247 n  k l1 ci cj = some q → Qr (some (.int q.1)) K q.2.1 q.2.2 cr → Ev g (d + 4) mX6_qGoesOn 247 [.ref 1547, .int l1] [] K ci cj cr c sl Qr Qx := by
  intro k
  induction k with
  | zero =>
    intro l1 ci cj q h hq
    rw [fX6_qGoesOn_247.eq_1] at h; cases h
  | succ k ih =>
    intro l1 ci cj q h hq
    rw [fX6_qGoesOn_247.eq_2] at h
    refine ev_aload_n dX6_qGoesOn_247 rfl ?_
    refine ev_iconst (v := (nI 3)) dX6_qGoesOn_248 jc3 ?_
    obtain ⟨q1, z2, h⟩ := Option.bind_eq_some_iff.mp h
    refine ev_zV1 dX6_qGoesOn_249 vX6_622_6 (hk1547 hM) (Or.inl (hl1547 hM)) (Nat.le_of_ble_eq_true rfl) (Nat.le_of_ble_eq_true rfl) rfl (metX6_qIsOn hM n _ _ _ z2 ?_)
    show Ev g _ _ 252 _ [.int q1.1] K q1.2.1 q1.2.2 cr c sl Qr Qx
    refine ev_if_ne 279 dX6_qGoesOn_252 rfl (fun z3 => ?_) (fun z3 => ?_)
    · rw [if_neg z3] at h
      exact wX6_qGoesOn_279 hM n _ (ih) _ _ _ h hq
    · rw [if_pos z3] at h
      refine ev_aload_n dX6_qGoesOn_255 rfl ?_
      refine ev_iconst (v := (nI 4)) dX6_qGoesOn_256 jc4 ?_
      obtain ⟨q4, z5, h⟩ := Option.bind_eq_some_iff.mp h
      refine ev_zV1 dX6_qGoesOn_257 vX6_622_6 (hk1547 hM) (Or.inl (hl1547 hM)) (Nat.le_of_ble_eq_true rfl) (Nat.le_of_ble_eq_true rfl) rfl (metX6_qIsOn hM n _ _ _ z5 ?_)
      show Ev g _ _ 260 _ [.int q4.1] K q4.2.1 q4.2.2 cr c sl Qr Qx
      refine ev_if_ne 279 dX6_qGoesOn_260 rfl (fun z6 => ?_) (fun z6 => ?_)
      · rw [if_neg z6] at h
        exact wX6_qGoesOn_279 hM n _ (ih) _ _ _ h hq
      · rw [if_pos z6] at h
        refine ev_aload_n dX6_qGoesOn_263 rfl ?_
        refine ev_iconst (v := (nI 1)) dX6_qGoesOn_264 jc1 ?_
        obtain ⟨q7, z8, h⟩ := Option.bind_eq_some_iff.mp h
        refine ev_zV1 dX6_qGoesOn_265 vX6_622_6 (hk1547 hM) (Or.inl (hl1547 hM)) (Nat.le_of_ble_eq_true rfl) (Nat.le_of_ble_eq_true rfl) rfl (metX6_qIsOn hM n _ _ _ z8 ?_)
        show Ev g _ _ 268 _ [.int q7.1] K q7.2.1 q7.2.2 cr c sl Qr Qx
        refine ev_if_ne 279 dX6_qGoesOn_268 rfl (fun z9 => ?_) (fun z9 => ?_)
        · rw [if_neg z9] at h
          exact wX6_qGoesOn_279 hM n _ (ih) _ _ _ h hq
        · rw [if_pos z9] at h
          refine ev_aload_n dX6_qGoesOn_271 rfl ?_
          refine ev_iconst (v := (nI 2)) dX6_qGoesOn_272 jc2 ?_
          obtain ⟨q10, z11, h⟩ := Option.bind_eq_some_iff.mp h
          refine ev_zV1 dX6_qGoesOn_273 vX6_622_6 (hk1547 hM) (Or.inl (hl1547 hM)) (Nat.le_of_ble_eq_true rfl) (Nat.le_of_ble_eq_true rfl) rfl (metX6_qIsOn hM n _ _ _ z11 ?_)
          show Ev g _ _ 276 _ [.int q10.1] K q10.2.1 q10.2.2 cr c sl Qr Qx
          refine ev_if_eq 286 dX6_qGoesOn_276 rfl (fun z12 => ?_) (fun z12 => ?_)
          · rw [if_pos z12] at h
            refine ev_aload_n dX6_qGoesOn_286 rfl ?_
            refine ev_getR dX6_qGoesOn_287 fX6_239_6 (hk1547 hM) (Or.inl (hl1547 hM)) rfl (hr98 hM) ?_
            refine ev_aload_n dX6_qGoesOn_290 rfl ?_
            refine ev_getI dX6_qGoesOn_291 fX6_347_6 (hk1547 hM) (Or.inl (hl1547 hM)) rfl ?_
            refine ev_iload_n dX6_qGoesOn_294 rfl ?_
            by_cases z13 : jok (q10.2.1 1547 99) 1700
            rotate_left
            · rw [if_neg z13] at h; cases h
            rw [if_pos z13] at h
            refine ev_iastore dX6_qGoesOn_295 (hk1621 hM) (hl1621 hM) (jok.ix z13 (hn1621 hM)) ?_
            refine ev_aload_n dX6_qGoesOn_296 rfl ?_
            refine ev_dup dX6_qGoesOn_297 rfl ?_
            refine ev_getI dX6_qGoesOn_298 fX6_347_6 (hk1547 hM) (Or.inl (hl1547 hM)) rfl ?_
            refine ev_iconst (v := (nI 1)) dX6_qGoesOn_301 jc1 ?_
            refine ev_iadd dX6_qGoesOn_302 ?_
            refine ev_putI dX6_qGoesOn_303 (pX6_347_6 _) (hk1547 hM) (hl1547 hM) rfl rfl rfl ?_
            refine ev_iconst (v := (nI 1)) dX6_qGoesOn_306 jc1 ?_
            cases h
            exact ev_iret dX6_qGoesOn_307 rfl (by decide) hq
          · rw [if_neg z12] at h
            exact wX6_qGoesOn_279 hM n _ (ih) _ _ _ h hq
def fX6_qGoesOn_246 (n : Nat) (t0 : Int32) (ci : jI) (cj : jJ) : Option (Int32 × jI × jJ) := fX6_qGoesOn_247 n  n t0 ci cj
theorem wX6_qGoesOn_246 {g : jG} {d : Nat} {K : jK} {cr : jR} {c sl : Nat} {Qr : jQ} {Qx : jX} (hM : jMW K cr) (n : Nat) (t0 : Int32) (ci : jI) (cj : jJ) {q} (h : fX6_qGoesOn_246 n  t0 ci cj = some q) (hq : Qr (some (.int q.1)) K q.2.1 q.2.2 cr) : Ev g (d + 4) mX6_qGoesOn 246 [.ref 1547, jU] [.int t0] K ci cj cr c sl Qr Qx := by
  unfold fX6_qGoesOn_246 at h
  refine ev_istore_n (L' := [_, _]) dX6_qGoesOn_246 (by decide) rfl ?_
  exact wX6_qGoesOn_247 hM n   n _ _ _ h hq
def fX6_qGoesOn_225 (n : Nat) (ci : jI) (cj : jJ) : Option (Int32 × jI × jJ) := if jok ((ci 1547 2) - (nI 1)) 1600 then if (ci 1548 (((ci 1547 2) - (nI 1))).toNatClampNeg) = (nI 43) then fX6_qGoesOn_246 n  (nI 1) ci cj else fX6_qGoesOn_246 n  (nI 2) ci cj else none
theorem wX6_qGoesOn_225 {g : jG} {d : Nat} {K : jK} {cr : jR} {c sl : Nat} {Qr : jQ} {Qx : jX} (hM : jMW K cr) (n : Nat) (ci : jI) (cj : jJ) {q} (h : fX6_qGoesOn_225 n   ci cj = some q) (hq : Qr (some (.int q.1)) K q.2.1 q.2.2 cr) : Ev g (d + 4) mX6_qGoesOn 225 [.ref 1547, jU] [] K ci cj cr c sl Qr Qx := by
  unfold fX6_qGoesOn_225 at h
  refine ev_aload_n dX6_qGoesOn_225 rfl ?_
  refine ev_getR dX6_qGoesOn_226 fX6_7_6 (hk1547 hM) (Or.inl (hl1547 hM)) rfl (hr0 hM) ?_
  refine ev_aload_n dX6_qGoesOn_229 rfl ?_
  refine ev_getI dX6_qGoesOn_230 fX6_257_6 (hk1547 hM) (Or.inl (hl1547 hM)) rfl ?_
  refine ev_iconst (v := (nI 1)) dX6_qGoesOn_233 jc1 ?_
  refine ev_isub dX6_qGoesOn_234 ?_
  by_cases z1 : jok ((ci 1547 2) - (nI 1)) 1600
  rotate_left
  · rw [if_neg z1] at h; cases h
  rw [if_pos z1] at h
  refine ev_iaload dX6_qGoesOn_235 (hk1548 hM) (Or.inl (hl1548 hM)) (jok.ix z1 (hn1548 hM)) ?_
  refine ev_bipush (v := (nI 43)) dX6_qGoesOn_236 jb43 ?_
  refine ev_icmp_ne 245 dX6_qGoesOn_238 rfl (fun z2 => ?_) (fun z2 => ?_)
  · rw [if_neg z2] at h
    refine ev_iconst (v := (nI 2)) dX6_qGoesOn_245 jc2 ?_
    exact wX6_qGoesOn_246 hM n   _ _ _ h hq
  · rw [if_pos z2] at h
    refine ev_iconst (v := (nI 1)) dX6_qGoesOn_241 jc1 ?_
    refine ev_goto 246 dX6_qGoesOn_242 rfl ?_
    exact wX6_qGoesOn_246 hM n   _ _ _ h hq
def fX6_qGoesOn_326 (n : Nat) (ci : jI) (cj : jJ) : Option (Int32 × jI × jJ) := Option.bind (fX6_asksSign n (nI 44) ci cj) (fun q1 => if (q1.1 1547 5) = 0 then Option.bind (fX6_qDropsToBracket n  q1.1 q1.2) (fun q4 => if jok ((q4.1 1547 99) - (nI 1)) 1700 then if jok ((q4.1 1547 99) - (nI 1)) 1700 then some ((nI 1), (ju q4.1 1621 (((q4.1 1547 99) - (nI 1))).toNatClampNeg ((q4.1 1621 (((q4.1 1547 99) - (nI 1))).toNatClampNeg) + (nI 2))), q4.2) else none else none) else some ((nI 0), q1.1, q1.2))
theorem wX6_qGoesOn_326 {g : jG} {d : Nat} {K : jK} {cr : jR} {c sl : Nat} {Qr : jQ} {Qx : jX} (hM : jMW K cr) (n : Nat) (ci : jI) (cj : jJ) {q} (h : fX6_qGoesOn_326 n   ci cj = some q) (hq : Qr (some (.int q.1)) K q.2.1 q.2.2 cr) : Ev g (d + 4) mX6_qGoesOn 326 [.ref 1547, jU] [] K ci cj cr c sl Qr Qx := by
  unfold fX6_qGoesOn_326 at h
  refine ev_aload_n dX6_qGoesOn_326 rfl ?_
  refine ev_bipush (v := (nI 44)) dX6_qGoesOn_327 jb44 ?_
  obtain ⟨q1, z2, h⟩ := Option.bind_eq_some_iff.mp h
  refine ev_zV1 dX6_qGoesOn_329 vX6_381_6 (hk1547 hM) (Or.inl (hl1547 hM)) (Nat.le_of_ble_eq_true rfl) (Nat.le_of_ble_eq_true rfl) rfl (metX6_asksSign hM n _ _ _ z2 ?_)
  show Ev g _ _ 332 _ [] K q1.1 q1.2 cr c sl Qr Qx
  refine ev_aload_n dX6_qGoesOn_332 rfl ?_
  refine ev_getI dX6_qGoesOn_333 fX6_251_6 (hk1547 hM) (Or.inl (hl1547 hM)) rfl ?_
  refine ev_if_eq 341 dX6_qGoesOn_336 rfl (fun z3 => ?_) (fun z3 => ?_)
  · rw [if_pos z3] at h
    refine ev_aload_n dX6_qGoesOn_341 rfl ?_
    obtain ⟨q4, z5, h⟩ := Option.bind_eq_some_iff.mp h
    refine ev_zV0 dX6_qGoesOn_342 vX6_619_6 (hk1547 hM) (Or.inl (hl1547 hM)) (Nat.le_of_ble_eq_true rfl) (Nat.le_of_ble_eq_true rfl) rfl (metX6_qDropsToBracket hM n  _ _ z5 ?_)
    show Ev g _ _ 345 _ [] K q4.1 q4.2 cr c sl Qr Qx
    refine ev_aload_n dX6_qGoesOn_345 rfl ?_
    refine ev_getR dX6_qGoesOn_346 fX6_239_6 (hk1547 hM) (Or.inl (hl1547 hM)) rfl (hr98 hM) ?_
    refine ev_aload_n dX6_qGoesOn_349 rfl ?_
    refine ev_getI dX6_qGoesOn_350 fX6_347_6 (hk1547 hM) (Or.inl (hl1547 hM)) rfl ?_
    refine ev_iconst (v := (nI 1)) dX6_qGoesOn_353 jc1 ?_
    refine ev_isub dX6_qGoesOn_354 ?_
    refine ev_dup2 dX6_qGoesOn_355 rfl rfl ?_
    by_cases z6 : jok ((q4.1 1547 99) - (nI 1)) 1700
    rotate_left
    · rw [if_neg z6] at h; cases h
    rw [if_pos z6] at h
    refine ev_iaload dX6_qGoesOn_356 (hk1621 hM) (Or.inl (hl1621 hM)) (jok.ix z6 (hn1621 hM)) ?_
    refine ev_iconst (v := (nI 2)) dX6_qGoesOn_357 jc2 ?_
    refine ev_iadd dX6_qGoesOn_358 ?_
    by_cases z7 : jok ((q4.1 1547 99) - (nI 1)) 1700
    rotate_left
    · rw [if_neg z7] at h; cases h
    rw [if_pos z7] at h
    refine ev_iastore dX6_qGoesOn_359 (hk1621 hM) (hl1621 hM) (jok.ix z7 (hn1621 hM)) ?_
    refine ev_iconst (v := (nI 1)) dX6_qGoesOn_360 jc1 ?_
    cases h
    exact ev_iret dX6_qGoesOn_361 rfl (by decide) hq
  · rw [if_neg z3] at h
    refine ev_iconst (v := (nI 0)) dX6_qGoesOn_339 jc0 ?_
    cases h
    exact ev_iret dX6_qGoesOn_340 rfl (by decide) hq
def fX6_qGoesOn_386 (n : Nat) (ci : jI) (cj : jJ) : Option (Int32 × jI × jJ) := some ((nI 0), ci, cj)
theorem wX6_qGoesOn_386 {g : jG} {d : Nat} {K : jK} {cr : jR} {c sl : Nat} {Qr : jQ} {Qx : jX} (hM : jMW K cr) (n : Nat) (ci : jI) (cj : jJ) {q} (h : fX6_qGoesOn_386 n   ci cj = some q) (hq : Qr (some (.int q.1)) K q.2.1 q.2.2 cr) : Ev g (d + 4) mX6_qGoesOn 386 [jU, jU] [] K ci cj cr c sl Qr Qx := by
  unfold fX6_qGoesOn_386 at h
  refine ev_iconst (v := (nI 0)) dX6_qGoesOn_386 jc0 ?_
  cases h
  exact ev_iret dX6_qGoesOn_387 rfl (by decide) hq
def fX6_qGoesOn_122 (n : Nat) (ci : jI) (cj : jJ) : Option (Int32 × jI × jJ) := Option.bind (fX6_takesSign n (nI 42) ci cj) (fun q1 => if q1.1 = 0 then Option.bind (fX6_takesSign n (nI 47) q1.2.1 q1.2.2) (fun q4 => if q4.1 = 0 then Option.bind (fX6_takesSign n (nI 43) q4.2.1 q4.2.2) (fun q7 => if q7.1 = 0 then Option.bind (fX6_takesSign n (nI 45) q7.2.1 q7.2.2) (fun q10 => if q10.1 = 0 then Option.bind (fX6_qBracket n  q10.2.1 q10.2.2) (fun q13 => if q13.1 = (nI 21) then fX6_qGoesOn_326 n   q13.2.1 q13.2.2 else Option.bind (fX6_qBracket n  q13.2.1 q13.2.2) (fun q16 => if q16.1 = (nI 22) then fX6_qGoesOn_326 n   q16.2.1 q16.2.2 else Option.bind (fX6_qBracket n  q16.2.1 q16.2.2) (fun q19 => if q19.1 = (-1) then fX6_qGoesOn_386 n   q19.2.1 q19.2.2 else if (q19.2.1 1547 5) = 0 then Option.bind (fX6_fail n (nI 1) (q19.2.1 1547 2) q19.2.1 q19.2.2) (fun q23 => fX6_qGoesOn_386 n   q23.1 q23.2) else fX6_qGoesOn_386 n   q19.2.1 q19.2.2))) else fX6_qGoesOn_225 n   q10.2.1 q10.2.2) else fX6_qGoesOn_225 n   q7.2.1 q7.2.2) else fX6_qGoesOn_140 n   q4.2.1 q4.2.2) else fX6_qGoesOn_140 n   q1.2.1 q1.2.2)
theorem wX6_qGoesOn_122 {g : jG} {d : Nat} {K : jK} {cr : jR} {c sl : Nat} {Qr : jQ} {Qx : jX} (hM : jMW K cr) (n : Nat) (ci : jI) (cj : jJ) {q} (h : fX6_qGoesOn_122 n   ci cj = some q) (hq : Qr (some (.int q.1)) K q.2.1 q.2.2 cr) : Ev g (d + 4) mX6_qGoesOn 122 [.ref 1547, jU] [] K ci cj cr c sl Qr Qx := by
  unfold fX6_qGoesOn_122 at h
  refine ev_aload_n dX6_qGoesOn_122 rfl ?_
  refine ev_bipush (v := (nI 42)) dX6_qGoesOn_123 jb42 ?_
  obtain ⟨q1, z2, h⟩ := Option.bind_eq_some_iff.mp h
  refine ev_zV1 dX6_qGoesOn_125 vX6_285_6 (hk1547 hM) (Or.inl (hl1547 hM)) (Nat.le_of_ble_eq_true rfl) (Nat.le_of_ble_eq_true rfl) rfl (metX6_takesSign hM n _ _ _ z2 ?_)
  show Ev g _ _ 128 _ [.int q1.1] K q1.2.1 q1.2.2 cr c sl Qr Qx
  refine ev_if_ne 140 dX6_qGoesOn_128 rfl (fun z3 => ?_) (fun z3 => ?_)
  · rw [if_neg z3] at h
    exact wX6_qGoesOn_140 hM n    _ _ h hq
  · rw [if_pos z3] at h
    refine ev_aload_n dX6_qGoesOn_131 rfl ?_
    refine ev_bipush (v := (nI 47)) dX6_qGoesOn_132 jb47 ?_
    obtain ⟨q4, z5, h⟩ := Option.bind_eq_some_iff.mp h
    refine ev_zV1 dX6_qGoesOn_134 vX6_285_6 (hk1547 hM) (Or.inl (hl1547 hM)) (Nat.le_of_ble_eq_true rfl) (Nat.le_of_ble_eq_true rfl) rfl (metX6_takesSign hM n _ _ _ z5 ?_)
    show Ev g _ _ 137 _ [.int q4.1] K q4.2.1 q4.2.2 cr c sl Qr Qx
    refine ev_if_eq 207 dX6_qGoesOn_137 rfl (fun z6 => ?_) (fun z6 => ?_)
    · rw [if_pos z6] at h
      refine ev_aload_n dX6_qGoesOn_207 rfl ?_
      refine ev_bipush (v := (nI 43)) dX6_qGoesOn_208 jb43 ?_
      obtain ⟨q7, z8, h⟩ := Option.bind_eq_some_iff.mp h
      refine ev_zV1 dX6_qGoesOn_210 vX6_285_6 (hk1547 hM) (Or.inl (hl1547 hM)) (Nat.le_of_ble_eq_true rfl) (Nat.le_of_ble_eq_true rfl) rfl (metX6_takesSign hM n _ _ _ z8 ?_)
      show Ev g _ _ 213 _ [.int q7.1] K q7.2.1 q7.2.2 cr c sl Qr Qx
      refine ev_if_ne 225 dX6_qGoesOn_213 rfl (fun z9 => ?_) (fun z9 => ?_)
      · rw [if_neg z9] at h
        exact wX6_qGoesOn_225 hM n    _ _ h hq
      · rw [if_pos z9] at h
        refine ev_aload_n dX6_qGoesOn_216 rfl ?_
        refine ev_bipush (v := (nI 45)) dX6_qGoesOn_217 jb45 ?_
        obtain ⟨q10, z11, h⟩ := Option.bind_eq_some_iff.mp h
        refine ev_zV1 dX6_qGoesOn_219 vX6_285_6 (hk1547 hM) (Or.inl (hl1547 hM)) (Nat.le_of_ble_eq_true rfl) (Nat.le_of_ble_eq_true rfl) rfl (metX6_takesSign hM n _ _ _ z11 ?_)
        show Ev g _ _ 222 _ [.int q10.1] K q10.2.1 q10.2.2 cr c sl Qr Qx
        refine ev_if_eq 308 dX6_qGoesOn_222 rfl (fun z12 => ?_) (fun z12 => ?_)
        · rw [if_pos z12] at h
          refine ev_aload_n dX6_qGoesOn_308 rfl ?_
          obtain ⟨q13, z14, h⟩ := Option.bind_eq_some_iff.mp h
          refine ev_zV0 dX6_qGoesOn_309 vX6_616_6 (hk1547 hM) (Or.inl (hl1547 hM)) (Nat.le_of_ble_eq_true rfl) (Nat.le_of_ble_eq_true rfl) rfl (metX6_qBracket hM n  _ _ z14 ?_)
          show Ev g _ _ 312 _ [.int q13.1] K q13.2.1 q13.2.2 cr c sl Qr Qx
          refine ev_bipush (v := (nI 21)) dX6_qGoesOn_312 jb21 ?_
          refine ev_icmp_eq 326 dX6_qGoesOn_314 rfl (fun z15 => ?_) (fun z15 => ?_)
          · rw [if_pos z15] at h
            exact wX6_qGoesOn_326 hM n    _ _ h hq
          · rw [if_neg z15] at h
            refine ev_aload_n dX6_qGoesOn_317 rfl ?_
            obtain ⟨q16, z17, h⟩ := Option.bind_eq_some_iff.mp h
            refine ev_zV0 dX6_qGoesOn_318 vX6_616_6 (hk1547 hM) (Or.inl (hl1547 hM)) (Nat.le_of_ble_eq_true rfl) (Nat.le_of_ble_eq_true rfl) rfl (metX6_qBracket hM n  _ _ z17 ?_)
            show Ev g _ _ 321 _ [.int q16.1] K q16.2.1 q16.2.2 cr c sl Qr Qx
            refine ev_bipush (v := (nI 22)) dX6_qGoesOn_321 jb22 ?_
            refine ev_icmp_ne 362 dX6_qGoesOn_323 rfl (fun z18 => ?_) (fun z18 => ?_)
            · rw [if_neg z18] at h
              refine ev_aload_n dX6_qGoesOn_362 rfl ?_
              obtain ⟨q19, z20, h⟩ := Option.bind_eq_some_iff.mp h
              refine ev_zV0 dX6_qGoesOn_363 vX6_616_6 (hk1547 hM) (Or.inl (hl1547 hM)) (Nat.le_of_ble_eq_true rfl) (Nat.le_of_ble_eq_true rfl) rfl (metX6_qBracket hM n  _ _ z20 ?_)
              show Ev g _ _ 366 _ [.int q19.1] K q19.2.1 q19.2.2 cr c sl Qr Qx
              refine ev_iconst (v := (-1)) dX6_qGoesOn_366 jcm1 ?_
              refine ev_icmp_eq 386 dX6_qGoesOn_367 rfl (fun z21 => ?_) (fun z21 => ?_)
              · rw [if_pos z21] at h
                exact ev_mask [false, false] (wX6_qGoesOn_386 hM n    _ _ h hq)
              · rw [if_neg z21] at h
                refine ev_aload_n dX6_qGoesOn_370 rfl ?_
                refine ev_getI dX6_qGoesOn_371 fX6_251_6 (hk1547 hM) (Or.inl (hl1547 hM)) rfl ?_
                refine ev_if_ne 386 dX6_qGoesOn_374 rfl (fun z22 => ?_) (fun z22 => ?_)
                · rw [if_neg z22] at h
                  exact ev_mask [false, false] (wX6_qGoesOn_386 hM n    _ _ h hq)
                · rw [if_pos z22] at h
                  refine ev_aload_n dX6_qGoesOn_377 rfl ?_
                  refine ev_iconst (v := (nI 1)) dX6_qGoesOn_378 jc1 ?_
                  refine ev_aload_n dX6_qGoesOn_379 rfl ?_
                  refine ev_getI dX6_qGoesOn_380 fX6_257_6 (hk1547 hM) (Or.inl (hl1547 hM)) rfl ?_
                  obtain ⟨q23, z24, h⟩ := Option.bind_eq_some_iff.mp h
                  refine ev_zV2 dX6_qGoesOn_383 vX6_281_6 (hk1547 hM) (Or.inl (hl1547 hM)) (Nat.le_of_ble_eq_true rfl) (Nat.le_of_ble_eq_true rfl) rfl (metX6_fail hM n _ _ _ _ z24 ?_)
                  show Ev g _ _ 386 _ [] K q23.1 q23.2 cr c sl Qr Qx
                  exact ev_mask [false, false] (wX6_qGoesOn_386 hM n    _ _ h hq)
            · rw [if_pos z18] at h
              exact wX6_qGoesOn_326 hM n    _ _ h hq
        · rw [if_neg z12] at h
          exact wX6_qGoesOn_225 hM n    _ _ h hq
    · rw [if_neg z6] at h
      exact wX6_qGoesOn_140 hM n    _ _ h hq
def fX6_qGoesOn_115 (n : Nat) (rec0 : jI → jJ → Option (Int32 × jI × jJ)) (ci : jI) (cj : jJ) : Option (Int32 × jI × jJ) := Option.bind (fX6_qEndsPart n  ci cj) (fun q1 => rec0  q1.1 q1.2)
theorem wX6_qGoesOn_115 {g : jG} {d : Nat} {K : jK} {cr : jR} {c sl : Nat} {Qr : jQ} {Qx : jX} (hM : jMW K cr) (n : Nat) (rec0 : jI → jJ → Option (Int32 × jI × jJ)) (hrec0 : (∀ (ci : jI) (cj : jJ) {q}, rec0  ci cj = some q → Qr (some (.int q.1)) K q.2.1 q.2.2 cr → Ev g (d + 4) mX6_qGoesOn 0 [.ref 1547, jU] [] K ci cj cr c sl Qr Qx)) (ci : jI) (cj : jJ) {q} (h : fX6_qGoesOn_115 n rec0  ci cj = some q) (hq : Qr (some (.int q.1)) K q.2.1 q.2.2 cr) : Ev g (d + 4) mX6_qGoesOn 115 [.ref 1547, jU] [] K ci cj cr c sl Qr Qx := by
  unfold fX6_qGoesOn_115 at h
  refine ev_aload_n dX6_qGoesOn_115 rfl ?_
  obtain ⟨q1, z2, h⟩ := Option.bind_eq_some_iff.mp h
  refine ev_zV0 dX6_qGoesOn_116 vX6_613_6 (hk1547 hM) (Or.inl (hl1547 hM)) (Nat.le_of_ble_eq_true rfl) (Nat.le_of_ble_eq_true rfl) rfl (metX6_qEndsPart hM n  _ _ z2 ?_)
  show Ev g _ _ 119 _ [] K q1.1 q1.2 cr c sl Qr Qx
  refine ev_goto 0 dX6_qGoesOn_119 rfl ?_
  exact hrec0  _ _ h hq
def fX6_qGoesOn_112 (n : Nat) (rec0 : jI → jJ → Option (Int32 × jI × jJ)) (t0 : Int32) (ci : jI) (cj : jJ) : Option (Int32 × jI × jJ) := Option.bind (fX6_qCode n t0 ci cj) (fun q1 => fX6_qGoesOn_115 n rec0  q1.1 q1.2)
theorem wX6_qGoesOn_112 {g : jG} {d : Nat} {K : jK} {cr : jR} {c sl : Nat} {Qr : jQ} {Qx : jX} (hM : jMW K cr) (n : Nat) (rec0 : jI → jJ → Option (Int32 × jI × jJ)) (hrec0 : (∀ (ci : jI) (cj : jJ) {q}, rec0  ci cj = some q → Qr (some (.int q.1)) K q.2.1 q.2.2 cr → Ev g (d + 4) mX6_qGoesOn 0 [.ref 1547, jU] [] K ci cj cr c sl Qr Qx)) (t0 : Int32) (ci : jI) (cj : jJ) {q} (h : fX6_qGoesOn_112 n rec0 t0 ci cj = some q) (hq : Qr (some (.int q.1)) K q.2.1 q.2.2 cr) : Ev g (d + 4) mX6_qGoesOn 112 [.ref 1547, jU] [.int t0, .ref 1547] K ci cj cr c sl Qr Qx := by
  unfold fX6_qGoesOn_112 at h
  obtain ⟨q1, z2, h⟩ := Option.bind_eq_some_iff.mp h
  refine ev_zV1 dX6_qGoesOn_112 vX6_589_6 (hk1547 hM) (Or.inl (hl1547 hM)) (Nat.le_of_ble_eq_true rfl) (Nat.le_of_ble_eq_true rfl) rfl (metX6_qCode hM n _ _ _ z2 ?_)
  show Ev g _ _ 115 _ [] K q1.1 q1.2 cr c sl Qr Qx
  exact wX6_qGoesOn_115 hM n _ (hrec0)  _ _ h hq
def fX6_qGoesOn_43 (n : Nat) (rec0 : jI → jJ → Option (Int32 × jI × jJ)) (ci : jI) (cj : jJ) : Option (Int32 × jI × jJ) := Option.bind (fX6_qDropsToBracket n  (ju ci 1547 2 ((ci 1547 2) + (nI 1))) cj) (fun q1 => if jok ((ju (ju q1.1 1547 99 ((q1.1 1547 99) - (nI 1))) 1547 100 (((ju q1.1 1547 99 ((q1.1 1547 99) - (nI 1))) 1547 100) - (nI 1))) 1547 99) 1700 then if ((ju (ju q1.1 1547 99 ((q1.1 1547 99) - (nI 1))) 1547 100 (((ju q1.1 1547 99 ((q1.1 1547 99) - (nI 1))) 1547 100) - (nI 1))) 1621 (((ju (ju q1.1 1547 99 ((q1.1 1547 99) - (nI 1))) 1547 100 (((ju q1.1 1547 99 ((q1.1 1547 99) - (nI 1))) 1547 100) - (nI 1))) 1547 99)).toNatClampNeg) = (nI 20) then fX6_qGoesOn_115 n rec0  (ju (ju q1.1 1547 99 ((q1.1 1547 99) - (nI 1))) 1547 100 (((ju q1.1 1547 99 ((q1.1 1547 99) - (nI 1))) 1547 100) - (nI 1))) q1.2 else if jok ((ju (ju q1.1 1547 99 ((q1.1 1547 99) - (nI 1))) 1547 100 (((ju q1.1 1547 99 ((q1.1 1547 99) - (nI 1))) 1547 100) - (nI 1))) 1547 99) 1700 then if ((ju (ju q1.1 1547 99 ((q1.1 1547 99) - (nI 1))) 1547 100 (((ju q1.1 1547 99 ((q1.1 1547 99) - (nI 1))) 1547 100) - (nI 1))) 1621 (((ju (ju q1.1 1547 99 ((q1.1 1547 99) - (nI 1))) 1547 100 (((ju q1.1 1547 99 ((q1.1 1547 99) - (nI 1))) 1547 100) - (nI 1))) 1547 99)).toNatClampNeg) = (nI 23) then fX6_qGoesOn_112 n rec0 (nI 5) (ju (ju q1.1 1547 99 ((q1.1 1547 99) - (nI 1))) 1547 100 (((ju q1.1 1547 99 ((q1.1 1547 99) - (nI 1))) 1547 100) - (nI 1))) q1.2 else fX6_qGoesOn_112 n rec0 (nI 6) (ju (ju q1.1 1547 99 ((q1.1 1547 99) - (nI 1))) 1547 100 (((ju q1.1 1547 99 ((q1.1 1547 99) - (nI 1))) 1547 100) - (nI 1))) q1.2 else none else none)
theorem wX6_qGoesOn_43 {g : jG} {d : Nat} {K : jK} {cr : jR} {c sl : Nat} {Qr : jQ} {Qx : jX} (hM : jMW K cr) (n : Nat) (rec0 : jI → jJ → Option (Int32 × jI × jJ)) (hrec0 : (∀ (ci : jI) (cj : jJ) {q}, rec0  ci cj = some q → Qr (some (.int q.1)) K q.2.1 q.2.2 cr → Ev g (d + 4) mX6_qGoesOn 0 [.ref 1547, jU] [] K ci cj cr c sl Qr Qx)) (ci : jI) (cj : jJ) {q} (h : fX6_qGoesOn_43 n rec0  ci cj = some q) (hq : Qr (some (.int q.1)) K q.2.1 q.2.2 cr) : Ev g (d + 4) mX6_qGoesOn 43 [.ref 1547, jU] [] K ci cj cr c sl Qr Qx := by
  unfold fX6_qGoesOn_43 at h
  refine ev_aload_n dX6_qGoesOn_43 rfl ?_
  refine ev_dup dX6_qGoesOn_44 rfl ?_
  refine ev_getI dX6_qGoesOn_45 fX6_257_6 (hk1547 hM) (Or.inl (hl1547 hM)) rfl ?_
  refine ev_iconst (v := (nI 1)) dX6_qGoesOn_48 jc1 ?_
  refine ev_iadd dX6_qGoesOn_49 ?_
  refine ev_putI dX6_qGoesOn_50 (pX6_257_6 _) (hk1547 hM) (hl1547 hM) rfl rfl rfl ?_
  refine ev_aload_n dX6_qGoesOn_53 rfl ?_
  obtain ⟨q1, z2, h⟩ := Option.bind_eq_some_iff.mp h
  refine ev_zV0 dX6_qGoesOn_54 vX6_619_6 (hk1547 hM) (Or.inl (hl1547 hM)) (Nat.le_of_ble_eq_true rfl) (Nat.le_of_ble_eq_true rfl) rfl (metX6_qDropsToBracket hM n  _ _ z2 ?_)
  show Ev g _ _ 57 _ [] K q1.1 q1.2 cr c sl Qr Qx
  refine ev_aload_n dX6_qGoesOn_57 rfl ?_
  refine ev_dup dX6_qGoesOn_58 rfl ?_
  refine ev_getI dX6_qGoesOn_59 fX6_347_6 (hk1547 hM) (Or.inl (hl1547 hM)) rfl ?_
  refine ev_iconst (v := (nI 1)) dX6_qGoesOn_62 jc1 ?_
  refine ev_isub dX6_qGoesOn_63 ?_
  refine ev_putI dX6_qGoesOn_64 (pX6_347_6 _) (hk1547 hM) (hl1547 hM) rfl rfl rfl ?_
  refine ev_aload_n dX6_qGoesOn_67 rfl ?_
  refine ev_dup dX6_qGoesOn_68 rfl ?_
  refine ev_getI dX6_qGoesOn_69 fX6_350_6 (hk1547 hM) (Or.inl (hl1547 hM)) rfl ?_
  refine ev_iconst (v := (nI 1)) dX6_qGoesOn_72 jc1 ?_
  refine ev_isub dX6_qGoesOn_73 ?_
  refine ev_putI dX6_qGoesOn_74 (pX6_350_6 _) (hk1547 hM) (hl1547 hM) rfl rfl rfl ?_
  refine ev_aload_n dX6_qGoesOn_77 rfl ?_
  refine ev_getR dX6_qGoesOn_78 fX6_239_6 (hk1547 hM) (Or.inl (hl1547 hM)) rfl (hr98 hM) ?_
  refine ev_aload_n dX6_qGoesOn_81 rfl ?_
  refine ev_getI dX6_qGoesOn_82 fX6_347_6 (hk1547 hM) (Or.inl (hl1547 hM)) rfl ?_
  by_cases z3 : jok ((ju (ju q1.1 1547 99 ((q1.1 1547 99) - (nI 1))) 1547 100 (((ju q1.1 1547 99 ((q1.1 1547 99) - (nI 1))) 1547 100) - (nI 1))) 1547 99) 1700
  rotate_left
  · rw [if_neg z3] at h; cases h
  rw [if_pos z3] at h
  refine ev_iaload dX6_qGoesOn_85 (hk1621 hM) (Or.inl (hl1621 hM)) (jok.ix z3 (hn1621 hM)) ?_
  refine ev_bipush (v := (nI 20)) dX6_qGoesOn_86 jb20 ?_
  refine ev_icmp_eq 115 dX6_qGoesOn_88 rfl (fun z4 => ?_) (fun z4 => ?_)
  · rw [if_pos z4] at h
    exact wX6_qGoesOn_115 hM n _ (hrec0)  _ _ h hq
  · rw [if_neg z4] at h
    refine ev_aload_n dX6_qGoesOn_91 rfl ?_
    refine ev_aload_n dX6_qGoesOn_92 rfl ?_
    refine ev_getR dX6_qGoesOn_93 fX6_239_6 (hk1547 hM) (Or.inl (hl1547 hM)) rfl (hr98 hM) ?_
    refine ev_aload_n dX6_qGoesOn_96 rfl ?_
    refine ev_getI dX6_qGoesOn_97 fX6_347_6 (hk1547 hM) (Or.inl (hl1547 hM)) rfl ?_
    by_cases z5 : jok ((ju (ju q1.1 1547 99 ((q1.1 1547 99) - (nI 1))) 1547 100 (((ju q1.1 1547 99 ((q1.1 1547 99) - (nI 1))) 1547 100) - (nI 1))) 1547 99) 1700
    rotate_left
    · rw [if_neg z5] at h; cases h
    rw [if_pos z5] at h
    refine ev_iaload dX6_qGoesOn_100 (hk1621 hM) (Or.inl (hl1621 hM)) (jok.ix z5 (hn1621 hM)) ?_
    refine ev_bipush (v := (nI 23)) dX6_qGoesOn_101 jb23 ?_
    refine ev_icmp_ne 110 dX6_qGoesOn_103 rfl (fun z6 => ?_) (fun z6 => ?_)
    · rw [if_neg z6] at h
      refine ev_bipush (v := (nI 6)) dX6_qGoesOn_110 jb6 ?_
      exact wX6_qGoesOn_112 hM n _ (hrec0) _ _ _ h hq
    · rw [if_pos z6] at h
      refine ev_iconst (v := (nI 5)) dX6_qGoesOn_106 jc5 ?_
      refine ev_goto 112 dX6_qGoesOn_107 rfl ?_
      exact wX6_qGoesOn_112 hM n _ (hrec0) _ _ _ h hq
def fX6_qGoesOn_0 (n : Nat) : Nat → jI → jJ → Option (Int32 × jI × jJ)
  | 0, _, _ => none
  | k + 1, ci, cj => if (ci 1547 5) = 0 then Option.bind (fX6_look n  ci cj) (fun q2 => if q2.1 = (nI 41) then Option.bind (fX6_qBracket n  q2.2.1 q2.2.2) (fun q5 => if q5.1 = (nI 20) then fX6_qGoesOn_43 n (fX6_qGoesOn_0 n  k)  q5.2.1 q5.2.2 else Option.bind (fX6_qBracket n  q5.2.1 q5.2.2) (fun q8 => if q8.1 = (nI 23) then fX6_qGoesOn_43 n (fX6_qGoesOn_0 n  k)  q8.2.1 q8.2.2 else Option.bind (fX6_qBracket n  q8.2.1 q8.2.2) (fun q11 => if q11.1 = (nI 24) then fX6_qGoesOn_43 n (fX6_qGoesOn_0 n  k)  q11.2.1 q11.2.2 else fX6_qGoesOn_122 n   q11.2.1 q11.2.2))) else fX6_qGoesOn_122 n   q2.2.1 q2.2.2) else fX6_qGoesOn_122 n   ci cj
theorem wX6_qGoesOn_0 {g : jG} {d : Nat} {K : jK} {cr : jR} {c sl : Nat} {Qr : jQ} {Qx : jX} (hM : jMW K cr) (n : Nat) : ∀ (k : Nat) (ci : jI) (cj : jJ) {q}, fX6_qGoesOn_0 n  k  ci cj = some q → Qr (some (.int q.1)) K q.2.1 q.2.2 cr → Ev g (d + 4) mX6_qGoesOn 0 [.ref 1547, jU] [] K ci cj cr c sl Qr Qx := by
  intro k
  induction k with
  | zero =>
    intro  ci cj q h hq
    rw [fX6_qGoesOn_0.eq_1] at h; cases h
  | succ k ih =>
    intro  ci cj q h hq
    rw [fX6_qGoesOn_0.eq_2] at h
    refine ev_aload_n dX6_qGoesOn_0 rfl ?_
    refine ev_getI dX6_qGoesOn_1 fX6_251_6 (hk1547 hM) (Or.inl (hl1547 hM)) rfl ?_
    refine ev_if_ne 122 dX6_qGoesOn_4 rfl (fun z1 => ?_) (fun z1 => ?_)
    · rw [if_neg z1] at h
      exact wX6_qGoesOn_122 hM n    _ _ h hq
    · rw [if_pos z1] at h
      refine ev_aload_n dX6_qGoesOn_7 rfl ?_
      obtain ⟨q2, z3, h⟩ := Option.bind_eq_some_iff.mp h
      refine ev_zV0 dX6_qGoesOn_8 vX6_263_6 (hk1547 hM) (Or.inl (hl1547 hM)) (Nat.le_of_ble_eq_true rfl) (Nat.le_of_ble_eq_true rfl) rfl (metX6_look hM n  _ _ z3 ?_)
      show Ev g _ _ 11 _ [.int q2.1] K q2.2.1 q2.2.2 cr c sl Qr Qx
      refine ev_bipush (v := (nI 41)) dX6_qGoesOn_11 jb41 ?_
      refine ev_icmp_ne 122 dX6_qGoesOn_13 rfl (fun z4 => ?_) (fun z4 => ?_)
      · rw [if_neg z4] at h
        exact wX6_qGoesOn_122 hM n    _ _ h hq
      · rw [if_pos z4] at h
        refine ev_aload_n dX6_qGoesOn_16 rfl ?_
        obtain ⟨q5, z6, h⟩ := Option.bind_eq_some_iff.mp h
        refine ev_zV0 dX6_qGoesOn_17 vX6_616_6 (hk1547 hM) (Or.inl (hl1547 hM)) (Nat.le_of_ble_eq_true rfl) (Nat.le_of_ble_eq_true rfl) rfl (metX6_qBracket hM n  _ _ z6 ?_)
        show Ev g _ _ 20 _ [.int q5.1] K q5.2.1 q5.2.2 cr c sl Qr Qx
        refine ev_bipush (v := (nI 20)) dX6_qGoesOn_20 jb20 ?_
        refine ev_icmp_eq 43 dX6_qGoesOn_22 rfl (fun z7 => ?_) (fun z7 => ?_)
        · rw [if_pos z7] at h
          exact wX6_qGoesOn_43 hM n _ (ih)  _ _ h hq
        · rw [if_neg z7] at h
          refine ev_aload_n dX6_qGoesOn_25 rfl ?_
          obtain ⟨q8, z9, h⟩ := Option.bind_eq_some_iff.mp h
          refine ev_zV0 dX6_qGoesOn_26 vX6_616_6 (hk1547 hM) (Or.inl (hl1547 hM)) (Nat.le_of_ble_eq_true rfl) (Nat.le_of_ble_eq_true rfl) rfl (metX6_qBracket hM n  _ _ z9 ?_)
          show Ev g _ _ 29 _ [.int q8.1] K q8.2.1 q8.2.2 cr c sl Qr Qx
          refine ev_bipush (v := (nI 23)) dX6_qGoesOn_29 jb23 ?_
          refine ev_icmp_eq 43 dX6_qGoesOn_31 rfl (fun z10 => ?_) (fun z10 => ?_)
          · rw [if_pos z10] at h
            exact wX6_qGoesOn_43 hM n _ (ih)  _ _ h hq
          · rw [if_neg z10] at h
            refine ev_aload_n dX6_qGoesOn_34 rfl ?_
            obtain ⟨q11, z12, h⟩ := Option.bind_eq_some_iff.mp h
            refine ev_zV0 dX6_qGoesOn_35 vX6_616_6 (hk1547 hM) (Or.inl (hl1547 hM)) (Nat.le_of_ble_eq_true rfl) (Nat.le_of_ble_eq_true rfl) rfl (metX6_qBracket hM n  _ _ z12 ?_)
            show Ev g _ _ 38 _ [.int q11.1] K q11.2.1 q11.2.2 cr c sl Qr Qx
            refine ev_bipush (v := (nI 24)) dX6_qGoesOn_38 jb24 ?_
            refine ev_icmp_ne 122 dX6_qGoesOn_40 rfl (fun z13 => ?_) (fun z13 => ?_)
            · rw [if_neg z13] at h
              exact wX6_qGoesOn_122 hM n    _ _ h hq
            · rw [if_pos z13] at h
              exact wX6_qGoesOn_43 hM n _ (ih)  _ _ h hq
def fX6_qGoesOn (n : Nat) (ci : jI) (cj : jJ) : Option (Int32 × jI × jJ) := fX6_qGoesOn_0 n  n  ci cj
theorem metX6_qGoesOn {g : jG} {d : Nat} {K : jK} {cr : jR} {c sl : Nat} {Qr : jQ} {Qx : jX} (hM : jMW K cr) (n : Nat) (ci : jI) (cj : jJ) {q} (h : fX6_qGoesOn n  ci cj = some q) (hq : Qr (some (.int q.1)) K q.2.1 q.2.2 cr) : EvM g (d + 4) mX6_qGoesOn [.ref 1547] K ci cj cr c sl Qr Qx := by
  unfold fX6_qGoesOn at h
  show Ev g (d + 4) mX6_qGoesOn 0 [.ref 1547, jU] [] K ci cj cr c sl Qr Qx
  exact wX6_qGoesOn_0 hM n   n  _ _ h hq
def fX6_qAsksWord_204 (n : Nat) (ci : jI) (cj : jJ) : Option (jI × jJ) := some (ci, cj)
theorem wX6_qAsksWord_204 {g : jG} {d : Nat} {K : jK} {cr : jR} {c sl : Nat} {Qr : jQ} {Qx : jX} (hM : jMW K cr) (n : Nat) (ci : jI) (cj : jJ) {q} (h : fX6_qAsksWord_204 n   ci cj = some q) (hq : Qr none K q.1 q.2 cr) : Ev g (d + 5) mX6_qAsksWord 204 [jU, jU] [] K ci cj cr c sl Qr Qx := by
  unfold fX6_qAsksWord_204 at h
  cases h
  exact ev_ret dX6_qAsksWord_204 rfl hq
def fX6_qAsksWord (n : Nat) (a0 : Int32) (ci : jI) (cj : jJ) : Option (jI × jJ) := if a0 = (nI 0) then Option.bind (fX6_asks n 1607 ci cj) (fun q2 => fX6_qAsksWord_204 n   q2.1 q2.2) else if a0 = (nI 1) then Option.bind (fX6_asks n 1608 ci cj) (fun q5 => fX6_qAsksWord_204 n   q5.1 q5.2) else if a0 = (nI 2) then Option.bind (fX6_asks n 1609 ci cj) (fun q8 => fX6_qAsksWord_204 n   q8.1 q8.2) else if a0 = (nI 3) then Option.bind (fX6_asks n 1610 ci cj) (fun q11 => fX6_qAsksWord_204 n   q11.1 q11.2) else if a0 = (nI 4) then Option.bind (fX6_asks n 1611 ci cj) (fun q14 => fX6_qAsksWord_204 n   q14.1 q14.2) else if a0 = (nI 5) then Option.bind (fX6_asks n 1612 ci cj) (fun q17 => fX6_qAsksWord_204 n   q17.1 q17.2) else if a0 = (nI 6) then Option.bind (fX6_asks n 1613 ci cj) (fun q20 => fX6_qAsksWord_204 n   q20.1 q20.2) else if a0 = (nI 7) then Option.bind (fX6_asks n 1614 ci cj) (fun q23 => fX6_qAsksWord_204 n   q23.1 q23.2) else if a0 = (nI 8) then Option.bind (fX6_asks n 1615 ci cj) (fun q26 => fX6_qAsksWord_204 n   q26.1 q26.2) else if a0 = (nI 9) then Option.bind (fX6_asks n 1616 ci cj) (fun q29 => fX6_qAsksWord_204 n   q29.1 q29.2) else if a0 = (nI 10) then Option.bind (fX6_asks n 1617 ci cj) (fun q32 => fX6_qAsksWord_204 n   q32.1 q32.2) else if a0 = (nI 11) then Option.bind (fX6_asks n 1618 ci cj) (fun q35 => fX6_qAsksWord_204 n   q35.1 q35.2) else Option.bind (fX6_asks n 1619 ci cj) (fun q37 => fX6_qAsksWord_204 n   q37.1 q37.2)
theorem metX6_qAsksWord {g : jG} {d : Nat} {K : jK} {cr : jR} {c sl : Nat} {Qr : jQ} {Qx : jX} (hM : jMW K cr) (n : Nat) (a0 : Int32) (ci : jI) (cj : jJ) {q} (h : fX6_qAsksWord n a0 ci cj = some q) (hq : Qr none K q.1 q.2 cr) : EvM g (d + 5) mX6_qAsksWord [.ref 1547, .int a0] K ci cj cr c sl Qr Qx := by
  unfold fX6_qAsksWord at h
  show Ev g (d + 5) mX6_qAsksWord 0 [.ref 1547, .int a0] [] K ci cj cr c sl Qr Qx
  refine ev_iload_n dX6_qAsksWord_0 rfl ?_
  by_cases z1 : a0 = (nI 0)
  · rw [if_pos z1] at h
    refine ev_tableIn 64 dX6_qAsksWord_1 (by rw [z1]; decide) (by rw [z1]; decide) (by rw [z1]; rfl) rfl ?_
    refine ev_aload_n dX6_qAsksWord_64 rfl ?_
    refine ev_aload_n dX6_qAsksWord_65 rfl ?_
    refine ev_getR dX6_qAsksWord_66 fX6_197_6 (hk1547 hM) (Or.inl (hl1547 hM)) rfl (hr83 hM) ?_
    obtain ⟨q2, z3, h⟩ := Option.bind_eq_some_iff.mp h
    refine ev_zV1 dX6_qAsksWord_69 vX6_329_6 (hk1547 hM) (Or.inl (hl1547 hM)) (Nat.le_of_ble_eq_true rfl) (Nat.le_of_ble_eq_true rfl) rfl (metX6_asks hM n _ _ _ z3 ?_)
    show Ev g _ _ 72 _ [] K q2.1 q2.2 cr c sl Qr Qx
    refine ev_goto 204 dX6_qAsksWord_72 rfl ?_
    exact ev_mask [false, false] (wX6_qAsksWord_204 hM n    _ _ h hq)
  rw [if_neg z1] at h
  by_cases z4 : a0 = (nI 1)
  · rw [if_pos z4] at h
    refine ev_tableIn 75 dX6_qAsksWord_1 (by rw [z4]; decide) (by rw [z4]; decide) (by rw [z4]; rfl) rfl ?_
    refine ev_aload_n dX6_qAsksWord_75 rfl ?_
    refine ev_aload_n dX6_qAsksWord_76 rfl ?_
    refine ev_getR dX6_qAsksWord_77 fX6_200_6 (hk1547 hM) (Or.inl (hl1547 hM)) rfl (hr84 hM) ?_
    obtain ⟨q5, z6, h⟩ := Option.bind_eq_some_iff.mp h
    refine ev_zV1 dX6_qAsksWord_80 vX6_329_6 (hk1547 hM) (Or.inl (hl1547 hM)) (Nat.le_of_ble_eq_true rfl) (Nat.le_of_ble_eq_true rfl) rfl (metX6_asks hM n _ _ _ z6 ?_)
    show Ev g _ _ 83 _ [] K q5.1 q5.2 cr c sl Qr Qx
    refine ev_goto 204 dX6_qAsksWord_83 rfl ?_
    exact ev_mask [false, false] (wX6_qAsksWord_204 hM n    _ _ h hq)
  rw [if_neg z4] at h
  by_cases z7 : a0 = (nI 2)
  · rw [if_pos z7] at h
    refine ev_tableIn 86 dX6_qAsksWord_1 (by rw [z7]; decide) (by rw [z7]; decide) (by rw [z7]; rfl) rfl ?_
    refine ev_aload_n dX6_qAsksWord_86 rfl ?_
    refine ev_aload_n dX6_qAsksWord_87 rfl ?_
    refine ev_getR dX6_qAsksWord_88 fX6_203_6 (hk1547 hM) (Or.inl (hl1547 hM)) rfl (hr85 hM) ?_
    obtain ⟨q8, z9, h⟩ := Option.bind_eq_some_iff.mp h
    refine ev_zV1 dX6_qAsksWord_91 vX6_329_6 (hk1547 hM) (Or.inl (hl1547 hM)) (Nat.le_of_ble_eq_true rfl) (Nat.le_of_ble_eq_true rfl) rfl (metX6_asks hM n _ _ _ z9 ?_)
    show Ev g _ _ 94 _ [] K q8.1 q8.2 cr c sl Qr Qx
    refine ev_goto 204 dX6_qAsksWord_94 rfl ?_
    exact ev_mask [false, false] (wX6_qAsksWord_204 hM n    _ _ h hq)
  rw [if_neg z7] at h
  by_cases z10 : a0 = (nI 3)
  · rw [if_pos z10] at h
    refine ev_tableIn 97 dX6_qAsksWord_1 (by rw [z10]; decide) (by rw [z10]; decide) (by rw [z10]; rfl) rfl ?_
    refine ev_aload_n dX6_qAsksWord_97 rfl ?_
    refine ev_aload_n dX6_qAsksWord_98 rfl ?_
    refine ev_getR dX6_qAsksWord_99 fX6_206_6 (hk1547 hM) (Or.inl (hl1547 hM)) rfl (hr86 hM) ?_
    obtain ⟨q11, z12, h⟩ := Option.bind_eq_some_iff.mp h
    refine ev_zV1 dX6_qAsksWord_102 vX6_329_6 (hk1547 hM) (Or.inl (hl1547 hM)) (Nat.le_of_ble_eq_true rfl) (Nat.le_of_ble_eq_true rfl) rfl (metX6_asks hM n _ _ _ z12 ?_)
    show Ev g _ _ 105 _ [] K q11.1 q11.2 cr c sl Qr Qx
    refine ev_goto 204 dX6_qAsksWord_105 rfl ?_
    exact ev_mask [false, false] (wX6_qAsksWord_204 hM n    _ _ h hq)
  rw [if_neg z10] at h
  by_cases z13 : a0 = (nI 4)
  · rw [if_pos z13] at h
    refine ev_tableIn 108 dX6_qAsksWord_1 (by rw [z13]; decide) (by rw [z13]; decide) (by rw [z13]; rfl) rfl ?_
    refine ev_aload_n dX6_qAsksWord_108 rfl ?_
    refine ev_aload_n dX6_qAsksWord_109 rfl ?_
    refine ev_getR dX6_qAsksWord_110 fX6_209_6 (hk1547 hM) (Or.inl (hl1547 hM)) rfl (hr87 hM) ?_
    obtain ⟨q14, z15, h⟩ := Option.bind_eq_some_iff.mp h
    refine ev_zV1 dX6_qAsksWord_113 vX6_329_6 (hk1547 hM) (Or.inl (hl1547 hM)) (Nat.le_of_ble_eq_true rfl) (Nat.le_of_ble_eq_true rfl) rfl (metX6_asks hM n _ _ _ z15 ?_)
    show Ev g _ _ 116 _ [] K q14.1 q14.2 cr c sl Qr Qx
    refine ev_goto 204 dX6_qAsksWord_116 rfl ?_
    exact ev_mask [false, false] (wX6_qAsksWord_204 hM n    _ _ h hq)
  rw [if_neg z13] at h
  by_cases z16 : a0 = (nI 5)
  · rw [if_pos z16] at h
    refine ev_tableIn 119 dX6_qAsksWord_1 (by rw [z16]; decide) (by rw [z16]; decide) (by rw [z16]; rfl) rfl ?_
    refine ev_aload_n dX6_qAsksWord_119 rfl ?_
    refine ev_aload_n dX6_qAsksWord_120 rfl ?_
    refine ev_getR dX6_qAsksWord_121 fX6_212_6 (hk1547 hM) (Or.inl (hl1547 hM)) rfl (hr88 hM) ?_
    obtain ⟨q17, z18, h⟩ := Option.bind_eq_some_iff.mp h
    refine ev_zV1 dX6_qAsksWord_124 vX6_329_6 (hk1547 hM) (Or.inl (hl1547 hM)) (Nat.le_of_ble_eq_true rfl) (Nat.le_of_ble_eq_true rfl) rfl (metX6_asks hM n _ _ _ z18 ?_)
    show Ev g _ _ 127 _ [] K q17.1 q17.2 cr c sl Qr Qx
    refine ev_goto 204 dX6_qAsksWord_127 rfl ?_
    exact ev_mask [false, false] (wX6_qAsksWord_204 hM n    _ _ h hq)
  rw [if_neg z16] at h
  by_cases z19 : a0 = (nI 6)
  · rw [if_pos z19] at h
    refine ev_tableIn 130 dX6_qAsksWord_1 (by rw [z19]; decide) (by rw [z19]; decide) (by rw [z19]; rfl) rfl ?_
    refine ev_aload_n dX6_qAsksWord_130 rfl ?_
    refine ev_aload_n dX6_qAsksWord_131 rfl ?_
    refine ev_getR dX6_qAsksWord_132 fX6_215_6 (hk1547 hM) (Or.inl (hl1547 hM)) rfl (hr89 hM) ?_
    obtain ⟨q20, z21, h⟩ := Option.bind_eq_some_iff.mp h
    refine ev_zV1 dX6_qAsksWord_135 vX6_329_6 (hk1547 hM) (Or.inl (hl1547 hM)) (Nat.le_of_ble_eq_true rfl) (Nat.le_of_ble_eq_true rfl) rfl (metX6_asks hM n _ _ _ z21 ?_)
    show Ev g _ _ 138 _ [] K q20.1 q20.2 cr c sl Qr Qx
    refine ev_goto 204 dX6_qAsksWord_138 rfl ?_
    exact ev_mask [false, false] (wX6_qAsksWord_204 hM n    _ _ h hq)
  rw [if_neg z19] at h
  by_cases z22 : a0 = (nI 7)
  · rw [if_pos z22] at h
    refine ev_tableIn 141 dX6_qAsksWord_1 (by rw [z22]; decide) (by rw [z22]; decide) (by rw [z22]; rfl) rfl ?_
    refine ev_aload_n dX6_qAsksWord_141 rfl ?_
    refine ev_aload_n dX6_qAsksWord_142 rfl ?_
    refine ev_getR dX6_qAsksWord_143 fX6_218_6 (hk1547 hM) (Or.inl (hl1547 hM)) rfl (hr90 hM) ?_
    obtain ⟨q23, z24, h⟩ := Option.bind_eq_some_iff.mp h
    refine ev_zV1 dX6_qAsksWord_146 vX6_329_6 (hk1547 hM) (Or.inl (hl1547 hM)) (Nat.le_of_ble_eq_true rfl) (Nat.le_of_ble_eq_true rfl) rfl (metX6_asks hM n _ _ _ z24 ?_)
    show Ev g _ _ 149 _ [] K q23.1 q23.2 cr c sl Qr Qx
    refine ev_goto 204 dX6_qAsksWord_149 rfl ?_
    exact ev_mask [false, false] (wX6_qAsksWord_204 hM n    _ _ h hq)
  rw [if_neg z22] at h
  by_cases z25 : a0 = (nI 8)
  · rw [if_pos z25] at h
    refine ev_tableIn 152 dX6_qAsksWord_1 (by rw [z25]; decide) (by rw [z25]; decide) (by rw [z25]; rfl) rfl ?_
    refine ev_aload_n dX6_qAsksWord_152 rfl ?_
    refine ev_aload_n dX6_qAsksWord_153 rfl ?_
    refine ev_getR dX6_qAsksWord_154 fX6_221_6 (hk1547 hM) (Or.inl (hl1547 hM)) rfl (hr91 hM) ?_
    obtain ⟨q26, z27, h⟩ := Option.bind_eq_some_iff.mp h
    refine ev_zV1 dX6_qAsksWord_157 vX6_329_6 (hk1547 hM) (Or.inl (hl1547 hM)) (Nat.le_of_ble_eq_true rfl) (Nat.le_of_ble_eq_true rfl) rfl (metX6_asks hM n _ _ _ z27 ?_)
    show Ev g _ _ 160 _ [] K q26.1 q26.2 cr c sl Qr Qx
    refine ev_goto 204 dX6_qAsksWord_160 rfl ?_
    exact ev_mask [false, false] (wX6_qAsksWord_204 hM n    _ _ h hq)
  rw [if_neg z25] at h
  by_cases z28 : a0 = (nI 9)
  · rw [if_pos z28] at h
    refine ev_tableIn 163 dX6_qAsksWord_1 (by rw [z28]; decide) (by rw [z28]; decide) (by rw [z28]; rfl) rfl ?_
    refine ev_aload_n dX6_qAsksWord_163 rfl ?_
    refine ev_aload_n dX6_qAsksWord_164 rfl ?_
    refine ev_getR dX6_qAsksWord_165 fX6_224_6 (hk1547 hM) (Or.inl (hl1547 hM)) rfl (hr92 hM) ?_
    obtain ⟨q29, z30, h⟩ := Option.bind_eq_some_iff.mp h
    refine ev_zV1 dX6_qAsksWord_168 vX6_329_6 (hk1547 hM) (Or.inl (hl1547 hM)) (Nat.le_of_ble_eq_true rfl) (Nat.le_of_ble_eq_true rfl) rfl (metX6_asks hM n _ _ _ z30 ?_)
    show Ev g _ _ 171 _ [] K q29.1 q29.2 cr c sl Qr Qx
    refine ev_goto 204 dX6_qAsksWord_171 rfl ?_
    exact ev_mask [false, false] (wX6_qAsksWord_204 hM n    _ _ h hq)
  rw [if_neg z28] at h
  by_cases z31 : a0 = (nI 10)
  · rw [if_pos z31] at h
    refine ev_tableIn 174 dX6_qAsksWord_1 (by rw [z31]; decide) (by rw [z31]; decide) (by rw [z31]; rfl) rfl ?_
    refine ev_aload_n dX6_qAsksWord_174 rfl ?_
    refine ev_aload_n dX6_qAsksWord_175 rfl ?_
    refine ev_getR dX6_qAsksWord_176 fX6_227_6 (hk1547 hM) (Or.inl (hl1547 hM)) rfl (hr93 hM) ?_
    obtain ⟨q32, z33, h⟩ := Option.bind_eq_some_iff.mp h
    refine ev_zV1 dX6_qAsksWord_179 vX6_329_6 (hk1547 hM) (Or.inl (hl1547 hM)) (Nat.le_of_ble_eq_true rfl) (Nat.le_of_ble_eq_true rfl) rfl (metX6_asks hM n _ _ _ z33 ?_)
    show Ev g _ _ 182 _ [] K q32.1 q32.2 cr c sl Qr Qx
    refine ev_goto 204 dX6_qAsksWord_182 rfl ?_
    exact ev_mask [false, false] (wX6_qAsksWord_204 hM n    _ _ h hq)
  rw [if_neg z31] at h
  by_cases z34 : a0 = (nI 11)
  · rw [if_pos z34] at h
    refine ev_tableIn 185 dX6_qAsksWord_1 (by rw [z34]; decide) (by rw [z34]; decide) (by rw [z34]; rfl) rfl ?_
    refine ev_aload_n dX6_qAsksWord_185 rfl ?_
    refine ev_aload_n dX6_qAsksWord_186 rfl ?_
    refine ev_getR dX6_qAsksWord_187 fX6_230_6 (hk1547 hM) (Or.inl (hl1547 hM)) rfl (hr94 hM) ?_
    obtain ⟨q35, z36, h⟩ := Option.bind_eq_some_iff.mp h
    refine ev_zV1 dX6_qAsksWord_190 vX6_329_6 (hk1547 hM) (Or.inl (hl1547 hM)) (Nat.le_of_ble_eq_true rfl) (Nat.le_of_ble_eq_true rfl) rfl (metX6_asks hM n _ _ _ z36 ?_)
    show Ev g _ _ 193 _ [] K q35.1 q35.2 cr c sl Qr Qx
    refine ev_goto 204 dX6_qAsksWord_193 rfl ?_
    exact ev_mask [false, false] (wX6_qAsksWord_204 hM n    _ _ h hq)
  rw [if_neg z34] at h
  refine ev_tableOut 196 dX6_qAsksWord_1 (jtab_0_11 z1 z4 z7 z10 z13 z16 z19 z22 z25 z28 z31 z34) rfl ?_
  refine ev_aload_n dX6_qAsksWord_196 rfl ?_
  refine ev_aload_n dX6_qAsksWord_197 rfl ?_
  refine ev_getR dX6_qAsksWord_198 fX6_233_6 (hk1547 hM) (Or.inl (hl1547 hM)) rfl (hr95 hM) ?_
  obtain ⟨q37, z38, h⟩ := Option.bind_eq_some_iff.mp h
  refine ev_zV1 dX6_qAsksWord_201 vX6_329_6 (hk1547 hM) (Or.inl (hl1547 hM)) (Nat.le_of_ble_eq_true rfl) (Nat.le_of_ble_eq_true rfl) rfl (metX6_asks hM n _ _ _ z38 ?_)
  show Ev g _ _ 204 _ [] K q37.1 q37.2 cr c sl Qr Qx
  exact ev_mask [false, false] (wX6_qAsksWord_204 hM n    _ _ h hq)
def fX6_qOpens (n : Nat) (a0 : Int32) (a1 : Int32) (ci : jI) (cj : jJ) : Option (jI × jJ) := if (ci 1547 5) = 0 then if (ci 1547 100) = (nI 6) then Option.bind (fX6_fail n (nI 4) a1 ci cj) (fun q4 => some (q4.1, q4.2)) else if jok ((ju ci 1547 100 ((ci 1547 100) + (nI 1))) 1547 99) 1700 then some ((ju (ju (ju ci 1547 100 ((ci 1547 100) + (nI 1))) 1621 (((ju ci 1547 100 ((ci 1547 100) + (nI 1))) 1547 99)).toNatClampNeg a0) 1547 99 (((ju (ju ci 1547 100 ((ci 1547 100) + (nI 1))) 1621 (((ju ci 1547 100 ((ci 1547 100) + (nI 1))) 1547 99)).toNatClampNeg a0) 1547 99) + (nI 1))), cj) else none else some (ci, cj)
theorem metX6_qOpens {g : jG} {d : Nat} {K : jK} {cr : jR} {c sl : Nat} {Qr : jQ} {Qx : jX} (hM : jMW K cr) (n : Nat) (a0 : Int32) (a1 : Int32) (ci : jI) (cj : jJ) {q} (h : fX6_qOpens n a0 a1 ci cj = some q) (hq : Qr none K q.1 q.2 cr) : EvM g (d + 2) mX6_qOpens [.ref 1547, .int a0, .int a1] K ci cj cr c sl Qr Qx := by
  unfold fX6_qOpens at h
  show Ev g (d + 2) mX6_qOpens 0 [.ref 1547, .int a0, .int a1] [] K ci cj cr c sl Qr Qx
  refine ev_aload_n dX6_qOpens_0 rfl ?_
  refine ev_getI dX6_qOpens_1 fX6_251_6 (hk1547 hM) (Or.inl (hl1547 hM)) rfl ?_
  refine ev_if_eq 8 dX6_qOpens_4 rfl (fun z1 => ?_) (fun z1 => ?_)
  · rw [if_pos z1] at h
    refine ev_aload_n dX6_qOpens_8 rfl ?_
    refine ev_getI dX6_qOpens_9 fX6_350_6 (hk1547 hM) (Or.inl (hl1547 hM)) rfl ?_
    refine ev_bipush (v := (nI 6)) dX6_qOpens_12 jb6 ?_
    refine ev_icmp_ne 24 dX6_qOpens_14 rfl (fun z2 => ?_) (fun z2 => ?_)
    · rw [if_neg z2] at h
      refine ev_aload_n dX6_qOpens_24 rfl ?_
      refine ev_dup dX6_qOpens_25 rfl ?_
      refine ev_getI dX6_qOpens_26 fX6_350_6 (hk1547 hM) (Or.inl (hl1547 hM)) rfl ?_
      refine ev_iconst (v := (nI 1)) dX6_qOpens_29 jc1 ?_
      refine ev_iadd dX6_qOpens_30 ?_
      refine ev_putI dX6_qOpens_31 (pX6_350_6 _) (hk1547 hM) (hl1547 hM) rfl rfl rfl ?_
      refine ev_aload_n dX6_qOpens_34 rfl ?_
      refine ev_getR dX6_qOpens_35 fX6_239_6 (hk1547 hM) (Or.inl (hl1547 hM)) rfl (hr98 hM) ?_
      refine ev_aload_n dX6_qOpens_38 rfl ?_
      refine ev_getI dX6_qOpens_39 fX6_347_6 (hk1547 hM) (Or.inl (hl1547 hM)) rfl ?_
      refine ev_iload_n dX6_qOpens_42 rfl ?_
      by_cases z3 : jok ((ju ci 1547 100 ((ci 1547 100) + (nI 1))) 1547 99) 1700
      rotate_left
      · rw [if_neg z3] at h; cases h
      rw [if_pos z3] at h
      refine ev_iastore dX6_qOpens_43 (hk1621 hM) (hl1621 hM) (jok.ix z3 (hn1621 hM)) ?_
      refine ev_aload_n dX6_qOpens_44 rfl ?_
      refine ev_dup dX6_qOpens_45 rfl ?_
      refine ev_getI dX6_qOpens_46 fX6_347_6 (hk1547 hM) (Or.inl (hl1547 hM)) rfl ?_
      refine ev_iconst (v := (nI 1)) dX6_qOpens_49 jc1 ?_
      refine ev_iadd dX6_qOpens_50 ?_
      refine ev_putI dX6_qOpens_51 (pX6_347_6 _) (hk1547 hM) (hl1547 hM) rfl rfl rfl ?_
      cases h
      exact ev_ret dX6_qOpens_54 rfl hq
    · rw [if_pos z2] at h
      refine ev_aload_n dX6_qOpens_17 rfl ?_
      refine ev_iconst (v := (nI 4)) dX6_qOpens_18 jc4 ?_
      refine ev_iload_n dX6_qOpens_19 rfl ?_
      obtain ⟨q4, z5, h⟩ := Option.bind_eq_some_iff.mp h
      refine ev_zV2 dX6_qOpens_20 vX6_281_6 (hk1547 hM) (Or.inl (hl1547 hM)) (Nat.le_of_ble_eq_true rfl) (Nat.le_of_ble_eq_true rfl) rfl (metX6_fail hM n _ _ _ _ z5 ?_)
      show Ev g _ _ 23 _ [] K q4.1 q4.2 cr c sl Qr Qx
      cases h
      exact ev_ret dX6_qOpens_23 rfl hq
  · rw [if_neg z1] at h
    cases h
    exact ev_ret dX6_qOpens_7 rfl hq
def fX6_isAllowed_47 (n : Nat) (t0 : Int32) (ci : jI) (cj : jJ) : Option (Int32 × jI × jJ) := if t0 = 0 ∨ t0 = 1 then some (t0, ci, cj) else none
theorem wX6_isAllowed_47 {g : jG} {d : Nat} {K : jK} {cr : jR} {c sl : Nat} {Qr : jQ} {Qx : jX} (hM : jMW K cr) (n : Nat) (t0 : Int32) (ci : jI) (cj : jJ) {q} (h : fX6_isAllowed_47 n  t0 ci cj = some q) (hq : Qr (some (.int q.1)) K q.2.1 q.2.2 cr) : Ev g (d + 2) mX6_isAllowed 47 [jU, jU] [.int t0] K ci cj cr c sl Qr Qx := by
  unfold fX6_isAllowed_47 at h
  by_cases z1 : t0 = 0 ∨ t0 = 1
  rotate_left
  · rw [if_neg z1] at h; cases h
  rw [if_pos z1] at h
  cases h
  exact ev_iret dX6_isAllowed_47 rfl (jbool z1) hq
def fX6_isAllowed_72 (n : Nat) (t0 : Int32) (ci : jI) (cj : jJ) : Option (Int32 × jI × jJ) := if t0 = 0 ∨ t0 = 1 then some (t0, ci, cj) else none
theorem wX6_isAllowed_72 {g : jG} {d : Nat} {K : jK} {cr : jR} {c sl : Nat} {Qr : jQ} {Qx : jX} (hM : jMW K cr) (n : Nat) (t0 : Int32) (ci : jI) (cj : jJ) {q} (h : fX6_isAllowed_72 n  t0 ci cj = some q) (hq : Qr (some (.int q.1)) K q.2.1 q.2.2 cr) : Ev g (d + 2) mX6_isAllowed 72 [jU, jU] [.int t0] K ci cj cr c sl Qr Qx := by
  unfold fX6_isAllowed_72 at h
  by_cases z1 : t0 = 0 ∨ t0 = 1
  rotate_left
  · rw [if_neg z1] at h; cases h
  rw [if_pos z1] at h
  cases h
  exact ev_iret dX6_isAllowed_72 rfl (jbool z1) hq
def fX6_isAllowed_67 (n : Nat) (ci : jI) (cj : jJ) : Option (Int32 × jI × jJ) := fX6_isAllowed_72 n  (nI 1) ci cj
theorem wX6_isAllowed_67 {g : jG} {d : Nat} {K : jK} {cr : jR} {c sl : Nat} {Qr : jQ} {Qx : jX} (hM : jMW K cr) (n : Nat) (ci : jI) (cj : jJ) {q} (h : fX6_isAllowed_67 n   ci cj = some q) (hq : Qr (some (.int q.1)) K q.2.1 q.2.2 cr) : Ev g (d + 2) mX6_isAllowed 67 [jU, jU] [] K ci cj cr c sl Qr Qx := by
  unfold fX6_isAllowed_67 at h
  refine ev_iconst (v := (nI 1)) dX6_isAllowed_67 jc1 ?_
  refine ev_goto 72 dX6_isAllowed_68 rfl ?_
  exact wX6_isAllowed_72 hM n   _ _ _ h hq
def fX6_isAllowed_89 (n : Nat) (t0 : Int32) (ci : jI) (cj : jJ) : Option (Int32 × jI × jJ) := if t0 = 0 ∨ t0 = 1 then some (t0, ci, cj) else none
theorem wX6_isAllowed_89 {g : jG} {d : Nat} {K : jK} {cr : jR} {c sl : Nat} {Qr : jQ} {Qx : jX} (hM : jMW K cr) (n : Nat) (t0 : Int32) (ci : jI) (cj : jJ) {q} (h : fX6_isAllowed_89 n  t0 ci cj = some q) (hq : Qr (some (.int q.1)) K q.2.1 q.2.2 cr) : Ev g (d + 2) mX6_isAllowed 89 [jU, jU] [.int t0] K ci cj cr c sl Qr Qx := by
  unfold fX6_isAllowed_89 at h
  by_cases z1 : t0 = 0 ∨ t0 = 1
  rotate_left
  · rw [if_neg z1] at h; cases h
  rw [if_pos z1] at h
  cases h
  exact ev_iret dX6_isAllowed_89 rfl (jbool z1) hq
def fX6_isAllowed_84 (n : Nat) (ci : jI) (cj : jJ) : Option (Int32 × jI × jJ) := fX6_isAllowed_89 n  (nI 1) ci cj
theorem wX6_isAllowed_84 {g : jG} {d : Nat} {K : jK} {cr : jR} {c sl : Nat} {Qr : jQ} {Qx : jX} (hM : jMW K cr) (n : Nat) (ci : jI) (cj : jJ) {q} (h : fX6_isAllowed_84 n   ci cj = some q) (hq : Qr (some (.int q.1)) K q.2.1 q.2.2 cr) : Ev g (d + 2) mX6_isAllowed 84 [jU, jU] [] K ci cj cr c sl Qr Qx := by
  unfold fX6_isAllowed_84 at h
  refine ev_iconst (v := (nI 1)) dX6_isAllowed_84 jc1 ?_
  refine ev_goto 89 dX6_isAllowed_85 rfl ?_
  exact wX6_isAllowed_89 hM n   _ _ _ h hq
def fX6_isAllowed_114 (n : Nat) (t0 : Int32) (ci : jI) (cj : jJ) : Option (Int32 × jI × jJ) := if t0 = 0 ∨ t0 = 1 then some (t0, ci, cj) else none
theorem wX6_isAllowed_114 {g : jG} {d : Nat} {K : jK} {cr : jR} {c sl : Nat} {Qr : jQ} {Qx : jX} (hM : jMW K cr) (n : Nat) (t0 : Int32) (ci : jI) (cj : jJ) {q} (h : fX6_isAllowed_114 n  t0 ci cj = some q) (hq : Qr (some (.int q.1)) K q.2.1 q.2.2 cr) : Ev g (d + 2) mX6_isAllowed 114 [jU, jU] [.int t0] K ci cj cr c sl Qr Qx := by
  unfold fX6_isAllowed_114 at h
  by_cases z1 : t0 = 0 ∨ t0 = 1
  rotate_left
  · rw [if_neg z1] at h; cases h
  rw [if_pos z1] at h
  cases h
  exact ev_iret dX6_isAllowed_114 rfl (jbool z1) hq
def fX6_isAllowed_109 (n : Nat) (ci : jI) (cj : jJ) : Option (Int32 × jI × jJ) := fX6_isAllowed_114 n  (nI 1) ci cj
theorem wX6_isAllowed_109 {g : jG} {d : Nat} {K : jK} {cr : jR} {c sl : Nat} {Qr : jQ} {Qx : jX} (hM : jMW K cr) (n : Nat) (ci : jI) (cj : jJ) {q} (h : fX6_isAllowed_109 n   ci cj = some q) (hq : Qr (some (.int q.1)) K q.2.1 q.2.2 cr) : Ev g (d + 2) mX6_isAllowed 109 [jU, jU] [] K ci cj cr c sl Qr Qx := by
  unfold fX6_isAllowed_109 at h
  refine ev_iconst (v := (nI 1)) dX6_isAllowed_109 jc1 ?_
  refine ev_goto 114 dX6_isAllowed_110 rfl ?_
  exact wX6_isAllowed_114 hM n   _ _ _ h hq
def fX6_isAllowed_131 (n : Nat) (t0 : Int32) (ci : jI) (cj : jJ) : Option (Int32 × jI × jJ) := if t0 = 0 ∨ t0 = 1 then some (t0, ci, cj) else none
theorem wX6_isAllowed_131 {g : jG} {d : Nat} {K : jK} {cr : jR} {c sl : Nat} {Qr : jQ} {Qx : jX} (hM : jMW K cr) (n : Nat) (t0 : Int32) (ci : jI) (cj : jJ) {q} (h : fX6_isAllowed_131 n  t0 ci cj = some q) (hq : Qr (some (.int q.1)) K q.2.1 q.2.2 cr) : Ev g (d + 2) mX6_isAllowed 131 [jU, jU] [.int t0] K ci cj cr c sl Qr Qx := by
  unfold fX6_isAllowed_131 at h
  by_cases z1 : t0 = 0 ∨ t0 = 1
  rotate_left
  · rw [if_neg z1] at h; cases h
  rw [if_pos z1] at h
  cases h
  exact ev_iret dX6_isAllowed_131 rfl (jbool z1) hq
def fX6_isAllowed_126 (n : Nat) (ci : jI) (cj : jJ) : Option (Int32 × jI × jJ) := fX6_isAllowed_131 n  (nI 1) ci cj
theorem wX6_isAllowed_126 {g : jG} {d : Nat} {K : jK} {cr : jR} {c sl : Nat} {Qr : jQ} {Qx : jX} (hM : jMW K cr) (n : Nat) (ci : jI) (cj : jJ) {q} (h : fX6_isAllowed_126 n   ci cj = some q) (hq : Qr (some (.int q.1)) K q.2.1 q.2.2 cr) : Ev g (d + 2) mX6_isAllowed 126 [jU, jU] [] K ci cj cr c sl Qr Qx := by
  unfold fX6_isAllowed_126 at h
  refine ev_iconst (v := (nI 1)) dX6_isAllowed_126 jc1 ?_
  refine ev_goto 131 dX6_isAllowed_127 rfl ?_
  exact wX6_isAllowed_131 hM n   _ _ _ h hq
def fX6_isAllowed (n : Nat) (a0 : Int32) (ci : jI) (cj : jJ) : Option (Int32 × jI × jJ) := if (ci 1547 49) = (nI 0) then if (nI 6) ≤ a0 then fX6_isAllowed_47 n  (nI 0) ci cj else fX6_isAllowed_47 n  (nI 1) ci cj else if (ci 1547 49) = (nI 1) then if a0 < (nI 3) then fX6_isAllowed_67 n   ci cj else Option.bind (fX6_isIn n ((a0).toInt64) (6 : Int64) (8 : Int64) ci cj) (fun q5 => if q5.1 = 0 then fX6_isAllowed_72 n  (nI 0) q5.2.1 q5.2.2 else fX6_isAllowed_67 n   q5.2.1 q5.2.2) else if (ci 1547 49) = (nI 2) then if a0 < (nI 3) then fX6_isAllowed_84 n   ci cj else if a0 = (nI 6) then fX6_isAllowed_84 n   ci cj else fX6_isAllowed_89 n  (nI 0) ci cj else if (ci 1547 49) = (nI 3) then if a0 < (nI 2) then fX6_isAllowed_109 n   ci cj else Option.bind (fX6_isIn n ((a0).toInt64) (7 : Int64) (8 : Int64) ci cj) (fun q13 => if q13.1 = 0 then fX6_isAllowed_114 n  (nI 0) q13.2.1 q13.2.2 else fX6_isAllowed_109 n   q13.2.1 q13.2.2) else if a0 < (nI 2) then fX6_isAllowed_126 n   ci cj else if a0 ≤ (nI 6) then fX6_isAllowed_131 n  (nI 0) ci cj else fX6_isAllowed_126 n   ci cj
theorem metX6_isAllowed {g : jG} {d : Nat} {K : jK} {cr : jR} {c sl : Nat} {Qr : jQ} {Qx : jX} (hM : jMW K cr) (n : Nat) (a0 : Int32) (ci : jI) (cj : jJ) {q} (h : fX6_isAllowed n a0 ci cj = some q) (hq : Qr (some (.int q.1)) K q.2.1 q.2.2 cr) : EvM g (d + 2) mX6_isAllowed [.ref 1547, .int a0] K ci cj cr c sl Qr Qx := by
  unfold fX6_isAllowed at h
  show Ev g (d + 2) mX6_isAllowed 0 [.ref 1547, .int a0] [] K ci cj cr c sl Qr Qx
  refine ev_aload_n dX6_isAllowed_0 rfl ?_
  refine ev_getI dX6_isAllowed_1 fX6_309_6 (hk1547 hM) (Or.inl (hl1547 hM)) rfl ?_
  by_cases z1 : (ci 1547 49) = (nI 0)
  · rw [if_pos z1] at h
    refine ev_tableIn 36 dX6_isAllowed_4 (by rw [z1]; decide) (by rw [z1]; decide) (by rw [z1]; rfl) rfl ?_
    refine ev_iload_n dX6_isAllowed_36 rfl ?_
    refine ev_bipush (v := (nI 6)) dX6_isAllowed_37 jb6 ?_
    refine ev_icmp_ge 46 dX6_isAllowed_39 rfl (fun z2 => ?_) (fun z2 => ?_)
    · rw [if_pos z2] at h
      refine ev_iconst (v := (nI 0)) dX6_isAllowed_46 jc0 ?_
      exact ev_mask [false, false] (wX6_isAllowed_47 hM n   _ _ _ h hq)
    · rw [if_neg z2] at h
      refine ev_iconst (v := (nI 1)) dX6_isAllowed_42 jc1 ?_
      refine ev_goto 47 dX6_isAllowed_43 rfl ?_
      exact ev_mask [false, false] (wX6_isAllowed_47 hM n   _ _ _ h hq)
  rw [if_neg z1] at h
  by_cases z3 : (ci 1547 49) = (nI 1)
  · rw [if_pos z3] at h
    refine ev_tableIn 48 dX6_isAllowed_4 (by rw [z3]; decide) (by rw [z3]; decide) (by rw [z3]; rfl) rfl ?_
    refine ev_iload_n dX6_isAllowed_48 rfl ?_
    refine ev_iconst (v := (nI 3)) dX6_isAllowed_49 jc3 ?_
    refine ev_icmp_lt 67 dX6_isAllowed_50 rfl (fun z4 => ?_) (fun z4 => ?_)
    · rw [if_pos z4] at h
      exact ev_mask [false, false] (wX6_isAllowed_67 hM n    _ _ h hq)
    · rw [if_neg z4] at h
      refine ev_iload_n dX6_isAllowed_53 rfl ?_
      refine ev_i2l dX6_isAllowed_54 ?_
      refine ev_ldc2 dX6_isAllowed_55 q2158 ?_
      refine ev_ldc2 dX6_isAllowed_58 q2159 ?_
      obtain ⟨q5, z6, h⟩ := Option.bind_eq_some_iff.mp h
      refine ev_zS3 dX6_isAllowed_61 sX6_294 (Nat.le_of_ble_eq_true rfl) (Nat.le_of_ble_eq_true rfl) rfl (metX6_isIn hM n _ _ _ _ _ z6 ?_)
      show Ev g _ _ 64 _ [.int q5.1] K q5.2.1 q5.2.2 cr c sl Qr Qx
      refine ev_if_eq 71 dX6_isAllowed_64 rfl (fun z7 => ?_) (fun z7 => ?_)
      · rw [if_pos z7] at h
        refine ev_iconst (v := (nI 0)) dX6_isAllowed_71 jc0 ?_
        exact ev_mask [false, false] (wX6_isAllowed_72 hM n   _ _ _ h hq)
      · rw [if_neg z7] at h
        exact ev_mask [false, false] (wX6_isAllowed_67 hM n    _ _ h hq)
  rw [if_neg z3] at h
  by_cases z8 : (ci 1547 49) = (nI 2)
  · rw [if_pos z8] at h
    refine ev_tableIn 73 dX6_isAllowed_4 (by rw [z8]; decide) (by rw [z8]; decide) (by rw [z8]; rfl) rfl ?_
    refine ev_iload_n dX6_isAllowed_73 rfl ?_
    refine ev_iconst (v := (nI 3)) dX6_isAllowed_74 jc3 ?_
    refine ev_icmp_lt 84 dX6_isAllowed_75 rfl (fun z9 => ?_) (fun z9 => ?_)
    · rw [if_pos z9] at h
      exact ev_mask [false, false] (wX6_isAllowed_84 hM n    _ _ h hq)
    · rw [if_neg z9] at h
      refine ev_iload_n dX6_isAllowed_78 rfl ?_
      refine ev_bipush (v := (nI 6)) dX6_isAllowed_79 jb6 ?_
      refine ev_icmp_ne 88 dX6_isAllowed_81 rfl (fun z10 => ?_) (fun z10 => ?_)
      · rw [if_neg z10] at h
        refine ev_iconst (v := (nI 0)) dX6_isAllowed_88 jc0 ?_
        exact ev_mask [false, false] (wX6_isAllowed_89 hM n   _ _ _ h hq)
      · rw [if_pos z10] at h
        exact ev_mask [false, false] (wX6_isAllowed_84 hM n    _ _ h hq)
  rw [if_neg z8] at h
  by_cases z11 : (ci 1547 49) = (nI 3)
  · rw [if_pos z11] at h
    refine ev_tableIn 90 dX6_isAllowed_4 (by rw [z11]; decide) (by rw [z11]; decide) (by rw [z11]; rfl) rfl ?_
    refine ev_iload_n dX6_isAllowed_90 rfl ?_
    refine ev_iconst (v := (nI 2)) dX6_isAllowed_91 jc2 ?_
    refine ev_icmp_lt 109 dX6_isAllowed_92 rfl (fun z12 => ?_) (fun z12 => ?_)
    · rw [if_pos z12] at h
      exact ev_mask [false, false] (wX6_isAllowed_109 hM n    _ _ h hq)
    · rw [if_neg z12] at h
      refine ev_iload_n dX6_isAllowed_95 rfl ?_
      refine ev_i2l dX6_isAllowed_96 ?_
      refine ev_ldc2 dX6_isAllowed_97 q2160 ?_
      refine ev_ldc2 dX6_isAllowed_100 q2159 ?_
      obtain ⟨q13, z14, h⟩ := Option.bind_eq_some_iff.mp h
      refine ev_zS3 dX6_isAllowed_103 sX6_294 (Nat.le_of_ble_eq_true rfl) (Nat.le_of_ble_eq_true rfl) rfl (metX6_isIn hM n _ _ _ _ _ z14 ?_)
      show Ev g _ _ 106 _ [.int q13.1] K q13.2.1 q13.2.2 cr c sl Qr Qx
      refine ev_if_eq 113 dX6_isAllowed_106 rfl (fun z15 => ?_) (fun z15 => ?_)
      · rw [if_pos z15] at h
        refine ev_iconst (v := (nI 0)) dX6_isAllowed_113 jc0 ?_
        exact ev_mask [false, false] (wX6_isAllowed_114 hM n   _ _ _ h hq)
      · rw [if_neg z15] at h
        exact ev_mask [false, false] (wX6_isAllowed_109 hM n    _ _ h hq)
  rw [if_neg z11] at h
  refine ev_tableOut 115 dX6_isAllowed_4 (jtab_0_3 z1 z3 z8 z11) rfl ?_
  refine ev_iload_n dX6_isAllowed_115 rfl ?_
  refine ev_iconst (v := (nI 2)) dX6_isAllowed_116 jc2 ?_
  refine ev_icmp_lt 126 dX6_isAllowed_117 rfl (fun z16 => ?_) (fun z16 => ?_)
  · rw [if_pos z16] at h
    exact ev_mask [false, false] (wX6_isAllowed_126 hM n    _ _ h hq)
  · rw [if_neg z16] at h
    refine ev_iload_n dX6_isAllowed_120 rfl ?_
    refine ev_bipush (v := (nI 6)) dX6_isAllowed_121 jb6 ?_
    refine ev_icmp_le 130 dX6_isAllowed_123 rfl (fun z17 => ?_) (fun z17 => ?_)
    · rw [if_pos z17] at h
      refine ev_iconst (v := (nI 0)) dX6_isAllowed_130 jc0 ?_
      exact ev_mask [false, false] (wX6_isAllowed_131 hM n   _ _ _ h hq)
    · rw [if_neg z17] at h
      exact ev_mask [false, false] (wX6_isAllowed_126 hM n    _ _ h hq)
def fX6_qWordHere_108 (n : Nat) (ci : jI) (cj : jJ) : Option (Int32 × jI × jJ) := Option.bind (fX6_isHere n 1614 ci cj) (fun q1 => if q1.1 = 0 then Option.bind (fX6_isHere n 1615 q1.2.1 q1.2.2) (fun q4 => if q4.1 = 0 then Option.bind (fX6_isHere n 1616 q4.2.1 q4.2.2) (fun q7 => if q7.1 = 0 then Option.bind (fX6_isHere n 1617 q7.2.1 q7.2.2) (fun q10 => if q10.1 = 0 then Option.bind (fX6_isHere n 1618 q10.2.1 q10.2.2) (fun q13 => if q13.1 = 0 then Option.bind (fX6_isHere n 1619 q13.2.1 q13.2.2) (fun q16 => if q16.1 = 0 then some ((-1), q16.2.1, q16.2.2) else some ((nI 12), q16.2.1, q16.2.2)) else some ((nI 11), q13.2.1, q13.2.2)) else some ((nI 10), q10.2.1, q10.2.2)) else some ((nI 9), q7.2.1, q7.2.2)) else some ((nI 8), q4.2.1, q4.2.2)) else some ((nI 7), q1.2.1, q1.2.2))
theorem wX6_qWordHere_108 {g : jG} {d : Nat} {K : jK} {cr : jR} {c sl : Nat} {Qr : jQ} {Qx : jX} (hM : jMW K cr) (n : Nat) (ci : jI) (cj : jJ) {q} (h : fX6_qWordHere_108 n   ci cj = some q) (hq : Qr (some (.int q.1)) K q.2.1 q.2.2 cr) : Ev g (d + 3) mX6_qWordHere 108 [.ref 1547] [] K ci cj cr c sl Qr Qx := by
  unfold fX6_qWordHere_108 at h
  refine ev_aload_n dX6_qWordHere_108 rfl ?_
  refine ev_aload_n dX6_qWordHere_109 rfl ?_
  refine ev_getR dX6_qWordHere_110 fX6_218_6 (hk1547 hM) (Or.inl (hl1547 hM)) rfl (hr90 hM) ?_
  obtain ⟨q1, z2, h⟩ := Option.bind_eq_some_iff.mp h
  refine ev_zV1 dX6_qWordHere_113 vX6_274_6 (hk1547 hM) (Or.inl (hl1547 hM)) (Nat.le_of_ble_eq_true rfl) (Nat.le_of_ble_eq_true rfl) rfl (metX6_isHere hM n _ _ _ z2 ?_)
  show Ev g _ _ 116 _ [.int q1.1] K q1.2.1 q1.2.2 cr c sl Qr Qx
  refine ev_if_eq 122 dX6_qWordHere_116 rfl (fun z3 => ?_) (fun z3 => ?_)
  · rw [if_pos z3] at h
    refine ev_aload_n dX6_qWordHere_122 rfl ?_
    refine ev_aload_n dX6_qWordHere_123 rfl ?_
    refine ev_getR dX6_qWordHere_124 fX6_221_6 (hk1547 hM) (Or.inl (hl1547 hM)) rfl (hr91 hM) ?_
    obtain ⟨q4, z5, h⟩ := Option.bind_eq_some_iff.mp h
    refine ev_zV1 dX6_qWordHere_127 vX6_274_6 (hk1547 hM) (Or.inl (hl1547 hM)) (Nat.le_of_ble_eq_true rfl) (Nat.le_of_ble_eq_true rfl) rfl (metX6_isHere hM n _ _ _ z5 ?_)
    show Ev g _ _ 130 _ [.int q4.1] K q4.2.1 q4.2.2 cr c sl Qr Qx
    refine ev_if_eq 136 dX6_qWordHere_130 rfl (fun z6 => ?_) (fun z6 => ?_)
    · rw [if_pos z6] at h
      refine ev_aload_n dX6_qWordHere_136 rfl ?_
      refine ev_aload_n dX6_qWordHere_137 rfl ?_
      refine ev_getR dX6_qWordHere_138 fX6_224_6 (hk1547 hM) (Or.inl (hl1547 hM)) rfl (hr92 hM) ?_
      obtain ⟨q7, z8, h⟩ := Option.bind_eq_some_iff.mp h
      refine ev_zV1 dX6_qWordHere_141 vX6_274_6 (hk1547 hM) (Or.inl (hl1547 hM)) (Nat.le_of_ble_eq_true rfl) (Nat.le_of_ble_eq_true rfl) rfl (metX6_isHere hM n _ _ _ z8 ?_)
      show Ev g _ _ 144 _ [.int q7.1] K q7.2.1 q7.2.2 cr c sl Qr Qx
      refine ev_if_eq 150 dX6_qWordHere_144 rfl (fun z9 => ?_) (fun z9 => ?_)
      · rw [if_pos z9] at h
        refine ev_aload_n dX6_qWordHere_150 rfl ?_
        refine ev_aload_n dX6_qWordHere_151 rfl ?_
        refine ev_getR dX6_qWordHere_152 fX6_227_6 (hk1547 hM) (Or.inl (hl1547 hM)) rfl (hr93 hM) ?_
        obtain ⟨q10, z11, h⟩ := Option.bind_eq_some_iff.mp h
        refine ev_zV1 dX6_qWordHere_155 vX6_274_6 (hk1547 hM) (Or.inl (hl1547 hM)) (Nat.le_of_ble_eq_true rfl) (Nat.le_of_ble_eq_true rfl) rfl (metX6_isHere hM n _ _ _ z11 ?_)
        show Ev g _ _ 158 _ [.int q10.1] K q10.2.1 q10.2.2 cr c sl Qr Qx
        refine ev_if_eq 164 dX6_qWordHere_158 rfl (fun z12 => ?_) (fun z12 => ?_)
        · rw [if_pos z12] at h
          refine ev_aload_n dX6_qWordHere_164 rfl ?_
          refine ev_aload_n dX6_qWordHere_165 rfl ?_
          refine ev_getR dX6_qWordHere_166 fX6_230_6 (hk1547 hM) (Or.inl (hl1547 hM)) rfl (hr94 hM) ?_
          obtain ⟨q13, z14, h⟩ := Option.bind_eq_some_iff.mp h
          refine ev_zV1 dX6_qWordHere_169 vX6_274_6 (hk1547 hM) (Or.inl (hl1547 hM)) (Nat.le_of_ble_eq_true rfl) (Nat.le_of_ble_eq_true rfl) rfl (metX6_isHere hM n _ _ _ z14 ?_)
          show Ev g _ _ 172 _ [.int q13.1] K q13.2.1 q13.2.2 cr c sl Qr Qx
          refine ev_if_eq 178 dX6_qWordHere_172 rfl (fun z15 => ?_) (fun z15 => ?_)
          · rw [if_pos z15] at h
            refine ev_aload_n dX6_qWordHere_178 rfl ?_
            refine ev_aload_n dX6_qWordHere_179 rfl ?_
            refine ev_getR dX6_qWordHere_180 fX6_233_6 (hk1547 hM) (Or.inl (hl1547 hM)) rfl (hr95 hM) ?_
            obtain ⟨q16, z17, h⟩ := Option.bind_eq_some_iff.mp h
            refine ev_zV1 dX6_qWordHere_183 vX6_274_6 (hk1547 hM) (Or.inl (hl1547 hM)) (Nat.le_of_ble_eq_true rfl) (Nat.le_of_ble_eq_true rfl) rfl (metX6_isHere hM n _ _ _ z17 ?_)
            show Ev g _ _ 186 _ [.int q16.1] K q16.2.1 q16.2.2 cr c sl Qr Qx
            refine ev_if_eq 192 dX6_qWordHere_186 rfl (fun z18 => ?_) (fun z18 => ?_)
            · rw [if_pos z18] at h
              refine ev_iconst (v := (-1)) dX6_qWordHere_192 jcm1 ?_
              cases h
              exact ev_iret dX6_qWordHere_193 rfl rfl hq
            · rw [if_neg z18] at h
              refine ev_bipush (v := (nI 12)) dX6_qWordHere_189 jb12 ?_
              cases h
              exact ev_iret dX6_qWordHere_191 rfl rfl hq
          · rw [if_neg z15] at h
            refine ev_bipush (v := (nI 11)) dX6_qWordHere_175 jb11 ?_
            cases h
            exact ev_iret dX6_qWordHere_177 rfl rfl hq
        · rw [if_neg z12] at h
          refine ev_bipush (v := (nI 10)) dX6_qWordHere_161 jb10 ?_
          cases h
          exact ev_iret dX6_qWordHere_163 rfl rfl hq
      · rw [if_neg z9] at h
        refine ev_bipush (v := (nI 9)) dX6_qWordHere_147 jb9 ?_
        cases h
        exact ev_iret dX6_qWordHere_149 rfl rfl hq
    · rw [if_neg z6] at h
      refine ev_bipush (v := (nI 8)) dX6_qWordHere_133 jb8 ?_
      cases h
      exact ev_iret dX6_qWordHere_135 rfl rfl hq
  · rw [if_neg z3] at h
    refine ev_bipush (v := (nI 7)) dX6_qWordHere_119 jb7 ?_
    cases h
    exact ev_iret dX6_qWordHere_121 rfl rfl hq
def fX6_qWordHere_47 (n : Nat) (ci : jI) (cj : jJ) : Option (Int32 × jI × jJ) := Option.bind (fX6_isHere n 1610 ci cj) (fun q1 => if q1.1 = 0 then Option.bind (fX6_isHere n 1611 q1.2.1 q1.2.2) (fun q4 => if q4.1 = 0 then Option.bind (fX6_isHere n 1612 q4.2.1 q4.2.2) (fun q7 => if q7.1 = 0 then if (nI 4) ≤ (q7.2.1 1547 49) then fX6_qWordHere_108 n   q7.2.1 q7.2.2 else Option.bind (fX6_isHere n 1613 q7.2.1 q7.2.2) (fun q11 => if q11.1 = 0 then fX6_qWordHere_108 n   q11.2.1 q11.2.2 else some ((nI 6), q11.2.1, q11.2.2)) else some ((nI 5), q7.2.1, q7.2.2)) else some ((nI 4), q4.2.1, q4.2.2)) else some ((nI 3), q1.2.1, q1.2.2))
theorem wX6_qWordHere_47 {g : jG} {d : Nat} {K : jK} {cr : jR} {c sl : Nat} {Qr : jQ} {Qx : jX} (hM : jMW K cr) (n : Nat) (ci : jI) (cj : jJ) {q} (h : fX6_qWordHere_47 n   ci cj = some q) (hq : Qr (some (.int q.1)) K q.2.1 q.2.2 cr) : Ev g (d + 3) mX6_qWordHere 47 [.ref 1547] [] K ci cj cr c sl Qr Qx := by
  unfold fX6_qWordHere_47 at h
  refine ev_aload_n dX6_qWordHere_47 rfl ?_
  refine ev_aload_n dX6_qWordHere_48 rfl ?_
  refine ev_getR dX6_qWordHere_49 fX6_206_6 (hk1547 hM) (Or.inl (hl1547 hM)) rfl (hr86 hM) ?_
  obtain ⟨q1, z2, h⟩ := Option.bind_eq_some_iff.mp h
  refine ev_zV1 dX6_qWordHere_52 vX6_274_6 (hk1547 hM) (Or.inl (hl1547 hM)) (Nat.le_of_ble_eq_true rfl) (Nat.le_of_ble_eq_true rfl) rfl (metX6_isHere hM n _ _ _ z2 ?_)
  show Ev g _ _ 55 _ [.int q1.1] K q1.2.1 q1.2.2 cr c sl Qr Qx
  refine ev_if_eq 60 dX6_qWordHere_55 rfl (fun z3 => ?_) (fun z3 => ?_)
  · rw [if_pos z3] at h
    refine ev_aload_n dX6_qWordHere_60 rfl ?_
    refine ev_aload_n dX6_qWordHere_61 rfl ?_
    refine ev_getR dX6_qWordHere_62 fX6_209_6 (hk1547 hM) (Or.inl (hl1547 hM)) rfl (hr87 hM) ?_
    obtain ⟨q4, z5, h⟩ := Option.bind_eq_some_iff.mp h
    refine ev_zV1 dX6_qWordHere_65 vX6_274_6 (hk1547 hM) (Or.inl (hl1547 hM)) (Nat.le_of_ble_eq_true rfl) (Nat.le_of_ble_eq_true rfl) rfl (metX6_isHere hM n _ _ _ z5 ?_)
    show Ev g _ _ 68 _ [.int q4.1] K q4.2.1 q4.2.2 cr c sl Qr Qx
    refine ev_if_eq 73 dX6_qWordHere_68 rfl (fun z6 => ?_) (fun z6 => ?_)
    · rw [if_pos z6] at h
      refine ev_aload_n dX6_qWordHere_73 rfl ?_
      refine ev_aload_n dX6_qWordHere_74 rfl ?_
      refine ev_getR dX6_qWordHere_75 fX6_212_6 (hk1547 hM) (Or.inl (hl1547 hM)) rfl (hr88 hM) ?_
      obtain ⟨q7, z8, h⟩ := Option.bind_eq_some_iff.mp h
      refine ev_zV1 dX6_qWordHere_78 vX6_274_6 (hk1547 hM) (Or.inl (hl1547 hM)) (Nat.le_of_ble_eq_true rfl) (Nat.le_of_ble_eq_true rfl) rfl (metX6_isHere hM n _ _ _ z8 ?_)
      show Ev g _ _ 81 _ [.int q7.1] K q7.2.1 q7.2.2 cr c sl Qr Qx
      refine ev_if_eq 86 dX6_qWordHere_81 rfl (fun z9 => ?_) (fun z9 => ?_)
      · rw [if_pos z9] at h
        refine ev_aload_n dX6_qWordHere_86 rfl ?_
        refine ev_getI dX6_qWordHere_87 fX6_309_6 (hk1547 hM) (Or.inl (hl1547 hM)) rfl ?_
        refine ev_iconst (v := (nI 4)) dX6_qWordHere_90 jc4 ?_
        refine ev_icmp_ge 108 dX6_qWordHere_91 rfl (fun z10 => ?_) (fun z10 => ?_)
        · rw [if_pos z10] at h
          exact wX6_qWordHere_108 hM n    _ _ h hq
        · rw [if_neg z10] at h
          refine ev_aload_n dX6_qWordHere_94 rfl ?_
          refine ev_aload_n dX6_qWordHere_95 rfl ?_
          refine ev_getR dX6_qWordHere_96 fX6_215_6 (hk1547 hM) (Or.inl (hl1547 hM)) rfl (hr89 hM) ?_
          obtain ⟨q11, z12, h⟩ := Option.bind_eq_some_iff.mp h
          refine ev_zV1 dX6_qWordHere_99 vX6_274_6 (hk1547 hM) (Or.inl (hl1547 hM)) (Nat.le_of_ble_eq_true rfl) (Nat.le_of_ble_eq_true rfl) rfl (metX6_isHere hM n _ _ _ z12 ?_)
          show Ev g _ _ 102 _ [.int q11.1] K q11.2.1 q11.2.2 cr c sl Qr Qx
          refine ev_if_eq 108 dX6_qWordHere_102 rfl (fun z13 => ?_) (fun z13 => ?_)
          · rw [if_pos z13] at h
            exact wX6_qWordHere_108 hM n    _ _ h hq
          · rw [if_neg z13] at h
            refine ev_bipush (v := (nI 6)) dX6_qWordHere_105 jb6 ?_
            cases h
            exact ev_iret dX6_qWordHere_107 rfl rfl hq
      · rw [if_neg z9] at h
        refine ev_iconst (v := (nI 5)) dX6_qWordHere_84 jc5 ?_
        cases h
        exact ev_iret dX6_qWordHere_85 rfl rfl hq
    · rw [if_neg z6] at h
      refine ev_iconst (v := (nI 4)) dX6_qWordHere_71 jc4 ?_
      cases h
      exact ev_iret dX6_qWordHere_72 rfl rfl hq
  · rw [if_neg z3] at h
    refine ev_iconst (v := (nI 3)) dX6_qWordHere_58 jc3 ?_
    cases h
    exact ev_iret dX6_qWordHere_59 rfl rfl hq
def fX6_qWordHere (n : Nat) (ci : jI) (cj : jJ) : Option (Int32 × jI × jJ) := Option.bind (fX6_isHere n 1607 ci cj) (fun q1 => if q1.1 = 0 then Option.bind (fX6_isHere n 1608 q1.2.1 q1.2.2) (fun q4 => if q4.1 = 0 then if (nI 4) ≤ (q4.2.1 1547 49) then fX6_qWordHere_47 n   q4.2.1 q4.2.2 else Option.bind (fX6_isHere n 1609 q4.2.1 q4.2.2) (fun q8 => if q8.1 = 0 then fX6_qWordHere_47 n   q8.2.1 q8.2.2 else some ((nI 2), q8.2.1, q8.2.2)) else some ((nI 1), q4.2.1, q4.2.2)) else some ((nI 0), q1.2.1, q1.2.2))
theorem metX6_qWordHere {g : jG} {d : Nat} {K : jK} {cr : jR} {c sl : Nat} {Qr : jQ} {Qx : jX} (hM : jMW K cr) (n : Nat) (ci : jI) (cj : jJ) {q} (h : fX6_qWordHere n  ci cj = some q) (hq : Qr (some (.int q.1)) K q.2.1 q.2.2 cr) : EvM g (d + 3) mX6_qWordHere [.ref 1547] K ci cj cr c sl Qr Qx := by
  unfold fX6_qWordHere at h
  show Ev g (d + 3) mX6_qWordHere 0 [.ref 1547] [] K ci cj cr c sl Qr Qx
  refine ev_aload_n dX6_qWordHere_0 rfl ?_
  refine ev_aload_n dX6_qWordHere_1 rfl ?_
  refine ev_getR dX6_qWordHere_2 fX6_197_6 (hk1547 hM) (Or.inl (hl1547 hM)) rfl (hr83 hM) ?_
  obtain ⟨q1, z2, h⟩ := Option.bind_eq_some_iff.mp h
  refine ev_zV1 dX6_qWordHere_5 vX6_274_6 (hk1547 hM) (Or.inl (hl1547 hM)) (Nat.le_of_ble_eq_true rfl) (Nat.le_of_ble_eq_true rfl) rfl (metX6_isHere hM n _ _ _ z2 ?_)
  show Ev g _ _ 8 _ [.int q1.1] K q1.2.1 q1.2.2 cr c sl Qr Qx
  refine ev_if_eq 13 dX6_qWordHere_8 rfl (fun z3 => ?_) (fun z3 => ?_)
  · rw [if_pos z3] at h
    refine ev_aload_n dX6_qWordHere_13 rfl ?_
    refine ev_aload_n dX6_qWordHere_14 rfl ?_
    refine ev_getR dX6_qWordHere_15 fX6_200_6 (hk1547 hM) (Or.inl (hl1547 hM)) rfl (hr84 hM) ?_
    obtain ⟨q4, z5, h⟩ := Option.bind_eq_some_iff.mp h
    refine ev_zV1 dX6_qWordHere_18 vX6_274_6 (hk1547 hM) (Or.inl (hl1547 hM)) (Nat.le_of_ble_eq_true rfl) (Nat.le_of_ble_eq_true rfl) rfl (metX6_isHere hM n _ _ _ z5 ?_)
    show Ev g _ _ 21 _ [.int q4.1] K q4.2.1 q4.2.2 cr c sl Qr Qx
    refine ev_if_eq 26 dX6_qWordHere_21 rfl (fun z6 => ?_) (fun z6 => ?_)
    · rw [if_pos z6] at h
      refine ev_aload_n dX6_qWordHere_26 rfl ?_
      refine ev_getI dX6_qWordHere_27 fX6_309_6 (hk1547 hM) (Or.inl (hl1547 hM)) rfl ?_
      refine ev_iconst (v := (nI 4)) dX6_qWordHere_30 jc4 ?_
      refine ev_icmp_ge 47 dX6_qWordHere_31 rfl (fun z7 => ?_) (fun z7 => ?_)
      · rw [if_pos z7] at h
        exact wX6_qWordHere_47 hM n    _ _ h hq
      · rw [if_neg z7] at h
        refine ev_aload_n dX6_qWordHere_34 rfl ?_
        refine ev_aload_n dX6_qWordHere_35 rfl ?_
        refine ev_getR dX6_qWordHere_36 fX6_203_6 (hk1547 hM) (Or.inl (hl1547 hM)) rfl (hr85 hM) ?_
        obtain ⟨q8, z9, h⟩ := Option.bind_eq_some_iff.mp h
        refine ev_zV1 dX6_qWordHere_39 vX6_274_6 (hk1547 hM) (Or.inl (hl1547 hM)) (Nat.le_of_ble_eq_true rfl) (Nat.le_of_ble_eq_true rfl) rfl (metX6_isHere hM n _ _ _ z9 ?_)
        show Ev g _ _ 42 _ [.int q8.1] K q8.2.1 q8.2.2 cr c sl Qr Qx
        refine ev_if_eq 47 dX6_qWordHere_42 rfl (fun z10 => ?_) (fun z10 => ?_)
        · rw [if_pos z10] at h
          exact wX6_qWordHere_47 hM n    _ _ h hq
        · rw [if_neg z10] at h
          refine ev_iconst (v := (nI 2)) dX6_qWordHere_45 jc2 ?_
          cases h
          exact ev_iret dX6_qWordHere_46 rfl rfl hq
    · rw [if_neg z6] at h
      refine ev_iconst (v := (nI 1)) dX6_qWordHere_24 jc1 ?_
      cases h
      exact ev_iret dX6_qWordHere_25 rfl rfl hq
  · rw [if_neg z3] at h
    refine ev_iconst (v := (nI 0)) dX6_qWordHere_11 jc0 ?_
    cases h
    exact ev_iret dX6_qWordHere_12 rfl rfl hq
def fX6_qWordOf_28 (n : Nat) (t0 : Int32) (ci : jI) (cj : jJ) : Option (Int32 × jI × jJ) := some (t0, ci, cj)
theorem wX6_qWordOf_28 {g : jG} {d : Nat} {K : jK} {cr : jR} {c sl : Nat} {Qr : jQ} {Qx : jX} (hM : jMW K cr) (n : Nat) (t0 : Int32) (ci : jI) (cj : jJ) {q} (h : fX6_qWordOf_28 n  t0 ci cj = some q) (hq : Qr (some (.int q.1)) K q.2.1 q.2.2 cr) : Ev g (d + 4) mX6_qWordOf 28 [jU, jU, jU, jU] [.int t0] K ci cj cr c sl Qr Qx := by
  unfold fX6_qWordOf_28 at h
  cases h
  exact ev_iret dX6_qWordOf_28 rfl rfl hq
def fX6_qWordOf_27 (n : Nat) (ci : jI) (cj : jJ) : Option (Int32 × jI × jJ) := fX6_qWordOf_28 n  (-1) ci cj
theorem wX6_qWordOf_27 {g : jG} {d : Nat} {K : jK} {cr : jR} {c sl : Nat} {Qr : jQ} {Qx : jX} (hM : jMW K cr) (n : Nat) (ci : jI) (cj : jJ) {q} (h : fX6_qWordOf_27 n   ci cj = some q) (hq : Qr (some (.int q.1)) K q.2.1 q.2.2 cr) : Ev g (d + 4) mX6_qWordOf 27 [jU, jU, jU, jU] [] K ci cj cr c sl Qr Qx := by
  unfold fX6_qWordOf_27 at h
  refine ev_iconst (v := (-1)) dX6_qWordOf_27 jcm1 ?_
  exact wX6_qWordOf_28 hM n   _ _ _ h hq
def fX6_qWordOf (n : Nat) (a0 : Int32) (a1 : Int32) (ci : jI) (cj : jJ) : Option (Int32 × jI × jJ) := Option.bind (fX6_qWordHere n  ci cj) (fun q1 => if q1.1 < a0 then fX6_qWordOf_27 n   q1.2.1 q1.2.2 else if a1 ≤ q1.1 then fX6_qWordOf_27 n   q1.2.1 q1.2.2 else Option.bind (fX6_isAllowed n q1.1 q1.2.1 q1.2.2) (fun q5 => if q5.1 = 0 then fX6_qWordOf_27 n   q5.2.1 q5.2.2 else fX6_qWordOf_28 n  q1.1 q5.2.1 q5.2.2))
theorem metX6_qWordOf {g : jG} {d : Nat} {K : jK} {cr : jR} {c sl : Nat} {Qr : jQ} {Qx : jX} (hM : jMW K cr) (n : Nat) (a0 : Int32) (a1 : Int32) (ci : jI) (cj : jJ) {q} (h : fX6_qWordOf n a0 a1 ci cj = some q) (hq : Qr (some (.int q.1)) K q.2.1 q.2.2 cr) : EvM g (d + 4) mX6_qWordOf [.ref 1547, .int a0, .int a1] K ci cj cr c sl Qr Qx := by
  unfold fX6_qWordOf at h
  show Ev g (d + 4) mX6_qWordOf 0 [.ref 1547, .int a0, .int a1, jU] [] K ci cj cr c sl Qr Qx
  refine ev_aload_n dX6_qWordOf_0 rfl ?_
  obtain ⟨q1, z2, h⟩ := Option.bind_eq_some_iff.mp h
  refine ev_zV0 dX6_qWordOf_1 vX6_598_6 (hk1547 hM) (Or.inl (hl1547 hM)) (Nat.le_of_ble_eq_true rfl) (Nat.le_of_ble_eq_true rfl) rfl (metX6_qWordHere hM n  _ _ z2 ?_)
  show Ev g _ _ 4 _ [.int q1.1] K q1.2.1 q1.2.2 cr c sl Qr Qx
  refine ev_istore_n (L' := [_, _, _, _]) dX6_qWordOf_4 (by decide) rfl ?_
  refine ev_iload_n dX6_qWordOf_5 rfl ?_
  refine ev_iload_n dX6_qWordOf_6 rfl ?_
  refine ev_icmp_lt 27 dX6_qWordOf_7 rfl (fun z3 => ?_) (fun z3 => ?_)
  · rw [if_pos z3] at h
    exact ev_mask [false, false, false, false] (wX6_qWordOf_27 hM n    _ _ h hq)
  · rw [if_neg z3] at h
    refine ev_iload_n dX6_qWordOf_10 rfl ?_
    refine ev_iload_n dX6_qWordOf_11 rfl ?_
    refine ev_icmp_ge 27 dX6_qWordOf_12 rfl (fun z4 => ?_) (fun z4 => ?_)
    · rw [if_pos z4] at h
      exact ev_mask [false, false, false, false] (wX6_qWordOf_27 hM n    _ _ h hq)
    · rw [if_neg z4] at h
      refine ev_aload_n dX6_qWordOf_15 rfl ?_
      refine ev_iload_n dX6_qWordOf_16 rfl ?_
      obtain ⟨q5, z6, h⟩ := Option.bind_eq_some_iff.mp h
      refine ev_zV1 dX6_qWordOf_17 vX6_601_6 (hk1547 hM) (Or.inl (hl1547 hM)) (Nat.le_of_ble_eq_true rfl) (Nat.le_of_ble_eq_true rfl) rfl (metX6_isAllowed hM n _ _ _ z6 ?_)
      show Ev g _ _ 20 _ [.int q5.1] K q5.2.1 q5.2.2 cr c sl Qr Qx
      refine ev_if_eq 27 dX6_qWordOf_20 rfl (fun z7 => ?_) (fun z7 => ?_)
      · rw [if_pos z7] at h
        exact ev_mask [false, false, false, false] (wX6_qWordOf_27 hM n    _ _ h hq)
      · rw [if_neg z7] at h
        refine ev_iload_n dX6_qWordOf_23 rfl ?_
        refine ev_goto 28 dX6_qWordOf_24 rfl ?_
        exact ev_mask [false, false, false, false] (wX6_qWordOf_28 hM n   _ _ _ h hq)
def fX6_qPartTold_237 (n : Nat) (t0 : Int32) (ci : jI) (cj : jJ) : Option (jI × jJ) := Option.bind (fX6_qCode n t0 ci cj) (fun q1 => Option.bind (fX6_qEndsPart n  q1.1 q1.2) (fun q3 => some (q3.1, q3.2)))
theorem wX6_qPartTold_237 {g : jG} {d : Nat} {K : jK} {cr : jR} {c sl : Nat} {Qr : jQ} {Qx : jX} (hM : jMW K cr) (n : Nat) (t0 : Int32) (ci : jI) (cj : jJ) {q} (h : fX6_qPartTold_237 n  t0 ci cj = some q) (hq : Qr none K q.1 q.2 cr) : Ev g (d + 6) mX6_qPartTold 237 [.ref 1547, jU, jU, jU, jU, jU] [.int t0, .ref 1547] K ci cj cr c sl Qr Qx := by
  unfold fX6_qPartTold_237 at h
  obtain ⟨q1, z2, h⟩ := Option.bind_eq_some_iff.mp h
  refine ev_zV1 dX6_qPartTold_237 vX6_589_6 (hk1547 hM) (Or.inl (hl1547 hM)) (Nat.le_of_ble_eq_true rfl) (Nat.le_of_ble_eq_true rfl) rfl (metX6_qCode hM n _ _ _ z2 ?_)
  show Ev g _ _ 240 _ [] K q1.1 q1.2 cr c sl Qr Qx
  refine ev_aload_n dX6_qPartTold_240 rfl ?_
  obtain ⟨q3, z4, h⟩ := Option.bind_eq_some_iff.mp h
  refine ev_zV0 dX6_qPartTold_241 vX6_613_6 (hk1547 hM) (Or.inl (hl1547 hM)) (Nat.le_of_ble_eq_true rfl) (Nat.le_of_ble_eq_true rfl) rfl (metX6_qEndsPart hM n  _ _ z4 ?_)
  show Ev g _ _ 244 _ [] K q3.1 q3.2 cr c sl Qr Qx
  cases h
  exact ev_ret dX6_qPartTold_244 rfl hq
def fX6_qPartTold_212 (n : Nat) (l2 : Int32) (ci : jI) (cj : jJ) : Option (jI × jJ) := if l2 = (-1) then Option.bind (fX6_number n (nI 0) (nI 9999) ci cj) (fun q2 => fX6_qPartTold_237 n  ((nI 1000) + q2.1) q2.2.1 q2.2.2) else fX6_qPartTold_237 n  ((nI 40) + l2) ci cj
theorem wX6_qPartTold_212 {g : jG} {d : Nat} {K : jK} {cr : jR} {c sl : Nat} {Qr : jQ} {Qx : jX} (hM : jMW K cr) (n : Nat) (l2 : Int32) (ci : jI) (cj : jJ) {q} (h : fX6_qPartTold_212 n  l2 ci cj = some q) (hq : Qr none K q.1 q.2 cr) : Ev g (d + 6) mX6_qPartTold 212 [.ref 1547, jU, .int l2, jU, jU, jU] [] K ci cj cr c sl Qr Qx := by
  unfold fX6_qPartTold_212 at h
  refine ev_aload_n dX6_qPartTold_212 rfl ?_
  refine ev_iload_n dX6_qPartTold_213 rfl ?_
  refine ev_iconst (v := (-1)) dX6_qPartTold_214 jcm1 ?_
  refine ev_icmp_eq 225 dX6_qPartTold_215 rfl (fun z1 => ?_) (fun z1 => ?_)
  · rw [if_pos z1] at h
    refine ev_sipush (v := (nI 1000)) dX6_qPartTold_225 js1000 ?_
    refine ev_aload_n dX6_qPartTold_228 rfl ?_
    refine ev_iconst (v := (nI 0)) dX6_qPartTold_229 jc0 ?_
    refine ev_sipush (v := (nI 9999)) dX6_qPartTold_230 js9999 ?_
    obtain ⟨q2, z3, h⟩ := Option.bind_eq_some_iff.mp h
    refine ev_zV2 dX6_qPartTold_233 vX6_333_6 (hk1547 hM) (Or.inl (hl1547 hM)) (Nat.le_of_ble_eq_true rfl) (Nat.le_of_ble_eq_true rfl) rfl (metX6_number hM n _ _ _ _ z3 ?_)
    show Ev g _ _ 236 _ [.int q2.1, .int (nI 1000), .ref 1547] K q2.2.1 q2.2.2 cr c sl Qr Qx
    refine ev_iadd dX6_qPartTold_236 ?_
    exact ev_mask [true, false, false, false, false, false] (wX6_qPartTold_237 hM n   _ _ _ h hq)
  · rw [if_neg z1] at h
    refine ev_bipush (v := (nI 40)) dX6_qPartTold_218 jb40 ?_
    refine ev_iload_n dX6_qPartTold_220 rfl ?_
    refine ev_iadd dX6_qPartTold_221 ?_
    refine ev_goto 237 dX6_qPartTold_222 rfl ?_
    exact ev_mask [true, false, false, false, false, false] (wX6_qPartTold_237 hM n   _ _ _ h hq)
def fX6_qPartTold_186 (n : Nat) (ci : jI) (cj : jJ) : Option (jI × jJ) := if (ci 1547 5) = 0 then Option.bind (fX6_qWordOf n (nI 0) (nI 11) ci cj) (fun q2 => if q2.1 = (-1) then fX6_qPartTold_212 n  q2.1 q2.2.1 q2.2.2 else Option.bind (fX6_qAsksWord n q2.1 q2.2.1 q2.2.2) (fun q5 => fX6_qPartTold_212 n  q2.1 q5.1 q5.2)) else some (ci, cj)
theorem wX6_qPartTold_186 {g : jG} {d : Nat} {K : jK} {cr : jR} {c sl : Nat} {Qr : jQ} {Qx : jX} (hM : jMW K cr) (n : Nat) (ci : jI) (cj : jJ) {q} (h : fX6_qPartTold_186 n   ci cj = some q) (hq : Qr none K q.1 q.2 cr) : Ev g (d + 6) mX6_qPartTold 186 [.ref 1547, jU, jU, jU, jU, jU] [] K ci cj cr c sl Qr Qx := by
  unfold fX6_qPartTold_186 at h
  refine ev_aload_n dX6_qPartTold_186 rfl ?_
  refine ev_getI dX6_qPartTold_187 fX6_251_6 (hk1547 hM) (Or.inl (hl1547 hM)) rfl ?_
  refine ev_if_eq 194 dX6_qPartTold_190 rfl (fun z1 => ?_) (fun z1 => ?_)
  · rw [if_pos z1] at h
    refine ev_aload_n dX6_qPartTold_194 rfl ?_
    refine ev_iconst (v := (nI 0)) dX6_qPartTold_195 jc0 ?_
    refine ev_bipush (v := (nI 11)) dX6_qPartTold_196 jb11 ?_
    obtain ⟨q2, z3, h⟩ := Option.bind_eq_some_iff.mp h
    refine ev_zV2 dX6_qPartTold_198 vX6_604_6 (hk1547 hM) (Or.inl (hl1547 hM)) (Nat.le_of_ble_eq_true rfl) (Nat.le_of_ble_eq_true rfl) rfl (metX6_qWordOf hM n _ _ _ _ z3 ?_)
    show Ev g _ _ 201 _ [.int q2.1] K q2.2.1 q2.2.2 cr c sl Qr Qx
    refine ev_istore_n (L' := [_, _, _, _, _, _]) dX6_qPartTold_201 (by decide) rfl ?_
    refine ev_iload_n dX6_qPartTold_202 rfl ?_
    refine ev_iconst (v := (-1)) dX6_qPartTold_203 jcm1 ?_
    refine ev_icmp_eq 212 dX6_qPartTold_204 rfl (fun z4 => ?_) (fun z4 => ?_)
    · rw [if_pos z4] at h
      exact wX6_qPartTold_212 hM n   _ _ _ h hq
    · rw [if_neg z4] at h
      refine ev_aload_n dX6_qPartTold_207 rfl ?_
      refine ev_iload_n dX6_qPartTold_208 rfl ?_
      obtain ⟨q5, z6, h⟩ := Option.bind_eq_some_iff.mp h
      refine ev_zV1 dX6_qPartTold_209 vX6_610_6 (hk1547 hM) (Or.inl (hl1547 hM)) (Nat.le_of_ble_eq_true rfl) (Nat.le_of_ble_eq_true rfl) rfl (metX6_qAsksWord hM n _ _ _ z6 ?_)
      show Ev g _ _ 212 _ [] K q5.1 q5.2 cr c sl Qr Qx
      exact wX6_qPartTold_212 hM n   _ _ _ h hq
  · rw [if_neg z1] at h
    cases h
    exact ev_ret dX6_qPartTold_193 rfl hq
def fX6_qPartTold_183 (n : Nat) (rec2 : Int32 → jI → jJ → Option (jI × jJ)) (l1 : Int32) (ci : jI) (cj : jJ) : Option (jI × jJ) := rec2 l1 ci cj
theorem wX6_qPartTold_183 {g : jG} {d : Nat} {K : jK} {cr : jR} {c sl : Nat} {Qr : jQ} {Qx : jX} (hM : jMW K cr) (n : Nat) (rec2 : Int32 → jI → jJ → Option (jI × jJ)) (hrec2 : (∀ (l1 : Int32) (ci : jI) (cj : jJ) {q}, rec2 l1 ci cj = some q → Qr none K q.1 q.2 cr → Ev g (d + 6) mX6_qPartTold 2 [.ref 1547, .int l1, jU, jU, jU, jU] [] K ci cj cr c sl Qr Qx)) (l1 : Int32) (ci : jI) (cj : jJ) {q} (h : fX6_qPartTold_183 n rec2 l1 ci cj = some q) (hq : Qr none K q.1 q.2 cr) : Ev g (d + 6) mX6_qPartTold 183 [.ref 1547, .int l1, jU, jU, jU, jU] [] K ci cj cr c sl Qr Qx := by
  unfold fX6_qPartTold_183 at h
  refine ev_goto 2 dX6_qPartTold_183 rfl ?_
  exact hrec2 _ _ _ h hq
def fX6_qPartTold_144 (n : Nat) (rec2 : Int32 → jI → jJ → Option (jI × jJ)) (l1 : Int32) (ci : jI) (cj : jJ) : Option (jI × jJ) := Option.bind (fX6_asksSign n (nI 40) ci cj) (fun q1 => fX6_qPartTold_183 n rec2 l1 q1.1 q1.2)
theorem wX6_qPartTold_144 {g : jG} {d : Nat} {K : jK} {cr : jR} {c sl : Nat} {Qr : jQ} {Qx : jX} (hM : jMW K cr) (n : Nat) (rec2 : Int32 → jI → jJ → Option (jI × jJ)) (hrec2 : (∀ (l1 : Int32) (ci : jI) (cj : jJ) {q}, rec2 l1 ci cj = some q → Qr none K q.1 q.2 cr → Ev g (d + 6) mX6_qPartTold 2 [.ref 1547, .int l1, jU, jU, jU, jU] [] K ci cj cr c sl Qr Qx)) (l1 : Int32) (ci : jI) (cj : jJ) {q} (h : fX6_qPartTold_144 n rec2 l1 ci cj = some q) (hq : Qr none K q.1 q.2 cr) : Ev g (d + 6) mX6_qPartTold 144 [.ref 1547, .int l1, jU, jU, jU, jU] [] K ci cj cr c sl Qr Qx := by
  unfold fX6_qPartTold_144 at h
  refine ev_aload_n dX6_qPartTold_144 rfl ?_
  refine ev_bipush (v := (nI 40)) dX6_qPartTold_145 jb40 ?_
  obtain ⟨q1, z2, h⟩ := Option.bind_eq_some_iff.mp h
  refine ev_zV1 dX6_qPartTold_147 vX6_381_6 (hk1547 hM) (Or.inl (hl1547 hM)) (Nat.le_of_ble_eq_true rfl) (Nat.le_of_ble_eq_true rfl) rfl (metX6_asksSign hM n _ _ _ z2 ?_)
  show Ev g _ _ 150 _ [] K q1.1 q1.2 cr c sl Qr Qx
  refine ev_goto 183 dX6_qPartTold_150 rfl ?_
  exact wX6_qPartTold_183 hM n _ (hrec2) _ _ _ h hq
def fX6_qPartTold_139 (n : Nat) (rec2 : Int32 → jI → jJ → Option (jI × jJ)) (l1 : Int32) (l5 : Int32) (t0 : Int32) (ci : jI) (cj : jJ) : Option (jI × jJ) := Option.bind (fX6_qOpens n t0 l5 ci cj) (fun q1 => fX6_qPartTold_144 n rec2 l1 q1.1 q1.2)
theorem wX6_qPartTold_139 {g : jG} {d : Nat} {K : jK} {cr : jR} {c sl : Nat} {Qr : jQ} {Qx : jX} (hM : jMW K cr) (n : Nat) (rec2 : Int32 → jI → jJ → Option (jI × jJ)) (hrec2 : (∀ (l1 : Int32) (ci : jI) (cj : jJ) {q}, rec2 l1 ci cj = some q → Qr none K q.1 q.2 cr → Ev g (d + 6) mX6_qPartTold 2 [.ref 1547, .int l1, jU, jU, jU, jU] [] K ci cj cr c sl Qr Qx)) (l1 : Int32) (l5 : Int32) (t0 : Int32) (ci : jI) (cj : jJ) {q} (h : fX6_qPartTold_139 n rec2 l1 l5 t0 ci cj = some q) (hq : Qr none K q.1 q.2 cr) : Ev g (d + 6) mX6_qPartTold 139 [.ref 1547, .int l1, jU, jU, jU, .int l5] [.int t0, .ref 1547] K ci cj cr c sl Qr Qx := by
  unfold fX6_qPartTold_139 at h
  refine ev_iload dX6_qPartTold_139 rfl ?_
  obtain ⟨q1, z2, h⟩ := Option.bind_eq_some_iff.mp h
  refine ev_zV2 dX6_qPartTold_141 vX6_607_6 (hk1547 hM) (Or.inl (hl1547 hM)) (Nat.le_of_ble_eq_true rfl) (Nat.le_of_ble_eq_true rfl) rfl (metX6_qOpens hM n _ _ _ _ z2 ?_)
  show Ev g _ _ 144 _ [] K q1.1 q1.2 cr c sl Qr Qx
  exact ev_mask [true, true, false, false, false, false] (wX6_qPartTold_144 hM n _ (hrec2) _ _ _ h hq)
def fX6_qPartTold_118 (n : Nat) (rec2 : Int32 → jI → jJ → Option (jI × jJ)) (l1 : Int32) (l4 : Int32) (t0 : Int32) (ci : jI) (cj : jJ) : Option (jI × jJ) := if t0 = (-1) then fX6_qPartTold_144 n rec2 l1 ci cj else if l4 = 0 then fX6_qPartTold_139 n rec2 l1 t0 (nI 22) ci cj else fX6_qPartTold_139 n rec2 l1 t0 (nI 21) ci cj
theorem wX6_qPartTold_118 {g : jG} {d : Nat} {K : jK} {cr : jR} {c sl : Nat} {Qr : jQ} {Qx : jX} (hM : jMW K cr) (n : Nat) (rec2 : Int32 → jI → jJ → Option (jI × jJ)) (hrec2 : (∀ (l1 : Int32) (ci : jI) (cj : jJ) {q}, rec2 l1 ci cj = some q → Qr none K q.1 q.2 cr → Ev g (d + 6) mX6_qPartTold 2 [.ref 1547, .int l1, jU, jU, jU, jU] [] K ci cj cr c sl Qr Qx)) (l1 : Int32) (l4 : Int32) (t0 : Int32) (ci : jI) (cj : jJ) {q} (h : fX6_qPartTold_118 n rec2 l1 l4 t0 ci cj = some q) (hq : Qr none K q.1 q.2 cr) : Ev g (d + 6) mX6_qPartTold 118 [.ref 1547, .int l1, jU, jU, .int l4, jU] [.int t0] K ci cj cr c sl Qr Qx := by
  unfold fX6_qPartTold_118 at h
  refine ev_istore (L' := [_, _, _, _, _, _]) dX6_qPartTold_118 (by decide) rfl ?_
  refine ev_iload dX6_qPartTold_120 rfl ?_
  refine ev_iconst (v := (-1)) dX6_qPartTold_122 jcm1 ?_
  refine ev_icmp_eq 144 dX6_qPartTold_123 rfl (fun z1 => ?_) (fun z1 => ?_)
  · rw [if_pos z1] at h
    exact ev_mask [true, true, false, false, false, false] (wX6_qPartTold_144 hM n _ (hrec2) _ _ _ h hq)
  · rw [if_neg z1] at h
    refine ev_aload_n dX6_qPartTold_126 rfl ?_
    refine ev_iload dX6_qPartTold_127 rfl ?_
    refine ev_if_eq 137 dX6_qPartTold_129 rfl (fun z2 => ?_) (fun z2 => ?_)
    · rw [if_pos z2] at h
      refine ev_bipush (v := (nI 22)) dX6_qPartTold_137 jb22 ?_
      exact ev_mask [true, true, false, false, false, true] (wX6_qPartTold_139 hM n _ (hrec2) _ _ _ _ _ h hq)
    · rw [if_neg z2] at h
      refine ev_bipush (v := (nI 21)) dX6_qPartTold_132 jb21 ?_
      refine ev_goto 139 dX6_qPartTold_134 rfl ?_
      exact ev_mask [true, true, false, false, false, true] (wX6_qPartTold_139 hM n _ (hrec2) _ _ _ _ _ h hq)
def fX6_qPartTold_101 (n : Nat) (rec2 : Int32 → jI → jJ → Option (jI × jJ)) (l1 : Int32) (l4 : Int32) (ci : jI) (cj : jJ) : Option (jI × jJ) := Option.bind (fX6_look n  ci cj) (fun q1 => if q1.1 = (nI 40) then fX6_qPartTold_118 n rec2 l1 l4 (q1.2.1 1547 2) q1.2.1 q1.2.2 else fX6_qPartTold_118 n rec2 l1 l4 (-1) q1.2.1 q1.2.2)
theorem wX6_qPartTold_101 {g : jG} {d : Nat} {K : jK} {cr : jR} {c sl : Nat} {Qr : jQ} {Qx : jX} (hM : jMW K cr) (n : Nat) (rec2 : Int32 → jI → jJ → Option (jI × jJ)) (hrec2 : (∀ (l1 : Int32) (ci : jI) (cj : jJ) {q}, rec2 l1 ci cj = some q → Qr none K q.1 q.2 cr → Ev g (d + 6) mX6_qPartTold 2 [.ref 1547, .int l1, jU, jU, jU, jU] [] K ci cj cr c sl Qr Qx)) (l1 : Int32) (l4 : Int32) (ci : jI) (cj : jJ) {q} (h : fX6_qPartTold_101 n rec2 l1 l4 ci cj = some q) (hq : Qr none K q.1 q.2 cr) : Ev g (d + 6) mX6_qPartTold 101 [.ref 1547, .int l1, jU, jU, .int l4, jU] [] K ci cj cr c sl Qr Qx := by
  unfold fX6_qPartTold_101 at h
  refine ev_aload_n dX6_qPartTold_101 rfl ?_
  obtain ⟨q1, z2, h⟩ := Option.bind_eq_some_iff.mp h
  refine ev_zV0 dX6_qPartTold_102 vX6_263_6 (hk1547 hM) (Or.inl (hl1547 hM)) (Nat.le_of_ble_eq_true rfl) (Nat.le_of_ble_eq_true rfl) rfl (metX6_look hM n  _ _ z2 ?_)
  show Ev g _ _ 105 _ [.int q1.1] K q1.2.1 q1.2.2 cr c sl Qr Qx
  refine ev_bipush (v := (nI 40)) dX6_qPartTold_105 jb40 ?_
  refine ev_icmp_ne 117 dX6_qPartTold_107 rfl (fun z3 => ?_) (fun z3 => ?_)
  · rw [if_neg z3] at h
    refine ev_iconst (v := (-1)) dX6_qPartTold_117 jcm1 ?_
    exact wX6_qPartTold_118 hM n _ (hrec2) _ _ _ _ _ h hq
  · rw [if_pos z3] at h
    refine ev_aload_n dX6_qPartTold_110 rfl ?_
    refine ev_getI dX6_qPartTold_111 fX6_257_6 (hk1547 hM) (Or.inl (hl1547 hM)) rfl ?_
    refine ev_goto 118 dX6_qPartTold_114 rfl ?_
    exact wX6_qPartTold_118 hM n _ (hrec2) _ _ _ _ _ h hq
def fX6_qPartTold_78 (n : Nat) (rec2 : Int32 → jI → jJ → Option (jI × jJ)) (l1 : Int32) (ci : jI) (cj : jJ) : Option (jI × jJ) := Option.bind (fX6_takes n 1605 ci cj) (fun q1 => if q1.1 = 0 then Option.bind (fX6_asks n 1606 q1.2.1 q1.2.2) (fun q4 => fX6_qPartTold_101 n rec2 l1 q1.1 q4.1 q4.2) else fX6_qPartTold_101 n rec2 l1 q1.1 q1.2.1 q1.2.2)
theorem wX6_qPartTold_78 {g : jG} {d : Nat} {K : jK} {cr : jR} {c sl : Nat} {Qr : jQ} {Qx : jX} (hM : jMW K cr) (n : Nat) (rec2 : Int32 → jI → jJ → Option (jI × jJ)) (hrec2 : (∀ (l1 : Int32) (ci : jI) (cj : jJ) {q}, rec2 l1 ci cj = some q → Qr none K q.1 q.2 cr → Ev g (d + 6) mX6_qPartTold 2 [.ref 1547, .int l1, jU, jU, jU, jU] [] K ci cj cr c sl Qr Qx)) (l1 : Int32) (ci : jI) (cj : jJ) {q} (h : fX6_qPartTold_78 n rec2 l1 ci cj = some q) (hq : Qr none K q.1 q.2 cr) : Ev g (d + 6) mX6_qPartTold 78 [.ref 1547, .int l1, jU, jU, jU, jU] [] K ci cj cr c sl Qr Qx := by
  unfold fX6_qPartTold_78 at h
  refine ev_aload_n dX6_qPartTold_78 rfl ?_
  refine ev_aload_n dX6_qPartTold_79 rfl ?_
  refine ev_getR dX6_qPartTold_80 fX6_191_6 (hk1547 hM) (Or.inl (hl1547 hM)) rfl (hr81 hM) ?_
  obtain ⟨q1, z2, h⟩ := Option.bind_eq_some_iff.mp h
  refine ev_zV1 dX6_qPartTold_83 vX6_278_6 (hk1547 hM) (Or.inl (hl1547 hM)) (Nat.le_of_ble_eq_true rfl) (Nat.le_of_ble_eq_true rfl) rfl (metX6_takes hM n _ _ _ z2 ?_)
  show Ev g _ _ 86 _ [.int q1.1] K q1.2.1 q1.2.2 cr c sl Qr Qx
  refine ev_istore (L' := [_, _, _, _, _, _]) dX6_qPartTold_86 (by decide) rfl ?_
  refine ev_iload dX6_qPartTold_88 rfl ?_
  refine ev_if_ne 101 dX6_qPartTold_90 rfl (fun z3 => ?_) (fun z3 => ?_)
  · rw [if_neg z3] at h
    exact wX6_qPartTold_101 hM n _ (hrec2) _ _ _ _ h hq
  · rw [if_pos z3] at h
    refine ev_aload_n dX6_qPartTold_93 rfl ?_
    refine ev_aload_n dX6_qPartTold_94 rfl ?_
    refine ev_getR dX6_qPartTold_95 fX6_194_6 (hk1547 hM) (Or.inl (hl1547 hM)) rfl (hr82 hM) ?_
    obtain ⟨q4, z5, h⟩ := Option.bind_eq_some_iff.mp h
    refine ev_zV1 dX6_qPartTold_98 vX6_329_6 (hk1547 hM) (Or.inl (hl1547 hM)) (Nat.le_of_ble_eq_true rfl) (Nat.le_of_ble_eq_true rfl) rfl (metX6_asks hM n _ _ _ z5 ?_)
    show Ev g _ _ 101 _ [] K q4.1 q4.2 cr c sl Qr Qx
    exact wX6_qPartTold_101 hM n _ (hrec2) _ _ _ _ h hq
def fX6_qPartTold_2 (n : Nat) : Nat → Int32 → jI → jJ → Option (jI × jJ)
  | 0, _, _, _ => none
  | k + 1, l1, ci, cj => if l1 = 0 then fX6_qPartTold_186 n   ci cj else if (ci 1547 5) = 0 then Option.bind (fX6_look n  ci cj) (fun q3 => Option.bind (fX6_qWordOf n (nI 11) (nI 13) q3.2.1 q3.2.2) (fun q5 => if q3.1 = (nI 40) then Option.bind (fX6_qOpens n (nI 20) (q5.2.1 1547 2) q5.2.1 q5.2.2) (fun q19 => fX6_qPartTold_183 n (fX6_qPartTold_2 n  k) l1 (ju q19.1 1547 2 ((q19.1 1547 2) + (nI 1))) q19.2) else Option.bind (fX6_isHere n 1605 q5.2.1 q5.2.2) (fun q8 => if q8.1 = 0 then Option.bind (fX6_isHere n 1606 q8.2.1 q8.2.2) (fun q11 => if q11.1 = 0 then if q5.1 = (-1) then fX6_qPartTold_183 n (fX6_qPartTold_2 n  k) (nI 0) q11.2.1 q11.2.2 else Option.bind (fX6_qOpens n (((nI 60) + q5.1) - (nI 11)) (q11.2.1 1547 2) q11.2.1 q11.2.2) (fun q15 => Option.bind (fX6_qAsksWord n q5.1 q15.1 q15.2) (fun q17 => fX6_qPartTold_183 n (fX6_qPartTold_2 n  k) l1 q17.1 q17.2)) else fX6_qPartTold_78 n (fX6_qPartTold_2 n  k) l1 q11.2.1 q11.2.2) else fX6_qPartTold_78 n (fX6_qPartTold_2 n  k) l1 q8.2.1 q8.2.2))) else fX6_qPartTold_186 n   ci cj
theorem wX6_qPartTold_2 {g : jG} {d : Nat} {K : jK} {cr : jR} {c sl : Nat} {Qr : jQ} {Qx : jX} (hM : jMW K cr) (n : Nat) : ∀ (k : Nat) (l1 : Int32) (ci : jI) (cj : jJ) {q}, fX6_qPartTold_2 n  k l1 ci cj = some q → Qr none K q.1 q.2 cr → Ev g (d + 6) mX6_qPartTold 2 [.ref 1547, .int l1, jU, jU, jU, jU] [] K ci cj cr c sl Qr Qx := by
  intro k
  induction k with
  | zero =>
    intro l1 ci cj q h hq
    rw [fX6_qPartTold_2.eq_1] at h; cases h
  | succ k ih =>
    intro l1 ci cj q h hq
    rw [fX6_qPartTold_2.eq_2] at h
    refine ev_iload_n dX6_qPartTold_2 rfl ?_
    refine ev_if_eq 186 dX6_qPartTold_3 rfl (fun z1 => ?_) (fun z1 => ?_)
    · rw [if_pos z1] at h
      exact ev_mask [true, false, false, false, false, false] (wX6_qPartTold_186 hM n    _ _ h hq)
    · rw [if_neg z1] at h
      refine ev_aload_n dX6_qPartTold_6 rfl ?_
      refine ev_getI dX6_qPartTold_7 fX6_251_6 (hk1547 hM) (Or.inl (hl1547 hM)) rfl ?_
      refine ev_if_ne 186 dX6_qPartTold_10 rfl (fun z2 => ?_) (fun z2 => ?_)
      · rw [if_neg z2] at h
        exact ev_mask [true, false, false, false, false, false] (wX6_qPartTold_186 hM n    _ _ h hq)
      · rw [if_pos z2] at h
        refine ev_aload_n dX6_qPartTold_13 rfl ?_
        obtain ⟨q3, z4, h⟩ := Option.bind_eq_some_iff.mp h
        refine ev_zV0 dX6_qPartTold_14 vX6_263_6 (hk1547 hM) (Or.inl (hl1547 hM)) (Nat.le_of_ble_eq_true rfl) (Nat.le_of_ble_eq_true rfl) rfl (metX6_look hM n  _ _ z4 ?_)
        show Ev g _ _ 17 _ [.int q3.1] K q3.2.1 q3.2.2 cr c sl Qr Qx
        refine ev_istore_n (L' := [_, _, _, _, _, _]) dX6_qPartTold_17 (by decide) rfl ?_
        refine ev_aload_n dX6_qPartTold_18 rfl ?_
        refine ev_bipush (v := (nI 11)) dX6_qPartTold_19 jb11 ?_
        refine ev_bipush (v := (nI 13)) dX6_qPartTold_21 jb13 ?_
        obtain ⟨q5, z6, h⟩ := Option.bind_eq_some_iff.mp h
        refine ev_zV2 dX6_qPartTold_23 vX6_604_6 (hk1547 hM) (Or.inl (hl1547 hM)) (Nat.le_of_ble_eq_true rfl) (Nat.le_of_ble_eq_true rfl) rfl (metX6_qWordOf hM n _ _ _ _ z6 ?_)
        show Ev g _ _ 26 _ [.int q5.1] K q5.2.1 q5.2.2 cr c sl Qr Qx
        refine ev_istore_n (L' := [_, _, _, _, _, _]) dX6_qPartTold_26 (by decide) rfl ?_
        refine ev_iload_n dX6_qPartTold_27 rfl ?_
        refine ev_bipush (v := (nI 40)) dX6_qPartTold_28 jb40 ?_
        refine ev_icmp_ne 56 dX6_qPartTold_30 rfl (fun z7 => ?_) (fun z7 => ?_)
        · rw [if_neg z7] at h
          refine ev_aload_n dX6_qPartTold_56 rfl ?_
          refine ev_aload_n dX6_qPartTold_57 rfl ?_
          refine ev_getR dX6_qPartTold_58 fX6_191_6 (hk1547 hM) (Or.inl (hl1547 hM)) rfl (hr81 hM) ?_
          obtain ⟨q8, z9, h⟩ := Option.bind_eq_some_iff.mp h
          refine ev_zV1 dX6_qPartTold_61 vX6_274_6 (hk1547 hM) (Or.inl (hl1547 hM)) (Nat.le_of_ble_eq_true rfl) (Nat.le_of_ble_eq_true rfl) rfl (metX6_isHere hM n _ _ _ z9 ?_)
          show Ev g _ _ 64 _ [.int q8.1] K q8.2.1 q8.2.2 cr c sl Qr Qx
          refine ev_if_ne 78 dX6_qPartTold_64 rfl (fun z10 => ?_) (fun z10 => ?_)
          · rw [if_neg z10] at h
            exact ev_mask [true, true, false, false, false, false] (wX6_qPartTold_78 hM n _ (ih) _ _ _ h hq)
          · rw [if_pos z10] at h
            refine ev_aload_n dX6_qPartTold_67 rfl ?_
            refine ev_aload_n dX6_qPartTold_68 rfl ?_
            refine ev_getR dX6_qPartTold_69 fX6_194_6 (hk1547 hM) (Or.inl (hl1547 hM)) rfl (hr82 hM) ?_
            obtain ⟨q11, z12, h⟩ := Option.bind_eq_some_iff.mp h
            refine ev_zV1 dX6_qPartTold_72 vX6_274_6 (hk1547 hM) (Or.inl (hl1547 hM)) (Nat.le_of_ble_eq_true rfl) (Nat.le_of_ble_eq_true rfl) rfl (metX6_isHere hM n _ _ _ z12 ?_)
            show Ev g _ _ 75 _ [.int q11.1] K q11.2.1 q11.2.2 cr c sl Qr Qx
            refine ev_if_eq 153 dX6_qPartTold_75 rfl (fun z13 => ?_) (fun z13 => ?_)
            · rw [if_pos z13] at h
              refine ev_iload_n dX6_qPartTold_153 rfl ?_
              refine ev_iconst (v := (-1)) dX6_qPartTold_154 jcm1 ?_
              refine ev_icmp_eq 181 dX6_qPartTold_155 rfl (fun z14 => ?_) (fun z14 => ?_)
              · rw [if_pos z14] at h
                refine ev_iconst (v := (nI 0)) dX6_qPartTold_181 jc0 ?_
                refine ev_istore_n (L' := [_, _, _, _, _, _]) dX6_qPartTold_182 (by decide) rfl ?_
                exact ev_mask [true, true, false, false, false, false] (wX6_qPartTold_183 hM n _ (ih) _ _ _ h hq)
              · rw [if_neg z14] at h
                refine ev_aload_n dX6_qPartTold_158 rfl ?_
                refine ev_bipush (v := (nI 60)) dX6_qPartTold_159 jb60 ?_
                refine ev_iload_n dX6_qPartTold_161 rfl ?_
                refine ev_iadd dX6_qPartTold_162 ?_
                refine ev_bipush (v := (nI 11)) dX6_qPartTold_163 jb11 ?_
                refine ev_isub dX6_qPartTold_165 ?_
                refine ev_aload_n dX6_qPartTold_166 rfl ?_
                refine ev_getI dX6_qPartTold_167 fX6_257_6 (hk1547 hM) (Or.inl (hl1547 hM)) rfl ?_
                obtain ⟨q15, z16, h⟩ := Option.bind_eq_some_iff.mp h
                refine ev_zV2 dX6_qPartTold_170 vX6_607_6 (hk1547 hM) (Or.inl (hl1547 hM)) (Nat.le_of_ble_eq_true rfl) (Nat.le_of_ble_eq_true rfl) rfl (metX6_qOpens hM n _ _ _ _ z16 ?_)
                show Ev g _ _ 173 _ [] K q15.1 q15.2 cr c sl Qr Qx
                refine ev_aload_n dX6_qPartTold_173 rfl ?_
                refine ev_iload_n dX6_qPartTold_174 rfl ?_
                obtain ⟨q17, z18, h⟩ := Option.bind_eq_some_iff.mp h
                refine ev_zV1 dX6_qPartTold_175 vX6_610_6 (hk1547 hM) (Or.inl (hl1547 hM)) (Nat.le_of_ble_eq_true rfl) (Nat.le_of_ble_eq_true rfl) rfl (metX6_qAsksWord hM n _ _ _ z18 ?_)
                show Ev g _ _ 178 _ [] K q17.1 q17.2 cr c sl Qr Qx
                refine ev_goto 183 dX6_qPartTold_178 rfl ?_
                exact ev_mask [true, true, false, false, false, false] (wX6_qPartTold_183 hM n _ (ih) _ _ _ h hq)
            · rw [if_neg z13] at h
              exact ev_mask [true, true, false, false, false, false] (wX6_qPartTold_78 hM n _ (ih) _ _ _ h hq)
        · rw [if_pos z7] at h
          refine ev_aload_n dX6_qPartTold_33 rfl ?_
          refine ev_bipush (v := (nI 20)) dX6_qPartTold_34 jb20 ?_
          refine ev_aload_n dX6_qPartTold_36 rfl ?_
          refine ev_getI dX6_qPartTold_37 fX6_257_6 (hk1547 hM) (Or.inl (hl1547 hM)) rfl ?_
          obtain ⟨q19, z20, h⟩ := Option.bind_eq_some_iff.mp h
          refine ev_zV2 dX6_qPartTold_40 vX6_607_6 (hk1547 hM) (Or.inl (hl1547 hM)) (Nat.le_of_ble_eq_true rfl) (Nat.le_of_ble_eq_true rfl) rfl (metX6_qOpens hM n _ _ _ _ z20 ?_)
          show Ev g _ _ 43 _ [] K q19.1 q19.2 cr c sl Qr Qx
          refine ev_aload_n dX6_qPartTold_43 rfl ?_
          refine ev_dup dX6_qPartTold_44 rfl ?_
          refine ev_getI dX6_qPartTold_45 fX6_257_6 (hk1547 hM) (Or.inl (hl1547 hM)) rfl ?_
          refine ev_iconst (v := (nI 1)) dX6_qPartTold_48 jc1 ?_
          refine ev_iadd dX6_qPartTold_49 ?_
          refine ev_putI dX6_qPartTold_50 (pX6_257_6 _) (hk1547 hM) (hl1547 hM) rfl rfl rfl ?_
          refine ev_goto 183 dX6_qPartTold_53 rfl ?_
          exact ev_mask [true, true, false, false, false, false] (wX6_qPartTold_183 hM n _ (ih) _ _ _ h hq)
def fX6_qPartTold (n : Nat) (ci : jI) (cj : jJ) : Option (jI × jJ) := fX6_qPartTold_2 n  n (nI 1) ci cj
theorem metX6_qPartTold {g : jG} {d : Nat} {K : jK} {cr : jR} {c sl : Nat} {Qr : jQ} {Qx : jX} (hM : jMW K cr) (n : Nat) (ci : jI) (cj : jJ) {q} (h : fX6_qPartTold n  ci cj = some q) (hq : Qr none K q.1 q.2 cr) : EvM g (d + 6) mX6_qPartTold [.ref 1547] K ci cj cr c sl Qr Qx := by
  unfold fX6_qPartTold at h
  show Ev g (d + 6) mX6_qPartTold 0 [.ref 1547, jU, jU, jU, jU, jU] [] K ci cj cr c sl Qr Qx
  refine ev_iconst (v := (nI 1)) dX6_qPartTold_0 jc1 ?_
  refine ev_istore_n (L' := [_, _, _, _, _, _]) dX6_qPartTold_1 (by decide) rfl ?_
  exact wX6_qPartTold_2 hM n   n _ _ _ h hq
