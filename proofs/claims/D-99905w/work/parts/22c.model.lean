/-! STAGE A OF THE MODEL (printed by gen/model.py) -/
set_option maxRecDepth 100000
def fX6_qSums_78 (n : Nat) (l1 : Int32) (ci : jI) (cj : jJ) : Option (jI × jJ) := some ((ju ci 1547 101 l1), cj)
theorem wX6_qSums_78 {g : jG} {d : Nat} {K : jK} {cr : jR} {c sl : Nat} {Qr : jQ} {Qx : jX} (hM : jMW K cr) (n : Nat) (l1 : Int32) (ci : jI) (cj : jJ) {q} (h : fX6_qSums_78 n  l1 ci cj = some q) (hq : Qr none K q.1 q.2 cr) : Ev g (d + 7) mX6_qSums 78 [.ref 1547, .int l1, jU] [] K ci cj cr c sl Qr Qx := by
  unfold fX6_qSums_78 at h
  refine ev_aload_n dX6_qSums_78 rfl ?_
  refine ev_iload_n dX6_qSums_79 rfl ?_
  refine ev_putI dX6_qSums_80 (pX6_353_6 _) (hk1547 hM) (hl1547 hM) rfl rfl rfl ?_
  cases h
  exact ev_ret dX6_qSums_83 rfl hq
def fX6_qSums_53 (n : Nat) : Nat → Int32 → jI → jJ → Option (jI × jJ)
  | 0, _, _, _ => none
  | k + 1, l1, ci, cj => if (ci 1547 5) = 0 then if (ci 1547 99) ≤ (ci 1547 101) then fX6_qSums_78 n  l1 ci cj else Option.bind (fX6_qDrops n  ci cj) (fun q3 => fX6_qSums_53 n  k l1 q3.1 q3.2) else fX6_qSums_78 n  l1 ci cj
theorem wX6_qSums_53 {g : jG} {d : Nat} {K : jK} {cr : jR} {c sl : Nat} {Qr : jQ} {Qx : jX} (hM : jMW K cr) (n : Nat) : ∀ (k : Nat) (l1 : Int32) (ci : jI) (cj : jJ) {q}, fX6_qSums_53 n  k l1 ci cj = some q → Qr none K q.1 q.2 cr → Ev g (d + 7) mX6_qSums 53 [.ref 1547, .int l1, jU] [] K ci cj cr c sl Qr Qx := by
  intro k
  induction k with
  | zero =>
    intro l1 ci cj q h hq
    rw [fX6_qSums_53.eq_1] at h; cases h
  | succ k ih =>
    intro l1 ci cj q h hq
    rw [fX6_qSums_53.eq_2] at h
    refine ev_aload_n dX6_qSums_53 rfl ?_
    refine ev_getI dX6_qSums_54 fX6_251_6 (hk1547 hM) (Or.inl (hl1547 hM)) rfl ?_
    refine ev_if_ne 78 dX6_qSums_57 rfl (fun z1 => ?_) (fun z1 => ?_)
    · rw [if_neg z1] at h
      exact wX6_qSums_78 hM n   _ _ _ h hq
    · rw [if_pos z1] at h
      refine ev_aload_n dX6_qSums_60 rfl ?_
      refine ev_getI dX6_qSums_61 fX6_347_6 (hk1547 hM) (Or.inl (hl1547 hM)) rfl ?_
      refine ev_aload_n dX6_qSums_64 rfl ?_
      refine ev_getI dX6_qSums_65 fX6_353_6 (hk1547 hM) (Or.inl (hl1547 hM)) rfl ?_
      refine ev_icmp_le 78 dX6_qSums_68 rfl (fun z2 => ?_) (fun z2 => ?_)
      · rw [if_pos z2] at h
        exact wX6_qSums_78 hM n   _ _ _ h hq
      · rw [if_neg z2] at h
        refine ev_aload_n dX6_qSums_71 rfl ?_
        obtain ⟨q3, z4, h⟩ := Option.bind_eq_some_iff.mp h
        refine ev_zV0 dX6_qSums_72 vX6_595_6 (hk1547 hM) (Or.inl (hl1547 hM)) (Nat.le_of_ble_eq_true rfl) (Nat.le_of_ble_eq_true rfl) rfl (metX6_qDrops hM n  _ _ z4 ?_)
        show Ev g _ _ 75 _ [] K q3.1 q3.2 cr c sl Qr Qx
        refine ev_goto 53 dX6_qSums_75 rfl ?_
        exact ih _ _ _ h hq
def fX6_qSums_49 (n : Nat) (rec15 : Int32 → Int32 → jI → jJ → Option (jI × jJ)) (l1 : Int32) (t0 : Int32) (ci : jI) (cj : jJ) : Option (jI × jJ) := rec15 l1 t0 ci cj
theorem wX6_qSums_49 {g : jG} {d : Nat} {K : jK} {cr : jR} {c sl : Nat} {Qr : jQ} {Qx : jX} (hM : jMW K cr) (n : Nat) (rec15 : Int32 → Int32 → jI → jJ → Option (jI × jJ)) (hrec15 : (∀ (l1 : Int32) (l2 : Int32) (ci : jI) (cj : jJ) {q}, rec15 l1 l2 ci cj = some q → Qr none K q.1 q.2 cr → Ev g (d + 7) mX6_qSums 15 [.ref 1547, .int l1, .int l2] [] K ci cj cr c sl Qr Qx)) (l1 : Int32) (t0 : Int32) (ci : jI) (cj : jJ) {q} (h : fX6_qSums_49 n rec15 l1 t0 ci cj = some q) (hq : Qr none K q.1 q.2 cr) : Ev g (d + 7) mX6_qSums 49 [.ref 1547, .int l1, jU] [.int t0] K ci cj cr c sl Qr Qx := by
  unfold fX6_qSums_49 at h
  refine ev_istore_n (L' := [_, _, _]) dX6_qSums_49 (by decide) rfl ?_
  refine ev_goto 15 dX6_qSums_50 rfl ?_
  exact hrec15 _ _ _ _ h hq
def fX6_qSums_48 (n : Nat) (rec15 : Int32 → Int32 → jI → jJ → Option (jI × jJ)) (l1 : Int32) (ci : jI) (cj : jJ) : Option (jI × jJ) := fX6_qSums_49 n rec15 l1 (nI 0) ci cj
theorem wX6_qSums_48 {g : jG} {d : Nat} {K : jK} {cr : jR} {c sl : Nat} {Qr : jQ} {Qx : jX} (hM : jMW K cr) (n : Nat) (rec15 : Int32 → Int32 → jI → jJ → Option (jI × jJ)) (hrec15 : (∀ (l1 : Int32) (l2 : Int32) (ci : jI) (cj : jJ) {q}, rec15 l1 l2 ci cj = some q → Qr none K q.1 q.2 cr → Ev g (d + 7) mX6_qSums 15 [.ref 1547, .int l1, .int l2] [] K ci cj cr c sl Qr Qx)) (l1 : Int32) (ci : jI) (cj : jJ) {q} (h : fX6_qSums_48 n rec15 l1 ci cj = some q) (hq : Qr none K q.1 q.2 cr) : Ev g (d + 7) mX6_qSums 48 [.ref 1547, .int l1, jU] [] K ci cj cr c sl Qr Qx := by
  unfold fX6_qSums_48 at h
  refine ev_iconst (v := (nI 0)) dX6_qSums_48 jc0 ?_
  exact wX6_qSums_49 hM n _ (hrec15) _ _ _ _ h hq
def fX6_qSums_15 (n : Nat) : Nat → Int32 → Int32 → jI → jJ → Option (jI × jJ)
  | 0, _, _, _, _ => none
  | k + 1, l1, l2, ci, cj => if l2 = 0 then fX6_qSums_53 n  n l1 ci cj else if (ci 1547 5) = 0 then Option.bind (fX6_qPartTold n  ci cj) (fun q3 => if (q3.1 1547 5) = 0 then Option.bind (fX6_qGoesOn n  q3.1 q3.2) (fun q6 => if q6.1 = 0 then fX6_qSums_48 n (fX6_qSums_15 n  k) l1 q6.2.1 q6.2.2 else fX6_qSums_49 n (fX6_qSums_15 n  k) l1 (nI 1) q6.2.1 q6.2.2) else fX6_qSums_48 n (fX6_qSums_15 n  k) l1 q3.1 q3.2) else fX6_qSums_53 n  n l1 ci cj
theorem wX6_qSums_15 {g : jG} {d : Nat} {K : jK} {cr : jR} {c sl : Nat} {Qr : jQ} {Qx : jX} (hM : jMW K cr) (n : Nat) : ∀ (k : Nat) (l1 : Int32) (l2 : Int32) (ci : jI) (cj : jJ) {q}, fX6_qSums_15 n  k l1 l2 ci cj = some q → Qr none K q.1 q.2 cr → Ev g (d + 7) mX6_qSums 15 [.ref 1547, .int l1, .int l2] [] K ci cj cr c sl Qr Qx := by
  intro k
  induction k with
  | zero =>
    intro l1 l2 ci cj q h hq
    rw [fX6_qSums_15.eq_1] at h; cases h
  | succ k ih =>
    intro l1 l2 ci cj q h hq
    rw [fX6_qSums_15.eq_2] at h
    refine ev_iload_n dX6_qSums_15 rfl ?_
    refine ev_if_eq 53 dX6_qSums_16 rfl (fun z1 => ?_) (fun z1 => ?_)
    · rw [if_pos z1] at h
      exact ev_mask [true, true, false] (wX6_qSums_53 hM n   n _ _ _ h hq)
    · rw [if_neg z1] at h
      refine ev_aload_n dX6_qSums_19 rfl ?_
      refine ev_getI dX6_qSums_20 fX6_251_6 (hk1547 hM) (Or.inl (hl1547 hM)) rfl ?_
      refine ev_if_ne 53 dX6_qSums_23 rfl (fun z2 => ?_) (fun z2 => ?_)
      · rw [if_neg z2] at h
        exact ev_mask [true, true, false] (wX6_qSums_53 hM n   n _ _ _ h hq)
      · rw [if_pos z2] at h
        refine ev_aload_n dX6_qSums_26 rfl ?_
        obtain ⟨q3, z4, h⟩ := Option.bind_eq_some_iff.mp h
        refine ev_zV0 dX6_qSums_27 vX6_625_6 (hk1547 hM) (Or.inl (hl1547 hM)) (Nat.le_of_ble_eq_true rfl) (Nat.le_of_ble_eq_true rfl) rfl (metX6_qPartTold hM n  _ _ z4 ?_)
        show Ev g _ _ 30 _ [] K q3.1 q3.2 cr c sl Qr Qx
        refine ev_aload_n dX6_qSums_30 rfl ?_
        refine ev_getI dX6_qSums_31 fX6_251_6 (hk1547 hM) (Or.inl (hl1547 hM)) rfl ?_
        refine ev_if_ne 48 dX6_qSums_34 rfl (fun z5 => ?_) (fun z5 => ?_)
        · rw [if_neg z5] at h
          exact ev_mask [true, true, false] (wX6_qSums_48 hM n _ (ih) _ _ _ h hq)
        · rw [if_pos z5] at h
          refine ev_aload_n dX6_qSums_37 rfl ?_
          obtain ⟨q6, z7, h⟩ := Option.bind_eq_some_iff.mp h
          refine ev_zV0 dX6_qSums_38 vX6_628_6 (hk1547 hM) (Or.inl (hl1547 hM)) (Nat.le_of_ble_eq_true rfl) (Nat.le_of_ble_eq_true rfl) rfl (metX6_qGoesOn hM n  _ _ z7 ?_)
          show Ev g _ _ 41 _ [.int q6.1] K q6.2.1 q6.2.2 cr c sl Qr Qx
          refine ev_if_eq 48 dX6_qSums_41 rfl (fun z8 => ?_) (fun z8 => ?_)
          · rw [if_pos z8] at h
            exact ev_mask [true, true, false] (wX6_qSums_48 hM n _ (ih) _ _ _ h hq)
          · rw [if_neg z8] at h
            refine ev_iconst (v := (nI 1)) dX6_qSums_44 jc1 ?_
            refine ev_goto 49 dX6_qSums_45 rfl ?_
            exact ev_mask [true, true, false] (wX6_qSums_49 hM n _ (ih) _ _ _ _ h hq)
def fX6_qSums (n : Nat) (ci : jI) (cj : jJ) : Option (jI × jJ) := fX6_qSums_15 n  n (ci 1547 101) (nI 1) (ju ci 1547 101 (ci 1547 99)) cj
theorem metX6_qSums {g : jG} {d : Nat} {K : jK} {cr : jR} {c sl : Nat} {Qr : jQ} {Qx : jX} (hM : jMW K cr) (n : Nat) (ci : jI) (cj : jJ) {q} (h : fX6_qSums n  ci cj = some q) (hq : Qr none K q.1 q.2 cr) : EvM g (d + 7) mX6_qSums [.ref 1547] K ci cj cr c sl Qr Qx := by
  unfold fX6_qSums at h
  show Ev g (d + 7) mX6_qSums 0 [.ref 1547, jU, jU] [] K ci cj cr c sl Qr Qx
  refine ev_aload_n dX6_qSums_0 rfl ?_
  refine ev_getI dX6_qSums_1 fX6_353_6 (hk1547 hM) (Or.inl (hl1547 hM)) rfl ?_
  refine ev_istore_n (L' := [_, _, _]) dX6_qSums_4 (by decide) rfl ?_
  refine ev_aload_n dX6_qSums_5 rfl ?_
  refine ev_aload_n dX6_qSums_6 rfl ?_
  refine ev_getI dX6_qSums_7 fX6_347_6 (hk1547 hM) (Or.inl (hl1547 hM)) rfl ?_
  refine ev_putI dX6_qSums_10 (pX6_353_6 _) (hk1547 hM) (hl1547 hM) rfl rfl rfl ?_
  refine ev_iconst (v := (nI 1)) dX6_qSums_13 jc1 ?_
  refine ev_istore_n (L' := [_, _, _]) dX6_qSums_14 (by decide) rfl ?_
  exact wX6_qSums_15 hM n   n _ _ _ _ h hq
def fX6_qDropsNots_33 (n : Nat) (ci : jI) (cj : jJ) : Option (jI × jJ) := some (ci, cj)
theorem wX6_qDropsNots_33 {g : jG} {d : Nat} {K : jK} {cr : jR} {c sl : Nat} {Qr : jQ} {Qx : jX} (hM : jMW K cr) (n : Nat) (ci : jI) (cj : jJ) {q} (h : fX6_qDropsNots_33 n   ci cj = some q) (hq : Qr none K q.1 q.2 cr) : Ev g (d + 3) mX6_qDropsNots 33 [jU] [] K ci cj cr c sl Qr Qx := by
  unfold fX6_qDropsNots_33 at h
  cases h
  exact ev_ret dX6_qDropsNots_33 rfl hq
def fX6_qDropsNots_0 (n : Nat) : Nat → jI → jJ → Option (jI × jJ)
  | 0, _, _ => none
  | k + 1, ci, cj => if (ci 1547 5) = 0 then Option.bind (fX6_qIsOn n (nI 12) ci cj) (fun q2 => if q2.1 = 0 then fX6_qDropsNots_33 n   q2.2.1 q2.2.2 else Option.bind (fX6_qDrops n  (ju q2.2.1 1547 100 ((q2.2.1 1547 100) - (nI 1))) q2.2.2) (fun q5 => fX6_qDropsNots_0 n  k  q5.1 q5.2)) else fX6_qDropsNots_33 n   ci cj
theorem wX6_qDropsNots_0 {g : jG} {d : Nat} {K : jK} {cr : jR} {c sl : Nat} {Qr : jQ} {Qx : jX} (hM : jMW K cr) (n : Nat) : ∀ (k : Nat) (ci : jI) (cj : jJ) {q}, fX6_qDropsNots_0 n  k  ci cj = some q → Qr none K q.1 q.2 cr → Ev g (d + 3) mX6_qDropsNots 0 [.ref 1547] [] K ci cj cr c sl Qr Qx := by
  intro k
  induction k with
  | zero =>
    intro  ci cj q h hq
    rw [fX6_qDropsNots_0.eq_1] at h; cases h
  | succ k ih =>
    intro  ci cj q h hq
    rw [fX6_qDropsNots_0.eq_2] at h
    refine ev_aload_n dX6_qDropsNots_0 rfl ?_
    refine ev_getI dX6_qDropsNots_1 fX6_251_6 (hk1547 hM) (Or.inl (hl1547 hM)) rfl ?_
    refine ev_if_ne 33 dX6_qDropsNots_4 rfl (fun z1 => ?_) (fun z1 => ?_)
    · rw [if_neg z1] at h
      exact ev_mask [false] (wX6_qDropsNots_33 hM n    _ _ h hq)
    · rw [if_pos z1] at h
      refine ev_aload_n dX6_qDropsNots_7 rfl ?_
      refine ev_bipush (v := (nI 12)) dX6_qDropsNots_8 jb12 ?_
      obtain ⟨q2, z3, h⟩ := Option.bind_eq_some_iff.mp h
      refine ev_zV1 dX6_qDropsNots_10 vX6_622_6 (hk1547 hM) (Or.inl (hl1547 hM)) (Nat.le_of_ble_eq_true rfl) (Nat.le_of_ble_eq_true rfl) rfl (metX6_qIsOn hM n _ _ _ z3 ?_)
      show Ev g _ _ 13 _ [.int q2.1] K q2.2.1 q2.2.2 cr c sl Qr Qx
      refine ev_if_eq 33 dX6_qDropsNots_13 rfl (fun z4 => ?_) (fun z4 => ?_)
      · rw [if_pos z4] at h
        exact ev_mask [false] (wX6_qDropsNots_33 hM n    _ _ h hq)
      · rw [if_neg z4] at h
        refine ev_aload_n dX6_qDropsNots_16 rfl ?_
        refine ev_dup dX6_qDropsNots_17 rfl ?_
        refine ev_getI dX6_qDropsNots_18 fX6_350_6 (hk1547 hM) (Or.inl (hl1547 hM)) rfl ?_
        refine ev_iconst (v := (nI 1)) dX6_qDropsNots_21 jc1 ?_
        refine ev_isub dX6_qDropsNots_22 ?_
        refine ev_putI dX6_qDropsNots_23 (pX6_350_6 _) (hk1547 hM) (hl1547 hM) rfl rfl rfl ?_
        refine ev_aload_n dX6_qDropsNots_26 rfl ?_
        obtain ⟨q5, z6, h⟩ := Option.bind_eq_some_iff.mp h
        refine ev_zV0 dX6_qDropsNots_27 vX6_595_6 (hk1547 hM) (Or.inl (hl1547 hM)) (Nat.le_of_ble_eq_true rfl) (Nat.le_of_ble_eq_true rfl) rfl (metX6_qDrops hM n  _ _ z6 ?_)
        show Ev g _ _ 30 _ [] K q5.1 q5.2 cr c sl Qr Qx
        refine ev_goto 0 dX6_qDropsNots_30 rfl ?_
        exact ih  _ _ h hq
def fX6_qDropsNots (n : Nat) (ci : jI) (cj : jJ) : Option (jI × jJ) := fX6_qDropsNots_0 n  n  ci cj
theorem metX6_qDropsNots {g : jG} {d : Nat} {K : jK} {cr : jR} {c sl : Nat} {Qr : jQ} {Qx : jX} (hM : jMW K cr) (n : Nat) (ci : jI) (cj : jJ) {q} (h : fX6_qDropsNots n  ci cj = some q) (hq : Qr none K q.1 q.2 cr) : EvM g (d + 3) mX6_qDropsNots [.ref 1547] K ci cj cr c sl Qr Qx := by
  unfold fX6_qDropsNots at h
  show Ev g (d + 3) mX6_qDropsNots 0 [.ref 1547] [] K ci cj cr c sl Qr Qx
  exact wX6_qDropsNots_0 hM n   n  _ _ h hq
def fX6_qFact_102 (n : Nat) (t0 : Int32) (ci : jI) (cj : jJ) : Option (jI × jJ) := Option.bind (fX6_qCode n t0 ci cj) (fun q1 => some (q1.1, q1.2))
theorem wX6_qFact_102 {g : jG} {d : Nat} {K : jK} {cr : jR} {c sl : Nat} {Qr : jQ} {Qx : jX} (hM : jMW K cr) (n : Nat) (t0 : Int32) (ci : jI) (cj : jJ) {q} (h : fX6_qFact_102 n  t0 ci cj = some q) (hq : Qr none K q.1 q.2 cr) : Ev g (d + 8) mX6_qFact 102 [jU, jU] [.int t0, .ref 1547] K ci cj cr c sl Qr Qx := by
  unfold fX6_qFact_102 at h
  obtain ⟨q1, z2, h⟩ := Option.bind_eq_some_iff.mp h
  refine ev_zV1 dX6_qFact_102 vX6_589_6 (hk1547 hM) (Or.inl (hl1547 hM)) (Nat.le_of_ble_eq_true rfl) (Nat.le_of_ble_eq_true rfl) rfl (metX6_qCode hM n _ _ _ z2 ?_)
  show Ev g _ _ 105 _ [] K q1.1 q1.2 cr c sl Qr Qx
  cases h
  exact ev_ret dX6_qFact_105 rfl hq
def fX6_qFact_63 (n : Nat) (l1 : Int32) (ci : jI) (cj : jJ) : Option (jI × jJ) := Option.bind (fX6_qSums n  (ju ci 1547 2 ((ci 1547 2) + (nI 1))) cj) (fun q1 => if l1 = (nI 60) then fX6_qFact_102 n  (nI 7) q1.1 q1.2 else if l1 = (nI 62) then fX6_qFact_102 n  (nI 8) q1.1 q1.2 else fX6_qFact_102 n  (nI 9) q1.1 q1.2)
theorem wX6_qFact_63 {g : jG} {d : Nat} {K : jK} {cr : jR} {c sl : Nat} {Qr : jQ} {Qx : jX} (hM : jMW K cr) (n : Nat) (l1 : Int32) (ci : jI) (cj : jJ) {q} (h : fX6_qFact_63 n  l1 ci cj = some q) (hq : Qr none K q.1 q.2 cr) : Ev g (d + 8) mX6_qFact 63 [.ref 1547, .int l1] [] K ci cj cr c sl Qr Qx := by
  unfold fX6_qFact_63 at h
  refine ev_aload_n dX6_qFact_63 rfl ?_
  refine ev_dup dX6_qFact_64 rfl ?_
  refine ev_getI dX6_qFact_65 fX6_257_6 (hk1547 hM) (Or.inl (hl1547 hM)) rfl ?_
  refine ev_iconst (v := (nI 1)) dX6_qFact_68 jc1 ?_
  refine ev_iadd dX6_qFact_69 ?_
  refine ev_putI dX6_qFact_70 (pX6_257_6 _) (hk1547 hM) (hl1547 hM) rfl rfl rfl ?_
  refine ev_aload_n dX6_qFact_73 rfl ?_
  obtain ⟨q1, z2, h⟩ := Option.bind_eq_some_iff.mp h
  refine ev_zV0 dX6_qFact_74 vX6_359_6 (hk1547 hM) (Or.inl (hl1547 hM)) (Nat.le_of_ble_eq_true rfl) (Nat.le_of_ble_eq_true rfl) rfl (metX6_qSums hM n  _ _ z2 ?_)
  show Ev g _ _ 77 _ [] K q1.1 q1.2 cr c sl Qr Qx
  refine ev_aload_n dX6_qFact_77 rfl ?_
  refine ev_iload_n dX6_qFact_78 rfl ?_
  refine ev_bipush (v := (nI 60)) dX6_qFact_79 jb60 ?_
  refine ev_icmp_ne 89 dX6_qFact_81 rfl (fun z3 => ?_) (fun z3 => ?_)
  · rw [if_neg z3] at h
    refine ev_iload_n dX6_qFact_89 rfl ?_
    refine ev_bipush (v := (nI 62)) dX6_qFact_90 jb62 ?_
    refine ev_icmp_ne 100 dX6_qFact_92 rfl (fun z4 => ?_) (fun z4 => ?_)
    · rw [if_neg z4] at h
      refine ev_bipush (v := (nI 9)) dX6_qFact_100 jb9 ?_
      exact ev_mask [false, false] (wX6_qFact_102 hM n   _ _ _ h hq)
    · rw [if_pos z4] at h
      refine ev_bipush (v := (nI 8)) dX6_qFact_95 jb8 ?_
      refine ev_goto 102 dX6_qFact_97 rfl ?_
      exact ev_mask [false, false] (wX6_qFact_102 hM n   _ _ _ h hq)
  · rw [if_pos z3] at h
    refine ev_bipush (v := (nI 7)) dX6_qFact_84 jb7 ?_
    refine ev_goto 102 dX6_qFact_86 rfl ?_
    exact ev_mask [false, false] (wX6_qFact_102 hM n   _ _ _ h hq)
def fX6_qFact (n : Nat) (ci : jI) (cj : jJ) : Option (jI × jJ) := Option.bind (fX6_takes n 1604 ci cj) (fun q1 => if q1.1 = 0 then Option.bind (fX6_qSums n  q1.2.1 q1.2.2) (fun q4 => if (q4.1 1547 5) = 0 then Option.bind (fX6_look n  q4.1 q4.2) (fun q7 => if q7.1 = (nI 60) then fX6_qFact_63 n  q7.1 q7.2.1 q7.2.2 else if q7.1 = (nI 62) then fX6_qFact_63 n  q7.1 q7.2.1 q7.2.2 else if q7.1 = (nI 61) then fX6_qFact_63 n  q7.1 q7.2.1 q7.2.2 else Option.bind (fX6_fail n (nI 1) (q7.2.1 1547 2) q7.2.1 q7.2.2) (fun q12 => some (q12.1, q12.2))) else some (q4.1, q4.2)) else Option.bind (fX6_qCode n (nI 13) q1.2.1 q1.2.2) (fun q14 => some (q14.1, q14.2)))
theorem metX6_qFact {g : jG} {d : Nat} {K : jK} {cr : jR} {c sl : Nat} {Qr : jQ} {Qx : jX} (hM : jMW K cr) (n : Nat) (ci : jI) (cj : jJ) {q} (h : fX6_qFact n  ci cj = some q) (hq : Qr none K q.1 q.2 cr) : EvM g (d + 8) mX6_qFact [.ref 1547] K ci cj cr c sl Qr Qx := by
  unfold fX6_qFact at h
  show Ev g (d + 8) mX6_qFact 0 [.ref 1547, jU] [] K ci cj cr c sl Qr Qx
  refine ev_aload_n dX6_qFact_0 rfl ?_
  refine ev_aload_n dX6_qFact_1 rfl ?_
  refine ev_getR dX6_qFact_2 fX6_188_6 (hk1547 hM) (Or.inl (hl1547 hM)) rfl (hr80 hM) ?_
  obtain ⟨q1, z2, h⟩ := Option.bind_eq_some_iff.mp h
  refine ev_zV1 dX6_qFact_5 vX6_278_6 (hk1547 hM) (Or.inl (hl1547 hM)) (Nat.le_of_ble_eq_true rfl) (Nat.le_of_ble_eq_true rfl) rfl (metX6_takes hM n _ _ _ z2 ?_)
  show Ev g _ _ 8 _ [.int q1.1] K q1.2.1 q1.2.2 cr c sl Qr Qx
  refine ev_if_eq 18 dX6_qFact_8 rfl (fun z3 => ?_) (fun z3 => ?_)
  · rw [if_pos z3] at h
    refine ev_aload_n dX6_qFact_18 rfl ?_
    obtain ⟨q4, z5, h⟩ := Option.bind_eq_some_iff.mp h
    refine ev_zV0 dX6_qFact_19 vX6_359_6 (hk1547 hM) (Or.inl (hl1547 hM)) (Nat.le_of_ble_eq_true rfl) (Nat.le_of_ble_eq_true rfl) rfl (metX6_qSums hM n  _ _ z5 ?_)
    show Ev g _ _ 22 _ [] K q4.1 q4.2 cr c sl Qr Qx
    refine ev_aload_n dX6_qFact_22 rfl ?_
    refine ev_getI dX6_qFact_23 fX6_251_6 (hk1547 hM) (Or.inl (hl1547 hM)) rfl ?_
    refine ev_if_eq 30 dX6_qFact_26 rfl (fun z6 => ?_) (fun z6 => ?_)
    · rw [if_pos z6] at h
      refine ev_aload_n dX6_qFact_30 rfl ?_
      obtain ⟨q7, z8, h⟩ := Option.bind_eq_some_iff.mp h
      refine ev_zV0 dX6_qFact_31 vX6_263_6 (hk1547 hM) (Or.inl (hl1547 hM)) (Nat.le_of_ble_eq_true rfl) (Nat.le_of_ble_eq_true rfl) rfl (metX6_look hM n  _ _ z8 ?_)
      show Ev g _ _ 34 _ [.int q7.1] K q7.2.1 q7.2.2 cr c sl Qr Qx
      refine ev_istore_n (L' := [_, _]) dX6_qFact_34 (by decide) rfl ?_
      refine ev_iload_n dX6_qFact_35 rfl ?_
      refine ev_bipush (v := (nI 60)) dX6_qFact_36 jb60 ?_
      refine ev_icmp_eq 63 dX6_qFact_38 rfl (fun z9 => ?_) (fun z9 => ?_)
      · rw [if_pos z9] at h
        exact wX6_qFact_63 hM n   _ _ _ h hq
      · rw [if_neg z9] at h
        refine ev_iload_n dX6_qFact_41 rfl ?_
        refine ev_bipush (v := (nI 62)) dX6_qFact_42 jb62 ?_
        refine ev_icmp_eq 63 dX6_qFact_44 rfl (fun z10 => ?_) (fun z10 => ?_)
        · rw [if_pos z10] at h
          exact wX6_qFact_63 hM n   _ _ _ h hq
        · rw [if_neg z10] at h
          refine ev_iload_n dX6_qFact_47 rfl ?_
          refine ev_bipush (v := (nI 61)) dX6_qFact_48 jb61 ?_
          refine ev_icmp_eq 63 dX6_qFact_50 rfl (fun z11 => ?_) (fun z11 => ?_)
          · rw [if_pos z11] at h
            exact wX6_qFact_63 hM n   _ _ _ h hq
          · rw [if_neg z11] at h
            refine ev_aload_n dX6_qFact_53 rfl ?_
            refine ev_iconst (v := (nI 1)) dX6_qFact_54 jc1 ?_
            refine ev_aload_n dX6_qFact_55 rfl ?_
            refine ev_getI dX6_qFact_56 fX6_257_6 (hk1547 hM) (Or.inl (hl1547 hM)) rfl ?_
            obtain ⟨q12, z13, h⟩ := Option.bind_eq_some_iff.mp h
            refine ev_zV2 dX6_qFact_59 vX6_281_6 (hk1547 hM) (Or.inl (hl1547 hM)) (Nat.le_of_ble_eq_true rfl) (Nat.le_of_ble_eq_true rfl) rfl (metX6_fail hM n _ _ _ _ z13 ?_)
            show Ev g _ _ 62 _ [] K q12.1 q12.2 cr c sl Qr Qx
            cases h
            exact ev_ret dX6_qFact_62 rfl hq
    · rw [if_neg z6] at h
      cases h
      exact ev_ret dX6_qFact_29 rfl hq
  · rw [if_neg z3] at h
    refine ev_aload_n dX6_qFact_11 rfl ?_
    refine ev_bipush (v := (nI 13)) dX6_qFact_12 jb13 ?_
    obtain ⟨q14, z15, h⟩ := Option.bind_eq_some_iff.mp h
    refine ev_zV1 dX6_qFact_14 vX6_589_6 (hk1547 hM) (Or.inl (hl1547 hM)) (Nat.le_of_ble_eq_true rfl) (Nat.le_of_ble_eq_true rfl) rfl (metX6_qCode hM n _ _ _ z15 ?_)
    show Ev g _ _ 17 _ [] K q14.1 q14.2 cr c sl Qr Qx
    cases h
    exact ev_ret dX6_qFact_17 rfl hq
def fX6_qHasSquare_2 (n : Nat) : Nat → Int32 → jI → jJ → Option (Int32 × jI × jJ)
  | 0, _, _, _ => none
  | k + 1, l1, ci, cj => if (ci 1547 99) ≤ l1 then some ((nI 0), ci, cj) else if jok l1 1700 then if (ci 1621 (l1).toNatClampNeg) = (nI 25) then some ((nI 1), ci, cj) else fX6_qHasSquare_2 n  k (l1 + (nI 1)) ci cj else none
theorem wX6_qHasSquare_2 {g : jG} {d : Nat} {K : jK} {cr : jR} {c sl : Nat} {Qr : jQ} {Qx : jX} (hM : jMW K cr) (n : Nat) : ∀ (k : Nat) (l1 : Int32) (ci : jI) (cj : jJ) {q}, fX6_qHasSquare_2 n  k l1 ci cj = some q → Qr (some (.int q.1)) K q.2.1 q.2.2 cr → Ev g (d + 1) mX6_qHasSquare 2 [.ref 1547, .int l1] [] K ci cj cr c sl Qr Qx := by
  intro k
  induction k with
  | zero =>
    intro l1 ci cj q h hq
    rw [fX6_qHasSquare_2.eq_1] at h; cases h
  | succ k ih =>
    intro l1 ci cj q h hq
    rw [fX6_qHasSquare_2.eq_2] at h
    refine ev_iload_n dX6_qHasSquare_2 rfl ?_
    refine ev_aload_n dX6_qHasSquare_3 rfl ?_
    refine ev_getI dX6_qHasSquare_4 fX6_347_6 (hk1547 hM) (Or.inl (hl1547 hM)) rfl ?_
    refine ev_icmp_ge 29 dX6_qHasSquare_7 rfl (fun z1 => ?_) (fun z1 => ?_)
    · rw [if_pos z1] at h
      refine ev_iconst (v := (nI 0)) dX6_qHasSquare_29 jc0 ?_
      cases h
      exact ev_iret dX6_qHasSquare_30 rfl (by decide) hq
    · rw [if_neg z1] at h
      refine ev_aload_n dX6_qHasSquare_10 rfl ?_
      refine ev_getR dX6_qHasSquare_11 fX6_239_6 (hk1547 hM) (Or.inl (hl1547 hM)) rfl (hr98 hM) ?_
      refine ev_iload_n dX6_qHasSquare_14 rfl ?_
      by_cases z2 : jok l1 1700
      rotate_left
      · rw [if_neg z2] at h; cases h
      rw [if_pos z2] at h
      refine ev_iaload dX6_qHasSquare_15 (hk1621 hM) (Or.inl (hl1621 hM)) (jok.ix z2 (hn1621 hM)) ?_
      refine ev_bipush (v := (nI 25)) dX6_qHasSquare_16 jb25 ?_
      refine ev_icmp_ne 23 dX6_qHasSquare_18 rfl (fun z3 => ?_) (fun z3 => ?_)
      · rw [if_neg z3] at h
        refine ev_iinc (v := (l1 + (nI 1))) (L' := [_, _]) dX6_qHasSquare_23 rfl (by rw [ji_1]) (by decide) rfl ?_
        refine ev_goto 2 dX6_qHasSquare_26 rfl ?_
        exact ih _ _ _ h hq
      · rw [if_pos z3] at h
        refine ev_iconst (v := (nI 1)) dX6_qHasSquare_21 jc1 ?_
        cases h
        exact ev_iret dX6_qHasSquare_22 rfl (by decide) hq
def fX6_qHasSquare (n : Nat) (ci : jI) (cj : jJ) : Option (Int32 × jI × jJ) := fX6_qHasSquare_2 n  n (nI 0) ci cj
theorem metX6_qHasSquare {g : jG} {d : Nat} {K : jK} {cr : jR} {c sl : Nat} {Qr : jQ} {Qx : jX} (hM : jMW K cr) (n : Nat) (ci : jI) (cj : jJ) {q} (h : fX6_qHasSquare n  ci cj = some q) (hq : Qr (some (.int q.1)) K q.2.1 q.2.2 cr) : EvM g (d + 1) mX6_qHasSquare [.ref 1547] K ci cj cr c sl Qr Qx := by
  unfold fX6_qHasSquare at h
  show Ev g (d + 1) mX6_qHasSquare 0 [.ref 1547, jU] [] K ci cj cr c sl Qr Qx
  refine ev_iconst (v := (nI 0)) dX6_qHasSquare_0 jc0 ?_
  refine ev_istore_n (L' := [_, _]) dX6_qHasSquare_1 (by decide) rfl ?_
  exact wX6_qHasSquare_2 hM n   n _ _ _ h hq
def fX6_qGoesOnTest_208 (n : Nat) (ci : jI) (cj : jJ) : Option (Int32 × jI × jJ) := some ((nI 0), ci, cj)
theorem wX6_qGoesOnTest_208 {g : jG} {d : Nat} {K : jK} {cr : jR} {c sl : Nat} {Qr : jQ} {Qx : jX} (hM : jMW K cr) (n : Nat) (ci : jI) (cj : jJ) {q} (h : fX6_qGoesOnTest_208 n   ci cj = some q) (hq : Qr (some (.int q.1)) K q.2.1 q.2.2 cr) : Ev g (d + 4) mX6_qGoesOnTest 208 [jU] [] K ci cj cr c sl Qr Qx := by
  unfold fX6_qGoesOnTest_208 at h
  refine ev_iconst (v := (nI 0)) dX6_qGoesOnTest_208 jc0 ?_
  cases h
  exact ev_iret dX6_qGoesOnTest_209 rfl (by decide) hq
def fX6_qGoesOnTest_155 (n : Nat) (rec137 : jI → jJ → Option (Int32 × jI × jJ)) (ci : jI) (cj : jJ) : Option (Int32 × jI × jJ) := Option.bind (fX6_qDrops n  ci cj) (fun q1 => rec137  q1.1 q1.2)
theorem wX6_qGoesOnTest_155 {g : jG} {d : Nat} {K : jK} {cr : jR} {c sl : Nat} {Qr : jQ} {Qx : jX} (hM : jMW K cr) (n : Nat) (rec137 : jI → jJ → Option (Int32 × jI × jJ)) (hrec137 : (∀ (ci : jI) (cj : jJ) {q}, rec137  ci cj = some q → Qr (some (.int q.1)) K q.2.1 q.2.2 cr → Ev g (d + 4) mX6_qGoesOnTest 137 [.ref 1547] [] K ci cj cr c sl Qr Qx)) (ci : jI) (cj : jJ) {q} (h : fX6_qGoesOnTest_155 n rec137  ci cj = some q) (hq : Qr (some (.int q.1)) K q.2.1 q.2.2 cr) : Ev g (d + 4) mX6_qGoesOnTest 155 [.ref 1547] [] K ci cj cr c sl Qr Qx := by
  unfold fX6_qGoesOnTest_155 at h
  refine ev_aload_n dX6_qGoesOnTest_155 rfl ?_
  obtain ⟨q1, z2, h⟩ := Option.bind_eq_some_iff.mp h
  refine ev_zV0 dX6_qGoesOnTest_156 vX6_595_6 (hk1547 hM) (Or.inl (hl1547 hM)) (Nat.le_of_ble_eq_true rfl) (Nat.le_of_ble_eq_true rfl) rfl (metX6_qDrops hM n  _ _ z2 ?_)
  show Ev g _ _ 159 _ [] K q1.1 q1.2 cr c sl Qr Qx
  refine ev_goto 137 dX6_qGoesOnTest_159 rfl ?_
  exact hrec137  _ _ h hq
def fX6_qGoesOnTest_137 (n : Nat) : Nat → jI → jJ → Option (Int32 × jI × jJ)
  | 0, _, _ => none
  | k + 1, ci, cj => Option.bind (fX6_qIsOn n (nI 10) ci cj) (fun q1 => if q1.1 = 0 then Option.bind (fX6_qIsOn n (nI 11) q1.2.1 q1.2.2) (fun q4 => if q4.1 = 0 then if jok (q4.2.1 1547 99) 1700 then some ((nI 1), (ju (ju q4.2.1 1621 ((q4.2.1 1547 99)).toNatClampNeg (nI 11)) 1547 99 (((ju q4.2.1 1621 ((q4.2.1 1547 99)).toNatClampNeg (nI 11)) 1547 99) + (nI 1))), q4.2.2) else none else fX6_qGoesOnTest_155 n (fX6_qGoesOnTest_137 n  k)  q4.2.1 q4.2.2) else fX6_qGoesOnTest_155 n (fX6_qGoesOnTest_137 n  k)  q1.2.1 q1.2.2)
theorem wX6_qGoesOnTest_137 {g : jG} {d : Nat} {K : jK} {cr : jR} {c sl : Nat} {Qr : jQ} {Qx : jX} (hM : jMW K cr) (n : Nat) : ∀ (k : Nat) (ci : jI) (cj : jJ) {q}, fX6_qGoesOnTest_137 n  k  ci cj = some q → Qr (some (.int q.1)) K q.2.1 q.2.2 cr → Ev g (d + 4) mX6_qGoesOnTest 137 [.ref 1547] [] K ci cj cr c sl Qr Qx := by
  intro k
  induction k with
  | zero =>
    intro  ci cj q h hq
    rw [fX6_qGoesOnTest_137.eq_1] at h; cases h
  | succ k ih =>
    intro  ci cj q h hq
    rw [fX6_qGoesOnTest_137.eq_2] at h
    refine ev_aload_n dX6_qGoesOnTest_137 rfl ?_
    refine ev_bipush (v := (nI 10)) dX6_qGoesOnTest_138 jb10 ?_
    obtain ⟨q1, z2, h⟩ := Option.bind_eq_some_iff.mp h
    refine ev_zV1 dX6_qGoesOnTest_140 vX6_622_6 (hk1547 hM) (Or.inl (hl1547 hM)) (Nat.le_of_ble_eq_true rfl) (Nat.le_of_ble_eq_true rfl) rfl (metX6_qIsOn hM n _ _ _ z2 ?_)
    show Ev g _ _ 143 _ [.int q1.1] K q1.2.1 q1.2.2 cr c sl Qr Qx
    refine ev_if_ne 155 dX6_qGoesOnTest_143 rfl (fun z3 => ?_) (fun z3 => ?_)
    · rw [if_neg z3] at h
      exact wX6_qGoesOnTest_155 hM n _ (ih)  _ _ h hq
    · rw [if_pos z3] at h
      refine ev_aload_n dX6_qGoesOnTest_146 rfl ?_
      refine ev_bipush (v := (nI 11)) dX6_qGoesOnTest_147 jb11 ?_
      obtain ⟨q4, z5, h⟩ := Option.bind_eq_some_iff.mp h
      refine ev_zV1 dX6_qGoesOnTest_149 vX6_622_6 (hk1547 hM) (Or.inl (hl1547 hM)) (Nat.le_of_ble_eq_true rfl) (Nat.le_of_ble_eq_true rfl) rfl (metX6_qIsOn hM n _ _ _ z5 ?_)
      show Ev g _ _ 152 _ [.int q4.1] K q4.2.1 q4.2.2 cr c sl Qr Qx
      refine ev_if_eq 162 dX6_qGoesOnTest_152 rfl (fun z6 => ?_) (fun z6 => ?_)
      · rw [if_pos z6] at h
        refine ev_aload_n dX6_qGoesOnTest_162 rfl ?_
        refine ev_getR dX6_qGoesOnTest_163 fX6_239_6 (hk1547 hM) (Or.inl (hl1547 hM)) rfl (hr98 hM) ?_
        refine ev_aload_n dX6_qGoesOnTest_166 rfl ?_
        refine ev_getI dX6_qGoesOnTest_167 fX6_347_6 (hk1547 hM) (Or.inl (hl1547 hM)) rfl ?_
        refine ev_bipush (v := (nI 11)) dX6_qGoesOnTest_170 jb11 ?_
        by_cases z7 : jok (q4.2.1 1547 99) 1700
        rotate_left
        · rw [if_neg z7] at h; cases h
        rw [if_pos z7] at h
        refine ev_iastore dX6_qGoesOnTest_172 (hk1621 hM) (hl1621 hM) (jok.ix z7 (hn1621 hM)) ?_
        refine ev_aload_n dX6_qGoesOnTest_173 rfl ?_
        refine ev_dup dX6_qGoesOnTest_174 rfl ?_
        refine ev_getI dX6_qGoesOnTest_175 fX6_347_6 (hk1547 hM) (Or.inl (hl1547 hM)) rfl ?_
        refine ev_iconst (v := (nI 1)) dX6_qGoesOnTest_178 jc1 ?_
        refine ev_iadd dX6_qGoesOnTest_179 ?_
        refine ev_putI dX6_qGoesOnTest_180 (pX6_347_6 _) (hk1547 hM) (hl1547 hM) rfl rfl rfl ?_
        refine ev_iconst (v := (nI 1)) dX6_qGoesOnTest_183 jc1 ?_
        cases h
        exact ev_iret dX6_qGoesOnTest_184 rfl (by decide) hq
      · rw [if_neg z6] at h
        exact wX6_qGoesOnTest_155 hM n _ (ih)  _ _ h hq
def fX6_qGoesOnTest_87 (n : Nat) : Nat → jI → jJ → Option (Int32 × jI × jJ)
  | 0, _, _ => none
  | k + 1, ci, cj => Option.bind (fX6_qIsOn n (nI 10) ci cj) (fun q1 => if q1.1 = 0 then if jok (q1.2.1 1547 99) 1700 then some ((nI 1), (ju (ju q1.2.1 1621 ((q1.2.1 1547 99)).toNatClampNeg (nI 10)) 1547 99 (((ju q1.2.1 1621 ((q1.2.1 1547 99)).toNatClampNeg (nI 10)) 1547 99) + (nI 1))), q1.2.2) else none else Option.bind (fX6_qDrops n  q1.2.1 q1.2.2) (fun q5 => fX6_qGoesOnTest_87 n  k  q5.1 q5.2))
theorem wX6_qGoesOnTest_87 {g : jG} {d : Nat} {K : jK} {cr : jR} {c sl : Nat} {Qr : jQ} {Qx : jX} (hM : jMW K cr) (n : Nat) : ∀ (k : Nat) (ci : jI) (cj : jJ) {q}, fX6_qGoesOnTest_87 n  k  ci cj = some q → Qr (some (.int q.1)) K q.2.1 q.2.2 cr → Ev g (d + 4) mX6_qGoesOnTest 87 [.ref 1547] [] K ci cj cr c sl Qr Qx := by
  intro k
  induction k with
  | zero =>
    intro  ci cj q h hq
    rw [fX6_qGoesOnTest_87.eq_1] at h; cases h
  | succ k ih =>
    intro  ci cj q h hq
    rw [fX6_qGoesOnTest_87.eq_2] at h
    refine ev_aload_n dX6_qGoesOnTest_87 rfl ?_
    refine ev_bipush (v := (nI 10)) dX6_qGoesOnTest_88 jb10 ?_
    obtain ⟨q1, z2, h⟩ := Option.bind_eq_some_iff.mp h
    refine ev_zV1 dX6_qGoesOnTest_90 vX6_622_6 (hk1547 hM) (Or.inl (hl1547 hM)) (Nat.le_of_ble_eq_true rfl) (Nat.le_of_ble_eq_true rfl) rfl (metX6_qIsOn hM n _ _ _ z2 ?_)
    show Ev g _ _ 93 _ [.int q1.1] K q1.2.1 q1.2.2 cr c sl Qr Qx
    refine ev_if_eq 103 dX6_qGoesOnTest_93 rfl (fun z3 => ?_) (fun z3 => ?_)
    · rw [if_pos z3] at h
      refine ev_aload_n dX6_qGoesOnTest_103 rfl ?_
      refine ev_getR dX6_qGoesOnTest_104 fX6_239_6 (hk1547 hM) (Or.inl (hl1547 hM)) rfl (hr98 hM) ?_
      refine ev_aload_n dX6_qGoesOnTest_107 rfl ?_
      refine ev_getI dX6_qGoesOnTest_108 fX6_347_6 (hk1547 hM) (Or.inl (hl1547 hM)) rfl ?_
      refine ev_bipush (v := (nI 10)) dX6_qGoesOnTest_111 jb10 ?_
      by_cases z4 : jok (q1.2.1 1547 99) 1700
      rotate_left
      · rw [if_neg z4] at h; cases h
      rw [if_pos z4] at h
      refine ev_iastore dX6_qGoesOnTest_113 (hk1621 hM) (hl1621 hM) (jok.ix z4 (hn1621 hM)) ?_
      refine ev_aload_n dX6_qGoesOnTest_114 rfl ?_
      refine ev_dup dX6_qGoesOnTest_115 rfl ?_
      refine ev_getI dX6_qGoesOnTest_116 fX6_347_6 (hk1547 hM) (Or.inl (hl1547 hM)) rfl ?_
      refine ev_iconst (v := (nI 1)) dX6_qGoesOnTest_119 jc1 ?_
      refine ev_iadd dX6_qGoesOnTest_120 ?_
      refine ev_putI dX6_qGoesOnTest_121 (pX6_347_6 _) (hk1547 hM) (hl1547 hM) rfl rfl rfl ?_
      refine ev_iconst (v := (nI 1)) dX6_qGoesOnTest_124 jc1 ?_
      cases h
      exact ev_iret dX6_qGoesOnTest_125 rfl (by decide) hq
    · rw [if_neg z3] at h
      refine ev_aload_n dX6_qGoesOnTest_96 rfl ?_
      obtain ⟨q5, z6, h⟩ := Option.bind_eq_some_iff.mp h
      refine ev_zV0 dX6_qGoesOnTest_97 vX6_595_6 (hk1547 hM) (Or.inl (hl1547 hM)) (Nat.le_of_ble_eq_true rfl) (Nat.le_of_ble_eq_true rfl) rfl (metX6_qDrops hM n  _ _ z6 ?_)
      show Ev g _ _ 100 _ [] K q5.1 q5.2 cr c sl Qr Qx
      refine ev_goto 87 dX6_qGoesOnTest_100 rfl ?_
      exact ih  _ _ h hq
def fX6_qGoesOnTest_76 (n : Nat) (ci : jI) (cj : jJ) : Option (Int32 × jI × jJ) := Option.bind (fX6_takes n 1602 ci cj) (fun q1 => if q1.1 = 0 then Option.bind (fX6_takes n 1603 q1.2.1 q1.2.2) (fun q4 => if q4.1 = 0 then if (q4.2.1 1547 5) = 0 then Option.bind (fX6_qHasSquare n  q4.2.1 q4.2.2) (fun q8 => if q8.1 = 0 then fX6_qGoesOnTest_208 n   q8.2.1 q8.2.2 else Option.bind (fX6_fail n (nI 1) (q8.2.1 1547 2) q8.2.1 q8.2.2) (fun q11 => fX6_qGoesOnTest_208 n   q11.1 q11.2)) else fX6_qGoesOnTest_208 n   q4.2.1 q4.2.2 else fX6_qGoesOnTest_137 n  n  q4.2.1 q4.2.2) else fX6_qGoesOnTest_87 n  n  q1.2.1 q1.2.2)
theorem wX6_qGoesOnTest_76 {g : jG} {d : Nat} {K : jK} {cr : jR} {c sl : Nat} {Qr : jQ} {Qx : jX} (hM : jMW K cr) (n : Nat) (ci : jI) (cj : jJ) {q} (h : fX6_qGoesOnTest_76 n   ci cj = some q) (hq : Qr (some (.int q.1)) K q.2.1 q.2.2 cr) : Ev g (d + 4) mX6_qGoesOnTest 76 [.ref 1547] [] K ci cj cr c sl Qr Qx := by
  unfold fX6_qGoesOnTest_76 at h
  refine ev_aload_n dX6_qGoesOnTest_76 rfl ?_
  refine ev_aload_n dX6_qGoesOnTest_77 rfl ?_
  refine ev_getR dX6_qGoesOnTest_78 fX6_182_6 (hk1547 hM) (Or.inl (hl1547 hM)) rfl (hr78 hM) ?_
  obtain ⟨q1, z2, h⟩ := Option.bind_eq_some_iff.mp h
  refine ev_zV1 dX6_qGoesOnTest_81 vX6_278_6 (hk1547 hM) (Or.inl (hl1547 hM)) (Nat.le_of_ble_eq_true rfl) (Nat.le_of_ble_eq_true rfl) rfl (metX6_takes hM n _ _ _ z2 ?_)
  show Ev g _ _ 84 _ [.int q1.1] K q1.2.1 q1.2.2 cr c sl Qr Qx
  refine ev_if_eq 126 dX6_qGoesOnTest_84 rfl (fun z3 => ?_) (fun z3 => ?_)
  · rw [if_pos z3] at h
    refine ev_aload_n dX6_qGoesOnTest_126 rfl ?_
    refine ev_aload_n dX6_qGoesOnTest_127 rfl ?_
    refine ev_getR dX6_qGoesOnTest_128 fX6_185_6 (hk1547 hM) (Or.inl (hl1547 hM)) rfl (hr79 hM) ?_
    obtain ⟨q4, z5, h⟩ := Option.bind_eq_some_iff.mp h
    refine ev_zV1 dX6_qGoesOnTest_131 vX6_278_6 (hk1547 hM) (Or.inl (hl1547 hM)) (Nat.le_of_ble_eq_true rfl) (Nat.le_of_ble_eq_true rfl) rfl (metX6_takes hM n _ _ _ z5 ?_)
    show Ev g _ _ 134 _ [.int q4.1] K q4.2.1 q4.2.2 cr c sl Qr Qx
    refine ev_if_eq 185 dX6_qGoesOnTest_134 rfl (fun z6 => ?_) (fun z6 => ?_)
    · rw [if_pos z6] at h
      refine ev_aload_n dX6_qGoesOnTest_185 rfl ?_
      refine ev_getI dX6_qGoesOnTest_186 fX6_251_6 (hk1547 hM) (Or.inl (hl1547 hM)) rfl ?_
      refine ev_if_ne 208 dX6_qGoesOnTest_189 rfl (fun z7 => ?_) (fun z7 => ?_)
      · rw [if_neg z7] at h
        exact ev_mask [false] (wX6_qGoesOnTest_208 hM n    _ _ h hq)
      · rw [if_pos z7] at h
        refine ev_aload_n dX6_qGoesOnTest_192 rfl ?_
        obtain ⟨q8, z9, h⟩ := Option.bind_eq_some_iff.mp h
        refine ev_zV0 dX6_qGoesOnTest_193 vX6_640_6 (hk1547 hM) (Or.inl (hl1547 hM)) (Nat.le_of_ble_eq_true rfl) (Nat.le_of_ble_eq_true rfl) rfl (metX6_qHasSquare hM n  _ _ z9 ?_)
        show Ev g _ _ 196 _ [.int q8.1] K q8.2.1 q8.2.2 cr c sl Qr Qx
        refine ev_if_eq 208 dX6_qGoesOnTest_196 rfl (fun z10 => ?_) (fun z10 => ?_)
        · rw [if_pos z10] at h
          exact ev_mask [false] (wX6_qGoesOnTest_208 hM n    _ _ h hq)
        · rw [if_neg z10] at h
          refine ev_aload_n dX6_qGoesOnTest_199 rfl ?_
          refine ev_iconst (v := (nI 1)) dX6_qGoesOnTest_200 jc1 ?_
          refine ev_aload_n dX6_qGoesOnTest_201 rfl ?_
          refine ev_getI dX6_qGoesOnTest_202 fX6_257_6 (hk1547 hM) (Or.inl (hl1547 hM)) rfl ?_
          obtain ⟨q11, z12, h⟩ := Option.bind_eq_some_iff.mp h
          refine ev_zV2 dX6_qGoesOnTest_205 vX6_281_6 (hk1547 hM) (Or.inl (hl1547 hM)) (Nat.le_of_ble_eq_true rfl) (Nat.le_of_ble_eq_true rfl) rfl (metX6_fail hM n _ _ _ _ z12 ?_)
          show Ev g _ _ 208 _ [] K q11.1 q11.2 cr c sl Qr Qx
          exact ev_mask [false] (wX6_qGoesOnTest_208 hM n    _ _ h hq)
    · rw [if_neg z6] at h
      exact wX6_qGoesOnTest_137 hM n   n  _ _ h hq
  · rw [if_neg z3] at h
    exact wX6_qGoesOnTest_87 hM n   n  _ _ h hq
def fX6_qGoesOnTest_33 (n : Nat) (rec0 : jI → jJ → Option (Int32 × jI × jJ)) : Nat → jI → jJ → Option (Int32 × jI × jJ)
  | 0, _, _ => none
  | k + 1, ci, cj => Option.bind (fX6_qIsOn n (nI 25) ci cj) (fun q1 => if q1.1 = 0 then Option.bind (fX6_qDrops n  q1.2.1 q1.2.2) (fun q6 => fX6_qGoesOnTest_33 n rec0 k  q6.1 q6.2) else Option.bind (fX6_qDropsNots n  (ju (ju q1.2.1 1547 99 ((q1.2.1 1547 99) - (nI 1))) 1547 100 (((ju q1.2.1 1547 99 ((q1.2.1 1547 99) - (nI 1))) 1547 100) - (nI 1))) q1.2.2) (fun q4 => rec0  q4.1 q4.2))
theorem wX6_qGoesOnTest_33 {g : jG} {d : Nat} {K : jK} {cr : jR} {c sl : Nat} {Qr : jQ} {Qx : jX} (hM : jMW K cr) (n : Nat) (rec0 : jI → jJ → Option (Int32 × jI × jJ)) (hrec0 : (∀ (ci : jI) (cj : jJ) {q}, rec0  ci cj = some q → Qr (some (.int q.1)) K q.2.1 q.2.2 cr → Ev g (d + 4) mX6_qGoesOnTest 0 [.ref 1547] [] K ci cj cr c sl Qr Qx)) : ∀ (k : Nat) (ci : jI) (cj : jJ) {q}, fX6_qGoesOnTest_33 n rec0 k  ci cj = some q → Qr (some (.int q.1)) K q.2.1 q.2.2 cr → Ev g (d + 4) mX6_qGoesOnTest 33 [.ref 1547] [] K ci cj cr c sl Qr Qx := by
  intro k
  induction k with
  | zero =>
    intro  ci cj q h hq
    rw [fX6_qGoesOnTest_33.eq_1] at h; cases h
  | succ k ih =>
    intro  ci cj q h hq
    rw [fX6_qGoesOnTest_33.eq_2] at h
    refine ev_aload_n dX6_qGoesOnTest_33 rfl ?_
    refine ev_bipush (v := (nI 25)) dX6_qGoesOnTest_34 jb25 ?_
    obtain ⟨q1, z2, h⟩ := Option.bind_eq_some_iff.mp h
    refine ev_zV1 dX6_qGoesOnTest_36 vX6_622_6 (hk1547 hM) (Or.inl (hl1547 hM)) (Nat.le_of_ble_eq_true rfl) (Nat.le_of_ble_eq_true rfl) rfl (metX6_qIsOn hM n _ _ _ z2 ?_)
    show Ev g _ _ 39 _ [.int q1.1] K q1.2.1 q1.2.2 cr c sl Qr Qx
    refine ev_if_ne 49 dX6_qGoesOnTest_39 rfl (fun z3 => ?_) (fun z3 => ?_)
    · rw [if_neg z3] at h
      refine ev_aload_n dX6_qGoesOnTest_49 rfl ?_
      refine ev_dup dX6_qGoesOnTest_50 rfl ?_
      refine ev_getI dX6_qGoesOnTest_51 fX6_347_6 (hk1547 hM) (Or.inl (hl1547 hM)) rfl ?_
      refine ev_iconst (v := (nI 1)) dX6_qGoesOnTest_54 jc1 ?_
      refine ev_isub dX6_qGoesOnTest_55 ?_
      refine ev_putI dX6_qGoesOnTest_56 (pX6_347_6 _) (hk1547 hM) (hl1547 hM) rfl rfl rfl ?_
      refine ev_aload_n dX6_qGoesOnTest_59 rfl ?_
      refine ev_dup dX6_qGoesOnTest_60 rfl ?_
      refine ev_getI dX6_qGoesOnTest_61 fX6_350_6 (hk1547 hM) (Or.inl (hl1547 hM)) rfl ?_
      refine ev_iconst (v := (nI 1)) dX6_qGoesOnTest_64 jc1 ?_
      refine ev_isub dX6_qGoesOnTest_65 ?_
      refine ev_putI dX6_qGoesOnTest_66 (pX6_350_6 _) (hk1547 hM) (hl1547 hM) rfl rfl rfl ?_
      refine ev_aload_n dX6_qGoesOnTest_69 rfl ?_
      obtain ⟨q4, z5, h⟩ := Option.bind_eq_some_iff.mp h
      refine ev_zV0 dX6_qGoesOnTest_70 vX6_634_6 (hk1547 hM) (Or.inl (hl1547 hM)) (Nat.le_of_ble_eq_true rfl) (Nat.le_of_ble_eq_true rfl) rfl (metX6_qDropsNots hM n  _ _ z5 ?_)
      show Ev g _ _ 73 _ [] K q4.1 q4.2 cr c sl Qr Qx
      refine ev_goto 0 dX6_qGoesOnTest_73 rfl ?_
      exact hrec0  _ _ h hq
    · rw [if_pos z3] at h
      refine ev_aload_n dX6_qGoesOnTest_42 rfl ?_
      obtain ⟨q6, z7, h⟩ := Option.bind_eq_some_iff.mp h
      refine ev_zV0 dX6_qGoesOnTest_43 vX6_595_6 (hk1547 hM) (Or.inl (hl1547 hM)) (Nat.le_of_ble_eq_true rfl) (Nat.le_of_ble_eq_true rfl) rfl (metX6_qDrops hM n  _ _ z7 ?_)
      show Ev g _ _ 46 _ [] K q6.1 q6.2 cr c sl Qr Qx
      refine ev_goto 33 dX6_qGoesOnTest_46 rfl ?_
      exact ih  _ _ h hq
def fX6_qGoesOnTest_0 (n : Nat) : Nat → jI → jJ → Option (Int32 × jI × jJ)
  | 0, _, _ => none
  | k + 1, ci, cj => if (ci 1547 5) = 0 then Option.bind (fX6_look n  ci cj) (fun q2 => if q2.1 = (nI 93) then Option.bind (fX6_qHasSquare n  q2.2.1 q2.2.2) (fun q5 => if q5.1 = 0 then fX6_qGoesOnTest_76 n   q5.2.1 q5.2.2 else fX6_qGoesOnTest_33 n (fX6_qGoesOnTest_0 n  k) n  (ju q5.2.1 1547 2 ((q5.2.1 1547 2) + (nI 1))) q5.2.2) else fX6_qGoesOnTest_76 n   q2.2.1 q2.2.2) else fX6_qGoesOnTest_76 n   ci cj
theorem wX6_qGoesOnTest_0 {g : jG} {d : Nat} {K : jK} {cr : jR} {c sl : Nat} {Qr : jQ} {Qx : jX} (hM : jMW K cr) (n : Nat) : ∀ (k : Nat) (ci : jI) (cj : jJ) {q}, fX6_qGoesOnTest_0 n  k  ci cj = some q → Qr (some (.int q.1)) K q.2.1 q.2.2 cr → Ev g (d + 4) mX6_qGoesOnTest 0 [.ref 1547] [] K ci cj cr c sl Qr Qx := by
  intro k
  induction k with
  | zero =>
    intro  ci cj q h hq
    rw [fX6_qGoesOnTest_0.eq_1] at h; cases h
  | succ k ih =>
    intro  ci cj q h hq
    rw [fX6_qGoesOnTest_0.eq_2] at h
    refine ev_aload_n dX6_qGoesOnTest_0 rfl ?_
    refine ev_getI dX6_qGoesOnTest_1 fX6_251_6 (hk1547 hM) (Or.inl (hl1547 hM)) rfl ?_
    refine ev_if_ne 76 dX6_qGoesOnTest_4 rfl (fun z1 => ?_) (fun z1 => ?_)
    · rw [if_neg z1] at h
      exact wX6_qGoesOnTest_76 hM n    _ _ h hq
    · rw [if_pos z1] at h
      refine ev_aload_n dX6_qGoesOnTest_7 rfl ?_
      obtain ⟨q2, z3, h⟩ := Option.bind_eq_some_iff.mp h
      refine ev_zV0 dX6_qGoesOnTest_8 vX6_263_6 (hk1547 hM) (Or.inl (hl1547 hM)) (Nat.le_of_ble_eq_true rfl) (Nat.le_of_ble_eq_true rfl) rfl (metX6_look hM n  _ _ z3 ?_)
      show Ev g _ _ 11 _ [.int q2.1] K q2.2.1 q2.2.2 cr c sl Qr Qx
      refine ev_bipush (v := (nI 93)) dX6_qGoesOnTest_11 jb93 ?_
      refine ev_icmp_ne 76 dX6_qGoesOnTest_13 rfl (fun z4 => ?_) (fun z4 => ?_)
      · rw [if_neg z4] at h
        exact wX6_qGoesOnTest_76 hM n    _ _ h hq
      · rw [if_pos z4] at h
        refine ev_aload_n dX6_qGoesOnTest_16 rfl ?_
        obtain ⟨q5, z6, h⟩ := Option.bind_eq_some_iff.mp h
        refine ev_zV0 dX6_qGoesOnTest_17 vX6_640_6 (hk1547 hM) (Or.inl (hl1547 hM)) (Nat.le_of_ble_eq_true rfl) (Nat.le_of_ble_eq_true rfl) rfl (metX6_qHasSquare hM n  _ _ z6 ?_)
        show Ev g _ _ 20 _ [.int q5.1] K q5.2.1 q5.2.2 cr c sl Qr Qx
        refine ev_if_eq 76 dX6_qGoesOnTest_20 rfl (fun z7 => ?_) (fun z7 => ?_)
        · rw [if_pos z7] at h
          exact wX6_qGoesOnTest_76 hM n    _ _ h hq
        · rw [if_neg z7] at h
          refine ev_aload_n dX6_qGoesOnTest_23 rfl ?_
          refine ev_dup dX6_qGoesOnTest_24 rfl ?_
          refine ev_getI dX6_qGoesOnTest_25 fX6_257_6 (hk1547 hM) (Or.inl (hl1547 hM)) rfl ?_
          refine ev_iconst (v := (nI 1)) dX6_qGoesOnTest_28 jc1 ?_
          refine ev_iadd dX6_qGoesOnTest_29 ?_
          refine ev_putI dX6_qGoesOnTest_30 (pX6_257_6 _) (hk1547 hM) (hl1547 hM) rfl rfl rfl ?_
          exact wX6_qGoesOnTest_33 hM n _ (ih) n  _ _ h hq
def fX6_qGoesOnTest (n : Nat) (ci : jI) (cj : jJ) : Option (Int32 × jI × jJ) := fX6_qGoesOnTest_0 n  n  ci cj
theorem metX6_qGoesOnTest {g : jG} {d : Nat} {K : jK} {cr : jR} {c sl : Nat} {Qr : jQ} {Qx : jX} (hM : jMW K cr) (n : Nat) (ci : jI) (cj : jJ) {q} (h : fX6_qGoesOnTest n  ci cj = some q) (hq : Qr (some (.int q.1)) K q.2.1 q.2.2 cr) : EvM g (d + 4) mX6_qGoesOnTest [.ref 1547] K ci cj cr c sl Qr Qx := by
  unfold fX6_qGoesOnTest at h
  show Ev g (d + 4) mX6_qGoesOnTest 0 [.ref 1547] [] K ci cj cr c sl Qr Qx
  exact wX6_qGoesOnTest_0 hM n   n  _ _ h hq
def fX6_qTest_131 (n : Nat) (ci : jI) (cj : jJ) : Option (jI × jJ) := some (ci, cj)
theorem wX6_qTest_131 {g : jG} {d : Nat} {K : jK} {cr : jR} {c sl : Nat} {Qr : jQ} {Qx : jX} (hM : jMW K cr) (n : Nat) (ci : jI) (cj : jJ) {q} (h : fX6_qTest_131 n   ci cj = some q) (hq : Qr none K q.1 q.2 cr) : Ev g (d + 9) mX6_qTest 131 [jU, jU, jU] [] K ci cj cr c sl Qr Qx := by
  unfold fX6_qTest_131 at h
  cases h
  exact ev_ret dX6_qTest_131 rfl hq
def fX6_qTest_110 (n : Nat) : Nat → jI → jJ → Option (jI × jJ)
  | 0, _, _ => none
  | k + 1, ci, cj => if (ci 1547 5) = 0 then if (ci 1547 99) ≤ 0 then fX6_qTest_131 n   ci cj else Option.bind (fX6_qDrops n  ci cj) (fun q3 => fX6_qTest_110 n  k  q3.1 q3.2) else fX6_qTest_131 n   ci cj
theorem wX6_qTest_110 {g : jG} {d : Nat} {K : jK} {cr : jR} {c sl : Nat} {Qr : jQ} {Qx : jX} (hM : jMW K cr) (n : Nat) : ∀ (k : Nat) (ci : jI) (cj : jJ) {q}, fX6_qTest_110 n  k  ci cj = some q → Qr none K q.1 q.2 cr → Ev g (d + 9) mX6_qTest 110 [.ref 1547, jU, jU] [] K ci cj cr c sl Qr Qx := by
  intro k
  induction k with
  | zero =>
    intro  ci cj q h hq
    rw [fX6_qTest_110.eq_1] at h; cases h
  | succ k ih =>
    intro  ci cj q h hq
    rw [fX6_qTest_110.eq_2] at h
    refine ev_aload_n dX6_qTest_110 rfl ?_
    refine ev_getI dX6_qTest_111 fX6_251_6 (hk1547 hM) (Or.inl (hl1547 hM)) rfl ?_
    refine ev_if_ne 131 dX6_qTest_114 rfl (fun z1 => ?_) (fun z1 => ?_)
    · rw [if_neg z1] at h
      exact ev_mask [false, false, false] (wX6_qTest_131 hM n    _ _ h hq)
    · rw [if_pos z1] at h
      refine ev_aload_n dX6_qTest_117 rfl ?_
      refine ev_getI dX6_qTest_118 fX6_347_6 (hk1547 hM) (Or.inl (hl1547 hM)) rfl ?_
      refine ev_if_le 131 dX6_qTest_121 rfl (fun z2 => ?_) (fun z2 => ?_)
      · rw [if_pos z2] at h
        exact ev_mask [false, false, false] (wX6_qTest_131 hM n    _ _ h hq)
      · rw [if_neg z2] at h
        refine ev_aload_n dX6_qTest_124 rfl ?_
        obtain ⟨q3, z4, h⟩ := Option.bind_eq_some_iff.mp h
        refine ev_zV0 dX6_qTest_125 vX6_595_6 (hk1547 hM) (Or.inl (hl1547 hM)) (Nat.le_of_ble_eq_true rfl) (Nat.le_of_ble_eq_true rfl) rfl (metX6_qDrops hM n  _ _ z4 ?_)
        show Ev g _ _ 128 _ [] K q3.1 q3.2 cr c sl Qr Qx
        refine ev_goto 110 dX6_qTest_128 rfl ?_
        exact ih  _ _ h hq
def fX6_qTest_106 (n : Nat) (rec2 : Int32 → jI → jJ → Option (jI × jJ)) (t0 : Int32) (ci : jI) (cj : jJ) : Option (jI × jJ) := rec2 t0 ci cj
theorem wX6_qTest_106 {g : jG} {d : Nat} {K : jK} {cr : jR} {c sl : Nat} {Qr : jQ} {Qx : jX} (hM : jMW K cr) (n : Nat) (rec2 : Int32 → jI → jJ → Option (jI × jJ)) (hrec2 : (∀ (l1 : Int32) (ci : jI) (cj : jJ) {q}, rec2 l1 ci cj = some q → Qr none K q.1 q.2 cr → Ev g (d + 9) mX6_qTest 2 [.ref 1547, .int l1, jU] [] K ci cj cr c sl Qr Qx)) (t0 : Int32) (ci : jI) (cj : jJ) {q} (h : fX6_qTest_106 n rec2 t0 ci cj = some q) (hq : Qr none K q.1 q.2 cr) : Ev g (d + 9) mX6_qTest 106 [.ref 1547, jU, jU] [.int t0] K ci cj cr c sl Qr Qx := by
  unfold fX6_qTest_106 at h
  refine ev_istore_n (L' := [_, _, _]) dX6_qTest_106 (by decide) rfl ?_
  refine ev_goto 2 dX6_qTest_107 rfl ?_
  exact hrec2 _ _ _ h hq
def fX6_qTest_105 (n : Nat) (rec2 : Int32 → jI → jJ → Option (jI × jJ)) (ci : jI) (cj : jJ) : Option (jI × jJ) := fX6_qTest_106 n rec2 (nI 0) ci cj
theorem wX6_qTest_105 {g : jG} {d : Nat} {K : jK} {cr : jR} {c sl : Nat} {Qr : jQ} {Qx : jX} (hM : jMW K cr) (n : Nat) (rec2 : Int32 → jI → jJ → Option (jI × jJ)) (hrec2 : (∀ (l1 : Int32) (ci : jI) (cj : jJ) {q}, rec2 l1 ci cj = some q → Qr none K q.1 q.2 cr → Ev g (d + 9) mX6_qTest 2 [.ref 1547, .int l1, jU] [] K ci cj cr c sl Qr Qx)) (ci : jI) (cj : jJ) {q} (h : fX6_qTest_105 n rec2  ci cj = some q) (hq : Qr none K q.1 q.2 cr) : Ev g (d + 9) mX6_qTest 105 [.ref 1547, jU, jU] [] K ci cj cr c sl Qr Qx := by
  unfold fX6_qTest_105 at h
  refine ev_iconst (v := (nI 0)) dX6_qTest_105 jc0 ?_
  exact wX6_qTest_106 hM n _ (hrec2) _ _ _ h hq
def fX6_qTest_2 (n : Nat) : Nat → Int32 → jI → jJ → Option (jI × jJ)
  | 0, _, _, _ => none
  | k + 1, l1, ci, cj => if l1 = 0 then fX6_qTest_110 n  n  ci cj else if (ci 1547 5) = 0 then Option.bind (fX6_look n  ci cj) (fun q3 => if q3.1 = (nI 91) then Option.bind (fX6_qOpens n (nI 25) (q3.2.1 1547 2) q3.2.1 q3.2.2) (fun q21 => fX6_qTest_2 n  k l1 (ju q21.1 1547 2 ((q21.1 1547 2) + (nI 1))) q21.2) else Option.bind (fX6_isHere n 1601 q3.2.1 q3.2.2) (fun q6 => if q6.1 = 0 then Option.bind (fX6_qFact n  q6.2.1 q6.2.2) (fun q9 => Option.bind (fX6_qDropsNots n  q9.1 q9.2) (fun q11 => if (q11.1 1547 5) = 0 then Option.bind (fX6_qGoesOnTest n  q11.1 q11.2) (fun q14 => if q14.1 = 0 then fX6_qTest_105 n (fX6_qTest_2 n  k)  q14.2.1 q14.2.2 else fX6_qTest_106 n (fX6_qTest_2 n  k) (nI 1) q14.2.1 q14.2.2) else fX6_qTest_105 n (fX6_qTest_2 n  k)  q11.1 q11.2)) else Option.bind (fX6_qOpens n (nI 12) (q6.2.1 1547 2) q6.2.1 q6.2.2) (fun q17 => Option.bind (fX6_asks n 1601 q17.1 q17.2) (fun q19 => fX6_qTest_2 n  k l1 q19.1 q19.2)))) else fX6_qTest_110 n  n  ci cj
theorem wX6_qTest_2 {g : jG} {d : Nat} {K : jK} {cr : jR} {c sl : Nat} {Qr : jQ} {Qx : jX} (hM : jMW K cr) (n : Nat) : ∀ (k : Nat) (l1 : Int32) (ci : jI) (cj : jJ) {q}, fX6_qTest_2 n  k l1 ci cj = some q → Qr none K q.1 q.2 cr → Ev g (d + 9) mX6_qTest 2 [.ref 1547, .int l1, jU] [] K ci cj cr c sl Qr Qx := by
  intro k
  induction k with
  | zero =>
    intro l1 ci cj q h hq
    rw [fX6_qTest_2.eq_1] at h; cases h
  | succ k ih =>
    intro l1 ci cj q h hq
    rw [fX6_qTest_2.eq_2] at h
    refine ev_iload_n dX6_qTest_2 rfl ?_
    refine ev_if_eq 110 dX6_qTest_3 rfl (fun z1 => ?_) (fun z1 => ?_)
    · rw [if_pos z1] at h
      exact ev_mask [true, false, false] (wX6_qTest_110 hM n   n  _ _ h hq)
    · rw [if_neg z1] at h
      refine ev_aload_n dX6_qTest_6 rfl ?_
      refine ev_getI dX6_qTest_7 fX6_251_6 (hk1547 hM) (Or.inl (hl1547 hM)) rfl ?_
      refine ev_if_ne 110 dX6_qTest_10 rfl (fun z2 => ?_) (fun z2 => ?_)
      · rw [if_neg z2] at h
        exact ev_mask [true, false, false] (wX6_qTest_110 hM n   n  _ _ h hq)
      · rw [if_pos z2] at h
        refine ev_aload_n dX6_qTest_13 rfl ?_
        obtain ⟨q3, z4, h⟩ := Option.bind_eq_some_iff.mp h
        refine ev_zV0 dX6_qTest_14 vX6_263_6 (hk1547 hM) (Or.inl (hl1547 hM)) (Nat.le_of_ble_eq_true rfl) (Nat.le_of_ble_eq_true rfl) rfl (metX6_look hM n  _ _ z4 ?_)
        show Ev g _ _ 17 _ [.int q3.1] K q3.2.1 q3.2.2 cr c sl Qr Qx
        refine ev_istore_n (L' := [_, _, _]) dX6_qTest_17 (by decide) rfl ?_
        refine ev_iload_n dX6_qTest_18 rfl ?_
        refine ev_bipush (v := (nI 91)) dX6_qTest_19 jb91 ?_
        refine ev_icmp_ne 47 dX6_qTest_21 rfl (fun z5 => ?_) (fun z5 => ?_)
        · rw [if_neg z5] at h
          refine ev_aload_n dX6_qTest_47 rfl ?_
          refine ev_aload_n dX6_qTest_48 rfl ?_
          refine ev_getR dX6_qTest_49 fX6_179_6 (hk1547 hM) (Or.inl (hl1547 hM)) rfl (hr77 hM) ?_
          obtain ⟨q6, z7, h⟩ := Option.bind_eq_some_iff.mp h
          refine ev_zV1 dX6_qTest_52 vX6_274_6 (hk1547 hM) (Or.inl (hl1547 hM)) (Nat.le_of_ble_eq_true rfl) (Nat.le_of_ble_eq_true rfl) rfl (metX6_isHere hM n _ _ _ z7 ?_)
          show Ev g _ _ 55 _ [.int q6.1] K q6.2.1 q6.2.2 cr c sl Qr Qx
          refine ev_if_eq 79 dX6_qTest_55 rfl (fun z8 => ?_) (fun z8 => ?_)
          · rw [if_pos z8] at h
            refine ev_aload_n dX6_qTest_79 rfl ?_
            obtain ⟨q9, z10, h⟩ := Option.bind_eq_some_iff.mp h
            refine ev_zV0 dX6_qTest_80 vX6_631_6 (hk1547 hM) (Or.inl (hl1547 hM)) (Nat.le_of_ble_eq_true rfl) (Nat.le_of_ble_eq_true rfl) rfl (metX6_qFact hM n  _ _ z10 ?_)
            show Ev g _ _ 83 _ [] K q9.1 q9.2 cr c sl Qr Qx
            refine ev_aload_n dX6_qTest_83 rfl ?_
            obtain ⟨q11, z12, h⟩ := Option.bind_eq_some_iff.mp h
            refine ev_zV0 dX6_qTest_84 vX6_634_6 (hk1547 hM) (Or.inl (hl1547 hM)) (Nat.le_of_ble_eq_true rfl) (Nat.le_of_ble_eq_true rfl) rfl (metX6_qDropsNots hM n  _ _ z12 ?_)
            show Ev g _ _ 87 _ [] K q11.1 q11.2 cr c sl Qr Qx
            refine ev_aload_n dX6_qTest_87 rfl ?_
            refine ev_getI dX6_qTest_88 fX6_251_6 (hk1547 hM) (Or.inl (hl1547 hM)) rfl ?_
            refine ev_if_ne 105 dX6_qTest_91 rfl (fun z13 => ?_) (fun z13 => ?_)
            · rw [if_neg z13] at h
              exact ev_mask [true, false, false] (wX6_qTest_105 hM n _ (ih)  _ _ h hq)
            · rw [if_pos z13] at h
              refine ev_aload_n dX6_qTest_94 rfl ?_
              obtain ⟨q14, z15, h⟩ := Option.bind_eq_some_iff.mp h
              refine ev_zV0 dX6_qTest_95 vX6_637_6 (hk1547 hM) (Or.inl (hl1547 hM)) (Nat.le_of_ble_eq_true rfl) (Nat.le_of_ble_eq_true rfl) rfl (metX6_qGoesOnTest hM n  _ _ z15 ?_)
              show Ev g _ _ 98 _ [.int q14.1] K q14.2.1 q14.2.2 cr c sl Qr Qx
              refine ev_if_eq 105 dX6_qTest_98 rfl (fun z16 => ?_) (fun z16 => ?_)
              · rw [if_pos z16] at h
                exact ev_mask [true, false, false] (wX6_qTest_105 hM n _ (ih)  _ _ h hq)
              · rw [if_neg z16] at h
                refine ev_iconst (v := (nI 1)) dX6_qTest_101 jc1 ?_
                refine ev_goto 106 dX6_qTest_102 rfl ?_
                exact ev_mask [true, false, false] (wX6_qTest_106 hM n _ (ih) _ _ _ h hq)
          · rw [if_neg z8] at h
            refine ev_aload_n dX6_qTest_58 rfl ?_
            refine ev_bipush (v := (nI 12)) dX6_qTest_59 jb12 ?_
            refine ev_aload_n dX6_qTest_61 rfl ?_
            refine ev_getI dX6_qTest_62 fX6_257_6 (hk1547 hM) (Or.inl (hl1547 hM)) rfl ?_
            obtain ⟨q17, z18, h⟩ := Option.bind_eq_some_iff.mp h
            refine ev_zV2 dX6_qTest_65 vX6_607_6 (hk1547 hM) (Or.inl (hl1547 hM)) (Nat.le_of_ble_eq_true rfl) (Nat.le_of_ble_eq_true rfl) rfl (metX6_qOpens hM n _ _ _ _ z18 ?_)
            show Ev g _ _ 68 _ [] K q17.1 q17.2 cr c sl Qr Qx
            refine ev_aload_n dX6_qTest_68 rfl ?_
            refine ev_aload_n dX6_qTest_69 rfl ?_
            refine ev_getR dX6_qTest_70 fX6_179_6 (hk1547 hM) (Or.inl (hl1547 hM)) rfl (hr77 hM) ?_
            obtain ⟨q19, z20, h⟩ := Option.bind_eq_some_iff.mp h
            refine ev_zV1 dX6_qTest_73 vX6_329_6 (hk1547 hM) (Or.inl (hl1547 hM)) (Nat.le_of_ble_eq_true rfl) (Nat.le_of_ble_eq_true rfl) rfl (metX6_asks hM n _ _ _ z20 ?_)
            show Ev g _ _ 76 _ [] K q19.1 q19.2 cr c sl Qr Qx
            refine ev_goto 2 dX6_qTest_76 rfl ?_
            exact ev_mask [true, true, false] (ih _ _ _ h hq)
        · rw [if_pos z5] at h
          refine ev_aload_n dX6_qTest_24 rfl ?_
          refine ev_bipush (v := (nI 25)) dX6_qTest_25 jb25 ?_
          refine ev_aload_n dX6_qTest_27 rfl ?_
          refine ev_getI dX6_qTest_28 fX6_257_6 (hk1547 hM) (Or.inl (hl1547 hM)) rfl ?_
          obtain ⟨q21, z22, h⟩ := Option.bind_eq_some_iff.mp h
          refine ev_zV2 dX6_qTest_31 vX6_607_6 (hk1547 hM) (Or.inl (hl1547 hM)) (Nat.le_of_ble_eq_true rfl) (Nat.le_of_ble_eq_true rfl) rfl (metX6_qOpens hM n _ _ _ _ z22 ?_)
          show Ev g _ _ 34 _ [] K q21.1 q21.2 cr c sl Qr Qx
          refine ev_aload_n dX6_qTest_34 rfl ?_
          refine ev_dup dX6_qTest_35 rfl ?_
          refine ev_getI dX6_qTest_36 fX6_257_6 (hk1547 hM) (Or.inl (hl1547 hM)) rfl ?_
          refine ev_iconst (v := (nI 1)) dX6_qTest_39 jc1 ?_
          refine ev_iadd dX6_qTest_40 ?_
          refine ev_putI dX6_qTest_41 (pX6_257_6 _) (hk1547 hM) (hl1547 hM) rfl rfl rfl ?_
          refine ev_goto 2 dX6_qTest_44 rfl ?_
          exact ev_mask [true, true, false] (ih _ _ _ h hq)
def fX6_qTest (n : Nat) (ci : jI) (cj : jJ) : Option (jI × jJ) := fX6_qTest_2 n  n (nI 1) ci cj
theorem metX6_qTest {g : jG} {d : Nat} {K : jK} {cr : jR} {c sl : Nat} {Qr : jQ} {Qx : jX} (hM : jMW K cr) (n : Nat) (ci : jI) (cj : jJ) {q} (h : fX6_qTest n  ci cj = some q) (hq : Qr none K q.1 q.2 cr) : EvM g (d + 9) mX6_qTest [.ref 1547] K ci cj cr c sl Qr Qx := by
  unfold fX6_qTest at h
  show Ev g (d + 9) mX6_qTest 0 [.ref 1547, jU, jU] [] K ci cj cr c sl Qr Qx
  refine ev_iconst (v := (nI 1)) dX6_qTest_0 jc1 ?_
  refine ev_istore_n (L' := [_, _, _]) dX6_qTest_1 (by decide) rfl ?_
  exact wX6_qTest_2 hM n   n _ _ _ h hq
def fX6_codesTold_92 (n : Nat) : Nat → Int32 → Int32 → jI → jJ → Option (jI × jJ)
  | 0, _, _, _, _ => none
  | k + 1, l1, l3, ci, cj => if (ci 1547 97) ≤ l3 then if jok l1 8 then some ((ju ci 1583 (l1).toNatClampNeg (ci 1547 47)), cj) else none else if jok l3 1700 then if jok (ci 1547 47) 3200 then fX6_codesTold_92 n  k l1 (l3 + (nI 1)) (ju (ju ci 1584 ((ci 1547 47)).toNatClampNeg (ci 1620 (l3).toNatClampNeg)) 1547 47 (((ju ci 1584 ((ci 1547 47)).toNatClampNeg (ci 1620 (l3).toNatClampNeg)) 1547 47) + (nI 1))) cj else none else none
theorem wX6_codesTold_92 {g : jG} {d : Nat} {K : jK} {cr : jR} {c sl : Nat} {Qr : jQ} {Qx : jX} (hM : jMW K cr) (n : Nat) : ∀ (k : Nat) (l1 : Int32) (l3 : Int32) (ci : jI) (cj : jJ) {q}, fX6_codesTold_92 n  k l1 l3 ci cj = some q → Qr none K q.1 q.2 cr → Ev g (d + 10) mX6_codesTold 92 [.ref 1547, .int l1, jU, .int l3] [] K ci cj cr c sl Qr Qx := by
  intro k
  induction k with
  | zero =>
    intro l1 l3 ci cj q h hq
    rw [fX6_codesTold_92.eq_1] at h; cases h
  | succ k ih =>
    intro l1 l3 ci cj q h hq
    rw [fX6_codesTold_92.eq_2] at h
    refine ev_iload_n dX6_codesTold_92 rfl ?_
    refine ev_aload_n dX6_codesTold_93 rfl ?_
    refine ev_getI dX6_codesTold_94 fX6_344_6 (hk1547 hM) (Or.inl (hl1547 hM)) rfl ?_
    refine ev_icmp_ge 131 dX6_codesTold_97 rfl (fun z1 => ?_) (fun z1 => ?_)
    · rw [if_pos z1] at h
      refine ev_aload_n dX6_codesTold_131 rfl ?_
      refine ev_getR dX6_codesTold_132 fX6_121_6 (hk1547 hM) (Or.inl (hl1547 hM)) rfl (hr45 hM) ?_
      refine ev_iload_n dX6_codesTold_135 rfl ?_
      refine ev_aload_n dX6_codesTold_136 rfl ?_
      refine ev_getI dX6_codesTold_137 fX6_362_6 (hk1547 hM) (Or.inl (hl1547 hM)) rfl ?_
      by_cases z2 : jok l1 8
      rotate_left
      · rw [if_neg z2] at h; cases h
      rw [if_pos z2] at h
      refine ev_iastore dX6_codesTold_140 (hk1583 hM) (hl1583 hM) (jok.ix z2 (hn1583 hM)) ?_
      cases h
      exact ev_ret dX6_codesTold_141 rfl hq
    · rw [if_neg z1] at h
      refine ev_aload_n dX6_codesTold_100 rfl ?_
      refine ev_getR dX6_codesTold_101 fX6_124_6 (hk1547 hM) (Or.inl (hl1547 hM)) rfl (hr46 hM) ?_
      refine ev_aload_n dX6_codesTold_104 rfl ?_
      refine ev_getI dX6_codesTold_105 fX6_362_6 (hk1547 hM) (Or.inl (hl1547 hM)) rfl ?_
      refine ev_aload_n dX6_codesTold_108 rfl ?_
      refine ev_getR dX6_codesTold_109 fX6_236_6 (hk1547 hM) (Or.inl (hl1547 hM)) rfl (hr96 hM) ?_
      refine ev_iload_n dX6_codesTold_112 rfl ?_
      by_cases z3 : jok l3 1700
      rotate_left
      · rw [if_neg z3] at h; cases h
      rw [if_pos z3] at h
      refine ev_iaload dX6_codesTold_113 (hk1620 hM) (Or.inl (hl1620 hM)) (jok.ix z3 (hn1620 hM)) ?_
      by_cases z4 : jok (ci 1547 47) 3200
      rotate_left
      · rw [if_neg z4] at h; cases h
      rw [if_pos z4] at h
      refine ev_iastore dX6_codesTold_114 (hk1584 hM) (hl1584 hM) (jok.ix z4 (hn1584 hM)) ?_
      refine ev_aload_n dX6_codesTold_115 rfl ?_
      refine ev_dup dX6_codesTold_116 rfl ?_
      refine ev_getI dX6_codesTold_117 fX6_362_6 (hk1547 hM) (Or.inl (hl1547 hM)) rfl ?_
      refine ev_iconst (v := (nI 1)) dX6_codesTold_120 jc1 ?_
      refine ev_iadd dX6_codesTold_121 ?_
      refine ev_putI dX6_codesTold_122 (pX6_362_6 _) (hk1547 hM) (hl1547 hM) rfl rfl rfl ?_
      refine ev_iinc (v := (l3 + (nI 1))) (L' := [_, _, _, _]) dX6_codesTold_125 rfl (by rw [ji_1]) (by decide) rfl ?_
      refine ev_goto 92 dX6_codesTold_128 rfl ?_
      exact ih _ _ _ _ h hq
def fX6_codesTold_72 (n : Nat) (l1 : Int32) (ci : jI) (cj : jJ) : Option (jI × jJ) := if (ci 1547 5) = 0 then if jok l1 8 then fX6_codesTold_92 n  n l1 (nI 0) (ju ci 1582 (l1).toNatClampNeg (ci 1547 47)) cj else none else some (ci, cj)
theorem wX6_codesTold_72 {g : jG} {d : Nat} {K : jK} {cr : jR} {c sl : Nat} {Qr : jQ} {Qx : jX} (hM : jMW K cr) (n : Nat) (l1 : Int32) (ci : jI) (cj : jJ) {q} (h : fX6_codesTold_72 n  l1 ci cj = some q) (hq : Qr none K q.1 q.2 cr) : Ev g (d + 10) mX6_codesTold 72 [.ref 1547, .int l1, jU, jU] [] K ci cj cr c sl Qr Qx := by
  unfold fX6_codesTold_72 at h
  refine ev_aload_n dX6_codesTold_72 rfl ?_
  refine ev_getI dX6_codesTold_73 fX6_251_6 (hk1547 hM) (Or.inl (hl1547 hM)) rfl ?_
  refine ev_if_eq 80 dX6_codesTold_76 rfl (fun z1 => ?_) (fun z1 => ?_)
  · rw [if_pos z1] at h
    refine ev_aload_n dX6_codesTold_80 rfl ?_
    refine ev_getR dX6_codesTold_81 fX6_118_6 (hk1547 hM) (Or.inl (hl1547 hM)) rfl (hr44 hM) ?_
    refine ev_iload_n dX6_codesTold_84 rfl ?_
    refine ev_aload_n dX6_codesTold_85 rfl ?_
    refine ev_getI dX6_codesTold_86 fX6_362_6 (hk1547 hM) (Or.inl (hl1547 hM)) rfl ?_
    by_cases z2 : jok l1 8
    rotate_left
    · rw [if_neg z2] at h; cases h
    rw [if_pos z2] at h
    refine ev_iastore dX6_codesTold_89 (hk1582 hM) (hl1582 hM) (jok.ix z2 (hn1582 hM)) ?_
    refine ev_iconst (v := (nI 0)) dX6_codesTold_90 jc0 ?_
    refine ev_istore_n (L' := [_, _, _, _]) dX6_codesTold_91 (by decide) rfl ?_
    exact wX6_codesTold_92 hM n   n _ _ _ _ h hq
  · rw [if_neg z1] at h
    cases h
    exact ev_ret dX6_codesTold_79 rfl hq
def fX6_codesTold_23 (n : Nat) (l1 : Int32) (ci : jI) (cj : jJ) : Option (jI × jJ) := if (ci 1547 5) = 0 then if l1 = (nI 3) then Option.bind (fX6_qTest n  (ju (ju (ju (ju (ju ci 1547 49 l1) 1547 97 (nI 0)) 1547 99 (nI 0)) 1547 100 (nI 0)) 1547 101 (nI 0)) cj) (fun q5 => fX6_codesTold_72 n  l1 q5.1 q5.2) else Option.bind (fX6_qSums n  (ju (ju (ju (ju (ju ci 1547 49 l1) 1547 97 (nI 0)) 1547 99 (nI 0)) 1547 100 (nI 0)) 1547 101 (nI 0)) cj) (fun q3 => fX6_codesTold_72 n  l1 q3.1 q3.2) else some (ci, cj)
theorem wX6_codesTold_23 {g : jG} {d : Nat} {K : jK} {cr : jR} {c sl : Nat} {Qr : jQ} {Qx : jX} (hM : jMW K cr) (n : Nat) (l1 : Int32) (ci : jI) (cj : jJ) {q} (h : fX6_codesTold_23 n  l1 ci cj = some q) (hq : Qr none K q.1 q.2 cr) : Ev g (d + 10) mX6_codesTold 23 [.ref 1547, .int l1, jU, jU] [] K ci cj cr c sl Qr Qx := by
  unfold fX6_codesTold_23 at h
  refine ev_aload_n dX6_codesTold_23 rfl ?_
  refine ev_getI dX6_codesTold_24 fX6_251_6 (hk1547 hM) (Or.inl (hl1547 hM)) rfl ?_
  refine ev_if_eq 31 dX6_codesTold_27 rfl (fun z1 => ?_) (fun z1 => ?_)
  · rw [if_pos z1] at h
    refine ev_aload_n dX6_codesTold_31 rfl ?_
    refine ev_iload_n dX6_codesTold_32 rfl ?_
    refine ev_putI dX6_codesTold_33 (pX6_309_6 _) (hk1547 hM) (hl1547 hM) rfl rfl rfl ?_
    refine ev_aload_n dX6_codesTold_36 rfl ?_
    refine ev_iconst (v := (nI 0)) dX6_codesTold_37 jc0 ?_
    refine ev_putI dX6_codesTold_38 (pX6_344_6 _) (hk1547 hM) (hl1547 hM) rfl rfl rfl ?_
    refine ev_aload_n dX6_codesTold_41 rfl ?_
    refine ev_iconst (v := (nI 0)) dX6_codesTold_42 jc0 ?_
    refine ev_putI dX6_codesTold_43 (pX6_347_6 _) (hk1547 hM) (hl1547 hM) rfl rfl rfl ?_
    refine ev_aload_n dX6_codesTold_46 rfl ?_
    refine ev_iconst (v := (nI 0)) dX6_codesTold_47 jc0 ?_
    refine ev_putI dX6_codesTold_48 (pX6_350_6 _) (hk1547 hM) (hl1547 hM) rfl rfl rfl ?_
    refine ev_aload_n dX6_codesTold_51 rfl ?_
    refine ev_iconst (v := (nI 0)) dX6_codesTold_52 jc0 ?_
    refine ev_putI dX6_codesTold_53 (pX6_353_6 _) (hk1547 hM) (hl1547 hM) rfl rfl rfl ?_
    refine ev_iload_n dX6_codesTold_56 rfl ?_
    refine ev_iconst (v := (nI 3)) dX6_codesTold_57 jc3 ?_
    refine ev_icmp_ne 68 dX6_codesTold_58 rfl (fun z2 => ?_) (fun z2 => ?_)
    · rw [if_neg z2] at h
      refine ev_aload_n dX6_codesTold_68 rfl ?_
      obtain ⟨q3, z4, h⟩ := Option.bind_eq_some_iff.mp h
      refine ev_zV0 dX6_codesTold_69 vX6_359_6 (hk1547 hM) (Or.inl (hl1547 hM)) (Nat.le_of_ble_eq_true rfl) (Nat.le_of_ble_eq_true rfl) rfl (metX6_qSums hM n  _ _ z4 ?_)
      show Ev g _ _ 72 _ [] K q3.1 q3.2 cr c sl Qr Qx
      exact wX6_codesTold_72 hM n   _ _ _ h hq
    · rw [if_pos z2] at h
      refine ev_aload_n dX6_codesTold_61 rfl ?_
      obtain ⟨q5, z6, h⟩ := Option.bind_eq_some_iff.mp h
      refine ev_zV0 dX6_codesTold_62 vX6_356_6 (hk1547 hM) (Or.inl (hl1547 hM)) (Nat.le_of_ble_eq_true rfl) (Nat.le_of_ble_eq_true rfl) rfl (metX6_qTest hM n  _ _ z6 ?_)
      show Ev g _ _ 65 _ [] K q5.1 q5.2 cr c sl Qr Qx
      refine ev_goto 72 dX6_codesTold_65 rfl ?_
      exact wX6_codesTold_72 hM n   _ _ _ h hq
  · rw [if_neg z1] at h
    cases h
    exact ev_ret dX6_codesTold_30 rfl hq
def fX6_codesTold (n : Nat) (a0 : Int32) (a1 : Int32) (ci : jI) (cj : jJ) : Option (jI × jJ) := if (ci 1547 5) = 0 then if jok a0 8 then if (ci 1582 (a0).toNatClampNeg) = (-1) then fX6_codesTold_23 n  a0 ci cj else Option.bind (fX6_fail n (nI 5) a1 ci cj) (fun q4 => fX6_codesTold_23 n  a0 q4.1 q4.2) else none else fX6_codesTold_23 n  a0 ci cj
theorem metX6_codesTold {g : jG} {d : Nat} {K : jK} {cr : jR} {c sl : Nat} {Qr : jQ} {Qx : jX} (hM : jMW K cr) (n : Nat) (a0 : Int32) (a1 : Int32) (ci : jI) (cj : jJ) {q} (h : fX6_codesTold n a0 a1 ci cj = some q) (hq : Qr none K q.1 q.2 cr) : EvM g (d + 10) mX6_codesTold [.ref 1547, .int a0, .int a1] K ci cj cr c sl Qr Qx := by
  unfold fX6_codesTold at h
  show Ev g (d + 10) mX6_codesTold 0 [.ref 1547, .int a0, .int a1, jU] [] K ci cj cr c sl Qr Qx
  refine ev_aload_n dX6_codesTold_0 rfl ?_
  refine ev_getI dX6_codesTold_1 fX6_251_6 (hk1547 hM) (Or.inl (hl1547 hM)) rfl ?_
  refine ev_if_ne 23 dX6_codesTold_4 rfl (fun z1 => ?_) (fun z1 => ?_)
  · rw [if_neg z1] at h
    exact ev_mask [true, true, false, false] (wX6_codesTold_23 hM n   _ _ _ h hq)
  · rw [if_pos z1] at h
    refine ev_aload_n dX6_codesTold_7 rfl ?_
    refine ev_getR dX6_codesTold_8 fX6_118_6 (hk1547 hM) (Or.inl (hl1547 hM)) rfl (hr44 hM) ?_
    refine ev_iload_n dX6_codesTold_11 rfl ?_
    by_cases z2 : jok a0 8
    rotate_left
    · rw [if_neg z2] at h; cases h
    rw [if_pos z2] at h
    refine ev_iaload dX6_codesTold_12 (hk1582 hM) (Or.inl (hl1582 hM)) (jok.ix z2 (hn1582 hM)) ?_
    refine ev_iconst (v := (-1)) dX6_codesTold_13 jcm1 ?_
    refine ev_icmp_eq 23 dX6_codesTold_14 rfl (fun z3 => ?_) (fun z3 => ?_)
    · rw [if_pos z3] at h
      exact ev_mask [true, true, false, false] (wX6_codesTold_23 hM n   _ _ _ h hq)
    · rw [if_neg z3] at h
      refine ev_aload_n dX6_codesTold_17 rfl ?_
      refine ev_iconst (v := (nI 5)) dX6_codesTold_18 jc5 ?_
      refine ev_iload_n dX6_codesTold_19 rfl ?_
      obtain ⟨q4, z5, h⟩ := Option.bind_eq_some_iff.mp h
      refine ev_zV2 dX6_codesTold_20 vX6_281_6 (hk1547 hM) (Or.inl (hl1547 hM)) (Nat.le_of_ble_eq_true rfl) (Nat.le_of_ble_eq_true rfl) rfl (metX6_fail hM n _ _ _ _ z5 ?_)
      show Ev g _ _ 23 _ [] K q4.1 q4.2 cr c sl Qr Qx
      exact ev_mask [true, true, false, false] (wX6_codesTold_23 hM n   _ _ _ h hq)
def fX6_bayNamed_52 (n : Nat) (ci : jI) (cj : jJ) : Option (Int32 × jI × jJ) := some ((nI 0), ci, cj)
theorem wX6_bayNamed_52 {g : jG} {d : Nat} {K : jK} {cr : jR} {c sl : Nat} {Qr : jQ} {Qx : jX} (hM : jMW K cr) (n : Nat) (ci : jI) (cj : jJ) {q} (h : fX6_bayNamed_52 n   ci cj = some q) (hq : Qr (some (.int q.1)) K q.2.1 q.2.2 cr) : Ev g (d + 5) mX6_bayNamed 52 [jU, jU, jU, jU] [] K ci cj cr c sl Qr Qx := by
  unfold fX6_bayNamed_52 at h
  refine ev_iconst (v := (nI 0)) dX6_bayNamed_52 jc0 ?_
  cases h
  exact ev_iret dX6_bayNamed_53 rfl rfl hq
def fX6_bayNamed_7 (n : Nat) : Nat → Int64 → Int32 → jI → jJ → Option (Int32 × jI × jJ)
  | 0, _, _, _, _ => none
  | k + 1, l1, l3, ci, cj => if jok (nI 0) 8 then if (ci 1577 ((nI 0)).toNatClampNeg) ≤ l3 then if (ci 1547 5) = 0 then Option.bind (fX6_fail n (nI 3) (ci 1547 38) ci cj) (fun q4 => fX6_bayNamed_52 n   q4.1 q4.2) else fX6_bayNamed_52 n   ci cj else if jok l3 60 then if (cj 1578 (l3).toNatClampNeg) = l1 then some (l3, ci, cj) else fX6_bayNamed_7 n  k l1 (l3 + (nI 1)) ci cj else none else none
theorem wX6_bayNamed_7 {g : jG} {d : Nat} {K : jK} {cr : jR} {c sl : Nat} {Qr : jQ} {Qx : jX} (hM : jMW K cr) (n : Nat) : ∀ (k : Nat) (l1 : Int64) (l3 : Int32) (ci : jI) (cj : jJ) {q}, fX6_bayNamed_7 n  k l1 l3 ci cj = some q → Qr (some (.int q.1)) K q.2.1 q.2.2 cr → Ev g (d + 5) mX6_bayNamed 7 [.ref 1547, .long l1, jU, .int l3] [] K ci cj cr c sl Qr Qx := by
  intro k
  induction k with
  | zero =>
    intro l1 l3 ci cj q h hq
    rw [fX6_bayNamed_7.eq_1] at h; cases h
  | succ k ih =>
    intro l1 l3 ci cj q h hq
    rw [fX6_bayNamed_7.eq_2] at h
    refine ev_iload_n dX6_bayNamed_7 rfl ?_
    refine ev_aload_n dX6_bayNamed_8 rfl ?_
    refine ev_getR dX6_bayNamed_9 fX6_102_6 (hk1547 hM) (Or.inl (hl1547 hM)) rfl (hr39 hM) ?_
    refine ev_iconst (v := (nI 0)) dX6_bayNamed_12 jc0 ?_
    by_cases z1 : jok (nI 0) 8
    rotate_left
    · rw [if_neg z1] at h; cases h
    rw [if_pos z1] at h
    refine ev_iaload dX6_bayNamed_13 (hk1577 hM) (Or.inl (hl1577 hM)) (jok.ix z1 (hn1577 hM)) ?_
    refine ev_icmp_ge 36 dX6_bayNamed_14 rfl (fun z2 => ?_) (fun z2 => ?_)
    · rw [if_pos z2] at h
      refine ev_aload_n dX6_bayNamed_36 rfl ?_
      refine ev_getI dX6_bayNamed_37 fX6_251_6 (hk1547 hM) (Or.inl (hl1547 hM)) rfl ?_
      refine ev_if_ne 52 dX6_bayNamed_40 rfl (fun z3 => ?_) (fun z3 => ?_)
      · rw [if_neg z3] at h
        exact ev_mask [false, false, false, false] (wX6_bayNamed_52 hM n    _ _ h hq)
      · rw [if_pos z3] at h
        refine ev_aload_n dX6_bayNamed_43 rfl ?_
        refine ev_iconst (v := (nI 3)) dX6_bayNamed_44 jc3 ?_
        refine ev_aload_n dX6_bayNamed_45 rfl ?_
        refine ev_getI dX6_bayNamed_46 fX6_302_6 (hk1547 hM) (Or.inl (hl1547 hM)) rfl ?_
        obtain ⟨q4, z5, h⟩ := Option.bind_eq_some_iff.mp h
        refine ev_zV2 dX6_bayNamed_49 vX6_281_6 (hk1547 hM) (Or.inl (hl1547 hM)) (Nat.le_of_ble_eq_true rfl) (Nat.le_of_ble_eq_true rfl) rfl (metX6_fail hM n _ _ _ _ z5 ?_)
        show Ev g _ _ 52 _ [] K q4.1 q4.2 cr c sl Qr Qx
        exact ev_mask [false, false, false, false] (wX6_bayNamed_52 hM n    _ _ h hq)
    · rw [if_neg z2] at h
      refine ev_aload_n dX6_bayNamed_17 rfl ?_
      refine ev_getR dX6_bayNamed_18 fX6_105_6 (hk1547 hM) (Or.inl (hl1547 hM)) rfl (hr40 hM) ?_
      refine ev_iload_n dX6_bayNamed_21 rfl ?_
      by_cases z6 : jok l3 60
      rotate_left
      · rw [if_neg z6] at h; cases h
      rw [if_pos z6] at h
      refine ev_laload dX6_bayNamed_22 (hk1578 hM) (Or.inl (hl1578 hM)) (jok.ix z6 (hn1578 hM)) ?_
      refine ev_lload_n dX6_bayNamed_23 rfl ?_
      refine ev_lcif_ne 30 dX6_bayNamed_24 dX6_bayNamed_25 rfl (fun z7 => ?_) (fun z7 => ?_)
      · rw [if_neg z7] at h
        refine ev_iinc (v := (l3 + (nI 1))) (L' := [_, _, _, _]) dX6_bayNamed_30 rfl (by rw [ji_1]) (by decide) rfl ?_
        refine ev_goto 7 dX6_bayNamed_33 rfl ?_
        exact ih _ _ _ _ h hq
      · rw [if_pos z7] at h
        refine ev_iload_n dX6_bayNamed_28 rfl ?_
        cases h
        exact ev_iret dX6_bayNamed_29 rfl rfl hq
def fX6_bayNamed (n : Nat) (ci : jI) (cj : jJ) : Option (Int32 × jI × jJ) := Option.bind (fX6_name n  ci cj) (fun q1 => fX6_bayNamed_7 n  n q1.1 (nI 0) q1.2.1 q1.2.2)
theorem metX6_bayNamed {g : jG} {d : Nat} {K : jK} {cr : jR} {c sl : Nat} {Qr : jQ} {Qx : jX} (hM : jMW K cr) (n : Nat) (ci : jI) (cj : jJ) {q} (h : fX6_bayNamed n  ci cj = some q) (hq : Qr (some (.int q.1)) K q.2.1 q.2.2 cr) : EvM g (d + 5) mX6_bayNamed [.ref 1547] K ci cj cr c sl Qr Qx := by
  unfold fX6_bayNamed at h
  show Ev g (d + 5) mX6_bayNamed 0 [.ref 1547, jU, jU, jU] [] K ci cj cr c sl Qr Qx
  refine ev_aload_n dX6_bayNamed_0 rfl ?_
  obtain ⟨q1, z2, h⟩ := Option.bind_eq_some_iff.mp h
  refine ev_zV0 dX6_bayNamed_1 vX6_318_6 (hk1547 hM) (Or.inl (hl1547 hM)) (Nat.le_of_ble_eq_true rfl) (Nat.le_of_ble_eq_true rfl) rfl (metX6_name hM n  _ _ z2 ?_)
  show Ev g _ _ 4 _ [.long q1.1] K q1.2.1 q1.2.2 cr c sl Qr Qx
  refine ev_lstore_n (L' := [_, _, _, _]) dX6_bayNamed_4 (by decide) rfl ?_
  refine ev_iconst (v := (nI 0)) dX6_bayNamed_5 jc0 ?_
  refine ev_istore_n (L' := [_, _, _, _]) dX6_bayNamed_6 (by decide) rfl ?_
  exact wX6_bayNamed_7 hM n   n _ _ _ _ h hq
def fX6_pairTold (n : Nat) (a0 : Int32) (ci : jI) (cj : jJ) : Option (jI × jJ) := Option.bind (fX6_isFull n (nI 1) (nI 10) a0 ci cj) (fun q1 => if q1.1 = 0 then Option.bind (fX6_newName n  q1.2.1 q1.2.2) (fun q4 => Option.bind (fX6_asks n 1554 q4.2.1 q4.2.2) (fun q6 => Option.bind (fX6_bayNamed n  q6.1 q6.2) (fun q8 => Option.bind (fX6_asks n 1555 q8.2.1 q8.2.2) (fun q10 => Option.bind (fX6_number n (nI 0) (nI 9) q10.1 q10.2) (fun q12 => Option.bind (fX6_laid n (nI 1) q4.1 1580 q8.1 q12.1 q12.2.1 q12.2.2) (fun q14 => some (q14.1, q14.2))))))) else some (q1.2.1, q1.2.2))
theorem metX6_pairTold {g : jG} {d : Nat} {K : jK} {cr : jR} {c sl : Nat} {Qr : jQ} {Qx : jX} (hM : jMW K cr) (n : Nat) (a0 : Int32) (ci : jI) (cj : jJ) {q} (h : fX6_pairTold n a0 ci cj = some q) (hq : Qr none K q.1 q.2 cr) : EvM g (d + 6) mX6_pairTold [.ref 1547, .int a0] K ci cj cr c sl Qr Qx := by
  unfold fX6_pairTold at h
  show Ev g (d + 6) mX6_pairTold 0 [.ref 1547, .int a0, jU, jU, jU] [] K ci cj cr c sl Qr Qx
  refine ev_aload_n dX6_pairTold_0 rfl ?_
  refine ev_iconst (v := (nI 1)) dX6_pairTold_1 jc1 ?_
  refine ev_bipush (v := (nI 10)) dX6_pairTold_2 jb10 ?_
  refine ev_iload_n dX6_pairTold_4 rfl ?_
  obtain ⟨q1, z2, h⟩ := Option.bind_eq_some_iff.mp h
  refine ev_zV3 dX6_pairTold_5 vX6_322_6 (hk1547 hM) (Or.inl (hl1547 hM)) (Nat.le_of_ble_eq_true rfl) (Nat.le_of_ble_eq_true rfl) rfl (metX6_isFull hM n _ _ _ _ _ z2 ?_)
  show Ev g _ _ 8 _ [.int q1.1] K q1.2.1 q1.2.2 cr c sl Qr Qx
  refine ev_if_eq 12 dX6_pairTold_8 rfl (fun z3 => ?_) (fun z3 => ?_)
  · rw [if_pos z3] at h
    refine ev_aload_n dX6_pairTold_12 rfl ?_
    obtain ⟨q4, z5, h⟩ := Option.bind_eq_some_iff.mp h
    refine ev_zV0 dX6_pairTold_13 vX6_326_6 (hk1547 hM) (Or.inl (hl1547 hM)) (Nat.le_of_ble_eq_true rfl) (Nat.le_of_ble_eq_true rfl) rfl (metX6_newName hM n  _ _ z5 ?_)
    show Ev g _ _ 16 _ [.long q4.1] K q4.2.1 q4.2.2 cr c sl Qr Qx
    refine ev_lstore_n (L' := [_, _, _, _, _]) dX6_pairTold_16 (by decide) rfl ?_
    refine ev_aload_n dX6_pairTold_17 rfl ?_
    refine ev_aload_n dX6_pairTold_18 rfl ?_
    refine ev_getR dX6_pairTold_19 fX6_33_6 (hk1547 hM) (Or.inl (hl1547 hM)) rfl (hr15 hM) ?_
    obtain ⟨q6, z7, h⟩ := Option.bind_eq_some_iff.mp h
    refine ev_zV1 dX6_pairTold_22 vX6_329_6 (hk1547 hM) (Or.inl (hl1547 hM)) (Nat.le_of_ble_eq_true rfl) (Nat.le_of_ble_eq_true rfl) rfl (metX6_asks hM n _ _ _ z7 ?_)
    show Ev g _ _ 25 _ [] K q6.1 q6.2 cr c sl Qr Qx
    refine ev_aload_n dX6_pairTold_25 rfl ?_
    obtain ⟨q8, z9, h⟩ := Option.bind_eq_some_iff.mp h
    refine ev_zV0 dX6_pairTold_26 vX6_341_6 (hk1547 hM) (Or.inl (hl1547 hM)) (Nat.le_of_ble_eq_true rfl) (Nat.le_of_ble_eq_true rfl) rfl (metX6_bayNamed hM n  _ _ z9 ?_)
    show Ev g _ _ 29 _ [.int q8.1] K q8.2.1 q8.2.2 cr c sl Qr Qx
    refine ev_istore (L' := [_, _, _, _, _]) dX6_pairTold_29 (by decide) rfl ?_
    refine ev_aload_n dX6_pairTold_31 rfl ?_
    refine ev_aload_n dX6_pairTold_32 rfl ?_
    refine ev_getR dX6_pairTold_33 fX6_36_6 (hk1547 hM) (Or.inl (hl1547 hM)) rfl (hr16 hM) ?_
    obtain ⟨q10, z11, h⟩ := Option.bind_eq_some_iff.mp h
    refine ev_zV1 dX6_pairTold_36 vX6_329_6 (hk1547 hM) (Or.inl (hl1547 hM)) (Nat.le_of_ble_eq_true rfl) (Nat.le_of_ble_eq_true rfl) rfl (metX6_asks hM n _ _ _ z11 ?_)
    show Ev g _ _ 39 _ [] K q10.1 q10.2 cr c sl Qr Qx
    refine ev_aload_n dX6_pairTold_39 rfl ?_
    refine ev_iconst (v := (nI 1)) dX6_pairTold_40 jc1 ?_
    refine ev_lload_n dX6_pairTold_41 rfl ?_
    refine ev_aload_n dX6_pairTold_42 rfl ?_
    refine ev_getR dX6_pairTold_43 fX6_112_6 (hk1547 hM) (Or.inl (hl1547 hM)) rfl (hr42 hM) ?_
    refine ev_iload dX6_pairTold_46 rfl ?_
    refine ev_aload_n dX6_pairTold_48 rfl ?_
    refine ev_iconst (v := (nI 0)) dX6_pairTold_49 jc0 ?_
    refine ev_bipush (v := (nI 9)) dX6_pairTold_50 jb9 ?_
    obtain ⟨q12, z13, h⟩ := Option.bind_eq_some_iff.mp h
    refine ev_zV2 dX6_pairTold_52 vX6_333_6 (hk1547 hM) (Or.inl (hl1547 hM)) (Nat.le_of_ble_eq_true rfl) (Nat.le_of_ble_eq_true rfl) rfl (metX6_number hM n _ _ _ _ z13 ?_)
    show Ev g _ _ 55 _ [.int q12.1, .int q8.1, .ref 1580, .long q4.1, .int (nI 1), .ref 1547] K q12.2.1 q12.2.2 cr c sl Qr Qx
    obtain ⟨q14, z15, h⟩ := Option.bind_eq_some_iff.mp h
    refine ev_zV5 dX6_pairTold_55 vX6_337_6 (hk1547 hM) (Or.inl (hl1547 hM)) (Nat.le_of_ble_eq_true rfl) (Nat.le_of_ble_eq_true rfl) rfl (metX6_laid hM n _ _ _ _ _ _ _ z15 ?_)
    show Ev g _ _ 58 _ [] K q14.1 q14.2 cr c sl Qr Qx
    cases h
    exact ev_ret dX6_pairTold_58 rfl hq
  · rw [if_neg z3] at h
    cases h
    exact ev_ret dX6_pairTold_11 rfl hq
def fX6_shoalTold (n : Nat) (a0 : Int32) (ci : jI) (cj : jJ) : Option (jI × jJ) := Option.bind (fX6_isFull n (nI 2) (nI 3) a0 ci cj) (fun q1 => if q1.1 = 0 then Option.bind (fX6_newName n  q1.2.1 q1.2.2) (fun q4 => Option.bind (fX6_asks n 1551 q4.2.1 q4.2.2) (fun q6 => Option.bind (fX6_number n (nI 0) (nI 99) q6.1 q6.2) (fun q8 => Option.bind (fX6_asks n 1557 q8.2.1 q8.2.2) (fun q10 => Option.bind (fX6_number n (nI 1) (nI 99) q10.1 q10.2) (fun q12 => Option.bind (fX6_laid n (nI 2) q4.1 1581 q8.1 q12.1 q12.2.1 q12.2.2) (fun q14 => some (q14.1, q14.2))))))) else some (q1.2.1, q1.2.2))
theorem metX6_shoalTold {g : jG} {d : Nat} {K : jK} {cr : jR} {c sl : Nat} {Qr : jQ} {Qx : jX} (hM : jMW K cr) (n : Nat) (a0 : Int32) (ci : jI) (cj : jJ) {q} (h : fX6_shoalTold n a0 ci cj = some q) (hq : Qr none K q.1 q.2 cr) : EvM g (d + 6) mX6_shoalTold [.ref 1547, .int a0] K ci cj cr c sl Qr Qx := by
  unfold fX6_shoalTold at h
  show Ev g (d + 6) mX6_shoalTold 0 [.ref 1547, .int a0, jU, jU, jU] [] K ci cj cr c sl Qr Qx
  refine ev_aload_n dX6_shoalTold_0 rfl ?_
  refine ev_iconst (v := (nI 2)) dX6_shoalTold_1 jc2 ?_
  refine ev_iconst (v := (nI 3)) dX6_shoalTold_2 jc3 ?_
  refine ev_iload_n dX6_shoalTold_3 rfl ?_
  obtain ⟨q1, z2, h⟩ := Option.bind_eq_some_iff.mp h
  refine ev_zV3 dX6_shoalTold_4 vX6_322_6 (hk1547 hM) (Or.inl (hl1547 hM)) (Nat.le_of_ble_eq_true rfl) (Nat.le_of_ble_eq_true rfl) rfl (metX6_isFull hM n _ _ _ _ _ z2 ?_)
  show Ev g _ _ 7 _ [.int q1.1] K q1.2.1 q1.2.2 cr c sl Qr Qx
  refine ev_if_eq 11 dX6_shoalTold_7 rfl (fun z3 => ?_) (fun z3 => ?_)
  · rw [if_pos z3] at h
    refine ev_aload_n dX6_shoalTold_11 rfl ?_
    obtain ⟨q4, z5, h⟩ := Option.bind_eq_some_iff.mp h
    refine ev_zV0 dX6_shoalTold_12 vX6_326_6 (hk1547 hM) (Or.inl (hl1547 hM)) (Nat.le_of_ble_eq_true rfl) (Nat.le_of_ble_eq_true rfl) rfl (metX6_newName hM n  _ _ z5 ?_)
    show Ev g _ _ 15 _ [.long q4.1] K q4.2.1 q4.2.2 cr c sl Qr Qx
    refine ev_lstore_n (L' := [_, _, _, _, _]) dX6_shoalTold_15 (by decide) rfl ?_
    refine ev_aload_n dX6_shoalTold_16 rfl ?_
    refine ev_aload_n dX6_shoalTold_17 rfl ?_
    refine ev_getR dX6_shoalTold_18 fX6_24_6 (hk1547 hM) (Or.inl (hl1547 hM)) rfl (hr12 hM) ?_
    obtain ⟨q6, z7, h⟩ := Option.bind_eq_some_iff.mp h
    refine ev_zV1 dX6_shoalTold_21 vX6_329_6 (hk1547 hM) (Or.inl (hl1547 hM)) (Nat.le_of_ble_eq_true rfl) (Nat.le_of_ble_eq_true rfl) rfl (metX6_asks hM n _ _ _ z7 ?_)
    show Ev g _ _ 24 _ [] K q6.1 q6.2 cr c sl Qr Qx
    refine ev_aload_n dX6_shoalTold_24 rfl ?_
    refine ev_iconst (v := (nI 0)) dX6_shoalTold_25 jc0 ?_
    refine ev_bipush (v := (nI 99)) dX6_shoalTold_26 jb99 ?_
    obtain ⟨q8, z9, h⟩ := Option.bind_eq_some_iff.mp h
    refine ev_zV2 dX6_shoalTold_28 vX6_333_6 (hk1547 hM) (Or.inl (hl1547 hM)) (Nat.le_of_ble_eq_true rfl) (Nat.le_of_ble_eq_true rfl) rfl (metX6_number hM n _ _ _ _ z9 ?_)
    show Ev g _ _ 31 _ [.int q8.1] K q8.2.1 q8.2.2 cr c sl Qr Qx
    refine ev_istore (L' := [_, _, _, _, _]) dX6_shoalTold_31 (by decide) rfl ?_
    refine ev_aload_n dX6_shoalTold_33 rfl ?_
    refine ev_aload_n dX6_shoalTold_34 rfl ?_
    refine ev_getR dX6_shoalTold_35 fX6_42_6 (hk1547 hM) (Or.inl (hl1547 hM)) rfl (hr18 hM) ?_
    obtain ⟨q10, z11, h⟩ := Option.bind_eq_some_iff.mp h
    refine ev_zV1 dX6_shoalTold_38 vX6_329_6 (hk1547 hM) (Or.inl (hl1547 hM)) (Nat.le_of_ble_eq_true rfl) (Nat.le_of_ble_eq_true rfl) rfl (metX6_asks hM n _ _ _ z11 ?_)
    show Ev g _ _ 41 _ [] K q10.1 q10.2 cr c sl Qr Qx
    refine ev_aload_n dX6_shoalTold_41 rfl ?_
    refine ev_iconst (v := (nI 2)) dX6_shoalTold_42 jc2 ?_
    refine ev_lload_n dX6_shoalTold_43 rfl ?_
    refine ev_aload_n dX6_shoalTold_44 rfl ?_
    refine ev_getR dX6_shoalTold_45 fX6_115_6 (hk1547 hM) (Or.inl (hl1547 hM)) rfl (hr43 hM) ?_
    refine ev_iload dX6_shoalTold_48 rfl ?_
    refine ev_aload_n dX6_shoalTold_50 rfl ?_
    refine ev_iconst (v := (nI 1)) dX6_shoalTold_51 jc1 ?_
    refine ev_bipush (v := (nI 99)) dX6_shoalTold_52 jb99 ?_
    obtain ⟨q12, z13, h⟩ := Option.bind_eq_some_iff.mp h
    refine ev_zV2 dX6_shoalTold_54 vX6_333_6 (hk1547 hM) (Or.inl (hl1547 hM)) (Nat.le_of_ble_eq_true rfl) (Nat.le_of_ble_eq_true rfl) rfl (metX6_number hM n _ _ _ _ z13 ?_)
    show Ev g _ _ 57 _ [.int q12.1, .int q8.1, .ref 1581, .long q4.1, .int (nI 2), .ref 1547] K q12.2.1 q12.2.2 cr c sl Qr Qx
    obtain ⟨q14, z15, h⟩ := Option.bind_eq_some_iff.mp h
    refine ev_zV5 dX6_shoalTold_57 vX6_337_6 (hk1547 hM) (Or.inl (hl1547 hM)) (Nat.le_of_ble_eq_true rfl) (Nat.le_of_ble_eq_true rfl) rfl (metX6_laid hM n _ _ _ _ _ _ _ z15 ?_)
    show Ev g _ _ 60 _ [] K q14.1 q14.2 cr c sl Qr Qx
    cases h
    exact ev_ret dX6_shoalTold_60 rfl hq
  · rw [if_neg z3] at h
    cases h
    exact ev_ret dX6_shoalTold_10 rfl hq
def fX6_statementTold_179 (n : Nat) (ci : jI) (cj : jJ) : Option (jI × jJ) := Option.bind (fX6_asksSign n (nI 59) ci cj) (fun q1 => some ((ju q1.1 1547 48 ((q1.1 1547 48) + (nI 1))), q1.2))
theorem wX6_statementTold_179 {g : jG} {d : Nat} {K : jK} {cr : jR} {c sl : Nat} {Qr : jQ} {Qx : jX} (hM : jMW K cr) (n : Nat) (ci : jI) (cj : jJ) {q} (h : fX6_statementTold_179 n   ci cj = some q) (hq : Qr none K q.1 q.2 cr) : Ev g (d + 11) mX6_statementTold 179 [.ref 1547, jU] [] K ci cj cr c sl Qr Qx := by
  unfold fX6_statementTold_179 at h
  refine ev_aload_n dX6_statementTold_179 rfl ?_
  refine ev_bipush (v := (nI 59)) dX6_statementTold_180 jb59 ?_
  obtain ⟨q1, z2, h⟩ := Option.bind_eq_some_iff.mp h
  refine ev_zV1 dX6_statementTold_182 vX6_381_6 (hk1547 hM) (Or.inl (hl1547 hM)) (Nat.le_of_ble_eq_true rfl) (Nat.le_of_ble_eq_true rfl) rfl (metX6_asksSign hM n _ _ _ z2 ?_)
  show Ev g _ _ 185 _ [] K q1.1 q1.2 cr c sl Qr Qx
  refine ev_aload_n dX6_statementTold_185 rfl ?_
  refine ev_dup dX6_statementTold_186 rfl ?_
  refine ev_getI dX6_statementTold_187 fX6_365_6 (hk1547 hM) (Or.inl (hl1547 hM)) rfl ?_
  refine ev_iconst (v := (nI 1)) dX6_statementTold_190 jc1 ?_
  refine ev_iadd dX6_statementTold_191 ?_
  refine ev_putI dX6_statementTold_192 (pX6_365_6 _) (hk1547 hM) (hl1547 hM) rfl rfl rfl ?_
  cases h
  exact ev_ret dX6_statementTold_195 rfl hq
def fX6_statementTold (n : Nat) (ci : jI) (cj : jJ) : Option (jI × jJ) := if (ci 1547 48) = (nI 60) then Option.bind (fX6_fail n (nI 5) (ci 1547 2) ci cj) (fun q42 => some (q42.1, q42.2)) else Option.bind (fX6_takes n 1550 ci cj) (fun q2 => if q2.1 = 0 then Option.bind (fX6_takes n 1553 q2.2.1 q2.2.2) (fun q5 => if q5.1 = 0 then Option.bind (fX6_takes n 1556 q5.2.1 q5.2.2) (fun q8 => if q8.1 = 0 then Option.bind (fX6_takes n 1558 q8.2.1 q8.2.2) (fun q11 => if q11.1 = 0 then Option.bind (fX6_takes n 1559 q11.2.1 q11.2.2) (fun q14 => if q14.1 = 0 then Option.bind (fX6_takes n 1560 q14.2.1 q14.2.2) (fun q17 => if q17.1 = 0 then Option.bind (fX6_takes n 1561 q17.2.1 q17.2.2) (fun q20 => if q20.1 = 0 then Option.bind (fX6_asks n 1562 q20.2.1 q20.2.2) (fun q23 => Option.bind (fX6_number n (nI 0) (nI 100) q23.1 q23.2) (fun q25 => if jok (nI 3) 8 then fX6_statementTold_179 n   (ju q25.2.1 1577 ((nI 3)).toNatClampNeg q25.1) q25.2.2 else none)) else Option.bind (fX6_codesTold n (nI 3) (ci 1547 2) q20.2.1 q20.2.2) (fun q28 => fX6_statementTold_179 n   q28.1 q28.2)) else Option.bind (fX6_codesTold n (nI 2) (ci 1547 2) q17.2.1 q17.2.2) (fun q30 => fX6_statementTold_179 n   q30.1 q30.2)) else Option.bind (fX6_codesTold n (nI 1) (ci 1547 2) q14.2.1 q14.2.2) (fun q32 => fX6_statementTold_179 n   q32.1 q32.2)) else Option.bind (fX6_codesTold n (nI 0) (ci 1547 2) q11.2.1 q11.2.2) (fun q34 => fX6_statementTold_179 n   q34.1 q34.2)) else Option.bind (fX6_shoalTold n (ci 1547 2) q8.2.1 q8.2.2) (fun q36 => fX6_statementTold_179 n   q36.1 q36.2)) else Option.bind (fX6_pairTold n (ci 1547 2) q5.2.1 q5.2.2) (fun q38 => fX6_statementTold_179 n   q38.1 q38.2)) else Option.bind (fX6_bayTold n (ci 1547 2) q2.2.1 q2.2.2) (fun q40 => fX6_statementTold_179 n   q40.1 q40.2))
theorem metX6_statementTold {g : jG} {d : Nat} {K : jK} {cr : jR} {c sl : Nat} {Qr : jQ} {Qx : jX} (hM : jMW K cr) (n : Nat) (ci : jI) (cj : jJ) {q} (h : fX6_statementTold n  ci cj = some q) (hq : Qr none K q.1 q.2 cr) : EvM g (d + 11) mX6_statementTold [.ref 1547] K ci cj cr c sl Qr Qx := by
  unfold fX6_statementTold at h
  show Ev g (d + 11) mX6_statementTold 0 [.ref 1547, jU] [] K ci cj cr c sl Qr Qx
  refine ev_aload_n dX6_statementTold_0 rfl ?_
  refine ev_getI dX6_statementTold_1 fX6_257_6 (hk1547 hM) (Or.inl (hl1547 hM)) rfl ?_
  refine ev_istore_n (L' := [_, _]) dX6_statementTold_4 (by decide) rfl ?_
  refine ev_aload_n dX6_statementTold_5 rfl ?_
  refine ev_getI dX6_statementTold_6 fX6_365_6 (hk1547 hM) (Or.inl (hl1547 hM)) rfl ?_
  refine ev_bipush (v := (nI 60)) dX6_statementTold_9 jb60 ?_
  refine ev_icmp_ne 21 dX6_statementTold_11 rfl (fun z1 => ?_) (fun z1 => ?_)
  · rw [if_neg z1] at h
    refine ev_aload_n dX6_statementTold_21 rfl ?_
    refine ev_aload_n dX6_statementTold_22 rfl ?_
    refine ev_getR dX6_statementTold_23 fX6_20_6 (hk1547 hM) (Or.inl (hl1547 hM)) rfl (hr11 hM) ?_
    obtain ⟨q2, z3, h⟩ := Option.bind_eq_some_iff.mp h
    refine ev_zV1 dX6_statementTold_26 vX6_278_6 (hk1547 hM) (Or.inl (hl1547 hM)) (Nat.le_of_ble_eq_true rfl) (Nat.le_of_ble_eq_true rfl) rfl (metX6_takes hM n _ _ _ z3 ?_)
    show Ev g _ _ 29 _ [.int q2.1] K q2.2.1 q2.2.2 cr c sl Qr Qx
    refine ev_if_eq 40 dX6_statementTold_29 rfl (fun z4 => ?_) (fun z4 => ?_)
    · rw [if_pos z4] at h
      refine ev_aload_n dX6_statementTold_40 rfl ?_
      refine ev_aload_n dX6_statementTold_41 rfl ?_
      refine ev_getR dX6_statementTold_42 fX6_30_6 (hk1547 hM) (Or.inl (hl1547 hM)) rfl (hr14 hM) ?_
      obtain ⟨q5, z6, h⟩ := Option.bind_eq_some_iff.mp h
      refine ev_zV1 dX6_statementTold_45 vX6_278_6 (hk1547 hM) (Or.inl (hl1547 hM)) (Nat.le_of_ble_eq_true rfl) (Nat.le_of_ble_eq_true rfl) rfl (metX6_takes hM n _ _ _ z6 ?_)
      show Ev g _ _ 48 _ [.int q5.1] K q5.2.1 q5.2.2 cr c sl Qr Qx
      refine ev_if_eq 59 dX6_statementTold_48 rfl (fun z7 => ?_) (fun z7 => ?_)
      · rw [if_pos z7] at h
        refine ev_aload_n dX6_statementTold_59 rfl ?_
        refine ev_aload_n dX6_statementTold_60 rfl ?_
        refine ev_getR dX6_statementTold_61 fX6_39_6 (hk1547 hM) (Or.inl (hl1547 hM)) rfl (hr17 hM) ?_
        obtain ⟨q8, z9, h⟩ := Option.bind_eq_some_iff.mp h
        refine ev_zV1 dX6_statementTold_64 vX6_278_6 (hk1547 hM) (Or.inl (hl1547 hM)) (Nat.le_of_ble_eq_true rfl) (Nat.le_of_ble_eq_true rfl) rfl (metX6_takes hM n _ _ _ z9 ?_)
        show Ev g _ _ 67 _ [.int q8.1] K q8.2.1 q8.2.2 cr c sl Qr Qx
        refine ev_if_eq 78 dX6_statementTold_67 rfl (fun z10 => ?_) (fun z10 => ?_)
        · rw [if_pos z10] at h
          refine ev_aload_n dX6_statementTold_78 rfl ?_
          refine ev_aload_n dX6_statementTold_79 rfl ?_
          refine ev_getR dX6_statementTold_80 fX6_45_6 (hk1547 hM) (Or.inl (hl1547 hM)) rfl (hr19 hM) ?_
          obtain ⟨q11, z12, h⟩ := Option.bind_eq_some_iff.mp h
          refine ev_zV1 dX6_statementTold_83 vX6_278_6 (hk1547 hM) (Or.inl (hl1547 hM)) (Nat.le_of_ble_eq_true rfl) (Nat.le_of_ble_eq_true rfl) rfl (metX6_takes hM n _ _ _ z12 ?_)
          show Ev g _ _ 86 _ [.int q11.1] K q11.2.1 q11.2.2 cr c sl Qr Qx
          refine ev_if_eq 98 dX6_statementTold_86 rfl (fun z13 => ?_) (fun z13 => ?_)
          · rw [if_pos z13] at h
            refine ev_aload_n dX6_statementTold_98 rfl ?_
            refine ev_aload_n dX6_statementTold_99 rfl ?_
            refine ev_getR dX6_statementTold_100 fX6_48_6 (hk1547 hM) (Or.inl (hl1547 hM)) rfl (hr20 hM) ?_
            obtain ⟨q14, z15, h⟩ := Option.bind_eq_some_iff.mp h
            refine ev_zV1 dX6_statementTold_103 vX6_278_6 (hk1547 hM) (Or.inl (hl1547 hM)) (Nat.le_of_ble_eq_true rfl) (Nat.le_of_ble_eq_true rfl) rfl (metX6_takes hM n _ _ _ z15 ?_)
            show Ev g _ _ 106 _ [.int q14.1] K q14.2.1 q14.2.2 cr c sl Qr Qx
            refine ev_if_eq 118 dX6_statementTold_106 rfl (fun z16 => ?_) (fun z16 => ?_)
            · rw [if_pos z16] at h
              refine ev_aload_n dX6_statementTold_118 rfl ?_
              refine ev_aload_n dX6_statementTold_119 rfl ?_
              refine ev_getR dX6_statementTold_120 fX6_51_6 (hk1547 hM) (Or.inl (hl1547 hM)) rfl (hr21 hM) ?_
              obtain ⟨q17, z18, h⟩ := Option.bind_eq_some_iff.mp h
              refine ev_zV1 dX6_statementTold_123 vX6_278_6 (hk1547 hM) (Or.inl (hl1547 hM)) (Nat.le_of_ble_eq_true rfl) (Nat.le_of_ble_eq_true rfl) rfl (metX6_takes hM n _ _ _ z18 ?_)
              show Ev g _ _ 126 _ [.int q17.1] K q17.2.1 q17.2.2 cr c sl Qr Qx
              refine ev_if_eq 138 dX6_statementTold_126 rfl (fun z19 => ?_) (fun z19 => ?_)
              · rw [if_pos z19] at h
                refine ev_aload_n dX6_statementTold_138 rfl ?_
                refine ev_aload_n dX6_statementTold_139 rfl ?_
                refine ev_getR dX6_statementTold_140 fX6_54_6 (hk1547 hM) (Or.inl (hl1547 hM)) rfl (hr22 hM) ?_
                obtain ⟨q20, z21, h⟩ := Option.bind_eq_some_iff.mp h
                refine ev_zV1 dX6_statementTold_143 vX6_278_6 (hk1547 hM) (Or.inl (hl1547 hM)) (Nat.le_of_ble_eq_true rfl) (Nat.le_of_ble_eq_true rfl) rfl (metX6_takes hM n _ _ _ z21 ?_)
                show Ev g _ _ 146 _ [.int q20.1] K q20.2.1 q20.2.2 cr c sl Qr Qx
                refine ev_if_eq 158 dX6_statementTold_146 rfl (fun z22 => ?_) (fun z22 => ?_)
                · rw [if_pos z22] at h
                  refine ev_aload_n dX6_statementTold_158 rfl ?_
                  refine ev_aload_n dX6_statementTold_159 rfl ?_
                  refine ev_getR dX6_statementTold_160 fX6_57_6 (hk1547 hM) (Or.inl (hl1547 hM)) rfl (hr23 hM) ?_
                  obtain ⟨q23, z24, h⟩ := Option.bind_eq_some_iff.mp h
                  refine ev_zV1 dX6_statementTold_163 vX6_329_6 (hk1547 hM) (Or.inl (hl1547 hM)) (Nat.le_of_ble_eq_true rfl) (Nat.le_of_ble_eq_true rfl) rfl (metX6_asks hM n _ _ _ z24 ?_)
                  show Ev g _ _ 166 _ [] K q23.1 q23.2 cr c sl Qr Qx
                  refine ev_aload_n dX6_statementTold_166 rfl ?_
                  refine ev_getR dX6_statementTold_167 fX6_102_6 (hk1547 hM) (Or.inl (hl1547 hM)) rfl (hr39 hM) ?_
                  refine ev_iconst (v := (nI 3)) dX6_statementTold_170 jc3 ?_
                  refine ev_aload_n dX6_statementTold_171 rfl ?_
                  refine ev_iconst (v := (nI 0)) dX6_statementTold_172 jc0 ?_
                  refine ev_bipush (v := (nI 100)) dX6_statementTold_173 jb100 ?_
                  obtain ⟨q25, z26, h⟩ := Option.bind_eq_some_iff.mp h
                  refine ev_zV2 dX6_statementTold_175 vX6_333_6 (hk1547 hM) (Or.inl (hl1547 hM)) (Nat.le_of_ble_eq_true rfl) (Nat.le_of_ble_eq_true rfl) rfl (metX6_number hM n _ _ _ _ z26 ?_)
                  show Ev g _ _ 178 _ [.int q25.1, .int (nI 3), .ref 1577] K q25.2.1 q25.2.2 cr c sl Qr Qx
                  by_cases z27 : jok (nI 3) 8
                  rotate_left
                  · rw [if_neg z27] at h; cases h
                  rw [if_pos z27] at h
                  refine ev_iastore dX6_statementTold_178 (hk1577 hM) (hl1577 hM) (jok.ix z27 (hn1577 hM)) ?_
                  exact ev_mask [true, false] (wX6_statementTold_179 hM n    _ _ h hq)
                · rw [if_neg z22] at h
                  refine ev_aload_n dX6_statementTold_149 rfl ?_
                  refine ev_iconst (v := (nI 3)) dX6_statementTold_150 jc3 ?_
                  refine ev_iload_n dX6_statementTold_151 rfl ?_
                  obtain ⟨q28, z29, h⟩ := Option.bind_eq_some_iff.mp h
                  refine ev_zV2 dX6_statementTold_152 vX6_378_6 (hk1547 hM) (Or.inl (hl1547 hM)) (Nat.le_of_ble_eq_true rfl) (Nat.le_of_ble_eq_true rfl) rfl (metX6_codesTold hM n _ _ _ _ z29 ?_)
                  show Ev g _ _ 155 _ [] K q28.1 q28.2 cr c sl Qr Qx
                  refine ev_goto 179 dX6_statementTold_155 rfl ?_
                  exact ev_mask [true, false] (wX6_statementTold_179 hM n    _ _ h hq)
              · rw [if_neg z19] at h
                refine ev_aload_n dX6_statementTold_129 rfl ?_
                refine ev_iconst (v := (nI 2)) dX6_statementTold_130 jc2 ?_
                refine ev_iload_n dX6_statementTold_131 rfl ?_
                obtain ⟨q30, z31, h⟩ := Option.bind_eq_some_iff.mp h
                refine ev_zV2 dX6_statementTold_132 vX6_378_6 (hk1547 hM) (Or.inl (hl1547 hM)) (Nat.le_of_ble_eq_true rfl) (Nat.le_of_ble_eq_true rfl) rfl (metX6_codesTold hM n _ _ _ _ z31 ?_)
                show Ev g _ _ 135 _ [] K q30.1 q30.2 cr c sl Qr Qx
                refine ev_goto 179 dX6_statementTold_135 rfl ?_
                exact ev_mask [true, false] (wX6_statementTold_179 hM n    _ _ h hq)
            · rw [if_neg z16] at h
              refine ev_aload_n dX6_statementTold_109 rfl ?_
              refine ev_iconst (v := (nI 1)) dX6_statementTold_110 jc1 ?_
              refine ev_iload_n dX6_statementTold_111 rfl ?_
              obtain ⟨q32, z33, h⟩ := Option.bind_eq_some_iff.mp h
              refine ev_zV2 dX6_statementTold_112 vX6_378_6 (hk1547 hM) (Or.inl (hl1547 hM)) (Nat.le_of_ble_eq_true rfl) (Nat.le_of_ble_eq_true rfl) rfl (metX6_codesTold hM n _ _ _ _ z33 ?_)
              show Ev g _ _ 115 _ [] K q32.1 q32.2 cr c sl Qr Qx
              refine ev_goto 179 dX6_statementTold_115 rfl ?_
              exact ev_mask [true, false] (wX6_statementTold_179 hM n    _ _ h hq)
          · rw [if_neg z13] at h
            refine ev_aload_n dX6_statementTold_89 rfl ?_
            refine ev_iconst (v := (nI 0)) dX6_statementTold_90 jc0 ?_
            refine ev_iload_n dX6_statementTold_91 rfl ?_
            obtain ⟨q34, z35, h⟩ := Option.bind_eq_some_iff.mp h
            refine ev_zV2 dX6_statementTold_92 vX6_378_6 (hk1547 hM) (Or.inl (hl1547 hM)) (Nat.le_of_ble_eq_true rfl) (Nat.le_of_ble_eq_true rfl) rfl (metX6_codesTold hM n _ _ _ _ z35 ?_)
            show Ev g _ _ 95 _ [] K q34.1 q34.2 cr c sl Qr Qx
            refine ev_goto 179 dX6_statementTold_95 rfl ?_
            exact ev_mask [true, false] (wX6_statementTold_179 hM n    _ _ h hq)
        · rw [if_neg z10] at h
          refine ev_aload_n dX6_statementTold_70 rfl ?_
          refine ev_iload_n dX6_statementTold_71 rfl ?_
          obtain ⟨q36, z37, h⟩ := Option.bind_eq_some_iff.mp h
          refine ev_zV1 dX6_statementTold_72 vX6_375_6 (hk1547 hM) (Or.inl (hl1547 hM)) (Nat.le_of_ble_eq_true rfl) (Nat.le_of_ble_eq_true rfl) rfl (metX6_shoalTold hM n _ _ _ z37 ?_)
          show Ev g _ _ 75 _ [] K q36.1 q36.2 cr c sl Qr Qx
          refine ev_goto 179 dX6_statementTold_75 rfl ?_
          exact ev_mask [true, false] (wX6_statementTold_179 hM n    _ _ h hq)
      · rw [if_neg z7] at h
        refine ev_aload_n dX6_statementTold_51 rfl ?_
        refine ev_iload_n dX6_statementTold_52 rfl ?_
        obtain ⟨q38, z39, h⟩ := Option.bind_eq_some_iff.mp h
        refine ev_zV1 dX6_statementTold_53 vX6_372_6 (hk1547 hM) (Or.inl (hl1547 hM)) (Nat.le_of_ble_eq_true rfl) (Nat.le_of_ble_eq_true rfl) rfl (metX6_pairTold hM n _ _ _ z39 ?_)
        show Ev g _ _ 56 _ [] K q38.1 q38.2 cr c sl Qr Qx
        refine ev_goto 179 dX6_statementTold_56 rfl ?_
        exact ev_mask [true, false] (wX6_statementTold_179 hM n    _ _ h hq)
    · rw [if_neg z4] at h
      refine ev_aload_n dX6_statementTold_32 rfl ?_
      refine ev_iload_n dX6_statementTold_33 rfl ?_
      obtain ⟨q40, z41, h⟩ := Option.bind_eq_some_iff.mp h
      refine ev_zV1 dX6_statementTold_34 vX6_368_6 (hk1547 hM) (Or.inl (hl1547 hM)) (Nat.le_of_ble_eq_true rfl) (Nat.le_of_ble_eq_true rfl) rfl (metX6_bayTold hM n _ _ _ z41 ?_)
      show Ev g _ _ 37 _ [] K q40.1 q40.2 cr c sl Qr Qx
      refine ev_goto 179 dX6_statementTold_37 rfl ?_
      exact ev_mask [true, false] (wX6_statementTold_179 hM n    _ _ h hq)
  · rw [if_pos z1] at h
    refine ev_aload_n dX6_statementTold_14 rfl ?_
    refine ev_iconst (v := (nI 5)) dX6_statementTold_15 jc5 ?_
    refine ev_iload_n dX6_statementTold_16 rfl ?_
    obtain ⟨q42, z43, h⟩ := Option.bind_eq_some_iff.mp h
    refine ev_zV2 dX6_statementTold_17 vX6_281_6 (hk1547 hM) (Or.inl (hl1547 hM)) (Nat.le_of_ble_eq_true rfl) (Nat.le_of_ble_eq_true rfl) rfl (metX6_fail hM n _ _ _ _ z43 ?_)
    show Ev g _ _ 20 _ [] K q42.1 q42.2 cr c sl Qr Qx
    cases h
    exact ev_ret dX6_statementTold_20 rfl hq
def fX6_coast_105 (n : Nat) (ci : jI) (cj : jJ) : Option (Int32 × jI × jJ) := if ((ju (ju ci 1547 7 (ci 1547 5)) 1547 8 ((ju ci 1547 7 (ci 1547 5)) 1547 6)) 1547 5) = 0 then Option.bind (fX6_stands n  (ju (ju ci 1547 7 (ci 1547 5)) 1547 8 ((ju ci 1547 7 (ci 1547 5)) 1547 6)) cj) (fun q2 => some ((q2.1 1547 48), q2.1, q2.2)) else if jok (nI 1) 6 then if jok (nI 1) 6 then some ((-1), (ju (ju (ju ci 1547 7 (ci 1547 5)) 1547 8 ((ju ci 1547 7 (ci 1547 5)) 1547 6)) 1549 ((nI 1)).toNatClampNeg (((ju (ju ci 1547 7 (ci 1547 5)) 1547 8 ((ju ci 1547 7 (ci 1547 5)) 1547 6)) 1549 ((nI 1)).toNatClampNeg) + (nI 1))), cj) else none else none
theorem wX6_coast_105 {g : jG} {d : Nat} {K : jK} {cr : jR} {c sl : Nat} {Qr : jQ} {Qx : jX} (hM : jMW K cr) (n : Nat) (ci : jI) (cj : jJ) {q} (h : fX6_coast_105 n   ci cj = some q) (hq : Qr (some (.int q.1)) K q.2.1 q.2.2 cr) : Ev g (d + 12) mX6_coast 105 [.ref 1547, jU] [] K ci cj cr c sl Qr Qx := by
  unfold fX6_coast_105 at h
  refine ev_aload_n dX6_coast_105 rfl ?_
  refine ev_aload_n dX6_coast_106 rfl ?_
  refine ev_getI dX6_coast_107 fX6_251_6 (hk1547 hM) (Or.inl (hl1547 hM)) rfl ?_
  refine ev_putI dX6_coast_110 (pX6_387_6 _) (hk1547 hM) (hl1547 hM) rfl rfl rfl ?_
  refine ev_aload_n dX6_coast_113 rfl ?_
  refine ev_aload_n dX6_coast_114 rfl ?_
  refine ev_getI dX6_coast_115 fX6_254_6 (hk1547 hM) (Or.inl (hl1547 hM)) rfl ?_
  refine ev_putI dX6_coast_118 (pX6_13_6 _) (hk1547 hM) (hl1547 hM) rfl rfl rfl ?_
  refine ev_aload_n dX6_coast_121 rfl ?_
  refine ev_getI dX6_coast_122 fX6_251_6 (hk1547 hM) (Or.inl (hl1547 hM)) rfl ?_
  refine ev_if_eq 140 dX6_coast_125 rfl (fun z1 => ?_) (fun z1 => ?_)
  · rw [if_pos z1] at h
    refine ev_aload_n dX6_coast_140 rfl ?_
    obtain ⟨q2, z3, h⟩ := Option.bind_eq_some_iff.mp h
    refine ev_zV0 dX6_coast_141 vX6_390_6 (hk1547 hM) (Or.inl (hl1547 hM)) (Nat.le_of_ble_eq_true rfl) (Nat.le_of_ble_eq_true rfl) rfl (metX6_stands hM n  _ _ z3 ?_)
    show Ev g _ _ 144 _ [] K q2.1 q2.2 cr c sl Qr Qx
    refine ev_aload_n dX6_coast_144 rfl ?_
    refine ev_getI dX6_coast_145 fX6_365_6 (hk1547 hM) (Or.inl (hl1547 hM)) rfl ?_
    cases h
    exact ev_iret dX6_coast_148 rfl rfl hq
  · rw [if_neg z1] at h
    refine ev_aload_n dX6_coast_128 rfl ?_
    refine ev_getR dX6_coast_129 fX6_17_6 (hk1547 hM) (Or.inl (hl1547 hM)) rfl (hr9 hM) ?_
    refine ev_iconst (v := (nI 1)) dX6_coast_132 jc1 ?_
    refine ev_dup2 dX6_coast_133 rfl rfl ?_
    by_cases z4 : jok (nI 1) 6
    rotate_left
    · rw [if_neg z4] at h; cases h
    rw [if_pos z4] at h
    refine ev_iaload dX6_coast_134 (hk1549 hM) (Or.inl (hl1549 hM)) (jok.ix z4 (hn1549 hM)) ?_
    refine ev_iconst (v := (nI 1)) dX6_coast_135 jc1 ?_
    refine ev_iadd dX6_coast_136 ?_
    by_cases z5 : jok (nI 1) 6
    rotate_left
    · rw [if_neg z5] at h; cases h
    rw [if_pos z5] at h
    refine ev_iastore dX6_coast_137 (hk1549 hM) (hl1549 hM) (jok.ix z5 (hn1549 hM)) ?_
    refine ev_iconst (v := (-1)) dX6_coast_138 jcm1 ?_
    cases h
    exact ev_iret dX6_coast_139 rfl rfl hq
def fX6_coast_83 (n : Nat) : Nat → jI → jJ → Option (Int32 × jI × jJ)
  | 0, _, _ => none
  | k + 1, ci, cj => if (ci 1547 5) = 0 then Option.bind (fX6_look n  ci cj) (fun q2 => if q2.1 = (-1) then fX6_coast_105 n   q2.2.1 q2.2.2 else Option.bind (fX6_statementTold n  q2.2.1 q2.2.2) (fun q5 => fX6_coast_83 n  k  q5.1 q5.2)) else fX6_coast_105 n   ci cj
theorem wX6_coast_83 {g : jG} {d : Nat} {K : jK} {cr : jR} {c sl : Nat} {Qr : jQ} {Qx : jX} (hM : jMW K cr) (n : Nat) : ∀ (k : Nat) (ci : jI) (cj : jJ) {q}, fX6_coast_83 n  k  ci cj = some q → Qr (some (.int q.1)) K q.2.1 q.2.2 cr → Ev g (d + 12) mX6_coast 83 [.ref 1547, jU] [] K ci cj cr c sl Qr Qx := by
  intro k
  induction k with
  | zero =>
    intro  ci cj q h hq
    rw [fX6_coast_83.eq_1] at h; cases h
  | succ k ih =>
    intro  ci cj q h hq
    rw [fX6_coast_83.eq_2] at h
    refine ev_aload_n dX6_coast_83 rfl ?_
    refine ev_getI dX6_coast_84 fX6_251_6 (hk1547 hM) (Or.inl (hl1547 hM)) rfl ?_
    refine ev_if_ne 105 dX6_coast_87 rfl (fun z1 => ?_) (fun z1 => ?_)
    · rw [if_neg z1] at h
      exact wX6_coast_105 hM n    _ _ h hq
    · rw [if_pos z1] at h
      refine ev_aload_n dX6_coast_90 rfl ?_
      obtain ⟨q2, z3, h⟩ := Option.bind_eq_some_iff.mp h
      refine ev_zV0 dX6_coast_91 vX6_263_6 (hk1547 hM) (Or.inl (hl1547 hM)) (Nat.le_of_ble_eq_true rfl) (Nat.le_of_ble_eq_true rfl) rfl (metX6_look hM n  _ _ z3 ?_)
      show Ev g _ _ 94 _ [.int q2.1] K q2.2.1 q2.2.2 cr c sl Qr Qx
      refine ev_iconst (v := (-1)) dX6_coast_94 jcm1 ?_
      refine ev_icmp_eq 105 dX6_coast_95 rfl (fun z4 => ?_) (fun z4 => ?_)
      · rw [if_pos z4] at h
        exact wX6_coast_105 hM n    _ _ h hq
      · rw [if_neg z4] at h
        refine ev_aload_n dX6_coast_98 rfl ?_
        obtain ⟨q5, z6, h⟩ := Option.bind_eq_some_iff.mp h
        refine ev_zV0 dX6_coast_99 vX6_384_6 (hk1547 hM) (Or.inl (hl1547 hM)) (Nat.le_of_ble_eq_true rfl) (Nat.le_of_ble_eq_true rfl) rfl (metX6_statementTold hM n  _ _ z6 ?_)
        show Ev g _ _ 102 _ [] K q5.1 q5.2 cr c sl Qr Qx
        refine ev_goto 83 dX6_coast_102 rfl ?_
        exact ih  _ _ h hq
def fX6_coast_60 (n : Nat) : Nat → Int32 → jI → jJ → Option (Int32 × jI × jJ)
  | 0, _, _, _ => none
  | k + 1, l1, ci, cj => if (nI 4) ≤ l1 then fX6_coast_83 n  n  (ju ci 1547 48 (nI 0)) cj else if jok l1 8 then fX6_coast_60 n  k (l1 + (nI 1)) (ju ci 1582 (l1).toNatClampNeg (-1)) cj else none
theorem wX6_coast_60 {g : jG} {d : Nat} {K : jK} {cr : jR} {c sl : Nat} {Qr : jQ} {Qx : jX} (hM : jMW K cr) (n : Nat) : ∀ (k : Nat) (l1 : Int32) (ci : jI) (cj : jJ) {q}, fX6_coast_60 n  k l1 ci cj = some q → Qr (some (.int q.1)) K q.2.1 q.2.2 cr → Ev g (d + 12) mX6_coast 60 [.ref 1547, .int l1] [] K ci cj cr c sl Qr Qx := by
  intro k
  induction k with
  | zero =>
    intro l1 ci cj q h hq
    rw [fX6_coast_60.eq_1] at h; cases h
  | succ k ih =>
    intro l1 ci cj q h hq
    rw [fX6_coast_60.eq_2] at h
    refine ev_iload_n dX6_coast_60 rfl ?_
    refine ev_iconst (v := (nI 4)) dX6_coast_61 jc4 ?_
    refine ev_icmp_ge 78 dX6_coast_62 rfl (fun z1 => ?_) (fun z1 => ?_)
    · rw [if_pos z1] at h
      refine ev_aload_n dX6_coast_78 rfl ?_
      refine ev_iconst (v := (nI 0)) dX6_coast_79 jc0 ?_
      refine ev_putI dX6_coast_80 (pX6_365_6 _) (hk1547 hM) (hl1547 hM) rfl rfl rfl ?_
      exact ev_mask [true, false] (wX6_coast_83 hM n   n  _ _ h hq)
    · rw [if_neg z1] at h
      refine ev_aload_n dX6_coast_65 rfl ?_
      refine ev_getR dX6_coast_66 fX6_118_6 (hk1547 hM) (Or.inl (hl1547 hM)) rfl (hr44 hM) ?_
      refine ev_iload_n dX6_coast_69 rfl ?_
      refine ev_iconst (v := (-1)) dX6_coast_70 jcm1 ?_
      by_cases z2 : jok l1 8
      rotate_left
      · rw [if_neg z2] at h; cases h
      rw [if_pos z2] at h
      refine ev_iastore dX6_coast_71 (hk1582 hM) (hl1582 hM) (jok.ix z2 (hn1582 hM)) ?_
      refine ev_iinc (v := (l1 + (nI 1))) (L' := [_, _]) dX6_coast_72 rfl (by rw [ji_1]) (by decide) rfl ?_
      refine ev_goto 60 dX6_coast_75 rfl ?_
      exact ih _ _ _ h hq
def fX6_coast_40 (n : Nat) : Nat → Int32 → jI → jJ → Option (Int32 × jI × jJ)
  | 0, _, _, _ => none
  | k + 1, l1, ci, cj => if (nI 4) ≤ l1 then fX6_coast_60 n  n (nI 0) ci cj else if jok l1 8 then fX6_coast_40 n  k (l1 + (nI 1)) (ju ci 1577 (l1).toNatClampNeg (nI 0)) cj else none
theorem wX6_coast_40 {g : jG} {d : Nat} {K : jK} {cr : jR} {c sl : Nat} {Qr : jQ} {Qx : jX} (hM : jMW K cr) (n : Nat) : ∀ (k : Nat) (l1 : Int32) (ci : jI) (cj : jJ) {q}, fX6_coast_40 n  k l1 ci cj = some q → Qr (some (.int q.1)) K q.2.1 q.2.2 cr → Ev g (d + 12) mX6_coast 40 [.ref 1547, .int l1] [] K ci cj cr c sl Qr Qx := by
  intro k
  induction k with
  | zero =>
    intro l1 ci cj q h hq
    rw [fX6_coast_40.eq_1] at h; cases h
  | succ k ih =>
    intro l1 ci cj q h hq
    rw [fX6_coast_40.eq_2] at h
    refine ev_iload_n dX6_coast_40 rfl ?_
    refine ev_iconst (v := (nI 4)) dX6_coast_41 jc4 ?_
    refine ev_icmp_ge 58 dX6_coast_42 rfl (fun z1 => ?_) (fun z1 => ?_)
    · rw [if_pos z1] at h
      refine ev_iconst (v := (nI 0)) dX6_coast_58 jc0 ?_
      refine ev_istore_n (L' := [_, _]) dX6_coast_59 (by decide) rfl ?_
      exact wX6_coast_60 hM n   n _ _ _ h hq
    · rw [if_neg z1] at h
      refine ev_aload_n dX6_coast_45 rfl ?_
      refine ev_getR dX6_coast_46 fX6_102_6 (hk1547 hM) (Or.inl (hl1547 hM)) rfl (hr39 hM) ?_
      refine ev_iload_n dX6_coast_49 rfl ?_
      refine ev_iconst (v := (nI 0)) dX6_coast_50 jc0 ?_
      by_cases z2 : jok l1 8
      rotate_left
      · rw [if_neg z2] at h; cases h
      rw [if_pos z2] at h
      refine ev_iastore dX6_coast_51 (hk1577 hM) (hl1577 hM) (jok.ix z2 (hn1577 hM)) ?_
      refine ev_iinc (v := (l1 + (nI 1))) (L' := [_, _]) dX6_coast_52 rfl (by rw [ji_1]) (by decide) rfl ?_
      refine ev_goto 40 dX6_coast_55 rfl ?_
      exact ih _ _ _ h hq
def fX6_coast (n : Nat) (ci : jI) (cj : jJ) : Option (Int32 × jI × jJ) := fX6_coast_40 n  n (nI 0) (ju (ju (ju (ju (ju (ju (ju ci 1547 3 (ci 1547 1)) 1547 1 (nI 0)) 1547 2 (nI 0)) 1547 4 (-1)) 1547 5 (nI 0)) 1547 6 (-1)) 1547 47 (nI 0)) cj
theorem metX6_coast {g : jG} {d : Nat} {K : jK} {cr : jR} {c sl : Nat} {Qr : jQ} {Qx : jX} (hM : jMW K cr) (n : Nat) (ci : jI) (cj : jJ) {q} (h : fX6_coast n  ci cj = some q) (hq : Qr (some (.int q.1)) K q.2.1 q.2.2 cr) : EvM g (d + 12) mX6_coast [.ref 1547] K ci cj cr c sl Qr Qx := by
  unfold fX6_coast at h
  show Ev g (d + 12) mX6_coast 0 [.ref 1547, jU] [] K ci cj cr c sl Qr Qx
  refine ev_aload_n dX6_coast_0 rfl ?_
  refine ev_aload_n dX6_coast_1 rfl ?_
  refine ev_getI dX6_coast_2 fX6_248_6 (hk1547 hM) (Or.inl (hl1547 hM)) rfl ?_
  refine ev_putI dX6_coast_5 (pX6_260_6 _) (hk1547 hM) (hl1547 hM) rfl rfl rfl ?_
  refine ev_aload_n dX6_coast_8 rfl ?_
  refine ev_iconst (v := (nI 0)) dX6_coast_9 jc0 ?_
  refine ev_putI dX6_coast_10 (pX6_248_6 _) (hk1547 hM) (hl1547 hM) rfl rfl rfl ?_
  refine ev_aload_n dX6_coast_13 rfl ?_
  refine ev_iconst (v := (nI 0)) dX6_coast_14 jc0 ?_
  refine ev_putI dX6_coast_15 (pX6_257_6 _) (hk1547 hM) (hl1547 hM) rfl rfl rfl ?_
  refine ev_aload_n dX6_coast_18 rfl ?_
  refine ev_iconst (v := (-1)) dX6_coast_19 jcm1 ?_
  refine ev_putI dX6_coast_20 (pX6_271_6 _) (hk1547 hM) (hl1547 hM) rfl rfl rfl ?_
  refine ev_aload_n dX6_coast_23 rfl ?_
  refine ev_iconst (v := (nI 0)) dX6_coast_24 jc0 ?_
  refine ev_putI dX6_coast_25 (pX6_251_6 _) (hk1547 hM) (hl1547 hM) rfl rfl rfl ?_
  refine ev_aload_n dX6_coast_28 rfl ?_
  refine ev_iconst (v := (-1)) dX6_coast_29 jcm1 ?_
  refine ev_putI dX6_coast_30 (pX6_254_6 _) (hk1547 hM) (hl1547 hM) rfl rfl rfl ?_
  refine ev_aload_n dX6_coast_33 rfl ?_
  refine ev_iconst (v := (nI 0)) dX6_coast_34 jc0 ?_
  refine ev_putI dX6_coast_35 (pX6_362_6 _) (hk1547 hM) (hl1547 hM) rfl rfl rfl ?_
  refine ev_iconst (v := (nI 0)) dX6_coast_38 jc0 ?_
  refine ev_istore_n (L' := [_, _]) dX6_coast_39 (by decide) rfl ?_
  exact wX6_coast_40 hM n   n _ _ _ h hq
def fX6_fault_24 (n : Nat) (t0 : Int32) (ci : jI) (cj : jJ) : Option (Int32 × jI × jJ) := some (t0, ci, cj)
theorem wX6_fault_24 {g : jG} {d : Nat} {K : jK} {cr : jR} {c sl : Nat} {Qr : jQ} {Qx : jX} (hM : jMW K cr) (n : Nat) (t0 : Int32) (ci : jI) (cj : jJ) {q} (h : fX6_fault_24 n  t0 ci cj = some q) (hq : Qr (some (.int q.1)) K q.2.1 q.2.2 cr) : Ev g (d + 1) mX6_fault 24 [jU, jU] [.int t0] K ci cj cr c sl Qr Qx := by
  unfold fX6_fault_24 at h
  cases h
  exact ev_iret dX6_fault_24 rfl rfl hq
def fX6_fault (n : Nat) (a0 : Int32) (ci : jI) (cj : jJ) : Option (Int32 × jI × jJ) := if a0 = 0 then fX6_fault_24 n  (ci 1547 7) ci cj else if a0 = (nI 1) then fX6_fault_24 n  (ci 1547 8) ci cj else fX6_fault_24 n  (-1) ci cj
theorem metX6_fault {g : jG} {d : Nat} {K : jK} {cr : jR} {c sl : Nat} {Qr : jQ} {Qx : jX} (hM : jMW K cr) (n : Nat) (a0 : Int32) (ci : jI) (cj : jJ) {q} (h : fX6_fault n a0 ci cj = some q) (hq : Qr (some (.int q.1)) K q.2.1 q.2.2 cr) : EvM g (d + 1) mX6_fault [.ref 1547, .int a0] K ci cj cr c sl Qr Qx := by
  unfold fX6_fault at h
  show Ev g (d + 1) mX6_fault 0 [.ref 1547, .int a0] [] K ci cj cr c sl Qr Qx
  refine ev_iload_n dX6_fault_0 rfl ?_
  refine ev_if_ne 11 dX6_fault_1 rfl (fun z1 => ?_) (fun z1 => ?_)
  · rw [if_neg z1] at h
    refine ev_iload_n dX6_fault_11 rfl ?_
    refine ev_iconst (v := (nI 1)) dX6_fault_12 jc1 ?_
    refine ev_icmp_ne 23 dX6_fault_13 rfl (fun z2 => ?_) (fun z2 => ?_)
    · rw [if_neg z2] at h
      refine ev_iconst (v := (-1)) dX6_fault_23 jcm1 ?_
      exact ev_mask [false, false] (wX6_fault_24 hM n   _ _ _ h hq)
    · rw [if_pos z2] at h
      refine ev_aload_n dX6_fault_16 rfl ?_
      refine ev_getI dX6_fault_17 fX6_13_6 (hk1547 hM) (Or.inl (hl1547 hM)) rfl ?_
      refine ev_goto 24 dX6_fault_20 rfl ?_
      exact ev_mask [false, false] (wX6_fault_24 hM n   _ _ _ h hq)
  · rw [if_pos z1] at h
    refine ev_aload_n dX6_fault_4 rfl ?_
    refine ev_getI dX6_fault_5 fX6_387_6 (hk1547 hM) (Or.inl (hl1547 hM)) rfl ?_
    refine ev_goto 24 dX6_fault_8 rfl ?_
    exact ev_mask [false, false] (wX6_fault_24 hM n   _ _ _ h hq)
def fX6_bayMany (n : Nat) (ci : jI) (cj : jJ) : Option (Int32 × jI × jJ) := if jok (nI 4) 8 then some ((ci 1577 ((nI 4)).toNatClampNeg), ci, cj) else none
theorem metX6_bayMany {g : jG} {d : Nat} {K : jK} {cr : jR} {c sl : Nat} {Qr : jQ} {Qx : jX} (hM : jMW K cr) (n : Nat) (ci : jI) (cj : jJ) {q} (h : fX6_bayMany n  ci cj = some q) (hq : Qr (some (.int q.1)) K q.2.1 q.2.2 cr) : EvM g (d + 1) mX6_bayMany [.ref 1547] K ci cj cr c sl Qr Qx := by
  unfold fX6_bayMany at h
  show Ev g (d + 1) mX6_bayMany 0 [.ref 1547] [] K ci cj cr c sl Qr Qx
  refine ev_aload_n dX6_bayMany_0 rfl ?_
  refine ev_getR dX6_bayMany_1 fX6_102_6 (hk1547 hM) (Or.inl (hl1547 hM)) rfl (hr39 hM) ?_
  refine ev_iconst (v := (nI 4)) dX6_bayMany_4 jc4 ?_
  by_cases z1 : jok (nI 4) 8
  rotate_left
  · rw [if_neg z1] at h; cases h
  rw [if_pos z1] at h
  refine ev_iaload dX6_bayMany_5 (hk1577 hM) (Or.inl (hl1577 hM)) (jok.ix z1 (hn1577 hM)) ?_
  cases h
  exact ev_iret dX6_bayMany_6 rfl rfl hq
def fX6_caughtLatest_4 (n : Nat) : Nat → Int32 → Int32 → jI → jJ → Option (Int32 × jI × jJ)
  | 0, _, _, _, _ => none
  | k + 1, l1, l2, ci, cj => Option.bind (fX6_bayMany n  ci cj) (fun q1 => if q1.1 ≤ l2 then some (l1, q1.2.1, q1.2.2) else if jok ((nI 8) + ((nI 3) * l2)) 166 then fX6_caughtLatest_4 n  k (l1 + (q1.2.1 1585 (((nI 8) + ((nI 3) * l2))).toNatClampNeg)) (l2 + (nI 1)) q1.2.1 q1.2.2 else none)
theorem wX6_caughtLatest_4 {g : jG} {d : Nat} {K : jK} {cr : jR} {c sl : Nat} {Qr : jQ} {Qx : jX} (hM : jMW K cr) (n : Nat) : ∀ (k : Nat) (l1 : Int32) (l2 : Int32) (ci : jI) (cj : jJ) {q}, fX6_caughtLatest_4 n  k l1 l2 ci cj = some q → Qr (some (.int q.1)) K q.2.1 q.2.2 cr → Ev g (d + 2) mX6_caughtLatest 4 [.ref 1547, .int l1, .int l2] [] K ci cj cr c sl Qr Qx := by
  intro k
  induction k with
  | zero =>
    intro l1 l2 ci cj q h hq
    rw [fX6_caughtLatest_4.eq_1] at h; cases h
  | succ k ih =>
    intro l1 l2 ci cj q h hq
    rw [fX6_caughtLatest_4.eq_2] at h
    refine ev_iload_n dX6_caughtLatest_4 rfl ?_
    refine ev_aload_n dX6_caughtLatest_5 rfl ?_
    obtain ⟨q1, z2, h⟩ := Option.bind_eq_some_iff.mp h
    refine ev_zV0 dX6_caughtLatest_6 vX6_399_6 (hk1547 hM) (Or.inl (hl1547 hM)) (Nat.le_of_ble_eq_true rfl) (Nat.le_of_ble_eq_true rfl) rfl (metX6_bayMany hM n  _ _ z2 ?_)
    show Ev g _ _ 9 _ [.int q1.1, .int l2] K q1.2.1 q1.2.2 cr c sl Qr Qx
    refine ev_icmp_ge 32 dX6_caughtLatest_9 rfl (fun z3 => ?_) (fun z3 => ?_)
    · rw [if_pos z3] at h
      refine ev_iload_n dX6_caughtLatest_32 rfl ?_
      cases h
      exact ev_iret dX6_caughtLatest_33 rfl rfl hq
    · rw [if_neg z3] at h
      refine ev_iload_n dX6_caughtLatest_12 rfl ?_
      refine ev_aload_n dX6_caughtLatest_13 rfl ?_
      refine ev_getR dX6_caughtLatest_14 fX6_127_6 (hk1547 hM) (Or.inl (hl1547 hM)) rfl (hr50 hM) ?_
      refine ev_bipush (v := (nI 8)) dX6_caughtLatest_17 jb8 ?_
      refine ev_iconst (v := (nI 3)) dX6_caughtLatest_19 jc3 ?_
      refine ev_iload_n dX6_caughtLatest_20 rfl ?_
      refine ev_imul dX6_caughtLatest_21 ?_
      refine ev_iadd dX6_caughtLatest_22 ?_
      by_cases z4 : jok ((nI 8) + ((nI 3) * l2)) 166
      rotate_left
      · rw [if_neg z4] at h; cases h
      rw [if_pos z4] at h
      refine ev_iaload dX6_caughtLatest_23 (hk1585 hM) (Or.inl (hl1585 hM)) (jok.ix z4 (hn1585 hM)) ?_
      refine ev_iadd dX6_caughtLatest_24 ?_
      refine ev_istore_n (L' := [_, _, _]) dX6_caughtLatest_25 (by decide) rfl ?_
      refine ev_iinc (v := (l2 + (nI 1))) (L' := [_, _, _]) dX6_caughtLatest_26 rfl (by rw [ji_1]) (by decide) rfl ?_
      refine ev_goto 4 dX6_caughtLatest_29 rfl ?_
      exact ih _ _ _ _ h hq
def fX6_caughtLatest (n : Nat) (ci : jI) (cj : jJ) : Option (Int32 × jI × jJ) := fX6_caughtLatest_4 n  n (nI 0) (nI 0) ci cj
theorem metX6_caughtLatest {g : jG} {d : Nat} {K : jK} {cr : jR} {c sl : Nat} {Qr : jQ} {Qx : jX} (hM : jMW K cr) (n : Nat) (ci : jI) (cj : jJ) {q} (h : fX6_caughtLatest n  ci cj = some q) (hq : Qr (some (.int q.1)) K q.2.1 q.2.2 cr) : EvM g (d + 2) mX6_caughtLatest [.ref 1547] K ci cj cr c sl Qr Qx := by
  unfold fX6_caughtLatest at h
  show Ev g (d + 2) mX6_caughtLatest 0 [.ref 1547, jU, jU] [] K ci cj cr c sl Qr Qx
  refine ev_iconst (v := (nI 0)) dX6_caughtLatest_0 jc0 ?_
  refine ev_istore_n (L' := [_, _, _]) dX6_caughtLatest_1 (by decide) rfl ?_
  refine ev_iconst (v := (nI 0)) dX6_caughtLatest_2 jc0 ?_
  refine ev_istore_n (L' := [_, _, _]) dX6_caughtLatest_3 (by decide) rfl ?_
  exact wX6_caughtLatest_4 hM n   n _ _ _ _ h hq
def fX6_bayOf (n : Nat) (a0 : Int32) (ci : jI) (cj : jJ) : Option (Int32 × jI × jJ) := if jok ((nI 20) + ((nI 2) * a0)) 40 then some ((ci 1580 (((nI 20) + ((nI 2) * a0))).toNatClampNeg), ci, cj) else none
theorem metX6_bayOf {g : jG} {d : Nat} {K : jK} {cr : jR} {c sl : Nat} {Qr : jQ} {Qx : jX} (hM : jMW K cr) (n : Nat) (a0 : Int32) (ci : jI) (cj : jJ) {q} (h : fX6_bayOf n a0 ci cj = some q) (hq : Qr (some (.int q.1)) K q.2.1 q.2.2 cr) : EvM g (d + 1) mX6_bayOf [.ref 1547, .int a0] K ci cj cr c sl Qr Qx := by
  unfold fX6_bayOf at h
  show Ev g (d + 1) mX6_bayOf 0 [.ref 1547, .int a0] [] K ci cj cr c sl Qr Qx
  refine ev_aload_n dX6_bayOf_0 rfl ?_
  refine ev_getR dX6_bayOf_1 fX6_112_6 (hk1547 hM) (Or.inl (hl1547 hM)) rfl (hr42 hM) ?_
  refine ev_bipush (v := (nI 20)) dX6_bayOf_4 jb20 ?_
  refine ev_iconst (v := (nI 2)) dX6_bayOf_6 jc2 ?_
  refine ev_iload_n dX6_bayOf_7 rfl ?_
  refine ev_imul dX6_bayOf_8 ?_
  refine ev_iadd dX6_bayOf_9 ?_
  by_cases z1 : jok ((nI 20) + ((nI 2) * a0)) 40
  rotate_left
  · rw [if_neg z1] at h; cases h
  rw [if_pos z1] at h
  refine ev_iaload dX6_bayOf_10 (hk1580 hM) (Or.inl (hl1580 hM)) (jok.ix z1 (hn1580 hM)) ?_
  cases h
  exact ev_iret dX6_bayOf_11 rfl rfl hq
def fX6_qClip_29 (n : Nat) (t0 : Int64) (ci : jI) (cj : jJ) : Option (Int64 × jI × jJ) := some (t0, ci, cj)
theorem wX6_qClip_29 {g : jG} {d : Nat} {K : jK} {cr : jR} {c sl : Nat} {Qr : jQ} {Qx : jX} (hM : jMW K cr) (n : Nat) (t0 : Int64) (ci : jI) (cj : jJ) {q} (h : fX6_qClip_29 n  t0 ci cj = some q) (hq : Qr (some (.long q.1)) K q.2.1 q.2.2 cr) : Ev g (d + 1) mX6_qClip 29 [jU, jU] [.long t0] K ci cj cr c sl Qr Qx := by
  unfold fX6_qClip_29 at h
  cases h
  exact ev_lret dX6_qClip_29 rfl hq
def fX6_qClip (n : Nat) (a0 : Int64) (ci : jI) (cj : jJ) : Option (Int64 × jI × jJ) := if a0 ≤ (1000000 : Int64) then if (-1000000 : Int64) ≤ a0 then fX6_qClip_29 n  a0 ci cj else fX6_qClip_29 n  (-1000000 : Int64) ci cj else fX6_qClip_29 n  (1000000 : Int64) ci cj
theorem metX6_qClip {g : jG} {d : Nat} {K : jK} {cr : jR} {c sl : Nat} {Qr : jQ} {Qx : jX} (hM : jMW K cr) (n : Nat) (a0 : Int64) (ci : jI) (cj : jJ) {q} (h : fX6_qClip n a0 ci cj = some q) (hq : Qr (some (.long q.1)) K q.2.1 q.2.2 cr) : EvM g (d + 1) mX6_qClip [.long a0] K ci cj cr c sl Qr Qx := by
  unfold fX6_qClip at h
  show Ev g (d + 1) mX6_qClip 0 [.long a0, jU] [] K ci cj cr c sl Qr Qx
  refine ev_lload_n dX6_qClip_0 rfl ?_
  refine ev_ldc2 dX6_qClip_1 q2279 ?_
  refine ev_lcif_le 14 dX6_qClip_4 dX6_qClip_5 rfl (fun z1 => ?_) (fun z1 => ?_)
  · rw [if_pos z1] at h
    refine ev_lload_n dX6_qClip_14 rfl ?_
    refine ev_ldc2 dX6_qClip_15 q2280 ?_
    refine ev_lcif_ge 28 dX6_qClip_18 dX6_qClip_19 rfl (fun z2 => ?_) (fun z2 => ?_)
    · rw [if_pos z2] at h
      refine ev_lload_n dX6_qClip_28 rfl ?_
      exact ev_mask [false, false] (wX6_qClip_29 hM n   _ _ _ h hq)
    · rw [if_neg z2] at h
      refine ev_ldc2 dX6_qClip_22 q2280 ?_
      refine ev_goto 29 dX6_qClip_25 rfl ?_
      exact ev_mask [false, false] (wX6_qClip_29 hM n   _ _ _ h hq)
  · rw [if_neg z1] at h
    refine ev_ldc2 dX6_qClip_8 q2279 ?_
    refine ev_goto 29 dX6_qClip_11 rfl ?_
    exact ev_mask [false, false] (wX6_qClip_29 hM n   _ _ _ h hq)
def fX6_qFloor_55 (n : Nat) (t0 : Int64) (ci : jI) (cj : jJ) : Option (Int64 × jI × jJ) := some (t0, ci, cj)
theorem wX6_qFloor_55 {g : jG} {d : Nat} {K : jK} {cr : jR} {c sl : Nat} {Qr : jQ} {Qx : jX} (hM : jMW K cr) (n : Nat) (t0 : Int64) (ci : jI) (cj : jJ) {q} (h : fX6_qFloor_55 n  t0 ci cj = some q) (hq : Qr (some (.long q.1)) K q.2.1 q.2.2 cr) : Ev g (d + 1) mX6_qFloor 55 [jU, jU, jU, jU, jU, jU] [.long t0] K ci cj cr c sl Qr Qx := by
  unfold fX6_qFloor_55 at h
  cases h
  exact ev_lret dX6_qFloor_55 rfl hq
def fX6_qFloor_53 (n : Nat) (l4 : Int64) (ci : jI) (cj : jJ) : Option (Int64 × jI × jJ) := fX6_qFloor_55 n  l4 ci cj
theorem wX6_qFloor_53 {g : jG} {d : Nat} {K : jK} {cr : jR} {c sl : Nat} {Qr : jQ} {Qx : jX} (hM : jMW K cr) (n : Nat) (l4 : Int64) (ci : jI) (cj : jJ) {q} (h : fX6_qFloor_53 n  l4 ci cj = some q) (hq : Qr (some (.long q.1)) K q.2.1 q.2.2 cr) : Ev g (d + 1) mX6_qFloor 53 [jU, jU, jU, jU, .long l4, jU] [] K ci cj cr c sl Qr Qx := by
  unfold fX6_qFloor_53 at h
  refine ev_lload dX6_qFloor_53 rfl ?_
  exact ev_mask [false, false, false, false, false, false] (wX6_qFloor_55 hM n   _ _ _ h hq)
def fX6_qFloor_43 (n : Nat) (l4 : Int64) (t0 : Int32) (t1 : Int32) (ci : jI) (cj : jJ) : Option (Int64 × jI × jJ) := if t1 = t0 then fX6_qFloor_53 n  l4 ci cj else fX6_qFloor_55 n  (l4 - (lN 1)) ci cj
theorem wX6_qFloor_43 {g : jG} {d : Nat} {K : jK} {cr : jR} {c sl : Nat} {Qr : jQ} {Qx : jX} (hM : jMW K cr) (n : Nat) (l4 : Int64) (t0 : Int32) (t1 : Int32) (ci : jI) (cj : jJ) {q} (h : fX6_qFloor_43 n  l4 t0 t1 ci cj = some q) (hq : Qr (some (.long q.1)) K q.2.1 q.2.2 cr) : Ev g (d + 1) mX6_qFloor 43 [jU, jU, jU, jU, .long l4, jU] [.int t0, .int t1] K ci cj cr c sl Qr Qx := by
  unfold fX6_qFloor_43 at h
  refine ev_icmp_eq 53 dX6_qFloor_43 rfl (fun z1 => ?_) (fun z1 => ?_)
  · rw [if_pos z1] at h
    exact wX6_qFloor_53 hM n   _ _ _ h hq
  · rw [if_neg z1] at h
    refine ev_lload dX6_qFloor_46 rfl ?_
    refine ev_lconst (v := lN 1) dX6_qFloor_48 rfl ?_
    refine ev_lsub dX6_qFloor_49 ?_
    refine ev_goto 55 dX6_qFloor_50 rfl ?_
    exact ev_mask [false, false, false, false, false, false] (wX6_qFloor_55 hM n   _ _ _ h hq)
def fX6_qFloor_32 (n : Nat) (l2 : Int64) (l4 : Int64) (t0 : Int32) (ci : jI) (cj : jJ) : Option (Int64 × jI × jJ) := if (lN 0) ≤ l2 then fX6_qFloor_43 n  l4 (nI 0) t0 ci cj else fX6_qFloor_43 n  l4 (nI 1) t0 ci cj
theorem wX6_qFloor_32 {g : jG} {d : Nat} {K : jK} {cr : jR} {c sl : Nat} {Qr : jQ} {Qx : jX} (hM : jMW K cr) (n : Nat) (l2 : Int64) (l4 : Int64) (t0 : Int32) (ci : jI) (cj : jJ) {q} (h : fX6_qFloor_32 n  l2 l4 t0 ci cj = some q) (hq : Qr (some (.long q.1)) K q.2.1 q.2.2 cr) : Ev g (d + 1) mX6_qFloor 32 [jU, jU, .long l2, jU, .long l4, jU] [.int t0] K ci cj cr c sl Qr Qx := by
  unfold fX6_qFloor_32 at h
  refine ev_lload_n dX6_qFloor_32 rfl ?_
  refine ev_lconst (v := lN 0) dX6_qFloor_33 rfl ?_
  refine ev_lcif_ge 42 dX6_qFloor_34 dX6_qFloor_35 rfl (fun z1 => ?_) (fun z1 => ?_)
  · rw [if_pos z1] at h
    refine ev_iconst (v := (nI 0)) dX6_qFloor_42 jc0 ?_
    exact ev_mask [false, false, false, false, true, false] (wX6_qFloor_43 hM n   _ _ _ _ _ h hq)
  · rw [if_neg z1] at h
    refine ev_iconst (v := (nI 1)) dX6_qFloor_38 jc1 ?_
    refine ev_goto 43 dX6_qFloor_39 rfl ?_
    exact ev_mask [false, false, false, false, true, false] (wX6_qFloor_43 hM n   _ _ _ _ _ h hq)
def fX6_qFloor (n : Nat) (a0 : Int64) (a1 : Int64) (ci : jI) (cj : jJ) : Option (Int64 × jI × jJ) := if a1 = (lN 0) then some ((lN 0), ci, cj) else if a1 = 0 then none else if a1 = 0 then none else if (a0 - a0 / a1 * a1) = (lN 0) then fX6_qFloor_53 n  (a0 / a1) ci cj else if (lN 0) ≤ a0 then fX6_qFloor_32 n  a1 (a0 / a1) (nI 0) ci cj else fX6_qFloor_32 n  a1 (a0 / a1) (nI 1) ci cj
theorem metX6_qFloor {g : jG} {d : Nat} {K : jK} {cr : jR} {c sl : Nat} {Qr : jQ} {Qx : jX} (hM : jMW K cr) (n : Nat) (a0 : Int64) (a1 : Int64) (ci : jI) (cj : jJ) {q} (h : fX6_qFloor n a0 a1 ci cj = some q) (hq : Qr (some (.long q.1)) K q.2.1 q.2.2 cr) : EvM g (d + 1) mX6_qFloor [.long a0, .long a1] K ci cj cr c sl Qr Qx := by
  unfold fX6_qFloor at h
  show Ev g (d + 1) mX6_qFloor 0 [.long a0, jU, .long a1, jU, jU, jU] [] K ci cj cr c sl Qr Qx
  refine ev_lload_n dX6_qFloor_0 rfl ?_
  refine ev_lconst (v := lN 0) dX6_qFloor_1 rfl ?_
  refine ev_lcif_ne 8 dX6_qFloor_2 dX6_qFloor_3 rfl (fun z1 => ?_) (fun z1 => ?_)
  · rw [if_neg z1] at h
    refine ev_lload_n dX6_qFloor_8 rfl ?_
    refine ev_lload_n dX6_qFloor_9 rfl ?_
    by_cases z2 : a1 = 0
    · rw [if_pos z2] at h; cases h
    rw [if_neg z2] at h
    refine ev_ldiv dX6_qFloor_10 z2 ?_
    refine ev_lstore (L' := [_, _, _, _, _, _]) dX6_qFloor_11 (by decide) rfl ?_
    refine ev_lload_n dX6_qFloor_13 rfl ?_
    refine ev_lload_n dX6_qFloor_14 rfl ?_
    by_cases z3 : a1 = 0
    · rw [if_pos z3] at h; cases h
    rw [if_neg z3] at h
    refine ev_lrem dX6_qFloor_15 z3 ?_
    refine ev_lconst (v := lN 0) dX6_qFloor_16 rfl ?_
    refine ev_lcif_eq 53 dX6_qFloor_17 dX6_qFloor_18 rfl (fun z4 => ?_) (fun z4 => ?_)
    · rw [if_pos z4] at h
      exact ev_mask [false, false, false, false, true, false] (wX6_qFloor_53 hM n   _ _ _ h hq)
    · rw [if_neg z4] at h
      refine ev_lload_n dX6_qFloor_21 rfl ?_
      refine ev_lconst (v := lN 0) dX6_qFloor_22 rfl ?_
      refine ev_lcif_ge 31 dX6_qFloor_23 dX6_qFloor_24 rfl (fun z5 => ?_) (fun z5 => ?_)
      · rw [if_pos z5] at h
        refine ev_iconst (v := (nI 0)) dX6_qFloor_31 jc0 ?_
        exact ev_mask [false, false, true, false, true, false] (wX6_qFloor_32 hM n   _ _ _ _ _ h hq)
      · rw [if_neg z5] at h
        refine ev_iconst (v := (nI 1)) dX6_qFloor_27 jc1 ?_
        refine ev_goto 32 dX6_qFloor_28 rfl ?_
        exact ev_mask [false, false, true, false, true, false] (wX6_qFloor_32 hM n   _ _ _ _ _ h hq)
  · rw [if_pos z1] at h
    refine ev_lconst (v := lN 0) dX6_qFloor_6 rfl ?_
    cases h
    exact ev_lret dX6_qFloor_7 rfl hq
def fX6_qPuts (n : Nat) (a0 : Int64) (ci : jI) (cj : jJ) : Option (jI × jJ) := if jok (ci 1547 103) 1700 then some ((ju ci 1547 103 ((ci 1547 103) + (nI 1))), (ju cj 1622 ((ci 1547 103)).toNatClampNeg a0)) else none
theorem metX6_qPuts {g : jG} {d : Nat} {K : jK} {cr : jR} {c sl : Nat} {Qr : jQ} {Qx : jX} (hM : jMW K cr) (n : Nat) (a0 : Int64) (ci : jI) (cj : jJ) {q} (h : fX6_qPuts n a0 ci cj = some q) (hq : Qr none K q.1 q.2 cr) : EvM g (d + 1) mX6_qPuts [.ref 1547, .long a0] K ci cj cr c sl Qr Qx := by
  unfold fX6_qPuts at h
  show Ev g (d + 1) mX6_qPuts 0 [.ref 1547, .long a0, jU] [] K ci cj cr c sl Qr Qx
  refine ev_aload_n dX6_qPuts_0 rfl ?_
  refine ev_getR dX6_qPuts_1 fX6_242_6 (hk1547 hM) (Or.inl (hl1547 hM)) rfl (hr102 hM) ?_
  refine ev_aload_n dX6_qPuts_4 rfl ?_
  refine ev_getI dX6_qPuts_5 fX6_408_6 (hk1547 hM) (Or.inl (hl1547 hM)) rfl ?_
  refine ev_lload_n dX6_qPuts_8 rfl ?_
  by_cases z1 : jok (ci 1547 103) 1700
  rotate_left
  · rw [if_neg z1] at h; cases h
  rw [if_pos z1] at h
  refine ev_lastore dX6_qPuts_9 (hk1622 hM) (hl1622 hM) (jok.ix z1 (hn1622 hM)) ?_
  refine ev_aload_n dX6_qPuts_10 rfl ?_
  refine ev_dup dX6_qPuts_11 rfl ?_
  refine ev_getI dX6_qPuts_12 fX6_408_6 (hk1547 hM) (Or.inl (hl1547 hM)) rfl ?_
  refine ev_iconst (v := (nI 1)) dX6_qPuts_15 jc1 ?_
  refine ev_iadd dX6_qPuts_16 ?_
  refine ev_putI dX6_qPuts_17 (pX6_408_6 _) (hk1547 hM) (hl1547 hM) rfl rfl rfl ?_
  cases h
  exact ev_ret dX6_qPuts_20 rfl hq
def fX6_qJoins_273 (n : Nat) (ci : jI) (cj : jJ) : Option (jI × jJ) := some (ci, cj)
theorem wX6_qJoins_273 {g : jG} {d : Nat} {K : jK} {cr : jR} {c sl : Nat} {Qr : jQ} {Qx : jX} (hM : jMW K cr) (n : Nat) (ci : jI) (cj : jJ) {q} (h : fX6_qJoins_273 n   ci cj = some q) (hq : Qr none K q.1 q.2 cr) : Ev g (d + 2) mX6_qJoins 273 [jU, jU, jU, jU, jU, jU] [] K ci cj cr c sl Qr Qx := by
  unfold fX6_qJoins_273 at h
  cases h
  exact ev_ret dX6_qJoins_273 rfl hq
def fX6_qJoins_161 (n : Nat) (t0 : Int64) (ci : jI) (cj : jJ) : Option (jI × jJ) := Option.bind (fX6_qPuts n t0 ci cj) (fun q1 => fX6_qJoins_273 n   q1.1 q1.2)
theorem wX6_qJoins_161 {g : jG} {d : Nat} {K : jK} {cr : jR} {c sl : Nat} {Qr : jQ} {Qx : jX} (hM : jMW K cr) (n : Nat) (t0 : Int64) (ci : jI) (cj : jJ) {q} (h : fX6_qJoins_161 n  t0 ci cj = some q) (hq : Qr none K q.1 q.2 cr) : Ev g (d + 2) mX6_qJoins 161 [jU, jU, jU, jU, jU, jU] [.long t0, .ref 1547] K ci cj cr c sl Qr Qx := by
  unfold fX6_qJoins_161 at h
  obtain ⟨q1, z2, h⟩ := Option.bind_eq_some_iff.mp h
  refine ev_zV1 dX6_qJoins_161 vX6_411_6 (hk1547 hM) (Or.inl (hl1547 hM)) (Nat.le_of_ble_eq_true rfl) (Nat.le_of_ble_eq_true rfl) rfl (metX6_qPuts hM n _ _ _ z2 ?_)
  show Ev g _ _ 164 _ [] K q1.1 q1.2 cr c sl Qr Qx
  refine ev_goto 273 dX6_qJoins_164 rfl ?_
  exact wX6_qJoins_273 hM n    _ _ h hq
def fX6_qJoins_181 (n : Nat) (t0 : Int64) (ci : jI) (cj : jJ) : Option (jI × jJ) := Option.bind (fX6_qPuts n t0 ci cj) (fun q1 => fX6_qJoins_273 n   q1.1 q1.2)
theorem wX6_qJoins_181 {g : jG} {d : Nat} {K : jK} {cr : jR} {c sl : Nat} {Qr : jQ} {Qx : jX} (hM : jMW K cr) (n : Nat) (t0 : Int64) (ci : jI) (cj : jJ) {q} (h : fX6_qJoins_181 n  t0 ci cj = some q) (hq : Qr none K q.1 q.2 cr) : Ev g (d + 2) mX6_qJoins 181 [jU, jU, jU, jU, jU, jU] [.long t0, .ref 1547] K ci cj cr c sl Qr Qx := by
  unfold fX6_qJoins_181 at h
  obtain ⟨q1, z2, h⟩ := Option.bind_eq_some_iff.mp h
  refine ev_zV1 dX6_qJoins_181 vX6_411_6 (hk1547 hM) (Or.inl (hl1547 hM)) (Nat.le_of_ble_eq_true rfl) (Nat.le_of_ble_eq_true rfl) rfl (metX6_qPuts hM n _ _ _ z2 ?_)
  show Ev g _ _ 184 _ [] K q1.1 q1.2 cr c sl Qr Qx
  refine ev_goto 273 dX6_qJoins_184 rfl ?_
  exact wX6_qJoins_273 hM n    _ _ h hq
def fX6_qJoins_200 (n : Nat) (t0 : Int64) (ci : jI) (cj : jJ) : Option (jI × jJ) := Option.bind (fX6_qPuts n t0 ci cj) (fun q1 => fX6_qJoins_273 n   q1.1 q1.2)
theorem wX6_qJoins_200 {g : jG} {d : Nat} {K : jK} {cr : jR} {c sl : Nat} {Qr : jQ} {Qx : jX} (hM : jMW K cr) (n : Nat) (t0 : Int64) (ci : jI) (cj : jJ) {q} (h : fX6_qJoins_200 n  t0 ci cj = some q) (hq : Qr none K q.1 q.2 cr) : Ev g (d + 2) mX6_qJoins 200 [jU, jU, jU, jU, jU, jU] [.long t0, .ref 1547] K ci cj cr c sl Qr Qx := by
  unfold fX6_qJoins_200 at h
  obtain ⟨q1, z2, h⟩ := Option.bind_eq_some_iff.mp h
  refine ev_zV1 dX6_qJoins_200 vX6_411_6 (hk1547 hM) (Or.inl (hl1547 hM)) (Nat.le_of_ble_eq_true rfl) (Nat.le_of_ble_eq_true rfl) rfl (metX6_qPuts hM n _ _ _ z2 ?_)
  show Ev g _ _ 203 _ [] K q1.1 q1.2 cr c sl Qr Qx
  refine ev_goto 273 dX6_qJoins_203 rfl ?_
  exact wX6_qJoins_273 hM n    _ _ h hq
def fX6_qJoins_219 (n : Nat) (t0 : Int64) (ci : jI) (cj : jJ) : Option (jI × jJ) := Option.bind (fX6_qPuts n t0 ci cj) (fun q1 => fX6_qJoins_273 n   q1.1 q1.2)
theorem wX6_qJoins_219 {g : jG} {d : Nat} {K : jK} {cr : jR} {c sl : Nat} {Qr : jQ} {Qx : jX} (hM : jMW K cr) (n : Nat) (t0 : Int64) (ci : jI) (cj : jJ) {q} (h : fX6_qJoins_219 n  t0 ci cj = some q) (hq : Qr none K q.1 q.2 cr) : Ev g (d + 2) mX6_qJoins 219 [jU, jU, jU, jU, jU, jU] [.long t0, .ref 1547] K ci cj cr c sl Qr Qx := by
  unfold fX6_qJoins_219 at h
  obtain ⟨q1, z2, h⟩ := Option.bind_eq_some_iff.mp h
  refine ev_zV1 dX6_qJoins_219 vX6_411_6 (hk1547 hM) (Or.inl (hl1547 hM)) (Nat.le_of_ble_eq_true rfl) (Nat.le_of_ble_eq_true rfl) rfl (metX6_qPuts hM n _ _ _ z2 ?_)
  show Ev g _ _ 222 _ [] K q1.1 q1.2 cr c sl Qr Qx
  refine ev_goto 273 dX6_qJoins_222 rfl ?_
  exact wX6_qJoins_273 hM n    _ _ h hq
def fX6_qJoins_238 (n : Nat) (t0 : Int64) (ci : jI) (cj : jJ) : Option (jI × jJ) := Option.bind (fX6_qPuts n t0 ci cj) (fun q1 => fX6_qJoins_273 n   q1.1 q1.2)
theorem wX6_qJoins_238 {g : jG} {d : Nat} {K : jK} {cr : jR} {c sl : Nat} {Qr : jQ} {Qx : jX} (hM : jMW K cr) (n : Nat) (t0 : Int64) (ci : jI) (cj : jJ) {q} (h : fX6_qJoins_238 n  t0 ci cj = some q) (hq : Qr none K q.1 q.2 cr) : Ev g (d + 2) mX6_qJoins 238 [jU, jU, jU, jU, jU, jU] [.long t0, .ref 1547] K ci cj cr c sl Qr Qx := by
  unfold fX6_qJoins_238 at h
  obtain ⟨q1, z2, h⟩ := Option.bind_eq_some_iff.mp h
  refine ev_zV1 dX6_qJoins_238 vX6_411_6 (hk1547 hM) (Or.inl (hl1547 hM)) (Nat.le_of_ble_eq_true rfl) (Nat.le_of_ble_eq_true rfl) rfl (metX6_qPuts hM n _ _ _ z2 ?_)
  show Ev g _ _ 241 _ [] K q1.1 q1.2 cr c sl Qr Qx
  refine ev_goto 273 dX6_qJoins_241 rfl ?_
  exact wX6_qJoins_273 hM n    _ _ h hq
def fX6_qJoins_270 (n : Nat) (t0 : Int64) (ci : jI) (cj : jJ) : Option (jI × jJ) := Option.bind (fX6_qPuts n t0 ci cj) (fun q1 => fX6_qJoins_273 n   q1.1 q1.2)
theorem wX6_qJoins_270 {g : jG} {d : Nat} {K : jK} {cr : jR} {c sl : Nat} {Qr : jQ} {Qx : jX} (hM : jMW K cr) (n : Nat) (t0 : Int64) (ci : jI) (cj : jJ) {q} (h : fX6_qJoins_270 n  t0 ci cj = some q) (hq : Qr none K q.1 q.2 cr) : Ev g (d + 2) mX6_qJoins 270 [jU, jU, jU, jU, jU, jU] [.long t0, .ref 1547] K ci cj cr c sl Qr Qx := by
  unfold fX6_qJoins_270 at h
  obtain ⟨q1, z2, h⟩ := Option.bind_eq_some_iff.mp h
  refine ev_zV1 dX6_qJoins_270 vX6_411_6 (hk1547 hM) (Or.inl (hl1547 hM)) (Nat.le_of_ble_eq_true rfl) (Nat.le_of_ble_eq_true rfl) rfl (metX6_qPuts hM n _ _ _ z2 ?_)
  show Ev g _ _ 273 _ [] K q1.1 q1.2 cr c sl Qr Qx
  exact wX6_qJoins_273 hM n    _ _ h hq
def fX6_qJoins (n : Nat) (a0 : Int32) (ci : jI) (cj : jJ) : Option (jI × jJ) := if jok ((ci 1547 103) - (nI 1)) 1700 then if jok ((ci 1547 103) - (nI 2)) 1700 then if a0 = (nI 1) then Option.bind (fX6_qClip n ((cj 1622 (((ci 1547 103) - (nI 2))).toNatClampNeg) + (cj 1622 (((ci 1547 103) - (nI 1))).toNatClampNeg)) (ju ci 1547 103 ((ci 1547 103) - (nI 2))) cj) (fun q4 => Option.bind (fX6_qPuts n q4.1 q4.2.1 q4.2.2) (fun q6 => fX6_qJoins_273 n   q6.1 q6.2)) else if a0 = (nI 2) then Option.bind (fX6_qClip n ((cj 1622 (((ci 1547 103) - (nI 2))).toNatClampNeg) - (cj 1622 (((ci 1547 103) - (nI 1))).toNatClampNeg)) (ju ci 1547 103 ((ci 1547 103) - (nI 2))) cj) (fun q9 => Option.bind (fX6_qPuts n q9.1 q9.2.1 q9.2.2) (fun q11 => fX6_qJoins_273 n   q11.1 q11.2)) else if a0 = (nI 3) then Option.bind (fX6_qClip n ((cj 1622 (((ci 1547 103) - (nI 2))).toNatClampNeg) * (cj 1622 (((ci 1547 103) - (nI 1))).toNatClampNeg)) (ju ci 1547 103 ((ci 1547 103) - (nI 2))) cj) (fun q14 => Option.bind (fX6_qPuts n q14.1 q14.2.1 q14.2.2) (fun q16 => fX6_qJoins_273 n   q16.1 q16.2)) else if a0 = (nI 4) then Option.bind (fX6_qFloor n (cj 1622 (((ci 1547 103) - (nI 2))).toNatClampNeg) (cj 1622 (((ci 1547 103) - (nI 1))).toNatClampNeg) (ju ci 1547 103 ((ci 1547 103) - (nI 2))) cj) (fun q19 => Option.bind (fX6_qPuts n q19.1 q19.2.1 q19.2.2) (fun q21 => fX6_qJoins_273 n   q21.1 q21.2)) else if a0 = (nI 5) then if (cj 1622 (((ci 1547 103) - (nI 1))).toNatClampNeg) ≤ (cj 1622 (((ci 1547 103) - (nI 2))).toNatClampNeg) then fX6_qJoins_161 n  (cj 1622 (((ci 1547 103) - (nI 1))).toNatClampNeg) (ju ci 1547 103 ((ci 1547 103) - (nI 2))) cj else fX6_qJoins_161 n  (cj 1622 (((ci 1547 103) - (nI 2))).toNatClampNeg) (ju ci 1547 103 ((ci 1547 103) - (nI 2))) cj else if a0 = (nI 6) then if (cj 1622 (((ci 1547 103) - (nI 2))).toNatClampNeg) ≤ (cj 1622 (((ci 1547 103) - (nI 1))).toNatClampNeg) then fX6_qJoins_181 n  (cj 1622 (((ci 1547 103) - (nI 1))).toNatClampNeg) (ju ci 1547 103 ((ci 1547 103) - (nI 2))) cj else fX6_qJoins_181 n  (cj 1622 (((ci 1547 103) - (nI 2))).toNatClampNeg) (ju ci 1547 103 ((ci 1547 103) - (nI 2))) cj else if a0 = (nI 7) then if (cj 1622 (((ci 1547 103) - (nI 1))).toNatClampNeg) ≤ (cj 1622 (((ci 1547 103) - (nI 2))).toNatClampNeg) then fX6_qJoins_200 n  (lN 0) (ju ci 1547 103 ((ci 1547 103) - (nI 2))) cj else fX6_qJoins_200 n  (lN 1) (ju ci 1547 103 ((ci 1547 103) - (nI 2))) cj else if a0 = (nI 8) then if (cj 1622 (((ci 1547 103) - (nI 2))).toNatClampNeg) ≤ (cj 1622 (((ci 1547 103) - (nI 1))).toNatClampNeg) then fX6_qJoins_219 n  (lN 0) (ju ci 1547 103 ((ci 1547 103) - (nI 2))) cj else fX6_qJoins_219 n  (lN 1) (ju ci 1547 103 ((ci 1547 103) - (nI 2))) cj else if a0 = (nI 9) then if (cj 1622 (((ci 1547 103) - (nI 2))).toNatClampNeg) = (cj 1622 (((ci 1547 103) - (nI 1))).toNatClampNeg) then fX6_qJoins_238 n  (lN 1) (ju ci 1547 103 ((ci 1547 103) - (nI 2))) cj else fX6_qJoins_238 n  (lN 0) (ju ci 1547 103 ((ci 1547 103) - (nI 2))) cj else if a0 = (nI 10) then Option.bind (fX6_qPuts n ((cj 1622 (((ci 1547 103) - (nI 2))).toNatClampNeg) * (cj 1622 (((ci 1547 103) - (nI 1))).toNatClampNeg)) (ju ci 1547 103 ((ci 1547 103) - (nI 2))) cj) (fun q34 => fX6_qJoins_273 n   q34.1 q34.2) else if ((cj 1622 (((ci 1547 103) - (nI 2))).toNatClampNeg) + (cj 1622 (((ci 1547 103) - (nI 1))).toNatClampNeg)) ≤ (lN 0) then fX6_qJoins_270 n  (lN 0) (ju ci 1547 103 ((ci 1547 103) - (nI 2))) cj else fX6_qJoins_270 n  (lN 1) (ju ci 1547 103 ((ci 1547 103) - (nI 2))) cj else none else none
theorem metX6_qJoins {g : jG} {d : Nat} {K : jK} {cr : jR} {c sl : Nat} {Qr : jQ} {Qx : jX} (hM : jMW K cr) (n : Nat) (a0 : Int32) (ci : jI) (cj : jJ) {q} (h : fX6_qJoins n a0 ci cj = some q) (hq : Qr none K q.1 q.2 cr) : EvM g (d + 2) mX6_qJoins [.ref 1547, .int a0] K ci cj cr c sl Qr Qx := by
  unfold fX6_qJoins at h
  show Ev g (d + 2) mX6_qJoins 0 [.ref 1547, .int a0, jU, jU, jU, jU] [] K ci cj cr c sl Qr Qx
  refine ev_aload_n dX6_qJoins_0 rfl ?_
  refine ev_getR dX6_qJoins_1 fX6_242_6 (hk1547 hM) (Or.inl (hl1547 hM)) rfl (hr102 hM) ?_
  refine ev_aload_n dX6_qJoins_4 rfl ?_
  refine ev_getI dX6_qJoins_5 fX6_408_6 (hk1547 hM) (Or.inl (hl1547 hM)) rfl ?_
  refine ev_iconst (v := (nI 1)) dX6_qJoins_8 jc1 ?_
  refine ev_isub dX6_qJoins_9 ?_
  by_cases z1 : jok ((ci 1547 103) - (nI 1)) 1700
  rotate_left
  · rw [if_neg z1] at h; cases h
  rw [if_pos z1] at h
  refine ev_laload dX6_qJoins_10 (hk1622 hM) (Or.inl (hl1622 hM)) (jok.ix z1 (hn1622 hM)) ?_
  refine ev_lstore_n (L' := [_, _, _, _, _, _]) dX6_qJoins_11 (by decide) rfl ?_
  refine ev_aload_n dX6_qJoins_12 rfl ?_
  refine ev_getR dX6_qJoins_13 fX6_242_6 (hk1547 hM) (Or.inl (hl1547 hM)) rfl (hr102 hM) ?_
  refine ev_aload_n dX6_qJoins_16 rfl ?_
  refine ev_getI dX6_qJoins_17 fX6_408_6 (hk1547 hM) (Or.inl (hl1547 hM)) rfl ?_
  refine ev_iconst (v := (nI 2)) dX6_qJoins_20 jc2 ?_
  refine ev_isub dX6_qJoins_21 ?_
  by_cases z2 : jok ((ci 1547 103) - (nI 2)) 1700
  rotate_left
  · rw [if_neg z2] at h; cases h
  rw [if_pos z2] at h
  refine ev_laload dX6_qJoins_22 (hk1622 hM) (Or.inl (hl1622 hM)) (jok.ix z2 (hn1622 hM)) ?_
  refine ev_lstore (L' := [_, _, _, _, _, _]) dX6_qJoins_23 (by decide) rfl ?_
  refine ev_aload_n dX6_qJoins_25 rfl ?_
  refine ev_dup dX6_qJoins_26 rfl ?_
  refine ev_getI dX6_qJoins_27 fX6_408_6 (hk1547 hM) (Or.inl (hl1547 hM)) rfl ?_
  refine ev_iconst (v := (nI 2)) dX6_qJoins_30 jc2 ?_
  refine ev_isub dX6_qJoins_31 ?_
  refine ev_putI dX6_qJoins_32 (pX6_408_6 _) (hk1547 hM) (hl1547 hM) rfl rfl rfl ?_
  refine ev_iload_n dX6_qJoins_35 rfl ?_
  by_cases z3 : a0 = (nI 1)
  · rw [if_pos z3] at h
    refine ev_tableIn 92 dX6_qJoins_36 (by rw [z3]; decide) (by rw [z3]; decide) (by rw [z3]; rfl) rfl ?_
    refine ev_aload_n dX6_qJoins_92 rfl ?_
    refine ev_lload dX6_qJoins_93 rfl ?_
    refine ev_lload_n dX6_qJoins_95 rfl ?_
    refine ev_ladd dX6_qJoins_96 ?_
    obtain ⟨q4, z5, h⟩ := Option.bind_eq_some_iff.mp h
    refine ev_zS1 dX6_qJoins_97 sX6_647 (Nat.le_of_ble_eq_true rfl) (Nat.le_of_ble_eq_true rfl) rfl (metX6_qClip hM n _ _ _ z5 ?_)
    show Ev g _ _ 100 _ [.long q4.1, .ref 1547] K q4.2.1 q4.2.2 cr c sl Qr Qx
    obtain ⟨q6, z7, h⟩ := Option.bind_eq_some_iff.mp h
    refine ev_zV1 dX6_qJoins_100 vX6_411_6 (hk1547 hM) (Or.inl (hl1547 hM)) (Nat.le_of_ble_eq_true rfl) (Nat.le_of_ble_eq_true rfl) rfl (metX6_qPuts hM n _ _ _ z7 ?_)
    show Ev g _ _ 103 _ [] K q6.1 q6.2 cr c sl Qr Qx
    refine ev_goto 273 dX6_qJoins_103 rfl ?_
    exact ev_mask [false, false, false, false, false, false] (wX6_qJoins_273 hM n    _ _ h hq)
  rw [if_neg z3] at h
  by_cases z8 : a0 = (nI 2)
  · rw [if_pos z8] at h
    refine ev_tableIn 106 dX6_qJoins_36 (by rw [z8]; decide) (by rw [z8]; decide) (by rw [z8]; rfl) rfl ?_
    refine ev_aload_n dX6_qJoins_106 rfl ?_
    refine ev_lload dX6_qJoins_107 rfl ?_
    refine ev_lload_n dX6_qJoins_109 rfl ?_
    refine ev_lsub dX6_qJoins_110 ?_
    obtain ⟨q9, z10, h⟩ := Option.bind_eq_some_iff.mp h
    refine ev_zS1 dX6_qJoins_111 sX6_647 (Nat.le_of_ble_eq_true rfl) (Nat.le_of_ble_eq_true rfl) rfl (metX6_qClip hM n _ _ _ z10 ?_)
    show Ev g _ _ 114 _ [.long q9.1, .ref 1547] K q9.2.1 q9.2.2 cr c sl Qr Qx
    obtain ⟨q11, z12, h⟩ := Option.bind_eq_some_iff.mp h
    refine ev_zV1 dX6_qJoins_114 vX6_411_6 (hk1547 hM) (Or.inl (hl1547 hM)) (Nat.le_of_ble_eq_true rfl) (Nat.le_of_ble_eq_true rfl) rfl (metX6_qPuts hM n _ _ _ z12 ?_)
    show Ev g _ _ 117 _ [] K q11.1 q11.2 cr c sl Qr Qx
    refine ev_goto 273 dX6_qJoins_117 rfl ?_
    exact ev_mask [false, false, false, false, false, false] (wX6_qJoins_273 hM n    _ _ h hq)
  rw [if_neg z8] at h
  by_cases z13 : a0 = (nI 3)
  · rw [if_pos z13] at h
    refine ev_tableIn 120 dX6_qJoins_36 (by rw [z13]; decide) (by rw [z13]; decide) (by rw [z13]; rfl) rfl ?_
    refine ev_aload_n dX6_qJoins_120 rfl ?_
    refine ev_lload dX6_qJoins_121 rfl ?_
    refine ev_lload_n dX6_qJoins_123 rfl ?_
    refine ev_lmul dX6_qJoins_124 ?_
    obtain ⟨q14, z15, h⟩ := Option.bind_eq_some_iff.mp h
    refine ev_zS1 dX6_qJoins_125 sX6_647 (Nat.le_of_ble_eq_true rfl) (Nat.le_of_ble_eq_true rfl) rfl (metX6_qClip hM n _ _ _ z15 ?_)
    show Ev g _ _ 128 _ [.long q14.1, .ref 1547] K q14.2.1 q14.2.2 cr c sl Qr Qx
    obtain ⟨q16, z17, h⟩ := Option.bind_eq_some_iff.mp h
    refine ev_zV1 dX6_qJoins_128 vX6_411_6 (hk1547 hM) (Or.inl (hl1547 hM)) (Nat.le_of_ble_eq_true rfl) (Nat.le_of_ble_eq_true rfl) rfl (metX6_qPuts hM n _ _ _ z17 ?_)
    show Ev g _ _ 131 _ [] K q16.1 q16.2 cr c sl Qr Qx
    refine ev_goto 273 dX6_qJoins_131 rfl ?_
    exact ev_mask [false, false, false, false, false, false] (wX6_qJoins_273 hM n    _ _ h hq)
  rw [if_neg z13] at h
  by_cases z18 : a0 = (nI 4)
  · rw [if_pos z18] at h
    refine ev_tableIn 134 dX6_qJoins_36 (by rw [z18]; decide) (by rw [z18]; decide) (by rw [z18]; rfl) rfl ?_
    refine ev_aload_n dX6_qJoins_134 rfl ?_
    refine ev_lload dX6_qJoins_135 rfl ?_
    refine ev_lload_n dX6_qJoins_137 rfl ?_
    obtain ⟨q19, z20, h⟩ := Option.bind_eq_some_iff.mp h
    refine ev_zS2 dX6_qJoins_138 sX6_651 (Nat.le_of_ble_eq_true rfl) (Nat.le_of_ble_eq_true rfl) rfl (metX6_qFloor hM n _ _ _ _ z20 ?_)
    show Ev g _ _ 141 _ [.long q19.1, .ref 1547] K q19.2.1 q19.2.2 cr c sl Qr Qx
    obtain ⟨q21, z22, h⟩ := Option.bind_eq_some_iff.mp h
    refine ev_zV1 dX6_qJoins_141 vX6_411_6 (hk1547 hM) (Or.inl (hl1547 hM)) (Nat.le_of_ble_eq_true rfl) (Nat.le_of_ble_eq_true rfl) rfl (metX6_qPuts hM n _ _ _ z22 ?_)
    show Ev g _ _ 144 _ [] K q21.1 q21.2 cr c sl Qr Qx
    refine ev_goto 273 dX6_qJoins_144 rfl ?_
    exact ev_mask [false, false, false, false, false, false] (wX6_qJoins_273 hM n    _ _ h hq)
  rw [if_neg z18] at h
  by_cases z23 : a0 = (nI 5)
  · rw [if_pos z23] at h
    refine ev_tableIn 147 dX6_qJoins_36 (by rw [z23]; decide) (by rw [z23]; decide) (by rw [z23]; rfl) rfl ?_
    refine ev_aload_n dX6_qJoins_147 rfl ?_
    refine ev_lload dX6_qJoins_148 rfl ?_
    refine ev_lload_n dX6_qJoins_150 rfl ?_
    refine ev_lcif_ge 160 dX6_qJoins_151 dX6_qJoins_152 rfl (fun z24 => ?_) (fun z24 => ?_)
    · rw [if_pos z24] at h
      refine ev_lload_n dX6_qJoins_160 rfl ?_
      exact ev_mask [false, false, false, false, false, false] (wX6_qJoins_161 hM n   _ _ _ h hq)
    · rw [if_neg z24] at h
      refine ev_lload dX6_qJoins_155 rfl ?_
      refine ev_goto 161 dX6_qJoins_157 rfl ?_
      exact ev_mask [false, false, false, false, false, false] (wX6_qJoins_161 hM n   _ _ _ h hq)
  rw [if_neg z23] at h
  by_cases z25 : a0 = (nI 6)
  · rw [if_pos z25] at h
    refine ev_tableIn 167 dX6_qJoins_36 (by rw [z25]; decide) (by rw [z25]; decide) (by rw [z25]; rfl) rfl ?_
    refine ev_aload_n dX6_qJoins_167 rfl ?_
    refine ev_lload dX6_qJoins_168 rfl ?_
    refine ev_lload_n dX6_qJoins_170 rfl ?_
    refine ev_lcif_le 180 dX6_qJoins_171 dX6_qJoins_172 rfl (fun z26 => ?_) (fun z26 => ?_)
    · rw [if_pos z26] at h
      refine ev_lload_n dX6_qJoins_180 rfl ?_
      exact ev_mask [false, false, false, false, false, false] (wX6_qJoins_181 hM n   _ _ _ h hq)
    · rw [if_neg z26] at h
      refine ev_lload dX6_qJoins_175 rfl ?_
      refine ev_goto 181 dX6_qJoins_177 rfl ?_
      exact ev_mask [false, false, false, false, false, false] (wX6_qJoins_181 hM n   _ _ _ h hq)
  rw [if_neg z25] at h
  by_cases z27 : a0 = (nI 7)
  · rw [if_pos z27] at h
    refine ev_tableIn 187 dX6_qJoins_36 (by rw [z27]; decide) (by rw [z27]; decide) (by rw [z27]; rfl) rfl ?_
    refine ev_aload_n dX6_qJoins_187 rfl ?_
    refine ev_lload dX6_qJoins_188 rfl ?_
    refine ev_lload_n dX6_qJoins_190 rfl ?_
    refine ev_lcif_ge 199 dX6_qJoins_191 dX6_qJoins_192 rfl (fun z28 => ?_) (fun z28 => ?_)
    · rw [if_pos z28] at h
      refine ev_lconst (v := lN 0) dX6_qJoins_199 rfl ?_
      exact ev_mask [false, false, false, false, false, false] (wX6_qJoins_200 hM n   _ _ _ h hq)
    · rw [if_neg z28] at h
      refine ev_lconst (v := lN 1) dX6_qJoins_195 rfl ?_
      refine ev_goto 200 dX6_qJoins_196 rfl ?_
      exact ev_mask [false, false, false, false, false, false] (wX6_qJoins_200 hM n   _ _ _ h hq)
  rw [if_neg z27] at h
  by_cases z29 : a0 = (nI 8)
  · rw [if_pos z29] at h
    refine ev_tableIn 206 dX6_qJoins_36 (by rw [z29]; decide) (by rw [z29]; decide) (by rw [z29]; rfl) rfl ?_
    refine ev_aload_n dX6_qJoins_206 rfl ?_
    refine ev_lload dX6_qJoins_207 rfl ?_
    refine ev_lload_n dX6_qJoins_209 rfl ?_
    refine ev_lcif_le 218 dX6_qJoins_210 dX6_qJoins_211 rfl (fun z30 => ?_) (fun z30 => ?_)
    · rw [if_pos z30] at h
      refine ev_lconst (v := lN 0) dX6_qJoins_218 rfl ?_
      exact ev_mask [false, false, false, false, false, false] (wX6_qJoins_219 hM n   _ _ _ h hq)
    · rw [if_neg z30] at h
      refine ev_lconst (v := lN 1) dX6_qJoins_214 rfl ?_
      refine ev_goto 219 dX6_qJoins_215 rfl ?_
      exact ev_mask [false, false, false, false, false, false] (wX6_qJoins_219 hM n   _ _ _ h hq)
  rw [if_neg z29] at h
  by_cases z31 : a0 = (nI 9)
  · rw [if_pos z31] at h
    refine ev_tableIn 225 dX6_qJoins_36 (by rw [z31]; decide) (by rw [z31]; decide) (by rw [z31]; rfl) rfl ?_
    refine ev_aload_n dX6_qJoins_225 rfl ?_
    refine ev_lload dX6_qJoins_226 rfl ?_
    refine ev_lload_n dX6_qJoins_228 rfl ?_
    refine ev_lcif_ne 237 dX6_qJoins_229 dX6_qJoins_230 rfl (fun z32 => ?_) (fun z32 => ?_)
    · rw [if_neg z32] at h
      refine ev_lconst (v := lN 0) dX6_qJoins_237 rfl ?_
      exact ev_mask [false, false, false, false, false, false] (wX6_qJoins_238 hM n   _ _ _ h hq)
    · rw [if_pos z32] at h
      refine ev_lconst (v := lN 1) dX6_qJoins_233 rfl ?_
      refine ev_goto 238 dX6_qJoins_234 rfl ?_
      exact ev_mask [false, false, false, false, false, false] (wX6_qJoins_238 hM n   _ _ _ h hq)
  rw [if_neg z31] at h
  by_cases z33 : a0 = (nI 10)
  · rw [if_pos z33] at h
    refine ev_tableIn 244 dX6_qJoins_36 (by rw [z33]; decide) (by rw [z33]; decide) (by rw [z33]; rfl) rfl ?_
    refine ev_aload_n dX6_qJoins_244 rfl ?_
    refine ev_lload dX6_qJoins_245 rfl ?_
    refine ev_lload_n dX6_qJoins_247 rfl ?_
    refine ev_lmul dX6_qJoins_248 ?_
    obtain ⟨q34, z35, h⟩ := Option.bind_eq_some_iff.mp h
    refine ev_zV1 dX6_qJoins_249 vX6_411_6 (hk1547 hM) (Or.inl (hl1547 hM)) (Nat.le_of_ble_eq_true rfl) (Nat.le_of_ble_eq_true rfl) rfl (metX6_qPuts hM n _ _ _ z35 ?_)
    show Ev g _ _ 252 _ [] K q34.1 q34.2 cr c sl Qr Qx
    refine ev_goto 273 dX6_qJoins_252 rfl ?_
    exact ev_mask [false, false, false, false, false, false] (wX6_qJoins_273 hM n    _ _ h hq)
  rw [if_neg z33] at h
  refine ev_tableOut 255 dX6_qJoins_36 (jtab_1_10 z3 z8 z13 z18 z23 z25 z27 z29 z31 z33) rfl ?_
  refine ev_aload_n dX6_qJoins_255 rfl ?_
  refine ev_lload dX6_qJoins_256 rfl ?_
  refine ev_lload_n dX6_qJoins_258 rfl ?_
  refine ev_ladd dX6_qJoins_259 ?_
  refine ev_lconst (v := lN 0) dX6_qJoins_260 rfl ?_
  refine ev_lcif_le 269 dX6_qJoins_261 dX6_qJoins_262 rfl (fun z36 => ?_) (fun z36 => ?_)
  · rw [if_pos z36] at h
    refine ev_lconst (v := lN 0) dX6_qJoins_269 rfl ?_
    exact ev_mask [false, false, false, false, false, false] (wX6_qJoins_270 hM n   _ _ _ h hq)
  · rw [if_neg z36] at h
    refine ev_lconst (v := lN 1) dX6_qJoins_265 rfl ?_
    refine ev_goto 270 dX6_qJoins_266 rfl ?_
    exact ev_mask [false, false, false, false, false, false] (wX6_qJoins_270 hM n   _ _ _ h hq)
