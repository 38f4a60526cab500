/-! STAGE A OF THE COMPONENT (printed by gen/comp.py) -/
set_option maxRecDepth 100000
def fX0_trues_37 (n : Nat) (rec14 : Int32 → Int32 → Int32 → jK → jI → jJ → jR → Option (jTp Int32)) (l1 : Int32) (l3 : Int32) (t0 : Int32) (t1 : Int32) (K : jK) (ci : jI) (cj : jJ) (cr : jR) : Option (jTp Int32) := rec14 l1 (t1 ||| t0) (l3 + (nI 1)) K ci cj cr
theorem wX0_trues_37 {g : jG} {d : Nat} {c sl : Nat} {Qr : jQ} {Qx : jX} (n : Nat) (rec14 : Int32 → Int32 → Int32 → jK → jI → jJ → jR → Option (jTp Int32)) (hrec14 : (∀ (l1 : Int32) (l2 : Int32) (l3 : Int32) (K : jK) (ci : jI) (cj : jJ) (cr : jR) {q}, jCW K cr → rec14 l1 l2 l3 K ci cj cr = some q → jqp wI K q Qr → Ev g (d + 550) mX0_trues 14 [.ref 0, .int l1, .int l2, .int l3] [] K ci cj cr c sl Qr Qx)) (l1 : Int32) (l3 : Int32) (t0 : Int32) (t1 : Int32) (K : jK) (ci : jI) (cj : jJ) (cr : jR) {q} (hC : jCW K cr) (h : fX0_trues_37 n rec14 l1 l3 t0 t1 K ci cj cr = some q) (hq : jqp wI K q Qr) : Ev g (d + 550) mX0_trues 37 [.ref 0, .int l1, jU, .int l3] [.int t0, .int t1] K ci cj cr c sl Qr Qx := by
  unfold fX0_trues_37 at h
  refine ev_ior dX0_trues_37 ?_
  refine ev_istore_n (L' := [_, _, _, _]) dX0_trues_38 (by decide) rfl ?_
  refine ev_iinc (v := (l3 + (nI 1))) (L' := [_, _, _, _]) dX0_trues_39 rfl (by rw [ji_1]) (by decide) rfl ?_
  refine ev_goto 14 dX0_trues_42 rfl ?_
  exact hrec14 _ _ _ _ _ _ _ hC h hq
def fX0_trues_14 (n : Nat) : Nat → Int32 → Int32 → Int32 → jK → jI → jJ → jR → Option (jTp Int32)
  | 0, _, _, _, _, _, _, _ => none
  | k + 1, l1, l2, l3, K, ci, cj, cr => if (nI 10) ≤ l3 then some (l2, ci, cj, cr) else jpb (fX0_canBe n l1 l3 K ci cj cr) (fun r2 ci3 cj4 cr5 => if r2 = 0 then fX0_trues_37 n (fX0_trues_14 n  k) l1 l3 (nI 0) l2 K ci3 cj4 cr5 else fX0_trues_37 n (fX0_trues_14 n  k) l1 l3 ((nI 1) <<< (l3 &&& 31)) l2 K ci3 cj4 cr5)
theorem wX0_trues_14 {g : jG} {d : Nat} {c sl : Nat} {Qr : jQ} {Qx : jX} (n : Nat) : ∀ (k : Nat) (l1 : Int32) (l2 : Int32) (l3 : Int32) (K : jK) (ci : jI) (cj : jJ) (cr : jR) {q}, jCW K cr → fX0_trues_14 n  k l1 l2 l3 K ci cj cr = some q → jqp wI K q Qr → Ev g (d + 550) mX0_trues 14 [.ref 0, .int l1, .int l2, .int l3] [] K ci cj cr c sl Qr Qx := by
  intro k
  induction k with
  | zero =>
    intro l1 l2 l3 K ci cj cr q hC h hq
    rw [fX0_trues_14.eq_1] at h; cases h
  | succ k ih =>
    intro l1 l2 l3 K ci cj cr q hC h hq
    rw [fX0_trues_14.eq_2] at h
    refine ev_iload_n dX0_trues_14 rfl ?_
    refine ev_bipush (v := (nI 10)) dX0_trues_15 jb10 ?_
    refine ev_icmp_ge 45 dX0_trues_17 rfl (fun z1 => ?_) (fun z1 => ?_)
    · rw [if_pos z1] at h
      refine ev_iload_n dX0_trues_45 rfl ?_
      cases h
      exact ev_iret dX0_trues_46 rfl rfl (hq hC)
    · rw [if_neg z1] at h
      refine ev_iload_n dX0_trues_20 rfl ?_
      refine ev_aload_n dX0_trues_21 rfl ?_
      refine ev_iload_n dX0_trues_22 rfl ?_
      refine ev_iload_n dX0_trues_23 rfl ?_
      obtain ⟨r2, ci3, cj4, cr5, z6, h⟩ := jpb_inv h
      refine ev_zV2 dX0_trues_24 vX0_302_0 (ck0 hC) (Or.inl (cl0 hC)) (Nat.le_of_ble_eq_true rfl) (Nat.le_of_ble_eq_true rfl) rfl (metX0_canBe n _ _ _ _ _ _ hC z6 (fun hC7 => ?_))
      show Ev g _ _ 27 _ [.int r2, .int l2] K ci3 cj4 cr5 _ _ Qr Qx
      refine ev_if_eq 36 dX0_trues_27 rfl (fun z8 => ?_) (fun z8 => ?_)
      · rw [if_pos z8] at h
        refine ev_iconst (v := (nI 0)) dX0_trues_36 jc0 ?_
        exact ev_mask [true, true, false, true] (wX0_trues_37 n _ (ih) _ _ _ _ _ _ _ _ hC7 h hq)
      · rw [if_neg z8] at h
        refine ev_iconst (v := (nI 1)) dX0_trues_30 jc1 ?_
        refine ev_iload_n dX0_trues_31 rfl ?_
        refine ev_ishl dX0_trues_32 ?_
        refine ev_goto 37 dX0_trues_33 rfl ?_
        exact ev_mask [true, true, false, true] (wX0_trues_37 n _ (ih) _ _ _ _ _ _ _ _ hC7 h hq)
def fX0_trues (n : Nat) (a0 : Int32) (K : jK) (ci : jI) (cj : jJ) (cr : jR) : Option (jTp Int32) := jpb (fX0_isPair n a0 K ci cj cr) (fun r1 ci2 cj3 cr4 => if r1 = 0 then some ((-1), ci2, cj3, cr4) else fX0_trues_14 n  n a0 (nI 0) (nI 0) K ci2 cj3 cr4)
theorem metX0_trues {g : jG} {d : Nat} {c sl : Nat} {Qr : jQ} {Qx : jX} (n : Nat) (a0 : Int32) (K : jK) (ci : jI) (cj : jJ) (cr : jR) {q} (hC : jCW K cr) (h : fX0_trues n a0 K ci cj cr = some q) (hq : jqp wI K q Qr) : EvM g (d + 550) mX0_trues [.ref 0, .int a0] K ci cj cr c sl Qr Qx := by
  unfold fX0_trues at h
  show Ev g (d + 550) mX0_trues 0 [.ref 0, .int a0, jU, jU] [] K ci cj cr c sl Qr Qx
  refine ev_aload_n dX0_trues_0 rfl ?_
  refine ev_iload_n dX0_trues_1 rfl ?_
  obtain ⟨r1, ci2, cj3, cr4, z5, h⟩ := jpb_inv h
  refine ev_zV1 dX0_trues_2 vX0_226_0 (ck0 hC) (Or.inl (cl0 hC)) (Nat.le_of_ble_eq_true rfl) (Nat.le_of_ble_eq_true rfl) rfl (metX0_isPair n _ _ _ _ _ hC z5 (fun hC6 => ?_))
  show Ev g _ _ 5 _ [.int r1] K ci2 cj3 cr4 _ _ Qr Qx
  refine ev_if_ne 10 dX0_trues_5 rfl (fun z7 => ?_) (fun z7 => ?_)
  · rw [if_neg z7] at h
    refine ev_iconst (v := (nI 0)) dX0_trues_10 jc0 ?_
    refine ev_istore_n (L' := [_, _, _, _]) dX0_trues_11 (by decide) rfl ?_
    refine ev_iconst (v := (nI 0)) dX0_trues_12 jc0 ?_
    refine ev_istore_n (L' := [_, _, _, _]) dX0_trues_13 (by decide) rfl ?_
    exact wX0_trues_14 n   n _ _ _ _ _ _ _ hC6 h hq
  · rw [if_pos z7] at h
    refine ev_iconst (v := (-1)) dX0_trues_8 jcm1 ?_
    cases h
    exact ev_iret dX0_trues_9 rfl rfl (hq hC6)
def fX0_tells_19 (n : Nat) (K : jK) (ci : jI) (cj : jJ) (cr : jR) : Option (jTp Int32) := some ((-1), ci, cj, cr)
theorem wX0_tells_19 {g : jG} {d : Nat} {c sl : Nat} {Qr : jQ} {Qx : jX} (n : Nat) (K : jK) (ci : jI) (cj : jJ) (cr : jR) {q} (hC : jCW K cr) (h : fX0_tells_19 n   K ci cj cr = some q) (hq : jqp wI K q Qr) : Ev g (d + 551) mX0_tells 19 [jU, jU, jU, jU, jU, jU, jU, jU, jU] [] K ci cj cr c sl Qr Qx := by
  unfold fX0_tells_19 at h
  refine ev_iconst (v := (-1)) dX0_tells_19 jcm1 ?_
  cases h
  exact ev_iret dX0_tells_20 rfl rfl (hq hC)
def fX0_tells_139 (n : Nat) (t0 : Int32) (K : jK) (ci : jI) (cj : jJ) (cr : jR) : Option (jTp Int32) := some (t0, ci, cj, cr)
theorem wX0_tells_139 {g : jG} {d : Nat} {c sl : Nat} {Qr : jQ} {Qx : jX} (n : Nat) (t0 : Int32) (K : jK) (ci : jI) (cj : jJ) (cr : jR) {q} (hC : jCW K cr) (h : fX0_tells_139 n  t0 K ci cj cr = some q) (hq : jqp wI K q Qr) : Ev g (d + 551) mX0_tells 139 [jU, jU, jU, jU, jU, jU, jU, jU, jU] [.int t0] K ci cj cr c sl Qr Qx := by
  unfold fX0_tells_139 at h
  cases h
  exact ev_iret dX0_tells_139 rfl rfl (hq hC)
def fX0_tells_92 (n : Nat) (rec32 : Int32 → Int32 → Int32 → Int32 → Int32 → jK → jI → jJ → jR → Option (jTp Int32)) (rec49 : Int32 → Int32 → Int32 → Int32 → Int32 → Int32 → jK → jI → jJ → jR → Option (jTp Int32)) (l2 : Int32) (l3 : Int32) (l4 : Int32) (l5 : Int32) (l6 : Int32) (l7 : Int32) (K : jK) (ci : jI) (cj : jJ) (cr : jR) : Option (jTp Int32) := rec49 l2 l3 l4 l5 l6 (l7 + (nI 1)) K ci cj cr
theorem wX0_tells_92 {g : jG} {d : Nat} {c sl : Nat} {Qr : jQ} {Qx : jX} (n : Nat) (rec32 : Int32 → Int32 → Int32 → Int32 → Int32 → jK → jI → jJ → jR → Option (jTp Int32)) (rec49 : Int32 → Int32 → Int32 → Int32 → Int32 → Int32 → jK → jI → jJ → jR → Option (jTp Int32)) (hrec32 : (∀ (l2 : Int32) (l3 : Int32) (l4 : Int32) (l5 : Int32) (l6 : Int32) (K : jK) (ci : jI) (cj : jJ) (cr : jR) {q}, jCW K cr → rec32 l2 l3 l4 l5 l6 K ci cj cr = some q → jqp wI K q Qr → Ev g (d + 551) mX0_tells 32 [.ref 0, jU, .int l2, .int l3, .int l4, .int l5, .int l6, jU, jU] [] K ci cj cr c sl Qr Qx)) (hrec49 : (∀ (l2 : Int32) (l3 : Int32) (l4 : Int32) (l5 : Int32) (l6 : Int32) (l7 : Int32) (K : jK) (ci : jI) (cj : jJ) (cr : jR) {q}, jCW K cr → rec49 l2 l3 l4 l5 l6 l7 K ci cj cr = some q → jqp wI K q Qr → Ev g (d + 551) mX0_tells 49 [.ref 0, jU, .int l2, .int l3, .int l4, .int l5, .int l6, .int l7, jU] [] K ci cj cr c sl Qr Qx)) (l2 : Int32) (l3 : Int32) (l4 : Int32) (l5 : Int32) (l6 : Int32) (l7 : Int32) (K : jK) (ci : jI) (cj : jJ) (cr : jR) {q} (hC : jCW K cr) (h : fX0_tells_92 n rec32 rec49 l2 l3 l4 l5 l6 l7 K ci cj cr = some q) (hq : jqp wI K q Qr) : Ev g (d + 551) mX0_tells 92 [.ref 0, jU, .int l2, .int l3, .int l4, .int l5, .int l6, .int l7, jU] [] K ci cj cr c sl Qr Qx := by
  unfold fX0_tells_92 at h
  refine ev_iinc (v := (l7 + (nI 1))) (L' := [_, _, _, _, _, _, _, _, _]) dX0_tells_92 rfl (by rw [ji_1]) (by decide) rfl ?_
  refine ev_goto 49 dX0_tells_95 rfl ?_
  exact hrec49 _ _ _ _ _ _ _ _ _ _ hC h hq
def fX0_tells_49 (n : Nat) (rec32 : Int32 → Int32 → Int32 → Int32 → Int32 → jK → jI → jJ → jR → Option (jTp Int32)) : Nat → Int32 → Int32 → Int32 → Int32 → Int32 → Int32 → jK → jI → jJ → jR → Option (jTp Int32)
  | 0, _, _, _, _, _, _, _, _, _, _ => none
  | k + 1, l2, l3, l4, l5, l6, l7, K, ci, cj, cr => jpb (fX0_shoals n  K ci cj cr) (fun r1 ci2 cj3 cr4 => if r1 ≤ l7 then rec32 l2 l3 l4 l5 (l6 + (nI 1)) K ci2 cj3 cr4 else jpb (fX0_mostBy n l3 l6 l7 K ci2 cj3 cr4) (fun r8 ci9 cj10 cr11 => if r8 < l5 then fX0_tells_92 n rec32 (fX0_tells_49 n rec32 k) l2 l3 (((nI 3) * l6) + l7) r8 l6 l7 K ci9 cj10 cr11 else fX0_tells_92 n rec32 (fX0_tells_49 n rec32 k) l2 l3 l4 l5 l6 l7 K ci9 cj10 cr11))
theorem wX0_tells_49 {g : jG} {d : Nat} {c sl : Nat} {Qr : jQ} {Qx : jX} (n : Nat) (rec32 : Int32 → Int32 → Int32 → Int32 → Int32 → jK → jI → jJ → jR → Option (jTp Int32)) (hrec32 : (∀ (l2 : Int32) (l3 : Int32) (l4 : Int32) (l5 : Int32) (l6 : Int32) (K : jK) (ci : jI) (cj : jJ) (cr : jR) {q}, jCW K cr → rec32 l2 l3 l4 l5 l6 K ci cj cr = some q → jqp wI K q Qr → Ev g (d + 551) mX0_tells 32 [.ref 0, jU, .int l2, .int l3, .int l4, .int l5, .int l6, jU, jU] [] K ci cj cr c sl Qr Qx)) : ∀ (k : Nat) (l2 : Int32) (l3 : Int32) (l4 : Int32) (l5 : Int32) (l6 : Int32) (l7 : Int32) (K : jK) (ci : jI) (cj : jJ) (cr : jR) {q}, jCW K cr → fX0_tells_49 n rec32 k l2 l3 l4 l5 l6 l7 K ci cj cr = some q → jqp wI K q Qr → Ev g (d + 551) mX0_tells 49 [.ref 0, jU, .int l2, .int l3, .int l4, .int l5, .int l6, .int l7, jU] [] K ci cj cr c sl Qr Qx := by
  intro k
  induction k with
  | zero =>
    intro l2 l3 l4 l5 l6 l7 K ci cj cr q hC h hq
    rw [fX0_tells_49.eq_1] at h; cases h
  | succ k ih =>
    intro l2 l3 l4 l5 l6 l7 K ci cj cr q hC h hq
    rw [fX0_tells_49.eq_2] at h
    refine ev_iload dX0_tells_49 rfl ?_
    refine ev_aload_n dX0_tells_51 rfl ?_
    obtain ⟨r1, ci2, cj3, cr4, z5, h⟩ := jpb_inv h
    refine ev_zV0 dX0_tells_52 vX0_167_0 (ck0 hC) (Or.inl (cl0 hC)) (Nat.le_of_ble_eq_true rfl) (Nat.le_of_ble_eq_true rfl) rfl (metX0_shoals n  _ _ _ _ hC z5 (fun hC6 => ?_))
    show Ev g _ _ 55 _ [.int r1, .int l7] K ci2 cj3 cr4 _ _ Qr Qx
    refine ev_icmp_ge 98 dX0_tells_55 rfl (fun z7 => ?_) (fun z7 => ?_)
    · rw [if_pos z7] at h
      refine ev_iinc (v := (l6 + (nI 1))) (L' := [_, _, _, _, _, _, _, _, _]) dX0_tells_98 rfl (by rw [ji_1]) (by decide) rfl ?_
      refine ev_goto 32 dX0_tells_101 rfl ?_
      exact ev_mask [true, false, true, true, true, true, true, false, false] (hrec32 _ _ _ _ _ _ _ _ _ hC6 h hq)
    · rw [if_neg z7] at h
      refine ev_aload_n dX0_tells_58 rfl ?_
      refine ev_iload_n dX0_tells_59 rfl ?_
      refine ev_iload dX0_tells_60 rfl ?_
      refine ev_iload dX0_tells_62 rfl ?_
      obtain ⟨r8, ci9, cj10, cr11, z12, h⟩ := jpb_inv h
      refine ev_zV3 dX0_tells_64 vX0_311_0 (ck0 hC6) (Or.inl (cl0 hC6)) (Nat.le_of_ble_eq_true rfl) (Nat.le_of_ble_eq_true rfl) rfl (metX0_mostBy n _ _ _ _ _ _ _ hC6 z12 (fun hC13 => ?_))
      show Ev g _ _ 67 _ [.int r8] K ci9 cj10 cr11 _ _ Qr Qx
      refine ev_istore (L' := [_, _, _, _, _, _, _, _, _]) dX0_tells_67 (by decide) rfl ?_
      refine ev_iload dX0_tells_69 rfl ?_
      refine ev_iload dX0_tells_71 rfl ?_
      refine ev_icmp_lt 79 dX0_tells_73 rfl (fun z14 => ?_) (fun z14 => ?_)
      · rw [if_pos z14] at h
        refine ev_iload dX0_tells_79 rfl ?_
        refine ev_istore (L' := [_, _, _, _, _, _, _, _, _]) dX0_tells_81 (by decide) rfl ?_
        refine ev_iconst (v := (nI 3)) dX0_tells_83 jc3 ?_
        refine ev_iload dX0_tells_84 rfl ?_
        refine ev_imul dX0_tells_86 ?_
        refine ev_iload dX0_tells_87 rfl ?_
        refine ev_iadd dX0_tells_89 ?_
        refine ev_istore (L' := [_, _, _, _, _, _, _, _, _]) dX0_tells_90 (by decide) rfl ?_
        exact ev_mask [true, false, true, true, true, true, true, true, false] (wX0_tells_92 n _ _ (hrec32) (ih) _ _ _ _ _ _ _ _ _ _ hC13 h hq)
      · rw [if_neg z14] at h
        refine ev_goto 92 dX0_tells_76 rfl ?_
        exact ev_mask [true, false, true, true, true, true, true, true, false] (wX0_tells_92 n _ _ (hrec32) (ih) _ _ _ _ _ _ _ _ _ _ hC13 h hq)
def fX0_tells_32 (n : Nat) : Nat → Int32 → Int32 → Int32 → Int32 → Int32 → jK → jI → jJ → jR → Option (jTp Int32)
  | 0, _, _, _, _, _, _, _, _, _ => none
  | k + 1, l2, l3, l4, l5, l6, K, ci, cj, cr => jpb (fX0_isAhead n (l6 + (nI 1)) (nI 1) (nI 31) K ci cj cr) (fun r1 ci2 cj3 cr4 => if r1 = 0 then if l4 = (-1) then fX0_tells_139 n  (-1) K ci2 cj3 cr4 else if l2 = 0 then fX0_tells_139 n  (l4 / (nI 3)) K ci2 cj3 cr4 else if l2 = (nI 1) then fX0_tells_139 n  (l4 - l4 / (nI 3) * (nI 3)) K ci2 cj3 cr4 else fX0_tells_139 n  l5 K ci2 cj3 cr4 else fX0_tells_49 n (fX0_tells_32 n  k) n l2 l3 l4 l5 l6 (nI 0) K ci2 cj3 cr4)
theorem wX0_tells_32 {g : jG} {d : Nat} {c sl : Nat} {Qr : jQ} {Qx : jX} (n : Nat) : ∀ (k : Nat) (l2 : Int32) (l3 : Int32) (l4 : Int32) (l5 : Int32) (l6 : Int32) (K : jK) (ci : jI) (cj : jJ) (cr : jR) {q}, jCW K cr → fX0_tells_32 n  k l2 l3 l4 l5 l6 K ci cj cr = some q → jqp wI K q Qr → Ev g (d + 551) mX0_tells 32 [.ref 0, jU, .int l2, .int l3, .int l4, .int l5, .int l6, jU, jU] [] K ci cj cr c sl Qr Qx := by
  intro k
  induction k with
  | zero =>
    intro l2 l3 l4 l5 l6 K ci cj cr q hC h hq
    rw [fX0_tells_32.eq_1] at h; cases h
  | succ k ih =>
    intro l2 l3 l4 l5 l6 K ci cj cr q hC h hq
    rw [fX0_tells_32.eq_2] at h
    refine ev_aload_n dX0_tells_32 rfl ?_
    refine ev_iload dX0_tells_33 rfl ?_
    refine ev_iconst (v := (nI 1)) dX0_tells_35 jc1 ?_
    refine ev_iadd dX0_tells_36 ?_
    refine ev_iconst (v := (nI 1)) dX0_tells_37 jc1 ?_
    refine ev_bipush (v := (nI 31)) dX0_tells_38 jb31 ?_
    obtain ⟨r1, ci2, cj3, cr4, z5, h⟩ := jpb_inv h
    refine ev_zV3 dX0_tells_40 vX0_261_0 (ck0 hC) (Or.inl (cl0 hC)) (Nat.le_of_ble_eq_true rfl) (Nat.le_of_ble_eq_true rfl) rfl (metX0_isAhead n _ _ _ _ _ _ _ hC z5 (fun hC6 => ?_))
    show Ev g _ _ 43 _ [.int r1] K ci2 cj3 cr4 _ _ Qr Qx
    refine ev_if_eq 104 dX0_tells_43 rfl (fun z7 => ?_) (fun z7 => ?_)
    · rw [if_pos z7] at h
      refine ev_iload dX0_tells_104 rfl ?_
      refine ev_iconst (v := (-1)) dX0_tells_106 jcm1 ?_
      refine ev_icmp_ne 114 dX0_tells_107 rfl (fun z8 => ?_) (fun z8 => ?_)
      · rw [if_neg z8] at h
        refine ev_iload_n dX0_tells_114 rfl ?_
        refine ev_if_ne 125 dX0_tells_115 rfl (fun z9 => ?_) (fun z9 => ?_)
        · rw [if_neg z9] at h
          refine ev_iload_n dX0_tells_125 rfl ?_
          refine ev_iconst (v := (nI 1)) dX0_tells_126 jc1 ?_
          refine ev_icmp_ne 137 dX0_tells_127 rfl (fun z10 => ?_) (fun z10 => ?_)
          · rw [if_neg z10] at h
            refine ev_iload dX0_tells_137 rfl ?_
            exact ev_mask [false, false, false, false, false, false, false, false, false] (wX0_tells_139 n   _ _ _ _ _ hC6 h hq)
          · rw [if_pos z10] at h
            refine ev_iload dX0_tells_130 rfl ?_
            refine ev_iconst (v := (nI 3)) dX0_tells_132 jc3 ?_
            refine ev_irem dX0_tells_133 (by decide) ?_
            refine ev_goto 139 dX0_tells_134 rfl ?_
            exact ev_mask [false, false, false, false, false, false, false, false, false] (wX0_tells_139 n   _ _ _ _ _ hC6 h hq)
        · rw [if_pos z9] at h
          refine ev_iload dX0_tells_118 rfl ?_
          refine ev_iconst (v := (nI 3)) dX0_tells_120 jc3 ?_
          refine ev_idiv dX0_tells_121 (by decide) ?_
          refine ev_goto 139 dX0_tells_122 rfl ?_
          exact ev_mask [false, false, false, false, false, false, false, false, false] (wX0_tells_139 n   _ _ _ _ _ hC6 h hq)
      · rw [if_pos z8] at h
        refine ev_iconst (v := (-1)) dX0_tells_110 jcm1 ?_
        refine ev_goto 139 dX0_tells_111 rfl ?_
        exact ev_mask [false, false, false, false, false, false, false, false, false] (wX0_tells_139 n   _ _ _ _ _ hC6 h hq)
    · rw [if_neg z7] at h
      refine ev_iconst (v := (nI 0)) dX0_tells_46 jc0 ?_
      refine ev_istore (L' := [_, _, _, _, _, _, _, _, _]) dX0_tells_47 (by decide) rfl ?_
      exact wX0_tells_49 n _ (ih) n _ _ _ _ _ _ _ _ _ _ hC6 h hq
def fX0_tells (n : Nat) (a0 : Int32) (a1 : Int32) (K : jK) (ci : jI) (cj : jJ) (cr : jR) : Option (jTp Int32) := jpb (fX0_trues n a0 K ci cj cr) (fun r1 ci2 cj3 cr4 => if r1 ≤ 0 then fX0_tells_19 n   K ci2 cj3 cr4 else jpb (fX0_is n a1 (nI 0) (nI 2) K ci2 cj3 cr4) (fun r8 ci9 cj10 cr11 => if r8 = 0 then fX0_tells_19 n   K ci9 cj10 cr11 else fX0_tells_32 n  n a1 r1 (-1) (100000000) (nI 0) K ci9 cj10 cr11))
theorem metX0_tells {g : jG} {d : Nat} {c sl : Nat} {Qr : jQ} {Qx : jX} (n : Nat) (a0 : Int32) (a1 : Int32) (K : jK) (ci : jI) (cj : jJ) (cr : jR) {q} (hC : jCW K cr) (h : fX0_tells n a0 a1 K ci cj cr = some q) (hq : jqp wI K q Qr) : EvM g (d + 551) mX0_tells [.ref 0, .int a0, .int a1] K ci cj cr c sl Qr Qx := by
  unfold fX0_tells at h
  show Ev g (d + 551) mX0_tells 0 [.ref 0, .int a0, .int a1, jU, jU, jU, jU, jU, jU] [] K ci cj cr c sl Qr Qx
  refine ev_aload_n dX0_tells_0 rfl ?_
  refine ev_iload_n dX0_tells_1 rfl ?_
  obtain ⟨r1, ci2, cj3, cr4, z5, h⟩ := jpb_inv h
  refine ev_zV1 dX0_tells_2 vX0_308_0 (ck0 hC) (Or.inl (cl0 hC)) (Nat.le_of_ble_eq_true rfl) (Nat.le_of_ble_eq_true rfl) rfl (metX0_trues n _ _ _ _ _ hC z5 (fun hC6 => ?_))
  show Ev g _ _ 5 _ [.int r1] K ci2 cj3 cr4 _ _ Qr Qx
  refine ev_istore_n (L' := [_, _, _, _, _, _, _, _, _]) dX0_tells_5 (by decide) rfl ?_
  refine ev_iload_n dX0_tells_6 rfl ?_
  refine ev_if_le 19 dX0_tells_7 rfl (fun z7 => ?_) (fun z7 => ?_)
  · rw [if_pos z7] at h
    exact ev_mask [false, false, false, false, false, false, false, false, false] (wX0_tells_19 n    _ _ _ _ hC6 h hq)
  · rw [if_neg z7] at h
    refine ev_iload_n dX0_tells_10 rfl ?_
    refine ev_iconst (v := (nI 0)) dX0_tells_11 jc0 ?_
    refine ev_iconst (v := (nI 2)) dX0_tells_12 jc2 ?_
    obtain ⟨r8, ci9, cj10, cr11, z12, h⟩ := jpb_inv h
    refine ev_zS3 dX0_tells_13 sX0_195 (Nat.le_of_ble_eq_true rfl) (Nat.le_of_ble_eq_true rfl) rfl (metX0_is n _ _ _ _ _ _ _ hC6 z12 (fun hC13 => ?_))
    show Ev g _ _ 16 _ [.int r8] K ci9 cj10 cr11 _ _ Qr Qx
    refine ev_if_ne 21 dX0_tells_16 rfl (fun z14 => ?_) (fun z14 => ?_)
    · rw [if_neg z14] at h
      refine ev_iconst (v := (-1)) dX0_tells_21 jcm1 ?_
      refine ev_istore (L' := [_, _, _, _, _, _, _, _, _]) dX0_tells_22 (by decide) rfl ?_
      refine ev_ldcw dX0_tells_24 q1545 ?_
      refine ev_istore (L' := [_, _, _, _, _, _, _, _, _]) dX0_tells_27 (by decide) rfl ?_
      refine ev_iconst (v := (nI 0)) dX0_tells_29 jc0 ?_
      refine ev_istore (L' := [_, _, _, _, _, _, _, _, _]) dX0_tells_30 (by decide) rfl ?_
      exact ev_mask [true, false, true, true, true, true, true, false, false] (wX0_tells_32 n   n _ _ _ _ _ _ _ _ _ hC13 h hq)
    · rw [if_pos z14] at h
      exact ev_mask [false, false, false, false, false, false, false, false, false] (wX0_tells_19 n    _ _ _ _ hC13 h hq)
def fX0_years_25 (n : Nat) : Nat → Int32 → Int32 → Int32 → jK → jI → jJ → jR → Option (jTp Int32)
  | 0, _, _, _, _, _, _, _ => none
  | k + 1, l1, l2, l3, K, ci, cj, cr => if l1 ≤ l3 then some (l2, ci, cj, cr) else jpb (fX5_goes n 16 K ci cj cr) (fun r2 ci3 cj4 cr5 => fX0_years_25 n  k l1 (l2 + r2) (l3 + (nI 1)) K ci3 cj4 cr5)
theorem wX0_years_25 {g : jG} {d : Nat} {c sl : Nat} {Qr : jQ} {Qx : jX} (n : Nat) : ∀ (k : Nat) (l1 : Int32) (l2 : Int32) (l3 : Int32) (K : jK) (ci : jI) (cj : jJ) (cr : jR) {q}, jCW K cr → fX0_years_25 n  k l1 l2 l3 K ci cj cr = some q → jqp wI K q Qr → Ev g (d + 549) mX0_years 25 [.ref 0, .int l1, .int l2, .int l3] [] K ci cj cr c sl Qr Qx := by
  intro k
  induction k with
  | zero =>
    intro l1 l2 l3 K ci cj cr q hC h hq
    rw [fX0_years_25.eq_1] at h; cases h
  | succ k ih =>
    intro l1 l2 l3 K ci cj cr q hC h hq
    rw [fX0_years_25.eq_2] at h
    refine ev_iload_n dX0_years_25 rfl ?_
    refine ev_iload_n dX0_years_26 rfl ?_
    refine ev_icmp_ge 46 dX0_years_27 rfl (fun z1 => ?_) (fun z1 => ?_)
    · rw [if_pos z1] at h
      refine ev_iload_n dX0_years_46 rfl ?_
      cases h
      exact ev_iret dX0_years_47 rfl rfl (hq hC)
    · rw [if_neg z1] at h
      refine ev_iload_n dX0_years_30 rfl ?_
      refine ev_aload_n dX0_years_31 rfl ?_
      refine ev_getR dX0_years_32 fX0_69_0 (ck0 hC) (Or.inl (cl0 hC)) rfl (cq0_9 hC) ?_
      obtain ⟨r2, ci3, cj4, cr5, z6, h⟩ := jpb_inv h
      refine ev_zV0 dX0_years_35 vX0_272_5 (sk0 hC is16) (Or.inl (sl0 hC is16)) (Nat.le_of_ble_eq_true rfl) (Nat.le_of_ble_eq_true rfl) rfl (metX5_goes n _ _ _ _ _ hC z6 (fun hC7 => ?_))
      show Ev g _ _ 38 _ [.int r2, .int l2] K ci3 cj4 cr5 _ _ Qr Qx
      refine ev_iadd dX0_years_38 ?_
      refine ev_istore_n (L' := [_, _, _, _]) dX0_years_39 (by decide) rfl ?_
      refine ev_iinc (v := (l3 + (nI 1))) (L' := [_, _, _, _]) dX0_years_40 rfl (by rw [ji_1]) (by decide) rfl ?_
      refine ev_goto 25 dX0_years_43 rfl ?_
      exact ih _ _ _ _ _ _ _ hC7 h hq
def fX0_years (n : Nat) (a0 : Int32) (K : jK) (ci : jI) (cj : jJ) (cr : jR) : Option (jTp Int32) := jpb (fX0_isAhead n a0 (nI 1) (nI 100) K ci cj cr) (fun r1 ci2 cj3 cr4 => if r1 = 0 then jpb (fX0_refuses n (nI 3) K ci2 cj3 cr4) (fun r14 ci15 cj16 cr17 => some (r14, ci15, cj16, cr17)) else jpb (fX0_remembers n  K ci2 cj3 cr4) (fun r8 ci9 cj10 cr11 => fX0_years_25 n  n a0 (nI 0) (nI 0) K ci9 cj10 cr11))
theorem metX0_years {g : jG} {d : Nat} {c sl : Nat} {Qr : jQ} {Qx : jX} (n : Nat) (a0 : Int32) (K : jK) (ci : jI) (cj : jJ) (cr : jR) {q} (hC : jCW K cr) (h : fX0_years n a0 K ci cj cr = some q) (hq : jqp wI K q Qr) : EvM g (d + 549) mX0_years [.ref 0, .int a0] K ci cj cr c sl Qr Qx := by
  unfold fX0_years at h
  show Ev g (d + 549) mX0_years 0 [.ref 0, .int a0, jU, jU] [] K ci cj cr c sl Qr Qx
  refine ev_aload_n dX0_years_0 rfl ?_
  refine ev_iload_n dX0_years_1 rfl ?_
  refine ev_iconst (v := (nI 1)) dX0_years_2 jc1 ?_
  refine ev_bipush (v := (nI 100)) dX0_years_3 jb100 ?_
  obtain ⟨r1, ci2, cj3, cr4, z5, h⟩ := jpb_inv h
  refine ev_zV3 dX0_years_5 vX0_261_0 (ck0 hC) (Or.inl (cl0 hC)) (Nat.le_of_ble_eq_true rfl) (Nat.le_of_ble_eq_true rfl) rfl (metX0_isAhead n _ _ _ _ _ _ _ hC z5 (fun hC6 => ?_))
  show Ev g _ _ 8 _ [.int r1] K ci2 cj3 cr4 _ _ Qr Qx
  refine ev_if_ne 17 dX0_years_8 rfl (fun z7 => ?_) (fun z7 => ?_)
  · rw [if_neg z7] at h
    refine ev_aload_n dX0_years_17 rfl ?_
    obtain ⟨r8, ci9, cj10, cr11, z12, h⟩ := jpb_inv h
    refine ev_zV0 dX0_years_18 vX0_315_0 (ck0 hC6) (Or.inl (cl0 hC6)) (Nat.le_of_ble_eq_true rfl) (Nat.le_of_ble_eq_true rfl) rfl (metX0_remembers n  _ _ _ _ hC6 z12 (fun hC13 => ?_))
    show Ev g _ _ 21 _ [] K ci9 cj10 cr11 _ _ Qr Qx
    refine ev_iconst (v := (nI 0)) dX0_years_21 jc0 ?_
    refine ev_istore_n (L' := [_, _, _, _]) dX0_years_22 (by decide) rfl ?_
    refine ev_iconst (v := (nI 0)) dX0_years_23 jc0 ?_
    refine ev_istore_n (L' := [_, _, _, _]) dX0_years_24 (by decide) rfl ?_
    exact wX0_years_25 n   n _ _ _ _ _ _ _ hC13 h hq
  · rw [if_pos z7] at h
    refine ev_aload_n dX0_years_11 rfl ?_
    refine ev_iconst (v := (nI 3)) dX0_years_12 jc3 ?_
    obtain ⟨r14, ci15, cj16, cr17, z18, h⟩ := jpb_inv h
    refine ev_zV1 dX0_years_13 vX0_109_0 (ck0 hC6) (Or.inl (cl0 hC6)) (Nat.le_of_ble_eq_true rfl) (Nat.le_of_ble_eq_true rfl) rfl (metX0_refuses n _ _ _ _ _ hC6 z18 (fun hC19 => ?_))
    show Ev g _ _ 16 _ [.int r14] K ci15 cj16 cr17 _ _ Qr Qx
    cases h
    exact ev_iret dX0_years_16 rfl rfl (hq hC19)
def fX0_chance_82 (n : Nat) (rec25 : Int32 → Int32 → Int32 → jK → jI → jJ → jR → Option (jTp Int32)) (l1 : Int32) (l2 : Int32) (l3 : Int32) (K : jK) (ci : jI) (cj : jJ) (cr : jR) : Option (jTp Int32) := jpb (fX5_goes n 16 K ci cj cr) (fun r1 ci2 cj3 cr4 => rec25 l1 l2 (l3 + (nI 1)) K ci2 cj3 cr4)
theorem wX0_chance_82 {g : jG} {d : Nat} {c sl : Nat} {Qr : jQ} {Qx : jX} (n : Nat) (rec25 : Int32 → Int32 → Int32 → jK → jI → jJ → jR → Option (jTp Int32)) (hrec25 : (∀ (l1 : Int32) (l2 : Int32) (l3 : Int32) (K : jK) (ci : jI) (cj : jJ) (cr : jR) {q}, jCW K cr → rec25 l1 l2 l3 K ci cj cr = some q → jqp wI K q Qr → Ev g (d + 549) mX0_chance 25 [.ref 0, .int l1, .int l2, .int l3, jU] [] K ci cj cr c sl Qr Qx)) (l1 : Int32) (l2 : Int32) (l3 : Int32) (K : jK) (ci : jI) (cj : jJ) (cr : jR) {q} (hC : jCW K cr) (h : fX0_chance_82 n rec25 l1 l2 l3 K ci cj cr = some q) (hq : jqp wI K q Qr) : Ev g (d + 549) mX0_chance 82 [.ref 0, .int l1, .int l2, .int l3, jU] [] K ci cj cr c sl Qr Qx := by
  unfold fX0_chance_82 at h
  refine ev_aload_n dX0_chance_82 rfl ?_
  refine ev_getR dX0_chance_83 fX0_69_0 (ck0 hC) (Or.inl (cl0 hC)) rfl (cq0_9 hC) ?_
  obtain ⟨r1, ci2, cj3, cr4, z5, h⟩ := jpb_inv h
  refine ev_zV0 dX0_chance_86 vX0_272_5 (sk0 hC is16) (Or.inl (sl0 hC is16)) (Nat.le_of_ble_eq_true rfl) (Nat.le_of_ble_eq_true rfl) rfl (metX5_goes n _ _ _ _ _ hC z5 (fun hC6 => ?_))
  show Ev g _ _ 89 _ [.int r1] K ci2 cj3 cr4 _ _ Qr Qx
  refine ev_pop dX0_chance_89 rfl ?_
  refine ev_iinc (v := (l3 + (nI 1))) (L' := [_, _, _, _, _]) dX0_chance_90 rfl (by rw [ji_1]) (by decide) rfl ?_
  refine ev_goto 25 dX0_chance_93 rfl ?_
  exact hrec25 _ _ _ _ _ _ _ hC6 h hq
def fX0_chance_25 (n : Nat) : Nat → Int32 → Int32 → Int32 → jK → jI → jJ → jR → Option (jTp Int32)
  | 0, _, _, _, _, _, _, _ => none
  | k + 1, l1, l2, l3, K, ci, cj, cr => if l1 ≤ l3 then some (l2, ci, cj, cr) else jpb (fX0_draw n (nI 100) K ci cj cr) (fun r2 ci3 cj4 cr5 => Option.bind (cr5 0 0) (fun r8 => if K.1 r8 = 1 ∧ r8 < K.2.2 then if (ci3 r8 1) ≤ r2 then fX0_chance_82 n (fX0_chance_25 n  k) l1 l2 l3 K ci3 cj4 cr5 else jpb (fX0_shoals n  K ci3 cj4 cr5) (fun r12 ci13 cj14 cr15 => if r12 ≤ 0 then fX0_chance_82 n (fX0_chance_25 n  k) l1 l2 l3 K ci13 cj14 cr15 else jpb (fX0_shoals n  K ci13 cj14 cr15) (fun r19 ci20 cj21 cr22 => jpb (fX0_draw n r19 K ci20 cj21 cr22) (fun r25 ci26 cj27 cr28 => jpb (fX0_draw n (nI 100) K ci26 cj27 cr28) (fun r31 ci32 cj33 cr34 => jpb (fX0_drives n 16 r25 r31 K ci32 cj33 cr34) (fun r37 ci38 cj39 cr40 => fX0_chance_82 n (fX0_chance_25 n  k) l1 (l2 + (nI 1)) l3 K ci38 cj39 cr40))))) else none))
theorem wX0_chance_25 {g : jG} {d : Nat} {c sl : Nat} {Qr : jQ} {Qx : jX} (n : Nat) : ∀ (k : Nat) (l1 : Int32) (l2 : Int32) (l3 : Int32) (K : jK) (ci : jI) (cj : jJ) (cr : jR) {q}, jCW K cr → fX0_chance_25 n  k l1 l2 l3 K ci cj cr = some q → jqp wI K q Qr → Ev g (d + 549) mX0_chance 25 [.ref 0, .int l1, .int l2, .int l3, jU] [] K ci cj cr c sl Qr Qx := by
  intro k
  induction k with
  | zero =>
    intro l1 l2 l3 K ci cj cr q hC h hq
    rw [fX0_chance_25.eq_1] at h; cases h
  | succ k ih =>
    intro l1 l2 l3 K ci cj cr q hC h hq
    rw [fX0_chance_25.eq_2] at h
    refine ev_iload_n dX0_chance_25 rfl ?_
    refine ev_iload_n dX0_chance_26 rfl ?_
    refine ev_icmp_ge 96 dX0_chance_27 rfl (fun z1 => ?_) (fun z1 => ?_)
    · rw [if_pos z1] at h
      refine ev_iload_n dX0_chance_96 rfl ?_
      cases h
      exact ev_iret dX0_chance_97 rfl rfl (hq hC)
    · rw [if_neg z1] at h
      refine ev_aload_n dX0_chance_30 rfl ?_
      refine ev_bipush (v := (nI 100)) dX0_chance_31 jb100 ?_
      obtain ⟨r2, ci3, cj4, cr5, z6, h⟩ := jpb_inv h
      refine ev_zV1 dX0_chance_33 vX0_326_0 (ck0 hC) (Or.inl (cl0 hC)) (Nat.le_of_ble_eq_true rfl) (Nat.le_of_ble_eq_true rfl) rfl (metX0_draw n _ _ _ _ _ hC z6 (fun hC7 => ?_))
      show Ev g _ _ 36 _ [.int r2] K ci3 cj4 cr5 _ _ Qr Qx
      refine ev_aload_n dX0_chance_36 rfl ?_
      obtain ⟨r8, z9, h⟩ := Option.bind_eq_some_iff.mp h
      refine ev_getR dX0_chance_37 fX0_31_0 (ck0 hC7) (Or.inl (cl0 hC7)) rfl z9 ?_
      by_cases z10 : K.1 r8 = 1 ∧ r8 < K.2.2
      rotate_left
      · rw [if_neg z10] at h; cases h
      rw [if_pos z10] at h
      refine ev_getI dX0_chance_40 fX0_292_1 z10.1 (Or.inl z10.2) rfl ?_
      refine ev_icmp_ge 82 dX0_chance_43 rfl (fun z11 => ?_) (fun z11 => ?_)
      · rw [if_pos z11] at h
        exact wX0_chance_82 n _ (ih) _ _ _ _ _ _ _ hC7 h hq
      · rw [if_neg z11] at h
        refine ev_aload_n dX0_chance_46 rfl ?_
        obtain ⟨r12, ci13, cj14, cr15, z16, h⟩ := jpb_inv h
        refine ev_zV0 dX0_chance_47 vX0_167_0 (ck0 hC7) (Or.inl (cl0 hC7)) (Nat.le_of_ble_eq_true rfl) (Nat.le_of_ble_eq_true rfl) rfl (metX0_shoals n  _ _ _ _ hC7 z16 (fun hC17 => ?_))
        show Ev g _ _ 50 _ [.int r12] K ci13 cj14 cr15 _ _ Qr Qx
        refine ev_if_le 82 dX0_chance_50 rfl (fun z18 => ?_) (fun z18 => ?_)
        · rw [if_pos z18] at h
          exact wX0_chance_82 n _ (ih) _ _ _ _ _ _ _ hC17 h hq
        · rw [if_neg z18] at h
          refine ev_aload_n dX0_chance_53 rfl ?_
          refine ev_aload_n dX0_chance_54 rfl ?_
          obtain ⟨r19, ci20, cj21, cr22, z23, h⟩ := jpb_inv h
          refine ev_zV0 dX0_chance_55 vX0_167_0 (ck0 hC17) (Or.inl (cl0 hC17)) (Nat.le_of_ble_eq_true rfl) (Nat.le_of_ble_eq_true rfl) rfl (metX0_shoals n  _ _ _ _ hC17 z23 (fun hC24 => ?_))
          show Ev g _ _ 58 _ [.int r19, .ref 0] K ci20 cj21 cr22 _ _ Qr Qx
          obtain ⟨r25, ci26, cj27, cr28, z29, h⟩ := jpb_inv h
          refine ev_zV1 dX0_chance_58 vX0_326_0 (ck0 hC24) (Or.inl (cl0 hC24)) (Nat.le_of_ble_eq_true rfl) (Nat.le_of_ble_eq_true rfl) rfl (metX0_draw n _ _ _ _ _ hC24 z29 (fun hC30 => ?_))
          show Ev g _ _ 61 _ [.int r25] K ci26 cj27 cr28 _ _ Qr Qx
          refine ev_istore (L' := [_, _, _, _, _]) dX0_chance_61 (by decide) rfl ?_
          refine ev_aload_n dX0_chance_63 rfl ?_
          refine ev_aload_n dX0_chance_64 rfl ?_
          refine ev_getR dX0_chance_65 fX0_69_0 (ck0 hC30) (Or.inl (cl0 hC30)) rfl (cq0_9 hC30) ?_
          refine ev_iload dX0_chance_68 rfl ?_
          refine ev_aload_n dX0_chance_70 rfl ?_
          refine ev_bipush (v := (nI 100)) dX0_chance_71 jb100 ?_
          obtain ⟨r31, ci32, cj33, cr34, z35, h⟩ := jpb_inv h
          refine ev_zV1 dX0_chance_73 vX0_326_0 (ck0 hC30) (Or.inl (cl0 hC30)) (Nat.le_of_ble_eq_true rfl) (Nat.le_of_ble_eq_true rfl) rfl (metX0_draw n _ _ _ _ _ hC30 z35 (fun hC36 => ?_))
          show Ev g _ _ 76 _ [.int r31, .int r25, .ref 16, .ref 0] K ci32 cj33 cr34 _ _ Qr Qx
          obtain ⟨r37, ci38, cj39, cr40, z41, h⟩ := jpb_inv h
          refine ev_zV3 dX0_chance_76 vX0_295_0 (ck0 hC36) (Or.inl (cl0 hC36)) (Nat.le_of_ble_eq_true rfl) (Nat.le_of_ble_eq_true rfl) rfl (metX0_drives n _ _ _ _ _ _ _ hC36 z41 (fun hC42 => ?_))
          show Ev g _ _ 79 _ [] K ci38 cj39 cr40 _ _ Qr Qx
          refine ev_iinc (v := (l2 + (nI 1))) (L' := [_, _, _, _, _]) dX0_chance_79 rfl (by rw [ji_1]) (by decide) rfl ?_
          exact ev_mask [true, true, true, true, false] (wX0_chance_82 n _ (ih) _ _ _ _ _ _ _ hC42 h hq)
def fX0_chance (n : Nat) (a0 : Int32) (K : jK) (ci : jI) (cj : jJ) (cr : jR) : Option (jTp Int32) := jpb (fX0_isAhead n a0 (nI 1) (nI 100) K ci cj cr) (fun r1 ci2 cj3 cr4 => if r1 = 0 then jpb (fX0_refuses n (nI 3) K ci2 cj3 cr4) (fun r14 ci15 cj16 cr17 => some (r14, ci15, cj16, cr17)) else jpb (fX0_remembers n  K ci2 cj3 cr4) (fun r8 ci9 cj10 cr11 => fX0_chance_25 n  n a0 (nI 0) (nI 0) K ci9 cj10 cr11))
theorem metX0_chance {g : jG} {d : Nat} {c sl : Nat} {Qr : jQ} {Qx : jX} (n : Nat) (a0 : Int32) (K : jK) (ci : jI) (cj : jJ) (cr : jR) {q} (hC : jCW K cr) (h : fX0_chance n a0 K ci cj cr = some q) (hq : jqp wI K q Qr) : EvM g (d + 549) mX0_chance [.ref 0, .int a0] K ci cj cr c sl Qr Qx := by
  unfold fX0_chance at h
  show Ev g (d + 549) mX0_chance 0 [.ref 0, .int a0, jU, jU, jU] [] K ci cj cr c sl Qr Qx
  refine ev_aload_n dX0_chance_0 rfl ?_
  refine ev_iload_n dX0_chance_1 rfl ?_
  refine ev_iconst (v := (nI 1)) dX0_chance_2 jc1 ?_
  refine ev_bipush (v := (nI 100)) dX0_chance_3 jb100 ?_
  obtain ⟨r1, ci2, cj3, cr4, z5, h⟩ := jpb_inv h
  refine ev_zV3 dX0_chance_5 vX0_261_0 (ck0 hC) (Or.inl (cl0 hC)) (Nat.le_of_ble_eq_true rfl) (Nat.le_of_ble_eq_true rfl) rfl (metX0_isAhead n _ _ _ _ _ _ _ hC z5 (fun hC6 => ?_))
  show Ev g _ _ 8 _ [.int r1] K ci2 cj3 cr4 _ _ Qr Qx
  refine ev_if_ne 17 dX0_chance_8 rfl (fun z7 => ?_) (fun z7 => ?_)
  · rw [if_neg z7] at h
    refine ev_aload_n dX0_chance_17 rfl ?_
    obtain ⟨r8, ci9, cj10, cr11, z12, h⟩ := jpb_inv h
    refine ev_zV0 dX0_chance_18 vX0_315_0 (ck0 hC6) (Or.inl (cl0 hC6)) (Nat.le_of_ble_eq_true rfl) (Nat.le_of_ble_eq_true rfl) rfl (metX0_remembers n  _ _ _ _ hC6 z12 (fun hC13 => ?_))
    show Ev g _ _ 21 _ [] K ci9 cj10 cr11 _ _ Qr Qx
    refine ev_iconst (v := (nI 0)) dX0_chance_21 jc0 ?_
    refine ev_istore_n (L' := [_, _, _, _, _]) dX0_chance_22 (by decide) rfl ?_
    refine ev_iconst (v := (nI 0)) dX0_chance_23 jc0 ?_
    refine ev_istore_n (L' := [_, _, _, _, _]) dX0_chance_24 (by decide) rfl ?_
    exact wX0_chance_25 n   n _ _ _ _ _ _ _ hC13 h hq
  · rw [if_pos z7] at h
    refine ev_aload_n dX0_chance_11 rfl ?_
    refine ev_iconst (v := (nI 3)) dX0_chance_12 jc3 ?_
    obtain ⟨r14, ci15, cj16, cr17, z18, h⟩ := jpb_inv h
    refine ev_zV1 dX0_chance_13 vX0_109_0 (ck0 hC6) (Or.inl (cl0 hC6)) (Nat.le_of_ble_eq_true rfl) (Nat.le_of_ble_eq_true rfl) rfl (metX0_refuses n _ _ _ _ _ hC6 z18 (fun hC19 => ?_))
    show Ev g _ _ 16 _ [.int r14] K ci15 cj16 cr17 _ _ Qr Qx
    cases h
    exact ev_iret dX0_chance_16 rfl rfl (hq hC19)
def fX22_meets_139 (n : Nat) (l0 : Nat) (t0 : Int64) (t1 : Nat) (K : jK) (ci : jI) (cj : jJ) (cr : jR) : Option (jTp Unit) := if K.1 t1 = 19 ∧ t1 < K.2.2 then if K.1 l0 = 19 ∧ l0 < K.2.2 then some ((), (ju ci l0 4 (nI 1)), (ju cj t1 3 t0), cr) else none else none
theorem wX22_meets_139 {g : jG} {d : Nat} {c sl : Nat} {Qr : jQ} {Qx : jX} (n : Nat) (l0 : Nat) (t0 : Int64) (t1 : Nat) (K : jK) (ci : jI) (cj : jJ) (cr : jR) {q} (hC : jCW K cr) (h : fX22_meets_139 n  l0 t0 t1 K ci cj cr = some q) (hq : jqp wV K q Qr) : Ev g (d + 541) mX22_meets 139 [.ref l0, jU, jU, jU, jU] [.long t0, .ref t1] K ci cj cr c sl Qr Qx := by
  unfold fX22_meets_139 at h
  by_cases z1 : K.1 t1 = 19 ∧ t1 < K.2.2
  rotate_left
  · rw [if_neg z1] at h; cases h
  rw [if_pos z1] at h
  refine ev_putJ dX22_meets_139 (pX22_11_19 _) z1.1 z1.2 rfl ?_
  refine ev_aload_n dX22_meets_142 rfl ?_
  refine ev_iconst (v := (nI 1)) dX22_meets_143 jc1 ?_
  by_cases z2 : K.1 l0 = 19 ∧ l0 < K.2.2
  rotate_left
  · rw [if_neg z2] at h; cases h
  rw [if_pos z2] at h
  refine ev_putI dX22_meets_144 (pX22_41_19 _) z2.1 z2.2 rfl (by decide) (by decide) ?_
  cases h
  exact ev_ret dX22_meets_147 rfl (hq hC)
def fX22_meets_65 (n : Nat) (l0 : Nat) (t0 : Int64) (t1 : Nat) (K : jK) (ci : jI) (cj : jJ) (cr : jR) : Option (jTp Unit) := if K.1 t1 = 19 ∧ t1 < K.2.2 then if K.1 l0 = 19 ∧ l0 < K.2.2 then some ((), (ju ci l0 4 (nI 1)), (ju cj t1 3 t0), cr) else none else none
theorem wX22_meets_65 {g : jG} {d : Nat} {c sl : Nat} {Qr : jQ} {Qx : jX} (n : Nat) (l0 : Nat) (t0 : Int64) (t1 : Nat) (K : jK) (ci : jI) (cj : jJ) (cr : jR) {q} (hC : jCW K cr) (h : fX22_meets_65 n  l0 t0 t1 K ci cj cr = some q) (hq : jqp wV K q Qr) : Ev g (d + 541) mX22_meets 65 [.ref l0, jU, jU, jU, jU] [.long t0, .ref t1] K ci cj cr c sl Qr Qx := by
  unfold fX22_meets_65 at h
  by_cases z1 : K.1 t1 = 19 ∧ t1 < K.2.2
  rotate_left
  · rw [if_neg z1] at h; cases h
  rw [if_pos z1] at h
  refine ev_putJ dX22_meets_65 (pX22_11_19 _) z1.1 z1.2 rfl ?_
  refine ev_aload_n dX22_meets_68 rfl ?_
  refine ev_iconst (v := (nI 1)) dX22_meets_69 jc1 ?_
  by_cases z2 : K.1 l0 = 19 ∧ l0 < K.2.2
  rotate_left
  · rw [if_neg z2] at h; cases h
  rw [if_pos z2] at h
  refine ev_putI dX22_meets_70 (pX22_41_19 _) z2.1 z2.2 rfl (by decide) (by decide) ?_
  cases h
  exact ev_ret dX22_meets_73 rfl (hq hC)
def fX22_meets_63 (n : Nat) (l0 : Nat) (l1 : Int32) (t0 : Nat) (K : jK) (ci : jI) (cj : jJ) (cr : jR) : Option (jTp Unit) := fX22_meets_65 n  l0 ((l1).toInt64) t0 K ci cj cr
theorem wX22_meets_63 {g : jG} {d : Nat} {c sl : Nat} {Qr : jQ} {Qx : jX} (n : Nat) (l0 : Nat) (l1 : Int32) (t0 : Nat) (K : jK) (ci : jI) (cj : jJ) (cr : jR) {q} (hC : jCW K cr) (h : fX22_meets_63 n  l0 l1 t0 K ci cj cr = some q) (hq : jqp wV K q Qr) : Ev g (d + 541) mX22_meets 63 [.ref l0, .int l1, jU, jU, jU] [.ref t0] K ci cj cr c sl Qr Qx := by
  unfold fX22_meets_63 at h
  refine ev_iload_n dX22_meets_63 rfl ?_
  refine ev_i2l dX22_meets_64 ?_
  exact ev_mask [true, false, false, false, false] (wX22_meets_65 n   _ _ _ _ _ _ _ hC h hq)
def fX22_meets (n : Nat) (ah : Nat) (a0 : Int32) (a1 : Nat) (K : jK) (ci : jI) (cj : jJ) (cr : jR) : Option (jTp Unit) := if K.1 ah = 19 ∧ ah < K.2.2 then if (nI 3) ≤ (ci ah 0) then Option.bind (cr ah 2) (fun r3 => jpb (fat n r3 a1 K ci cj cr) (fun r5 ci6 cj7 cr8 => if (ci6 ah 4) = 0 then fX22_meets_139 n  ah r5 ah K ci6 cj7 cr8 else if (ci6 ah 0) = (nI 3) then fX22_meets_139 n  ah ((cj7 ah 3) + r5) ah K ci6 cj7 cr8 else if (ci6 ah 0) = (nI 4) then jpb (fJ12_max_2 n (cj7 ah 3) r5 K ci6 cj7 cr8) (fun r20 ci21 cj22 cr23 => fX22_meets_139 n  ah r20 ah K ci21 cj22 cr23) else jpb (fJ12_min_2 n (cj7 ah 3) r5 K ci6 cj7 cr8) (fun r14 ci15 cj16 cr17 => fX22_meets_139 n  ah r14 ah K ci15 cj16 cr17))) else Option.bind (cr ah 1) (fun r26 => jpb (fho n r26 a1 K ci cj cr) (fun r28 ci29 cj30 cr31 => if r28 = 0 then some ((), ci29, cj30, cr31) else if (ci29 ah 0) = (nI 2) then jpb (fJ12_max_2 n (lN 0) (cj30 ah 3) K ci29 cj30 cr31) (fun r38 ci39 cj40 cr41 => fX22_meets_65 n  ah (r38 + (lN 1)) ah K ci39 cj40 cr41) else if (ci29 ah 0) = 0 then if (ci29 ah 4) = 0 then fX22_meets_63 n  ah a0 ah K ci29 cj30 cr31 else fX22_meets_65 n  ah (cj30 ah 3) ah K ci29 cj30 cr31 else fX22_meets_63 n  ah a0 ah K ci29 cj30 cr31)) else none
theorem metX22_meets {g : jG} {d : Nat} {c sl : Nat} {Qr : jQ} {Qx : jX} (n : Nat) (ah : Nat) (a0 : Int32) (a1 : Nat) (K : jK) (ci : jI) (cj : jJ) (cr : jR) {q} (hC : jCW K cr) (h : fX22_meets n ah a0 a1 K ci cj cr = some q) (hq : jqp wV K q Qr) : EvM g (d + 541) mX22_meets [.ref ah, .int a0, .ref a1] K ci cj cr c sl Qr Qx := by
  unfold fX22_meets at h
  show Ev g (d + 541) mX22_meets 0 [.ref ah, .int a0, .ref a1, jU, jU] [] K ci cj cr c sl Qr Qx
  refine ev_aload_n dX22_meets_0 rfl ?_
  by_cases z1 : K.1 ah = 19 ∧ ah < K.2.2
  rotate_left
  · rw [if_neg z1] at h; cases h
  rw [if_pos z1] at h
  refine ev_getI dX22_meets_1 fX22_17_19 z1.1 (Or.inl z1.2) rfl ?_
  refine ev_iconst (v := (nI 3)) dX22_meets_4 jc3 ?_
  refine ev_icmp_ge 74 dX22_meets_5 rfl (fun z2 => ?_) (fun z2 => ?_)
  · rw [if_pos z2] at h
    refine ev_aload_n dX22_meets_74 rfl ?_
    obtain ⟨r3, z4, h⟩ := Option.bind_eq_some_iff.mp h
    refine ev_getR dX22_meets_75 fX22_25_19 z1.1 (Or.inl z1.2) rfl z4 ?_
    refine ev_aload_n dX22_meets_78 rfl ?_
    obtain ⟨r5, ci6, cj7, cr8, z9, h⟩ := jpb_inv h
    refine ev_vcall dX22_meets_79 yaX22_45 vatL tvat hC z9 (Nat.le_of_ble_eq_true rfl) rfl (fun hC10 => ?_)
    show Ev g _ _ 82 _ [.long r5] K ci6 cj7 cr8 _ _ Qr Qx
    refine ev_lstore_n (L' := [_, _, _, _, _]) dX22_meets_82 (by decide) rfl ?_
    refine ev_aload_n dX22_meets_83 rfl ?_
    refine ev_aload_n dX22_meets_84 rfl ?_
    refine ev_getI dX22_meets_85 fX22_41_19 z1.1 (Or.inl z1.2) rfl ?_
    refine ev_if_ne 95 dX22_meets_88 rfl (fun z11 => ?_) (fun z11 => ?_)
    · rw [if_neg z11] at h
      refine ev_aload_n dX22_meets_95 rfl ?_
      refine ev_getI dX22_meets_96 fX22_17_19 z1.1 (Or.inl z1.2) rfl ?_
      refine ev_iconst (v := (nI 3)) dX22_meets_99 jc3 ?_
      refine ev_icmp_ne 112 dX22_meets_100 rfl (fun z12 => ?_) (fun z12 => ?_)
      · rw [if_neg z12] at h
        refine ev_aload_n dX22_meets_112 rfl ?_
        refine ev_getI dX22_meets_113 fX22_17_19 z1.1 (Or.inl z1.2) rfl ?_
        refine ev_iconst (v := (nI 4)) dX22_meets_116 jc4 ?_
        refine ev_icmp_ne 131 dX22_meets_117 rfl (fun z13 => ?_) (fun z13 => ?_)
        · rw [if_neg z13] at h
          refine ev_aload_n dX22_meets_131 rfl ?_
          refine ev_getJ dX22_meets_132 fX22_11_19 z1.1 (Or.inl z1.2) rfl ?_
          refine ev_lload_n dX22_meets_135 rfl ?_
          obtain ⟨r14, ci15, cj16, cr17, z18, h⟩ := jpb_inv h
          refine ev_zS2 dX22_meets_136 sX22_51 (Nat.le_of_ble_eq_true rfl) (Nat.le_of_ble_eq_true rfl) rfl (metJ12_min_2 n _ _ _ _ _ _ hC10 z18 (fun hC19 => ?_))
          show Ev g _ _ 139 _ [.long r14, .ref ah] K ci15 cj16 cr17 _ _ Qr Qx
          exact ev_mask [true, false, false, false, false] (wX22_meets_139 n   _ _ _ _ _ _ _ hC19 h hq)
        · rw [if_pos z13] at h
          refine ev_aload_n dX22_meets_120 rfl ?_
          refine ev_getJ dX22_meets_121 fX22_11_19 z1.1 (Or.inl z1.2) rfl ?_
          refine ev_lload_n dX22_meets_124 rfl ?_
          obtain ⟨r20, ci21, cj22, cr23, z24, h⟩ := jpb_inv h
          refine ev_zS2 dX22_meets_125 sX22_35 (Nat.le_of_ble_eq_true rfl) (Nat.le_of_ble_eq_true rfl) rfl (metJ12_max_2 n _ _ _ _ _ _ hC10 z24 (fun hC25 => ?_))
          show Ev g _ _ 128 _ [.long r20, .ref ah] K ci21 cj22 cr23 _ _ Qr Qx
          refine ev_goto 139 dX22_meets_128 rfl ?_
          exact ev_mask [true, false, false, false, false] (wX22_meets_139 n   _ _ _ _ _ _ _ hC25 h hq)
      · rw [if_pos z12] at h
        refine ev_aload_n dX22_meets_103 rfl ?_
        refine ev_getJ dX22_meets_104 fX22_11_19 z1.1 (Or.inl z1.2) rfl ?_
        refine ev_lload_n dX22_meets_107 rfl ?_
        refine ev_ladd dX22_meets_108 ?_
        refine ev_goto 139 dX22_meets_109 rfl ?_
        exact ev_mask [true, false, false, false, false] (wX22_meets_139 n   _ _ _ _ _ _ _ hC10 h hq)
    · rw [if_pos z11] at h
      refine ev_lload_n dX22_meets_91 rfl ?_
      refine ev_goto 139 dX22_meets_92 rfl ?_
      exact ev_mask [true, false, false, false, false] (wX22_meets_139 n   _ _ _ _ _ _ _ hC10 h hq)
  · rw [if_neg z2] at h
    refine ev_aload_n dX22_meets_8 rfl ?_
    obtain ⟨r26, z27, h⟩ := Option.bind_eq_some_iff.mp h
    refine ev_getR dX22_meets_9 fX22_21_19 z1.1 (Or.inl z1.2) rfl z27 ?_
    refine ev_aload_n dX22_meets_12 rfl ?_
    obtain ⟨r28, ci29, cj30, cr31, z32, h⟩ := jpb_inv h
    refine ev_vcall dX22_meets_13 yhX22_29 vhoL tvho hC z32 (Nat.le_of_ble_eq_true rfl) rfl (fun hC33 => ?_)
    show Ev g _ _ 16 _ [.int r28] K ci29 cj30 cr31 _ _ Qr Qx
    refine ev_if_ne 20 dX22_meets_16 rfl (fun z34 => ?_) (fun z34 => ?_)
    · rw [if_neg z34] at h
      refine ev_aload_n dX22_meets_20 rfl ?_
      refine ev_aload_n dX22_meets_21 rfl ?_
      refine ev_getI dX22_meets_22 fX22_17_19 z1.1 (Or.inl z1.2) rfl ?_
      refine ev_iconst (v := (nI 2)) dX22_meets_25 jc2 ?_
      refine ev_icmp_ne 42 dX22_meets_26 rfl (fun z35 => ?_) (fun z35 => ?_)
      · rw [if_neg z35] at h
        refine ev_aload_n dX22_meets_42 rfl ?_
        refine ev_getI dX22_meets_43 fX22_17_19 z1.1 (Or.inl z1.2) rfl ?_
        refine ev_if_ne 63 dX22_meets_46 rfl (fun z36 => ?_) (fun z36 => ?_)
        · rw [if_neg z36] at h
          exact ev_mask [true, true, false, false, false] (wX22_meets_63 n   _ _ _ _ _ _ _ hC33 h hq)
        · rw [if_pos z36] at h
          refine ev_aload_n dX22_meets_49 rfl ?_
          refine ev_getI dX22_meets_50 fX22_41_19 z1.1 (Or.inl z1.2) rfl ?_
          refine ev_if_eq 63 dX22_meets_53 rfl (fun z37 => ?_) (fun z37 => ?_)
          · rw [if_pos z37] at h
            exact ev_mask [true, true, false, false, false] (wX22_meets_63 n   _ _ _ _ _ _ _ hC33 h hq)
          · rw [if_neg z37] at h
            refine ev_aload_n dX22_meets_56 rfl ?_
            refine ev_getJ dX22_meets_57 fX22_11_19 z1.1 (Or.inl z1.2) rfl ?_
            refine ev_goto 65 dX22_meets_60 rfl ?_
            exact ev_mask [true, false, false, false, false] (wX22_meets_65 n   _ _ _ _ _ _ _ hC33 h hq)
      · rw [if_pos z35] at h
        refine ev_lconst (v := lN 0) dX22_meets_29 rfl ?_
        refine ev_aload_n dX22_meets_30 rfl ?_
        refine ev_getJ dX22_meets_31 fX22_11_19 z1.1 (Or.inl z1.2) rfl ?_
        obtain ⟨r38, ci39, cj40, cr41, z42, h⟩ := jpb_inv h
        refine ev_zS2 dX22_meets_34 sX22_35 (Nat.le_of_ble_eq_true rfl) (Nat.le_of_ble_eq_true rfl) rfl (metJ12_max_2 n _ _ _ _ _ _ hC33 z42 (fun hC43 => ?_))
        show Ev g _ _ 37 _ [.long r38, .ref ah] K ci39 cj40 cr41 _ _ Qr Qx
        refine ev_lconst (v := lN 1) dX22_meets_37 rfl ?_
        refine ev_ladd dX22_meets_38 ?_
        refine ev_goto 65 dX22_meets_39 rfl ?_
        exact ev_mask [true, false, false, false, false] (wX22_meets_65 n   _ _ _ _ _ _ _ hC43 h hq)
    · rw [if_pos z34] at h
      cases h
      exact ev_ret dX22_meets_19 rfl (hq hC33)
def fX2_question_82 (n : Nat) (t0 : Nat) (K : jK) (ci : jI) (cj : jJ) (cr : jR) : Option (jT Nat) := jpb (fX2_here n  K ci cj cr) (fun r1 ci2 cj3 cr4 => if r1 = (-1) then some (some t0, K, ci2, cj3, cr4, 0, 0) else jpb (fX2_wrong n (nI 1) (ci2 9 2) K ci2 cj3 cr4) (fun r8 ci9 cj10 cr11 => if r8 = 10 then some (none, K, ci9, cj10, cr11, 0, 0) else none))
theorem wX2_question_82 {g : jG} {d : Nat} {Qr : jQ} {Qx : jX} (n : Nat) (t0 : Nat) (K : jK) (ci : jI) (cj : jJ) (cr : jR) {q} (hC : jCW K cr) (h : fX2_question_82 n  t0 K ci cj cr = some q) (hq : jqx wR q Qr Qx) : Ev g (d + 126) mX2_question 82 [.ref 9, jU, jU, jU] [.ref t0] K ci cj cr q.2.2.2.2.2.1 q.2.2.2.2.2.2 Qr Qx := by
  unfold fX2_question_82 at h
  refine ev_astore_n (L' := [_, _, _, _]) dX2_question_82 (by decide) rfl ?_
  refine ev_aload_n dX2_question_83 rfl ?_
  obtain ⟨r1, ci2, cj3, cr4, z5, h⟩ := jpb_inv h
  refine ev_zV0 dX2_question_84 vX2_43_2 (ck9 hC) (Or.inl (cl9 hC)) (Nat.le_of_ble_eq_true rfl) (Nat.le_of_ble_eq_true rfl) rfl (metX2_here n  _ _ _ _ hC z5 (fun hC6 => ?_))
  show Ev g _ _ 87 _ [.int r1] K ci2 cj3 cr4 _ _ Qr Qx
  refine ev_iconst (v := (-1)) dX2_question_87 jcm1 ?_
  refine ev_icmp_eq 101 dX2_question_88 rfl (fun z7 => ?_) (fun z7 => ?_)
  · rw [if_pos z7] at h
    refine ev_aload_n dX2_question_101 rfl ?_
    cases h
    exact ev_aret dX2_question_102 rfl rfl (hq hC6)
  · rw [if_neg z7] at h
    refine ev_aload_n dX2_question_91 rfl ?_
    refine ev_iconst (v := (nI 1)) dX2_question_92 jc1 ?_
    refine ev_aload_n dX2_question_93 rfl ?_
    refine ev_getI dX2_question_94 fX2_36_2 (ck9 hC6) (Or.inl (cl9 hC6)) rfl ?_
    obtain ⟨r8, ci9, cj10, cr11, z12, h⟩ := jpb_inv h
    refine ev_zV2 dX2_question_97 vX2_47_2 (ck9 hC6) (Or.inl (cl9 hC6)) (Nat.le_of_ble_eq_true rfl) (Nat.le_of_ble_eq_true rfl) rfl (metX2_wrong n _ _ _ _ _ _ hC6 z12 (fun hC13 => ?_))
    show Ev g _ _ 100 _ [.ref r8] K ci9 cj10 cr11 _ _ Qr Qx
    by_cases z14 : r8 = 10
    rotate_left
    · rw [if_neg z14] at h; cases h
    rw [if_pos z14] at h
    subst z14
    cases h
    exact ev_athrow dX2_question_100 (cl10 hC13) (ck10 hC13) rfl (hq hC13)
def fX2_question (n : Nat) (a0 : Int32) (K : jK) (ci : jI) (cj : jJ) (cr : jR) : Option (jT Nat) := jxb (fX2_word n  K (ju (ju (ju (ju ci 9 1 a0) 9 2 (nI 0)) 9 4 (nI 0)) 9 5 (nI 1874)) cj cr) (fun r1 K2 ci3 cj4 cr5 => jpb (fX0_find n r1 1000003 K2 ci3 cj4 cr5) (fun r8 ci9 cj10 cr11 => if r8 = (-1) then jpb (fX2_wrong n (nI 1) (ci9 9 3) K2 ci9 cj10 cr11) (fun r48 ci49 cj50 cr51 => if r48 = 10 then some (none, K2, ci49, cj50, cr51, 0, 0) else none) else if (nI 3) ≤ r8 then if K2.2.2 < 1000000 then jal (jfn 19) (jxb (fX2_sum n (fsum n) (fatom n)  (jnK K2 19 0) ci9 cj10 cr11) (fun r19 K20 ci21 cj22 cr23 => jpb (fX22_init n K2.2.2 r8 none (some r19) K20 ci21 cj22 cr23) (fun r26 ci27 cj28 cr29 => fX2_question_82 n  K2.2.2 K20 ci27 cj28 cr29))) else none else if K2.2.2 < 1000000 then jal (jfn 19) (jxb (fX2_test n (fsum n) (fatom n) (ftest n) (ffact n)  (jnK K2 19 0) ci9 cj10 cr11) (fun r35 K36 ci37 cj38 cr39 => jpb (fX22_init n K2.2.2 r8 (some r35) none K36 ci37 cj38 cr39) (fun r42 ci43 cj44 cr45 => fX2_question_82 n  K2.2.2 K36 ci43 cj44 cr45))) else none))
theorem metX2_question {g : jG} {d : Nat} {Qr : jQ} {Qx : jX} (n : Nat) (a0 : Int32) (K : jK) (ci : jI) (cj : jJ) (cr : jR) {q} (hC : jCW K cr) (h : fX2_question n a0 K ci cj cr = some q) (hq : jqx wR q Qr Qx) : EvM g (d + 126) mX2_question [.ref 9, .int a0] K ci cj cr q.2.2.2.2.2.1 q.2.2.2.2.2.2 Qr Qx := by
  unfold fX2_question at h
  show Ev g (d + 126) mX2_question 0 [.ref 9, .int a0, jU, jU] [] K ci cj cr q.2.2.2.2.2.1 q.2.2.2.2.2.2 Qr Qx
  refine ev_aload_n dX2_question_0 rfl ?_
  refine ev_iload_n dX2_question_1 rfl ?_
  refine ev_putI dX2_question_2 (pX2_29_2 _) (ck9 hC) (cl9 hC) rfl rfl rfl ?_
  refine ev_aload_n dX2_question_5 rfl ?_
  refine ev_iconst (v := (nI 0)) dX2_question_6 jc0 ?_
  refine ev_putI dX2_question_7 (pX2_36_2 _) (ck9 hC) (cl9 hC) rfl rfl rfl ?_
  refine ev_aload_n dX2_question_10 rfl ?_
  refine ev_iconst (v := (nI 0)) dX2_question_11 jc0 ?_
  refine ev_putI dX2_question_12 (pX2_114_2 _) (ck9 hC) (cl9 hC) rfl rfl rfl ?_
  refine ev_aload_n dX2_question_15 rfl ?_
  refine ev_sipush (v := (nI 1874)) dX2_question_16 js1874 ?_
  refine ev_putI dX2_question_19 (pX2_206_2 _) (ck9 hC) (cl9 hC) rfl rfl rfl ?_
  refine ev_aload_n dX2_question_22 rfl ?_
  refine jx_inv (wf := wR) (fun c1 s1 c sl z => ev_invV0 dX2_question_23 vX2_70_2 (ck9 hC) (Or.inl (cl9 hC)) (Nat.le_of_ble_eq_true rfl) (Nat.le_of_ble_eq_true rfl) rfl z) h hq (fun q Qr' z zq => metX2_word n  _ _ _ _ hC z zq) (fun r1 K2 ci3 cj4 cr5 w6 h hC7 hq => ?_)
  show Ev g _ _ 26 _ [.ref r1] K2 ci3 cj4 cr5 _ _ Qr Qx
  refine ev_getsN ("MarriageHerring", "TOLD_OF", "[Ljava/lang/String;", .ref 1000003) dX2_question_26 q1624 (by decide +kernel) ?_
  obtain ⟨r8, ci9, cj10, cr11, z12, h⟩ := jpb_inv h
  refine ev_zS2 dX2_question_29 sX2_82 (Nat.le_of_ble_eq_true rfl) (Nat.le_of_ble_eq_true rfl) rfl (metX0_find n _ _ _ _ _ _ hC7 z12 (fun hC13 => ?_))
  show Ev g _ _ 32 _ [.int r8] K2 ci9 cj10 cr11 _ _ Qr Qx
  refine ev_istore_n (L' := [_, _, _, _]) dX2_question_32 (by decide) rfl ?_
  refine ev_iload_n dX2_question_33 rfl ?_
  refine ev_iconst (v := (-1)) dX2_question_34 jcm1 ?_
  refine ev_icmp_ne 48 dX2_question_35 rfl (fun z14 => ?_) (fun z14 => ?_)
  · rw [if_neg z14] at h
    refine ev_iload_n dX2_question_48 rfl ?_
    refine ev_iconst (v := (nI 3)) dX2_question_49 jc3 ?_
    refine ev_icmp_ge 69 dX2_question_50 rfl (fun z15 => ?_) (fun z15 => ?_)
    · rw [if_pos z15] at h
      by_cases z16 : K2.2.2 < 1000000
      rotate_left
      · rw [if_neg z16] at h; cases h
      rw [if_pos z16] at h
      refine jx_new (fun c sl z => ev_new dX2_question_69 nX2_338 z16 z) h hq (fun w17 h hq => ?_)
      have hC18 := jCW.new hC13 19 0
      show Ev g _ _ 72 _ [.ref K2.2.2] (jnK K2 19 0) ci9 cj10 cr11 _ _ Qr Qx
      refine ev_dup dX2_question_72 rfl ?_
      refine ev_iload_n dX2_question_73 rfl ?_
      refine ev_null dX2_question_74 ?_
      refine ev_aload_n dX2_question_75 rfl ?_
      refine jx_inv (wf := wR) (fun c1 s1 c sl z => ev_invV0 dX2_question_76 vX2_209_2 (ck9 hC18) (Or.inl (cl9 hC18)) (Nat.le_of_ble_eq_true rfl) (Nat.le_of_ble_eq_true rfl) rfl z) h hq (fun q Qr' z zq => metX2_sum n _ _ tsum tatom  _ _ _ _ hC18 z zq) (fun r19 K20 ci21 cj22 cr23 w24 h hC25 hq => ?_)
      show Ev g _ _ 79 _ [.ref r19, .null, .int r8, .ref K2.2.2, .ref K2.2.2] K20 ci21 cj22 cr23 _ _ Qr Qx
      obtain ⟨r26, ci27, cj28, cr29, z30, h⟩ := jpb_inv h
      refine ev_zI3 dX2_question_79 iX2_340 (Nat.le_of_ble_eq_true rfl) (Nat.le_of_ble_eq_true rfl) rfl (metX22_init n _ _ _ _ _ _ _ _ hC25 z30 (fun hC31 => ?_))
      show Ev g _ _ 82 _ [.ref K2.2.2] K20 ci27 cj28 cr29 _ _ Qr Qx
      exact ev_mask [true, false, false, false] (wX2_question_82 n   _ _ _ _ _ hC31 h hq)
    · rw [if_neg z15] at h
      by_cases z32 : K2.2.2 < 1000000
      rotate_left
      · rw [if_neg z32] at h; cases h
      rw [if_pos z32] at h
      refine jx_new (fun c sl z => ev_new dX2_question_53 nX2_338 z32 z) h hq (fun w33 h hq => ?_)
      have hC34 := jCW.new hC13 19 0
      show Ev g _ _ 56 _ [.ref K2.2.2] (jnK K2 19 0) ci9 cj10 cr11 _ _ Qr Qx
      refine ev_dup dX2_question_56 rfl ?_
      refine ev_iload_n dX2_question_57 rfl ?_
      refine ev_aload_n dX2_question_58 rfl ?_
      refine jx_inv (wf := wR) (fun c1 s1 c sl z => ev_invV0 dX2_question_59 vX2_235_2 (ck9 hC34) (Or.inl (cl9 hC34)) (Nat.le_of_ble_eq_true rfl) (Nat.le_of_ble_eq_true rfl) rfl z) h hq (fun q Qr' z zq => metX2_test n _ _ _ _ tsum tatom ttest tfact  _ _ _ _ hC34 z zq) (fun r35 K36 ci37 cj38 cr39 w40 h hC41 hq => ?_)
      show Ev g _ _ 62 _ [.ref r35, .int r8, .ref K2.2.2, .ref K2.2.2] K36 ci37 cj38 cr39 _ _ Qr Qx
      refine ev_null dX2_question_62 ?_
      obtain ⟨r42, ci43, cj44, cr45, z46, h⟩ := jpb_inv h
      refine ev_zI3 dX2_question_63 iX2_340 (Nat.le_of_ble_eq_true rfl) (Nat.le_of_ble_eq_true rfl) rfl (metX22_init n _ _ _ _ _ _ _ _ hC41 z46 (fun hC47 => ?_))
      show Ev g _ _ 66 _ [.ref K2.2.2] K36 ci43 cj44 cr45 _ _ Qr Qx
      refine ev_goto 82 dX2_question_66 rfl ?_
      exact ev_mask [true, false, false, false] (wX2_question_82 n   _ _ _ _ _ hC47 h hq)
  · rw [if_pos z14] at h
    refine ev_aload_n dX2_question_38 rfl ?_
    refine ev_iconst (v := (nI 1)) dX2_question_39 jc1 ?_
    refine ev_aload_n dX2_question_40 rfl ?_
    refine ev_getI dX2_question_41 fX2_61_2 (ck9 hC13) (Or.inl (cl9 hC13)) rfl ?_
    obtain ⟨r48, ci49, cj50, cr51, z52, h⟩ := jpb_inv h
    refine ev_zV2 dX2_question_44 vX2_47_2 (ck9 hC13) (Or.inl (cl9 hC13)) (Nat.le_of_ble_eq_true rfl) (Nat.le_of_ble_eq_true rfl) rfl (metX2_wrong n _ _ _ _ _ _ hC13 z52 (fun hC53 => ?_))
    show Ev g _ _ 47 _ [.ref r48] K2 ci49 cj50 cr51 _ _ Qr Qx
    by_cases z54 : r48 = 10
    rotate_left
    · rw [if_neg z54] at h; cases h
    rw [if_pos z54] at h
    subst z54
    cases h
    exact ev_athrow dX2_question_47 (cl10 hC53) (ck10 hC53) rfl (hq hC53)
def fX0_ask_50 (n : Nat) : Nat → Nat → Int32 → jK → jI → jJ → jR → Option (jT Int64)
  | 0, _, _, _, _, _, _ => none
  | k + 1, l2, l3, K, ci, cj, cr => jpb (fX0_pairs n  K ci cj cr) (fun r1 ci2 cj3 cr4 => if r1 ≤ l3 then if K.1 l2 = 19 ∧ l2 < K.2.2 then jpb (fX22_answer n l2 K ci2 cj3 cr4) (fun r9 ci10 cj11 cr12 => some (some r9, K, ci10, cj11, cr12, 0, 0)) else none else jpb (fX0_pairOf n l3 K ci2 cj3 cr4) (fun r15 ci16 cj17 cr18 => if K.1 r15 = 8 ∧ r15 < K.2.2 then if jok (ci16 r15 1) 6 then if jok (nI 1) 11 then if jok (nI 4) 11 then if jok l3 10 then if jok (nI 6) 11 then if jok l3 10 then if jok (nI 8) 11 then if jok (nI 9) 11 then jpb (fX0_pairOf n l3 K ci16 (ju (ju (ju (ju (ju cj17 14 ((nI 1)).toNatClampNeg (((ci16 (16 + 4) ((ci16 r15 1)).toNatClampNeg)).toInt64)) 14 ((nI 4)).toNatClampNeg (((ci16 16 0)).toInt64)) 14 ((nI 6)).toNatClampNeg (((ci16 (16 + 8) (l3).toNatClampNeg)).toInt64)) 14 ((nI 8)).toNatClampNeg (((ci16 (16 + 10) (l3).toNatClampNeg)).toInt64)) 14 ((nI 9)).toNatClampNeg ((l3).toInt64)) cr18) (fun r30 ci31 cj32 cr33 => if K.1 r30 = 8 ∧ r30 < K.2.2 then if jok (nI 10) 11 then if K.1 l2 = 19 ∧ l2 < K.2.2 then jpb (fX22_meets n l2 l3 13 K ci31 (ju cj32 14 ((nI 10)).toNatClampNeg (((ci31 r30 1)).toInt64)) cr33) (fun r39 ci40 cj41 cr42 => fX0_ask_50 n  k l2 (l3 + (nI 1)) K ci40 cj41 cr42) else none else none else none) else none else none else none else none else none else none else none else none else none))
theorem wX0_ask_50 {g : jG} {d : Nat} {Qr : jQ} {Qx : jX} (n : Nat) : ∀ (k : Nat) (l2 : Nat) (l3 : Int32) (K : jK) (ci : jI) (cj : jJ) (cr : jR) {q}, jCW K cr → fX0_ask_50 n  k l2 l3 K ci cj cr = some q → jqx wJ q Qr Qx → Ev g (d + 542) mX0_ask 50 [.ref 0, jU, .ref l2, .int l3] [] K ci cj cr q.2.2.2.2.2.1 q.2.2.2.2.2.2 Qr Qx := by
  intro k
  induction k with
  | zero =>
    intro l2 l3 K ci cj cr q hC h hq
    rw [fX0_ask_50.eq_1] at h; cases h
  | succ k ih =>
    intro l2 l3 K ci cj cr q hC h hq
    rw [fX0_ask_50.eq_2] at h
    refine ev_iload_n dX0_ask_50 rfl ?_
    refine ev_aload_n dX0_ask_51 rfl ?_
    obtain ⟨r1, ci2, cj3, cr4, z5, h⟩ := jpb_inv h
    refine ev_hV0 dX0_ask_52 vX0_165_0 (ck0 hC) (Or.inl (cl0 hC)) (Nat.le_of_ble_eq_true rfl) (Nat.le_of_ble_eq_true rfl) (metX0_pairs n  _ _ _ _ hC z5 (fun hC6 => ?_))
    show Ev g _ _ 55 _ [.int r1, .int l3] K ci2 cj3 cr4 _ _ Qr Qx
    refine ev_icmp_ge 187 dX0_ask_55 rfl (fun z7 => ?_) (fun z7 => ?_)
    · rw [if_pos z7] at h
      refine ev_aload_n dX0_ask_187 rfl ?_
      by_cases z8 : K.1 l2 = 19 ∧ l2 < K.2.2
      rotate_left
      · rw [if_neg z8] at h; cases h
      rw [if_pos z8] at h
      obtain ⟨r9, ci10, cj11, cr12, z13, h⟩ := jpb_inv h
      refine ev_hV0 dX0_ask_188 vX0_343_19 z8.1 (Or.inl z8.2) (Nat.le_of_ble_eq_true rfl) (Nat.le_of_ble_eq_true rfl) (metX22_answer n _ _ _ _ _ hC6 z13 (fun hC14 => ?_))
      show Ev g _ _ 191 _ [.long r9] K ci10 cj11 cr12 _ _ Qr Qx
      cases h
      exact ev_lret dX0_ask_191 rfl (hq hC14)
    · rw [if_neg z7] at h
      refine ev_aload_n dX0_ask_58 rfl ?_
      refine ev_getR dX0_ask_59 fX0_59_0 (ck0 hC6) (Or.inl (cl0 hC6)) rfl (cq0_7 hC6) ?_
      refine ev_getR dX0_ask_62 fX0_333_4 (ck13 hC6) (Or.inl (cl13 hC6)) rfl (cq13_0 hC6) ?_
      refine ev_iconst (v := (nI 1)) dX0_ask_65 jc1 ?_
      refine ev_aload_n dX0_ask_66 rfl ?_
      refine ev_getR dX0_ask_67 fX0_69_0 (ck0 hC6) (Or.inl (cl0 hC6)) rfl (cq0_9 hC6) ?_
      refine ev_getR dX0_ask_70 fX0_214_5 (sk0 hC6 is16) (Or.inl (sl0 hC6 is16)) rfl (sr4 hC6 is16) ?_
      refine ev_aload_n dX0_ask_73 rfl ?_
      refine ev_iload_n dX0_ask_74 rfl ?_
      obtain ⟨r15, ci16, cj17, cr18, z19, h⟩ := jpb_inv h
      refine ev_hV1 dX0_ask_75 vX0_229_0 (ck0 hC6) (Or.inl (cl0 hC6)) (Nat.le_of_ble_eq_true rfl) (Nat.le_of_ble_eq_true rfl) (metX0_pairOf n _ _ _ _ _ hC6 z19 (fun hC20 => ?_))
      show Ev g _ _ 78 _ [.ref r15, .ref (16 + 4), .int (nI 1), .ref 14] K ci16 cj17 cr18 _ _ Qr Qx
      by_cases z21 : K.1 r15 = 8 ∧ r15 < K.2.2
      rotate_left
      · rw [if_neg z21] at h; cases h
      rw [if_pos z21] at h
      refine ev_getI dX0_ask_78 fX0_233_8 z21.1 (Or.inl z21.2) rfl ?_
      by_cases z22 : jok (ci16 r15 1) 6
      rotate_left
      · rw [if_neg z22] at h; cases h
      rw [if_pos z22] at h
      refine ev_iaload dX0_ask_81 (sk4 hC20 is16) (Or.inl (sl4 hC20 is16)) (jok.ix z22 (sn4 hC20 is16)) ?_
      refine ev_i2l dX0_ask_82 ?_
      by_cases z23 : jok (nI 1) 11
      rotate_left
      · rw [if_neg z23] at h; cases h
      rw [if_pos z23] at h
      refine ev_lastore dX0_ask_83 (ck14 hC20) (cl14 hC20) (jok.ix z23 (cn14 hC20)) ?_
      refine ev_aload_n dX0_ask_84 rfl ?_
      refine ev_getR dX0_ask_85 fX0_59_0 (ck0 hC20) (Or.inl (cl0 hC20)) rfl (cq0_7 hC20) ?_
      refine ev_getR dX0_ask_88 fX0_333_4 (ck13 hC20) (Or.inl (cl13 hC20)) rfl (cq13_0 hC20) ?_
      refine ev_iconst (v := (nI 4)) dX0_ask_91 jc4 ?_
      refine ev_aload_n dX0_ask_92 rfl ?_
      refine ev_getR dX0_ask_93 fX0_69_0 (ck0 hC20) (Or.inl (cl0 hC20)) rfl (cq0_9 hC20) ?_
      refine ev_getI dX0_ask_96 fX0_179_5 (sk0 hC20 is16) (Or.inl (sl0 hC20 is16)) rfl ?_
      refine ev_i2l dX0_ask_99 ?_
      by_cases z24 : jok (nI 4) 11
      rotate_left
      · rw [if_neg z24] at h; cases h
      rw [if_pos z24] at h
      refine ev_lastore dX0_ask_100 (ck14 hC20) (cl14 hC20) (jok.ix z24 (cn14 hC20)) ?_
      refine ev_aload_n dX0_ask_101 rfl ?_
      refine ev_getR dX0_ask_102 fX0_59_0 (ck0 hC20) (Or.inl (cl0 hC20)) rfl (cq0_7 hC20) ?_
      refine ev_getR dX0_ask_105 fX0_333_4 (ck13 hC20) (Or.inl (cl13 hC20)) rfl (cq13_0 hC20) ?_
      refine ev_bipush (v := (nI 6)) dX0_ask_108 jb6 ?_
      refine ev_aload_n dX0_ask_110 rfl ?_
      refine ev_getR dX0_ask_111 fX0_69_0 (ck0 hC20) (Or.inl (cl0 hC20)) rfl (cq0_9 hC20) ?_
      refine ev_getR dX0_ask_114 fX0_236_5 (sk0 hC20 is16) (Or.inl (sl0 hC20 is16)) rfl (sr8 hC20 is16) ?_
      refine ev_iload_n dX0_ask_117 rfl ?_
      by_cases z25 : jok l3 10
      rotate_left
      · rw [if_neg z25] at h; cases h
      rw [if_pos z25] at h
      refine ev_iaload dX0_ask_118 (sk8 hC20 is16) (Or.inl (sl8 hC20 is16)) (jok.ix z25 (sn8 hC20 is16)) ?_
      refine ev_i2l dX0_ask_119 ?_
      by_cases z26 : jok (nI 6) 11
      rotate_left
      · rw [if_neg z26] at h; cases h
      rw [if_pos z26] at h
      refine ev_lastore dX0_ask_120 (ck14 hC20) (cl14 hC20) (jok.ix z26 (cn14 hC20)) ?_
      refine ev_aload_n dX0_ask_121 rfl ?_
      refine ev_getR dX0_ask_122 fX0_59_0 (ck0 hC20) (Or.inl (cl0 hC20)) rfl (cq0_7 hC20) ?_
      refine ev_getR dX0_ask_125 fX0_333_4 (ck13 hC20) (Or.inl (cl13 hC20)) rfl (cq13_0 hC20) ?_
      refine ev_bipush (v := (nI 8)) dX0_ask_128 jb8 ?_
      refine ev_aload_n dX0_ask_130 rfl ?_
      refine ev_getR dX0_ask_131 fX0_69_0 (ck0 hC20) (Or.inl (cl0 hC20)) rfl (cq0_9 hC20) ?_
      refine ev_getR dX0_ask_134 fX0_239_5 (sk0 hC20 is16) (Or.inl (sl0 hC20 is16)) rfl (sr10 hC20 is16) ?_
      refine ev_iload_n dX0_ask_137 rfl ?_
      by_cases z27 : jok l3 10
      rotate_left
      · rw [if_neg z27] at h; cases h
      rw [if_pos z27] at h
      refine ev_iaload dX0_ask_138 (sk10 hC20 is16) (Or.inl (sl10 hC20 is16)) (jok.ix z27 (sn10 hC20 is16)) ?_
      refine ev_i2l dX0_ask_139 ?_
      by_cases z28 : jok (nI 8) 11
      rotate_left
      · rw [if_neg z28] at h; cases h
      rw [if_pos z28] at h
      refine ev_lastore dX0_ask_140 (ck14 hC20) (cl14 hC20) (jok.ix z28 (cn14 hC20)) ?_
      refine ev_aload_n dX0_ask_141 rfl ?_
      refine ev_getR dX0_ask_142 fX0_59_0 (ck0 hC20) (Or.inl (cl0 hC20)) rfl (cq0_7 hC20) ?_
      refine ev_getR dX0_ask_145 fX0_333_4 (ck13 hC20) (Or.inl (cl13 hC20)) rfl (cq13_0 hC20) ?_
      refine ev_bipush (v := (nI 9)) dX0_ask_148 jb9 ?_
      refine ev_iload_n dX0_ask_150 rfl ?_
      refine ev_i2l dX0_ask_151 ?_
      by_cases z29 : jok (nI 9) 11
      rotate_left
      · rw [if_neg z29] at h; cases h
      rw [if_pos z29] at h
      refine ev_lastore dX0_ask_152 (ck14 hC20) (cl14 hC20) (jok.ix z29 (cn14 hC20)) ?_
      refine ev_aload_n dX0_ask_153 rfl ?_
      refine ev_getR dX0_ask_154 fX0_59_0 (ck0 hC20) (Or.inl (cl0 hC20)) rfl (cq0_7 hC20) ?_
      refine ev_getR dX0_ask_157 fX0_333_4 (ck13 hC20) (Or.inl (cl13 hC20)) rfl (cq13_0 hC20) ?_
      refine ev_bipush (v := (nI 10)) dX0_ask_160 jb10 ?_
      refine ev_aload_n dX0_ask_162 rfl ?_
      refine ev_iload_n dX0_ask_163 rfl ?_
      obtain ⟨r30, ci31, cj32, cr33, z34, h⟩ := jpb_inv h
      refine ev_hV1 dX0_ask_164 vX0_229_0 (ck0 hC20) (Or.inl (cl0 hC20)) (Nat.le_of_ble_eq_true rfl) (Nat.le_of_ble_eq_true rfl) (metX0_pairOf n _ _ _ _ _ hC20 z34 (fun hC35 => ?_))
      show Ev g _ _ 167 _ [.ref r30, .int (nI 10), .ref 14] K ci31 cj32 cr33 _ _ Qr Qx
      by_cases z36 : K.1 r30 = 8 ∧ r30 < K.2.2
      rotate_left
      · rw [if_neg z36] at h; cases h
      rw [if_pos z36] at h
      refine ev_getI dX0_ask_167 fX0_233_8 z36.1 (Or.inl z36.2) rfl ?_
      refine ev_i2l dX0_ask_170 ?_
      by_cases z37 : jok (nI 10) 11
      rotate_left
      · rw [if_neg z37] at h; cases h
      rw [if_pos z37] at h
      refine ev_lastore dX0_ask_171 (ck14 hC35) (cl14 hC35) (jok.ix z37 (cn14 hC35)) ?_
      refine ev_aload_n dX0_ask_172 rfl ?_
      refine ev_iload_n dX0_ask_173 rfl ?_
      refine ev_aload_n dX0_ask_174 rfl ?_
      refine ev_getR dX0_ask_175 fX0_59_0 (ck0 hC35) (Or.inl (cl0 hC35)) rfl (cq0_7 hC35) ?_
      by_cases z38 : K.1 l2 = 19 ∧ l2 < K.2.2
      rotate_left
      · rw [if_neg z38] at h; cases h
      rw [if_pos z38] at h
      obtain ⟨r39, ci40, cj41, cr42, z43, h⟩ := jpb_inv h
      refine ev_hV2 dX0_ask_178 vX0_337_19 z38.1 (Or.inl z38.2) (Nat.le_of_ble_eq_true rfl) (Nat.le_of_ble_eq_true rfl) (metX22_meets n _ _ _ _ _ _ _ hC35 z43 (fun hC44 => ?_))
      show Ev g _ _ 181 _ [] K ci40 cj41 cr42 _ _ Qr Qx
      refine ev_iinc (v := (l3 + (nI 1))) (L' := [_, _, _, _]) dX0_ask_181 rfl (by rw [ji_1]) (by decide) rfl ?_
      refine ev_goto 50 dX0_ask_184 rfl ?_
      exact ih _ _ _ _ _ _ hC44 h hq
def fX0_ask (n : Nat) (K : jK) (ci : jI) (cj : jJ) (cr : jR) : Option (jT Int64) := jpb (fX0_tapeTaken n  K ci cj cr) (fun r1 ci2 cj3 cr4 => jxc (fX2_question n r1 K (ju (ju ci2 0 3 (nI 0)) 0 4 (-1)) cj3 cr4) (fun r7 K8 ci9 cj10 cr11 => fX0_ask_50 n  n r7 (nI 0) K8 ci9 cj10 cr11) (fun K14 ci15 cj16 cr17 => some (some (-1000000000000000 : Int64), K14, (ju (ju ci15 0 3 (ci15 10 6)) 0 4 ((ju ci15 0 3 (ci15 10 6)) 10 7)), cj16, cr17, 0, 0)))
theorem metX0_ask {g : jG} {d : Nat} {Qr : jQ} {Qx : jX} (n : Nat) (K : jK) (ci : jI) (cj : jJ) (cr : jR) {q} (hC : jCW K cr) (h : fX0_ask n  K ci cj cr = some q) (hq : jqx wJ q Qr Qx) : EvM g (d + 542) mX0_ask [.ref 0] K ci cj cr q.2.2.2.2.2.1 q.2.2.2.2.2.2 Qr Qx := by
  unfold fX0_ask at h
  show Ev g (d + 542) mX0_ask 0 [.ref 0, jU, jU, jU] [] K ci cj cr q.2.2.2.2.2.1 q.2.2.2.2.2.2 Qr Qx
  refine ev_aload_n dX0_ask_0 rfl ?_
  obtain ⟨r1, ci2, cj3, cr4, z5, h⟩ := jpb_inv h
  refine ev_hV0 dX0_ask_1 vX0_120_0 (ck0 hC) (Or.inl (cl0 hC)) (Nat.le_of_ble_eq_true rfl) (Nat.le_of_ble_eq_true rfl) (metX0_tapeTaken n  _ _ _ _ hC z5 (fun hC6 => ?_))
  show Ev g _ _ 4 _ [.int r1] K ci2 cj3 cr4 _ _ Qr Qx
  refine ev_istore_n (L' := [_, _, _, _]) dX0_ask_4 (by decide) rfl ?_
  refine ev_aload_n dX0_ask_5 rfl ?_
  refine ev_iconst (v := (nI 0)) dX0_ask_6 jc0 ?_
  refine ev_putI dX0_ask_7 (pX0_117_0 _) (ck0 hC6) (cl0 hC6) rfl rfl rfl ?_
  refine ev_aload_n dX0_ask_10 rfl ?_
  refine ev_iconst (v := (-1)) dX0_ask_11 jcm1 ?_
  refine ev_putI dX0_ask_12 (pX0_39_0 _) (ck0 hC6) (cl0 hC6) rfl rfl rfl ?_
  refine ev_aload_n dX0_ask_15 rfl ?_
  refine ev_getR dX0_ask_16 fX0_48_0 (ck0 hC6) (Or.inl (cl0 hC6)) rfl (cq0_5 hC6) ?_
  refine ev_iload_n dX0_ask_19 rfl ?_
  refine jx_invc (wf := wR) (fun c1 s1 c sl z => ev_cV1 dX0_ask_20 vX0_329_2 (ck9 hC6) (Or.inl (cl9 hC6)) (Nat.le_of_ble_eq_true rfl) (Nat.le_of_ble_eq_true rfl) z) h hq (fun q Qr' Qx' z zq => metX2_question n _ _ _ _ _ hC6 z zq) (fun r7 K8 ci9 cj10 cr11 w12 h hC13 hq => ?_) (fun K14 ci15 cj16 cr17 w18 h hC19 hq => evx_catch rfl (by decide) (by decide) q554 ?_)
  rotate_left
  · refine ev_astore_n (L' := [_, _, _, _]) dX0_ask_27 (by decide) rfl ?_
    refine ev_aload_n dX0_ask_28 rfl ?_
    refine ev_aload_n dX0_ask_29 rfl ?_
    refine ev_getI dX0_ask_30 fX0_130_3 (ck10 hC19) (Or.inl (cl10 hC19)) rfl ?_
    refine ev_putI dX0_ask_33 (pX0_117_0 _) (ck0 hC19) (cl0 hC19) rfl rfl rfl ?_
    refine ev_aload_n dX0_ask_36 rfl ?_
    refine ev_aload_n dX0_ask_37 rfl ?_
    refine ev_getI dX0_ask_38 fX0_133_3 (ck10 hC19) (Or.inl (cl10 hC19)) rfl ?_
    refine ev_putI dX0_ask_41 (pX0_39_0 _) (ck0 hC19) (cl0 hC19) rfl rfl rfl ?_
    refine ev_ldc2 dX0_ask_44 q1460 ?_
    cases h
    exact ev_lret dX0_ask_47 rfl (hq hC19)
  show Ev g _ _ 23 _ [.ref r7] K8 ci9 cj10 cr11 _ _ Qr Qx
  refine ev_astore_n (L' := [_, _, _, _]) dX0_ask_23 (by decide) rfl ?_
  refine ev_goto 48 dX0_ask_24 rfl ?_
  refine ev_iconst (v := (nI 0)) dX0_ask_48 jc0 ?_
  refine ev_istore_n (L' := [_, _, _, _]) dX0_ask_49 (by decide) rfl ?_
  exact ev_mask [true, false, true, true] (wX0_ask_50 n   n _ _ _ _ _ _ hC13 h hq)
