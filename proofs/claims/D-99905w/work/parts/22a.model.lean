/-! STAGE A OF THE MODEL (printed by gen/model.py) -/
set_option maxRecDepth 100000
def fX6_feed_81 (n : Nat) (rec28 : Int32 → Int32 → Int32 → Int32 → Int32 → Int32 → jI → jJ → Option (Int32 × jI × jJ)) (l1 : Int32) (l2 : Int32) (l3 : Int32) (l4 : Int32) (l5 : Int32) (l6 : Int32) (t0 : Int32) (ci : jI) (cj : jJ) : Option (Int32 × jI × jJ) := if jok (ci 1547 1) 1600 then rec28 l1 l2 l3 l4 l5 (l6 + (nI 1)) (ju (ju ci 1548 ((ci 1547 1)).toNatClampNeg ((t0 >>> (((nI 8) * ((nI 3) - (l6 - l6 / (nI 4) * (nI 4)))) &&& 31)) &&& (nI 255))) 1547 1 (((ju ci 1548 ((ci 1547 1)).toNatClampNeg ((t0 >>> (((nI 8) * ((nI 3) - (l6 - l6 / (nI 4) * (nI 4)))) &&& 31)) &&& (nI 255))) 1547 1) + (nI 1))) cj else none
theorem wX6_feed_81 {g : jG} {d : Nat} {K : jK} {cr : jR} {c sl : Nat} {Qr : jQ} {Qx : jX} (hM : jMW K cr) (n : Nat) (rec28 : Int32 → Int32 → Int32 → Int32 → Int32 → Int32 → jI → jJ → Option (Int32 × jI × jJ)) (hrec28 : (∀ (l1 : Int32) (l2 : Int32) (l3 : Int32) (l4 : Int32) (l5 : Int32) (l6 : Int32) (ci : jI) (cj : jJ) {q}, rec28 l1 l2 l3 l4 l5 l6 ci cj = some q → Qr (some (.int q.1)) K q.2.1 q.2.2 cr → Ev g (d + 1) mX6_feed 28 [.ref 1547, .int l1, .int l2, .int l3, .int l4, .int l5, .int l6, jU] [] K ci cj cr c sl Qr Qx)) (l1 : Int32) (l2 : Int32) (l3 : Int32) (l4 : Int32) (l5 : Int32) (l6 : Int32) (t0 : Int32) (ci : jI) (cj : jJ) {q} (h : fX6_feed_81 n rec28 l1 l2 l3 l4 l5 l6 t0 ci cj = some q) (hq : Qr (some (.int q.1)) K q.2.1 q.2.2 cr) : Ev g (d + 1) mX6_feed 81 [.ref 1547, .int l1, .int l2, .int l3, .int l4, .int l5, .int l6, jU] [.int t0] K ci cj cr c sl Qr Qx := by
  unfold fX6_feed_81 at h
  refine ev_istore (L' := [_, _, _, _, _, _, _, _]) dX6_feed_81 (by decide) rfl ?_
  refine ev_aload_n dX6_feed_83 rfl ?_
  refine ev_getR dX6_feed_84 fX6_7_6 (hk1547 hM) (Or.inl (hl1547 hM)) rfl (hr0 hM) ?_
  refine ev_aload_n dX6_feed_87 rfl ?_
  refine ev_getI dX6_feed_88 fX6_248_6 (hk1547 hM) (Or.inl (hl1547 hM)) rfl ?_
  refine ev_iload dX6_feed_91 rfl ?_
  refine ev_bipush (v := (nI 8)) dX6_feed_93 jb8 ?_
  refine ev_iconst (v := (nI 3)) dX6_feed_95 jc3 ?_
  refine ev_iload dX6_feed_96 rfl ?_
  refine ev_iconst (v := (nI 4)) dX6_feed_98 jc4 ?_
  refine ev_irem dX6_feed_99 (by decide) ?_
  refine ev_isub dX6_feed_100 ?_
  refine ev_imul dX6_feed_101 ?_
  refine ev_ishr dX6_feed_102 ?_
  refine ev_sipush (v := (nI 255)) dX6_feed_103 js255 ?_
  refine ev_iand dX6_feed_106 ?_
  by_cases z2 : jok (ci 1547 1) 1600
  rotate_left
  · rw [if_neg z2] at h; cases h
  rw [if_pos z2] at h
  refine ev_iastore dX6_feed_107 (hk1548 hM) (hl1548 hM) (jok.ix z2 (hn1548 hM)) ?_
  refine ev_aload_n dX6_feed_108 rfl ?_
  refine ev_dup dX6_feed_109 rfl ?_
  refine ev_getI dX6_feed_110 fX6_248_6 (hk1547 hM) (Or.inl (hl1547 hM)) rfl ?_
  refine ev_iconst (v := (nI 1)) dX6_feed_113 jc1 ?_
  refine ev_iadd dX6_feed_114 ?_
  refine ev_putI dX6_feed_115 (pX6_248_6 _) (hk1547 hM) (hl1547 hM) rfl rfl rfl ?_
  refine ev_iinc (v := (l6 + (nI 1))) (L' := [_, _, _, _, _, _, _, _]) dX6_feed_118 rfl (by rw [ji_1]) (by decide) rfl ?_
  refine ev_goto 28 dX6_feed_121 rfl ?_
  exact ev_mask [true, true, true, true, true, true, true, false] (hrec28 _ _ _ _ _ _ _ _ h hq)
def fX6_feed_28 (n : Nat) : Nat → Int32 → Int32 → Int32 → Int32 → Int32 → Int32 → jI → jJ → Option (Int32 × jI × jJ)
  | 0, _, _, _, _, _, _, _, _ => none
  | k + 1, l1, l2, l3, l4, l5, l6, ci, cj => if (nI 20) ≤ l6 then some ((ci 1547 1), ci, cj) else if (nI 4) ≤ l6 then if (nI 8) ≤ l6 then if (nI 12) ≤ l6 then if (nI 16) ≤ l6 then fX6_feed_81 n (fX6_feed_28 n  k) l1 l2 l3 l4 l5 l6 l5 ci cj else fX6_feed_81 n (fX6_feed_28 n  k) l1 l2 l3 l4 l5 l6 l4 ci cj else fX6_feed_81 n (fX6_feed_28 n  k) l1 l2 l3 l4 l5 l6 l3 ci cj else fX6_feed_81 n (fX6_feed_28 n  k) l1 l2 l3 l4 l5 l6 l2 ci cj else fX6_feed_81 n (fX6_feed_28 n  k) l1 l2 l3 l4 l5 l6 l1 ci cj
theorem wX6_feed_28 {g : jG} {d : Nat} {K : jK} {cr : jR} {c sl : Nat} {Qr : jQ} {Qx : jX} (hM : jMW K cr) (n : Nat) : ∀ (k : Nat) (l1 : Int32) (l2 : Int32) (l3 : Int32) (l4 : Int32) (l5 : Int32) (l6 : Int32) (ci : jI) (cj : jJ) {q}, fX6_feed_28 n  k l1 l2 l3 l4 l5 l6 ci cj = some q → Qr (some (.int q.1)) K q.2.1 q.2.2 cr → Ev g (d + 1) mX6_feed 28 [.ref 1547, .int l1, .int l2, .int l3, .int l4, .int l5, .int l6, jU] [] K ci cj cr c sl Qr Qx := by
  intro k
  induction k with
  | zero =>
    intro l1 l2 l3 l4 l5 l6 ci cj q h hq
    rw [fX6_feed_28.eq_1] at h; cases h
  | succ k ih =>
    intro l1 l2 l3 l4 l5 l6 ci cj q h hq
    rw [fX6_feed_28.eq_2] at h
    refine ev_iload dX6_feed_28 rfl ?_
    refine ev_bipush (v := (nI 20)) dX6_feed_30 jb20 ?_
    refine ev_icmp_ge 124 dX6_feed_32 rfl (fun z1 => ?_) (fun z1 => ?_)
    · rw [if_pos z1] at h
      refine ev_aload_n dX6_feed_124 rfl ?_
      refine ev_getI dX6_feed_125 fX6_248_6 (hk1547 hM) (Or.inl (hl1547 hM)) rfl ?_
      cases h
      exact ev_iret dX6_feed_128 rfl rfl hq
    · rw [if_neg z1] at h
      refine ev_iload dX6_feed_35 rfl ?_
      refine ev_iconst (v := (nI 4)) dX6_feed_37 jc4 ?_
      refine ev_icmp_ge 45 dX6_feed_38 rfl (fun z2 => ?_) (fun z2 => ?_)
      · rw [if_pos z2] at h
        refine ev_iload dX6_feed_45 rfl ?_
        refine ev_bipush (v := (nI 8)) dX6_feed_47 jb8 ?_
        refine ev_icmp_ge 56 dX6_feed_49 rfl (fun z3 => ?_) (fun z3 => ?_)
        · rw [if_pos z3] at h
          refine ev_iload dX6_feed_56 rfl ?_
          refine ev_bipush (v := (nI 12)) dX6_feed_58 jb12 ?_
          refine ev_icmp_ge 67 dX6_feed_60 rfl (fun z4 => ?_) (fun z4 => ?_)
          · rw [if_pos z4] at h
            refine ev_iload dX6_feed_67 rfl ?_
            refine ev_bipush (v := (nI 16)) dX6_feed_69 jb16 ?_
            refine ev_icmp_ge 79 dX6_feed_71 rfl (fun z5 => ?_) (fun z5 => ?_)
            · rw [if_pos z5] at h
              refine ev_iload dX6_feed_79 rfl ?_
              exact wX6_feed_81 hM n _ (ih) _ _ _ _ _ _ _ _ _ h hq
            · rw [if_neg z5] at h
              refine ev_iload dX6_feed_74 rfl ?_
              refine ev_goto 81 dX6_feed_76 rfl ?_
              exact wX6_feed_81 hM n _ (ih) _ _ _ _ _ _ _ _ _ h hq
          · rw [if_neg z4] at h
            refine ev_iload_n dX6_feed_63 rfl ?_
            refine ev_goto 81 dX6_feed_64 rfl ?_
            exact wX6_feed_81 hM n _ (ih) _ _ _ _ _ _ _ _ _ h hq
        · rw [if_neg z3] at h
          refine ev_iload_n dX6_feed_52 rfl ?_
          refine ev_goto 81 dX6_feed_53 rfl ?_
          exact wX6_feed_81 hM n _ (ih) _ _ _ _ _ _ _ _ _ h hq
      · rw [if_neg z2] at h
        refine ev_iload_n dX6_feed_41 rfl ?_
        refine ev_goto 81 dX6_feed_42 rfl ?_
        exact wX6_feed_81 hM n _ (ih) _ _ _ _ _ _ _ _ _ h hq
def fX6_feed (n : Nat) (a0 : Int32) (a1 : Int32) (a2 : Int32) (a3 : Int32) (a4 : Int32) (ci : jI) (cj : jJ) : Option (Int32 × jI × jJ) := if ((ci 1547 1) + (nI 20)) ≤ (nI 1600) then fX6_feed_28 n  n a0 a1 a2 a3 a4 (nI 0) ci cj else if jok (nI 0) 6 then if jok (nI 0) 6 then some ((-1), (ju ci 1549 ((nI 0)).toNatClampNeg ((ci 1549 ((nI 0)).toNatClampNeg) + (nI 1))), cj) else none else none
theorem metX6_feed {g : jG} {d : Nat} {K : jK} {cr : jR} {c sl : Nat} {Qr : jQ} {Qx : jX} (hM : jMW K cr) (n : Nat) (a0 : Int32) (a1 : Int32) (a2 : Int32) (a3 : Int32) (a4 : Int32) (ci : jI) (cj : jJ) {q} (h : fX6_feed n a0 a1 a2 a3 a4 ci cj = some q) (hq : Qr (some (.int q.1)) K q.2.1 q.2.2 cr) : EvM g (d + 1) mX6_feed [.ref 1547, .int a0, .int a1, .int a2, .int a3, .int a4] K ci cj cr c sl Qr Qx := by
  unfold fX6_feed at h
  show Ev g (d + 1) mX6_feed 0 [.ref 1547, .int a0, .int a1, .int a2, .int a3, .int a4, jU, jU] [] K ci cj cr c sl Qr Qx
  refine ev_aload_n dX6_feed_0 rfl ?_
  refine ev_getI dX6_feed_1 fX6_248_6 (hk1547 hM) (Or.inl (hl1547 hM)) rfl ?_
  refine ev_bipush (v := (nI 20)) dX6_feed_4 jb20 ?_
  refine ev_iadd dX6_feed_6 ?_
  refine ev_sipush (v := (nI 1600)) dX6_feed_7 js1600 ?_
  refine ev_icmp_le 25 dX6_feed_10 rfl (fun z1 => ?_) (fun z1 => ?_)
  · rw [if_pos z1] at h
    refine ev_iconst (v := (nI 0)) dX6_feed_25 jc0 ?_
    refine ev_istore (L' := [_, _, _, _, _, _, _, _]) dX6_feed_26 (by decide) rfl ?_
    exact wX6_feed_28 hM n   n _ _ _ _ _ _ _ _ h hq
  · rw [if_neg z1] at h
    refine ev_aload_n dX6_feed_13 rfl ?_
    refine ev_getR dX6_feed_14 fX6_17_6 (hk1547 hM) (Or.inl (hl1547 hM)) rfl (hr9 hM) ?_
    refine ev_iconst (v := (nI 0)) dX6_feed_17 jc0 ?_
    refine ev_dup2 dX6_feed_18 rfl rfl ?_
    by_cases z2 : jok (nI 0) 6
    rotate_left
    · rw [if_neg z2] at h; cases h
    rw [if_pos z2] at h
    refine ev_iaload dX6_feed_19 (hk1549 hM) (Or.inl (hl1549 hM)) (jok.ix z2 (hn1549 hM)) ?_
    refine ev_iconst (v := (nI 1)) dX6_feed_20 jc1 ?_
    refine ev_iadd dX6_feed_21 ?_
    by_cases z3 : jok (nI 0) 6
    rotate_left
    · rw [if_neg z3] at h; cases h
    rw [if_pos z3] at h
    refine ev_iastore dX6_feed_22 (hk1549 hM) (hl1549 hM) (jok.ix z3 (hn1549 hM)) ?_
    refine ev_iconst (v := (-1)) dX6_feed_23 jcm1 ?_
    cases h
    exact ev_iret dX6_feed_24 rfl rfl hq
def fX6_end_12 (n : Nat) (ci : jI) (cj : jJ) : Option (Int32 × jI × jJ) := if jok (nI 0) 6 then if jok (nI 0) 6 then some ((nI 0), (ju ci 1549 ((nI 0)).toNatClampNeg ((ci 1549 ((nI 0)).toNatClampNeg) + (nI 1))), cj) else none else none
theorem wX6_end_12 {g : jG} {d : Nat} {K : jK} {cr : jR} {c sl : Nat} {Qr : jQ} {Qx : jX} (hM : jMW K cr) (n : Nat) (ci : jI) (cj : jJ) {q} (h : fX6_end_12 n   ci cj = some q) (hq : Qr (some (.int q.1)) K q.2.1 q.2.2 cr) : Ev g (d + 1) mX6_end 12 [.ref 1547, jU] [] K ci cj cr c sl Qr Qx := by
  unfold fX6_end_12 at h
  refine ev_aload_n dX6_end_12 rfl ?_
  refine ev_getR dX6_end_13 fX6_17_6 (hk1547 hM) (Or.inl (hl1547 hM)) rfl (hr9 hM) ?_
  refine ev_iconst (v := (nI 0)) dX6_end_16 jc0 ?_
  refine ev_dup2 dX6_end_17 rfl rfl ?_
  by_cases z1 : jok (nI 0) 6
  rotate_left
  · rw [if_neg z1] at h; cases h
  rw [if_pos z1] at h
  refine ev_iaload dX6_end_18 (hk1549 hM) (Or.inl (hl1549 hM)) (jok.ix z1 (hn1549 hM)) ?_
  refine ev_iconst (v := (nI 1)) dX6_end_19 jc1 ?_
  refine ev_iadd dX6_end_20 ?_
  by_cases z2 : jok (nI 0) 6
  rotate_left
  · rw [if_neg z2] at h; cases h
  rw [if_pos z2] at h
  refine ev_iastore dX6_end_21 (hk1549 hM) (hl1549 hM) (jok.ix z2 (hn1549 hM)) ?_
  refine ev_iconst (v := (nI 0)) dX6_end_22 jc0 ?_
  cases h
  exact ev_iret dX6_end_23 rfl (by decide) hq
def fX6_end (n : Nat) (a0 : Int32) (ci : jI) (cj : jJ) : Option (Int32 × jI × jJ) := if a0 < 0 then fX6_end_12 n   ci cj else if a0 ≤ (ci 1547 1) then some ((nI 1), (ju ci 1547 1 a0), cj) else fX6_end_12 n   ci cj
theorem metX6_end {g : jG} {d : Nat} {K : jK} {cr : jR} {c sl : Nat} {Qr : jQ} {Qx : jX} (hM : jMW K cr) (n : Nat) (a0 : Int32) (ci : jI) (cj : jJ) {q} (h : fX6_end n a0 ci cj = some q) (hq : Qr (some (.int q.1)) K q.2.1 q.2.2 cr) : EvM g (d + 1) mX6_end [.ref 1547, .int a0] K ci cj cr c sl Qr Qx := by
  unfold fX6_end at h
  show Ev g (d + 1) mX6_end 0 [.ref 1547, .int a0] [] K ci cj cr c sl Qr Qx
  refine ev_iload_n dX6_end_0 rfl ?_
  refine ev_if_lt 12 dX6_end_1 rfl (fun z1 => ?_) (fun z1 => ?_)
  · rw [if_pos z1] at h
    exact ev_mask [true, false] (wX6_end_12 hM n    _ _ h hq)
  · rw [if_neg z1] at h
    refine ev_iload_n dX6_end_4 rfl ?_
    refine ev_aload_n dX6_end_5 rfl ?_
    refine ev_getI dX6_end_6 fX6_248_6 (hk1547 hM) (Or.inl (hl1547 hM)) rfl ?_
    refine ev_icmp_le 24 dX6_end_9 rfl (fun z2 => ?_) (fun z2 => ?_)
    · rw [if_pos z2] at h
      refine ev_aload_n dX6_end_24 rfl ?_
      refine ev_iload_n dX6_end_25 rfl ?_
      refine ev_putI dX6_end_26 (pX6_248_6 _) (hk1547 hM) (hl1547 hM) rfl rfl rfl ?_
      refine ev_iconst (v := (nI 1)) dX6_end_29 jc1 ?_
      cases h
      exact ev_iret dX6_end_30 rfl (by decide) hq
    · rw [if_neg z2] at h
      exact ev_mask [true, false] (wX6_end_12 hM n    _ _ h hq)
def fX6_look_76 (n : Nat) (t0 : Int32) (ci : jI) (cj : jJ) : Option (Int32 × jI × jJ) := some (t0, ci, cj)
theorem wX6_look_76 {g : jG} {d : Nat} {K : jK} {cr : jR} {c sl : Nat} {Qr : jQ} {Qx : jX} (hM : jMW K cr) (n : Nat) (t0 : Int32) (ci : jI) (cj : jJ) {q} (h : fX6_look_76 n  t0 ci cj = some q) (hq : Qr (some (.int q.1)) K q.2.1 q.2.2 cr) : Ev g (d + 1) mX6_look 76 [jU] [.int t0] K ci cj cr c sl Qr Qx := by
  unfold fX6_look_76 at h
  cases h
  exact ev_iret dX6_look_76 rfl rfl hq
def fX6_look_52 (n : Nat) (ci : jI) (cj : jJ) : Option (Int32 × jI × jJ) := if (ci 1547 3) ≤ (ci 1547 2) then fX6_look_76 n  (-1) ci cj else if jok (ci 1547 2) 1600 then fX6_look_76 n  (ci 1548 ((ci 1547 2)).toNatClampNeg) ci cj else none
theorem wX6_look_52 {g : jG} {d : Nat} {K : jK} {cr : jR} {c sl : Nat} {Qr : jQ} {Qx : jX} (hM : jMW K cr) (n : Nat) (ci : jI) (cj : jJ) {q} (h : fX6_look_52 n   ci cj = some q) (hq : Qr (some (.int q.1)) K q.2.1 q.2.2 cr) : Ev g (d + 1) mX6_look 52 [.ref 1547] [] K ci cj cr c sl Qr Qx := by
  unfold fX6_look_52 at h
  refine ev_aload_n dX6_look_52 rfl ?_
  refine ev_getI dX6_look_53 fX6_257_6 (hk1547 hM) (Or.inl (hl1547 hM)) rfl ?_
  refine ev_aload_n dX6_look_56 rfl ?_
  refine ev_getI dX6_look_57 fX6_260_6 (hk1547 hM) (Or.inl (hl1547 hM)) rfl ?_
  refine ev_icmp_ge 75 dX6_look_60 rfl (fun z1 => ?_) (fun z1 => ?_)
  · rw [if_pos z1] at h
    refine ev_iconst (v := (-1)) dX6_look_75 jcm1 ?_
    exact ev_mask [false] (wX6_look_76 hM n   _ _ _ h hq)
  · rw [if_neg z1] at h
    refine ev_aload_n dX6_look_63 rfl ?_
    refine ev_getR dX6_look_64 fX6_7_6 (hk1547 hM) (Or.inl (hl1547 hM)) rfl (hr0 hM) ?_
    refine ev_aload_n dX6_look_67 rfl ?_
    refine ev_getI dX6_look_68 fX6_257_6 (hk1547 hM) (Or.inl (hl1547 hM)) rfl ?_
    by_cases z2 : jok (ci 1547 2) 1600
    rotate_left
    · rw [if_neg z2] at h; cases h
    rw [if_pos z2] at h
    refine ev_iaload dX6_look_71 (hk1548 hM) (Or.inl (hl1548 hM)) (jok.ix z2 (hn1548 hM)) ?_
    refine ev_goto 76 dX6_look_72 rfl ?_
    exact ev_mask [false] (wX6_look_76 hM n   _ _ _ h hq)
def fX6_look_39 (n : Nat) (rec0 : jI → jJ → Option (Int32 × jI × jJ)) (ci : jI) (cj : jJ) : Option (Int32 × jI × jJ) := rec0  (ju ci 1547 2 ((ci 1547 2) + (nI 1))) cj
theorem wX6_look_39 {g : jG} {d : Nat} {K : jK} {cr : jR} {c sl : Nat} {Qr : jQ} {Qx : jX} (hM : jMW K cr) (n : Nat) (rec0 : jI → jJ → Option (Int32 × jI × jJ)) (hrec0 : (∀ (ci : jI) (cj : jJ) {q}, rec0  ci cj = some q → Qr (some (.int q.1)) K q.2.1 q.2.2 cr → Ev g (d + 1) mX6_look 0 [.ref 1547] [] K ci cj cr c sl Qr Qx)) (ci : jI) (cj : jJ) {q} (h : fX6_look_39 n rec0  ci cj = some q) (hq : Qr (some (.int q.1)) K q.2.1 q.2.2 cr) : Ev g (d + 1) mX6_look 39 [.ref 1547] [] K ci cj cr c sl Qr Qx := by
  unfold fX6_look_39 at h
  refine ev_aload_n dX6_look_39 rfl ?_
  refine ev_dup dX6_look_40 rfl ?_
  refine ev_getI dX6_look_41 fX6_257_6 (hk1547 hM) (Or.inl (hl1547 hM)) rfl ?_
  refine ev_iconst (v := (nI 1)) dX6_look_44 jc1 ?_
  refine ev_iadd dX6_look_45 ?_
  refine ev_putI dX6_look_46 (pX6_257_6 _) (hk1547 hM) (hl1547 hM) rfl rfl rfl ?_
  refine ev_goto 0 dX6_look_49 rfl ?_
  exact hrec0  _ _ h hq
def fX6_look_0 (n : Nat) : Nat → jI → jJ → Option (Int32 × jI × jJ)
  | 0, _, _ => none
  | k + 1, ci, cj => if (ci 1547 3) ≤ (ci 1547 2) then fX6_look_52 n   ci cj else if jok (ci 1547 2) 1600 then if (ci 1548 ((ci 1547 2)).toNatClampNeg) = (nI 10) then fX6_look_39 n (fX6_look_0 n  k)  ci cj else if jok (ci 1547 2) 1600 then if (ci 1548 ((ci 1547 2)).toNatClampNeg) = (nI 32) then fX6_look_39 n (fX6_look_0 n  k)  ci cj else fX6_look_52 n   ci cj else none else none
theorem wX6_look_0 {g : jG} {d : Nat} {K : jK} {cr : jR} {c sl : Nat} {Qr : jQ} {Qx : jX} (hM : jMW K cr) (n : Nat) : ∀ (k : Nat) (ci : jI) (cj : jJ) {q}, fX6_look_0 n  k  ci cj = some q → Qr (some (.int q.1)) K q.2.1 q.2.2 cr → Ev g (d + 1) mX6_look 0 [.ref 1547] [] K ci cj cr c sl Qr Qx := by
  intro k
  induction k with
  | zero =>
    intro  ci cj q h hq
    rw [fX6_look_0.eq_1] at h; cases h
  | succ k ih =>
    intro  ci cj q h hq
    rw [fX6_look_0.eq_2] at h
    refine ev_aload_n dX6_look_0 rfl ?_
    refine ev_getI dX6_look_1 fX6_257_6 (hk1547 hM) (Or.inl (hl1547 hM)) rfl ?_
    refine ev_aload_n dX6_look_4 rfl ?_
    refine ev_getI dX6_look_5 fX6_260_6 (hk1547 hM) (Or.inl (hl1547 hM)) rfl ?_
    refine ev_icmp_ge 52 dX6_look_8 rfl (fun z1 => ?_) (fun z1 => ?_)
    · rw [if_pos z1] at h
      exact wX6_look_52 hM n    _ _ h hq
    · rw [if_neg z1] at h
      refine ev_aload_n dX6_look_11 rfl ?_
      refine ev_getR dX6_look_12 fX6_7_6 (hk1547 hM) (Or.inl (hl1547 hM)) rfl (hr0 hM) ?_
      refine ev_aload_n dX6_look_15 rfl ?_
      refine ev_getI dX6_look_16 fX6_257_6 (hk1547 hM) (Or.inl (hl1547 hM)) rfl ?_
      by_cases z2 : jok (ci 1547 2) 1600
      rotate_left
      · rw [if_neg z2] at h; cases h
      rw [if_pos z2] at h
      refine ev_iaload dX6_look_19 (hk1548 hM) (Or.inl (hl1548 hM)) (jok.ix z2 (hn1548 hM)) ?_
      refine ev_bipush (v := (nI 10)) dX6_look_20 jb10 ?_
      refine ev_icmp_eq 39 dX6_look_22 rfl (fun z3 => ?_) (fun z3 => ?_)
      · rw [if_pos z3] at h
        exact wX6_look_39 hM n _ (ih)  _ _ h hq
      · rw [if_neg z3] at h
        refine ev_aload_n dX6_look_25 rfl ?_
        refine ev_getR dX6_look_26 fX6_7_6 (hk1547 hM) (Or.inl (hl1547 hM)) rfl (hr0 hM) ?_
        refine ev_aload_n dX6_look_29 rfl ?_
        refine ev_getI dX6_look_30 fX6_257_6 (hk1547 hM) (Or.inl (hl1547 hM)) rfl ?_
        by_cases z4 : jok (ci 1547 2) 1600
        rotate_left
        · rw [if_neg z4] at h; cases h
        rw [if_pos z4] at h
        refine ev_iaload dX6_look_33 (hk1548 hM) (Or.inl (hl1548 hM)) (jok.ix z4 (hn1548 hM)) ?_
        refine ev_bipush (v := (nI 32)) dX6_look_34 jb32 ?_
        refine ev_icmp_ne 52 dX6_look_36 rfl (fun z5 => ?_) (fun z5 => ?_)
        · rw [if_neg z5] at h
          exact wX6_look_52 hM n    _ _ h hq
        · rw [if_pos z5] at h
          exact wX6_look_39 hM n _ (ih)  _ _ h hq
def fX6_look (n : Nat) (ci : jI) (cj : jJ) : Option (Int32 × jI × jJ) := fX6_look_0 n  n  ci cj
theorem metX6_look {g : jG} {d : Nat} {K : jK} {cr : jR} {c sl : Nat} {Qr : jQ} {Qx : jX} (hM : jMW K cr) (n : Nat) (ci : jI) (cj : jJ) {q} (h : fX6_look n  ci cj = some q) (hq : Qr (some (.int q.1)) K q.2.1 q.2.2 cr) : EvM g (d + 1) mX6_look [.ref 1547] K ci cj cr c sl Qr Qx := by
  unfold fX6_look at h
  show Ev g (d + 1) mX6_look 0 [.ref 1547] [] K ci cj cr c sl Qr Qx
  exact wX6_look_0 hM n   n  _ _ h hq
def fX6_stands_335 (n : Nat) : Nat → Int32 → jI → jJ → Option (jI × jJ)
  | 0, _, _, _ => none
  | k + 1, l1, ci, cj => if jok (nI 1) 8 then if (ci 1577 ((nI 1)).toNatClampNeg) ≤ l1 then some ((ju (ju ci 1547 68 (nI 0)) 1547 64 (nI 0)), cj) else if jok (((nI 2) * l1) + (nI 1)) 40 then if jok ((nI 25) + ((nI 2) * l1)) 166 then fX6_stands_335 n  k (l1 + (nI 1)) (ju ci 1585 (((nI 25) + ((nI 2) * l1))).toNatClampNeg (ci 1580 ((((nI 2) * l1) + (nI 1))).toNatClampNeg)) cj else none else none else none
theorem wX6_stands_335 {g : jG} {d : Nat} {K : jK} {cr : jR} {c sl : Nat} {Qr : jQ} {Qx : jX} (hM : jMW K cr) (n : Nat) : ∀ (k : Nat) (l1 : Int32) (ci : jI) (cj : jJ) {q}, fX6_stands_335 n  k l1 ci cj = some q → Qr none K q.1 q.2 cr → Ev g (d + 1) mX6_stands 335 [.ref 1547, .int l1] [] K ci cj cr c sl Qr Qx := by
  intro k
  induction k with
  | zero =>
    intro l1 ci cj q h hq
    rw [fX6_stands_335.eq_1] at h; cases h
  | succ k ih =>
    intro l1 ci cj q h hq
    rw [fX6_stands_335.eq_2] at h
    refine ev_iload_n dX6_stands_335 rfl ?_
    refine ev_aload_n dX6_stands_336 rfl ?_
    refine ev_getR dX6_stands_337 fX6_102_6 (hk1547 hM) (Or.inl (hl1547 hM)) rfl (hr39 hM) ?_
    refine ev_iconst (v := (nI 1)) dX6_stands_340 jc1 ?_
    by_cases z1 : jok (nI 1) 8
    rotate_left
    · rw [if_neg z1] at h; cases h
    rw [if_pos z1] at h
    refine ev_iaload dX6_stands_341 (hk1577 hM) (Or.inl (hl1577 hM)) (jok.ix z1 (hn1577 hM)) ?_
    refine ev_icmp_ge 372 dX6_stands_342 rfl (fun z2 => ?_) (fun z2 => ?_)
    · rw [if_pos z2] at h
      refine ev_aload_n dX6_stands_372 rfl ?_
      refine ev_iconst (v := (nI 0)) dX6_stands_373 jc0 ?_
      refine ev_putI dX6_stands_374 (pX6_393_6 _) (hk1547 hM) (hl1547 hM) rfl rfl rfl ?_
      refine ev_aload_n dX6_stands_377 rfl ?_
      refine ev_iconst (v := (nI 0)) dX6_stands_378 jc0 ?_
      refine ev_putI dX6_stands_379 (pX6_396_6 _) (hk1547 hM) (hl1547 hM) rfl rfl rfl ?_
      cases h
      exact ev_ret dX6_stands_382 rfl hq
    · rw [if_neg z2] at h
      refine ev_aload_n dX6_stands_345 rfl ?_
      refine ev_getR dX6_stands_346 fX6_127_6 (hk1547 hM) (Or.inl (hl1547 hM)) rfl (hr50 hM) ?_
      refine ev_bipush (v := (nI 25)) dX6_stands_349 jb25 ?_
      refine ev_iconst (v := (nI 2)) dX6_stands_351 jc2 ?_
      refine ev_iload_n dX6_stands_352 rfl ?_
      refine ev_imul dX6_stands_353 ?_
      refine ev_iadd dX6_stands_354 ?_
      refine ev_aload_n dX6_stands_355 rfl ?_
      refine ev_getR dX6_stands_356 fX6_112_6 (hk1547 hM) (Or.inl (hl1547 hM)) rfl (hr42 hM) ?_
      refine ev_iconst (v := (nI 2)) dX6_stands_359 jc2 ?_
      refine ev_iload_n dX6_stands_360 rfl ?_
      refine ev_imul dX6_stands_361 ?_
      refine ev_iconst (v := (nI 1)) dX6_stands_362 jc1 ?_
      refine ev_iadd dX6_stands_363 ?_
      by_cases z3 : jok (((nI 2) * l1) + (nI 1)) 40
      rotate_left
      · rw [if_neg z3] at h; cases h
      rw [if_pos z3] at h
      refine ev_iaload dX6_stands_364 (hk1580 hM) (Or.inl (hl1580 hM)) (jok.ix z3 (hn1580 hM)) ?_
      by_cases z4 : jok ((nI 25) + ((nI 2) * l1)) 166
      rotate_left
      · rw [if_neg z4] at h; cases h
      rw [if_pos z4] at h
      refine ev_iastore dX6_stands_365 (hk1585 hM) (hl1585 hM) (jok.ix z4 (hn1585 hM)) ?_
      refine ev_iinc (v := (l1 + (nI 1))) (L' := [_, _]) dX6_stands_366 rfl (by rw [ji_1]) (by decide) rfl ?_
      refine ev_goto 335 dX6_stands_369 rfl ?_
      exact ih _ _ _ h hq
def fX6_stands_296 (n : Nat) : Nat → Int32 → jI → jJ → Option (jI × jJ)
  | 0, _, _, _ => none
  | k + 1, l1, ci, cj => if jok (nI 0) 8 then if (ci 1577 ((nI 0)).toNatClampNeg) ≤ l1 then fX6_stands_335 n  n (nI 0) ci cj else if jok (((nI 2) * l1) + (nI 1)) 24 then if jok ((nI 7) + ((nI 3) * l1)) 166 then fX6_stands_296 n  k (l1 + (nI 1)) (ju ci 1585 (((nI 7) + ((nI 3) * l1))).toNatClampNeg (ci 1579 ((((nI 2) * l1) + (nI 1))).toNatClampNeg)) cj else none else none else none
theorem wX6_stands_296 {g : jG} {d : Nat} {K : jK} {cr : jR} {c sl : Nat} {Qr : jQ} {Qx : jX} (hM : jMW K cr) (n : Nat) : ∀ (k : Nat) (l1 : Int32) (ci : jI) (cj : jJ) {q}, fX6_stands_296 n  k l1 ci cj = some q → Qr none K q.1 q.2 cr → Ev g (d + 1) mX6_stands 296 [.ref 1547, .int l1] [] K ci cj cr c sl Qr Qx := by
  intro k
  induction k with
  | zero =>
    intro l1 ci cj q h hq
    rw [fX6_stands_296.eq_1] at h; cases h
  | succ k ih =>
    intro l1 ci cj q h hq
    rw [fX6_stands_296.eq_2] at h
    refine ev_iload_n dX6_stands_296 rfl ?_
    refine ev_aload_n dX6_stands_297 rfl ?_
    refine ev_getR dX6_stands_298 fX6_102_6 (hk1547 hM) (Or.inl (hl1547 hM)) rfl (hr39 hM) ?_
    refine ev_iconst (v := (nI 0)) dX6_stands_301 jc0 ?_
    by_cases z1 : jok (nI 0) 8
    rotate_left
    · rw [if_neg z1] at h; cases h
    rw [if_pos z1] at h
    refine ev_iaload dX6_stands_302 (hk1577 hM) (Or.inl (hl1577 hM)) (jok.ix z1 (hn1577 hM)) ?_
    refine ev_icmp_ge 333 dX6_stands_303 rfl (fun z2 => ?_) (fun z2 => ?_)
    · rw [if_pos z2] at h
      refine ev_iconst (v := (nI 0)) dX6_stands_333 jc0 ?_
      refine ev_istore_n (L' := [_, _]) dX6_stands_334 (by decide) rfl ?_
      exact wX6_stands_335 hM n   n _ _ _ h hq
    · rw [if_neg z2] at h
      refine ev_aload_n dX6_stands_306 rfl ?_
      refine ev_getR dX6_stands_307 fX6_127_6 (hk1547 hM) (Or.inl (hl1547 hM)) rfl (hr50 hM) ?_
      refine ev_bipush (v := (nI 7)) dX6_stands_310 jb7 ?_
      refine ev_iconst (v := (nI 3)) dX6_stands_312 jc3 ?_
      refine ev_iload_n dX6_stands_313 rfl ?_
      refine ev_imul dX6_stands_314 ?_
      refine ev_iadd dX6_stands_315 ?_
      refine ev_aload_n dX6_stands_316 rfl ?_
      refine ev_getR dX6_stands_317 fX6_109_6 (hk1547 hM) (Or.inl (hl1547 hM)) rfl (hr41 hM) ?_
      refine ev_iconst (v := (nI 2)) dX6_stands_320 jc2 ?_
      refine ev_iload_n dX6_stands_321 rfl ?_
      refine ev_imul dX6_stands_322 ?_
      refine ev_iconst (v := (nI 1)) dX6_stands_323 jc1 ?_
      refine ev_iadd dX6_stands_324 ?_
      by_cases z3 : jok (((nI 2) * l1) + (nI 1)) 24
      rotate_left
      · rw [if_neg z3] at h; cases h
      rw [if_pos z3] at h
      refine ev_iaload dX6_stands_325 (hk1579 hM) (Or.inl (hl1579 hM)) (jok.ix z3 (hn1579 hM)) ?_
      by_cases z4 : jok ((nI 7) + ((nI 3) * l1)) 166
      rotate_left
      · rw [if_neg z4] at h; cases h
      rw [if_pos z4] at h
      refine ev_iastore dX6_stands_326 (hk1585 hM) (hl1585 hM) (jok.ix z4 (hn1585 hM)) ?_
      refine ev_iinc (v := (l1 + (nI 1))) (L' := [_, _]) dX6_stands_327 rfl (by rw [ji_1]) (by decide) rfl ?_
      refine ev_goto 296 dX6_stands_330 rfl ?_
      exact ih _ _ _ h hq
def fX6_stands_276 (n : Nat) (rec240 : Int32 → jI → jJ → Option (jI × jJ)) (l1 : Int32) (t0 : Int32) (t1 : Int32) (ci : jI) (cj : jJ) : Option (jI × jJ) := if jok t1 166 then if jok ((nI 2) + ((nI 2) * l1)) 166 then rec240 (l1 + (nI 1)) (ju (ju ci 1585 (t1).toNatClampNeg t0) 1585 (((nI 2) + ((nI 2) * l1))).toNatClampNeg (-1)) cj else none else none
theorem wX6_stands_276 {g : jG} {d : Nat} {K : jK} {cr : jR} {c sl : Nat} {Qr : jQ} {Qx : jX} (hM : jMW K cr) (n : Nat) (rec240 : Int32 → jI → jJ → Option (jI × jJ)) (hrec240 : (∀ (l1 : Int32) (ci : jI) (cj : jJ) {q}, rec240 l1 ci cj = some q → Qr none K q.1 q.2 cr → Ev g (d + 1) mX6_stands 240 [.ref 1547, .int l1] [] K ci cj cr c sl Qr Qx)) (l1 : Int32) (t0 : Int32) (t1 : Int32) (ci : jI) (cj : jJ) {q} (h : fX6_stands_276 n rec240 l1 t0 t1 ci cj = some q) (hq : Qr none K q.1 q.2 cr) : Ev g (d + 1) mX6_stands 276 [.ref 1547, .int l1] [.int t0, .int t1, .ref 1585] K ci cj cr c sl Qr Qx := by
  unfold fX6_stands_276 at h
  by_cases z1 : jok t1 166
  rotate_left
  · rw [if_neg z1] at h; cases h
  rw [if_pos z1] at h
  refine ev_iastore dX6_stands_276 (hk1585 hM) (hl1585 hM) (jok.ix z1 (hn1585 hM)) ?_
  refine ev_aload_n dX6_stands_277 rfl ?_
  refine ev_getR dX6_stands_278 fX6_127_6 (hk1547 hM) (Or.inl (hl1547 hM)) rfl (hr50 hM) ?_
  refine ev_iconst (v := (nI 2)) dX6_stands_281 jc2 ?_
  refine ev_iconst (v := (nI 2)) dX6_stands_282 jc2 ?_
  refine ev_iload_n dX6_stands_283 rfl ?_
  refine ev_imul dX6_stands_284 ?_
  refine ev_iadd dX6_stands_285 ?_
  refine ev_iconst (v := (-1)) dX6_stands_286 jcm1 ?_
  by_cases z2 : jok ((nI 2) + ((nI 2) * l1)) 166
  rotate_left
  · rw [if_neg z2] at h; cases h
  rw [if_pos z2] at h
  refine ev_iastore dX6_stands_287 (hk1585 hM) (hl1585 hM) (jok.ix z2 (hn1585 hM)) ?_
  refine ev_iinc (v := (l1 + (nI 1))) (L' := [_, _]) dX6_stands_288 rfl (by rw [ji_1]) (by decide) rfl ?_
  refine ev_goto 240 dX6_stands_291 rfl ?_
  exact hrec240 _ _ _ h hq
def fX6_stands_240 (n : Nat) : Nat → Int32 → jI → jJ → Option (jI × jJ)
  | 0, _, _, _ => none
  | k + 1, l1, ci, cj => if (nI 3) ≤ l1 then fX6_stands_296 n  n (nI 0) ci cj else if jok (nI 2) 8 then if (ci 1577 ((nI 2)).toNatClampNeg) ≤ l1 then fX6_stands_276 n (fX6_stands_240 n  k) l1 (nI 0) ((nI 1) + ((nI 2) * l1)) ci cj else if jok ((nI 2) * l1) 12 then fX6_stands_276 n (fX6_stands_240 n  k) l1 (ci 1581 (((nI 2) * l1)).toNatClampNeg) ((nI 1) + ((nI 2) * l1)) ci cj else none else none
theorem wX6_stands_240 {g : jG} {d : Nat} {K : jK} {cr : jR} {c sl : Nat} {Qr : jQ} {Qx : jX} (hM : jMW K cr) (n : Nat) : ∀ (k : Nat) (l1 : Int32) (ci : jI) (cj : jJ) {q}, fX6_stands_240 n  k l1 ci cj = some q → Qr none K q.1 q.2 cr → Ev g (d + 1) mX6_stands 240 [.ref 1547, .int l1] [] K ci cj cr c sl Qr Qx := by
  intro k
  induction k with
  | zero =>
    intro l1 ci cj q h hq
    rw [fX6_stands_240.eq_1] at h; cases h
  | succ k ih =>
    intro l1 ci cj q h hq
    rw [fX6_stands_240.eq_2] at h
    refine ev_iload_n dX6_stands_240 rfl ?_
    refine ev_iconst (v := (nI 3)) dX6_stands_241 jc3 ?_
    refine ev_icmp_ge 294 dX6_stands_242 rfl (fun z1 => ?_) (fun z1 => ?_)
    · rw [if_pos z1] at h
      refine ev_iconst (v := (nI 0)) dX6_stands_294 jc0 ?_
      refine ev_istore_n (L' := [_, _]) dX6_stands_295 (by decide) rfl ?_
      exact wX6_stands_296 hM n   n _ _ _ h hq
    · rw [if_neg z1] at h
      refine ev_aload_n dX6_stands_245 rfl ?_
      refine ev_getR dX6_stands_246 fX6_127_6 (hk1547 hM) (Or.inl (hl1547 hM)) rfl (hr50 hM) ?_
      refine ev_iconst (v := (nI 1)) dX6_stands_249 jc1 ?_
      refine ev_iconst (v := (nI 2)) dX6_stands_250 jc2 ?_
      refine ev_iload_n dX6_stands_251 rfl ?_
      refine ev_imul dX6_stands_252 ?_
      refine ev_iadd dX6_stands_253 ?_
      refine ev_iload_n dX6_stands_254 rfl ?_
      refine ev_aload_n dX6_stands_255 rfl ?_
      refine ev_getR dX6_stands_256 fX6_102_6 (hk1547 hM) (Or.inl (hl1547 hM)) rfl (hr39 hM) ?_
      refine ev_iconst (v := (nI 2)) dX6_stands_259 jc2 ?_
      by_cases z2 : jok (nI 2) 8
      rotate_left
      · rw [if_neg z2] at h; cases h
      rw [if_pos z2] at h
      refine ev_iaload dX6_stands_260 (hk1577 hM) (Or.inl (hl1577 hM)) (jok.ix z2 (hn1577 hM)) ?_
      refine ev_icmp_ge 275 dX6_stands_261 rfl (fun z3 => ?_) (fun z3 => ?_)
      · rw [if_pos z3] at h
        refine ev_iconst (v := (nI 0)) dX6_stands_275 jc0 ?_
        exact wX6_stands_276 hM n _ (ih) _ _ _ _ _ h hq
      · rw [if_neg z3] at h
        refine ev_aload_n dX6_stands_264 rfl ?_
        refine ev_getR dX6_stands_265 fX6_115_6 (hk1547 hM) (Or.inl (hl1547 hM)) rfl (hr43 hM) ?_
        refine ev_iconst (v := (nI 2)) dX6_stands_268 jc2 ?_
        refine ev_iload_n dX6_stands_269 rfl ?_
        refine ev_imul dX6_stands_270 ?_
        by_cases z4 : jok ((nI 2) * l1) 12
        rotate_left
        · rw [if_neg z4] at h; cases h
        rw [if_pos z4] at h
        refine ev_iaload dX6_stands_271 (hk1581 hM) (Or.inl (hl1581 hM)) (jok.ix z4 (hn1581 hM)) ?_
        refine ev_goto 276 dX6_stands_272 rfl ?_
        exact wX6_stands_276 hM n _ (ih) _ _ _ _ _ h hq
def fX6_stands_218 (n : Nat) : Nat → Int32 → jI → jJ → Option (jI × jJ)
  | 0, _, _, _ => none
  | k + 1, l1, ci, cj => if (nI 166) ≤ l1 then fX6_stands_240 n  n (nI 0) ci cj else if jok l1 166 then fX6_stands_218 n  k (l1 + (nI 1)) (ju ci 1585 (l1).toNatClampNeg (nI 0)) cj else none
theorem wX6_stands_218 {g : jG} {d : Nat} {K : jK} {cr : jR} {c sl : Nat} {Qr : jQ} {Qx : jX} (hM : jMW K cr) (n : Nat) : ∀ (k : Nat) (l1 : Int32) (ci : jI) (cj : jJ) {q}, fX6_stands_218 n  k l1 ci cj = some q → Qr none K q.1 q.2 cr → Ev g (d + 1) mX6_stands 218 [.ref 1547, .int l1] [] K ci cj cr c sl Qr Qx := by
  intro k
  induction k with
  | zero =>
    intro l1 ci cj q h hq
    rw [fX6_stands_218.eq_1] at h; cases h
  | succ k ih =>
    intro l1 ci cj q h hq
    rw [fX6_stands_218.eq_2] at h
    refine ev_iload_n dX6_stands_218 rfl ?_
    refine ev_sipush (v := (nI 166)) dX6_stands_219 js166 ?_
    refine ev_icmp_ge 238 dX6_stands_222 rfl (fun z1 => ?_) (fun z1 => ?_)
    · rw [if_pos z1] at h
      refine ev_iconst (v := (nI 0)) dX6_stands_238 jc0 ?_
      refine ev_istore_n (L' := [_, _]) dX6_stands_239 (by decide) rfl ?_
      exact wX6_stands_240 hM n   n _ _ _ h hq
    · rw [if_neg z1] at h
      refine ev_aload_n dX6_stands_225 rfl ?_
      refine ev_getR dX6_stands_226 fX6_127_6 (hk1547 hM) (Or.inl (hl1547 hM)) rfl (hr50 hM) ?_
      refine ev_iload_n dX6_stands_229 rfl ?_
      refine ev_iconst (v := (nI 0)) dX6_stands_230 jc0 ?_
      by_cases z2 : jok l1 166
      rotate_left
      · rw [if_neg z2] at h; cases h
      rw [if_pos z2] at h
      refine ev_iastore dX6_stands_231 (hk1585 hM) (hl1585 hM) (jok.ix z2 (hn1585 hM)) ?_
      refine ev_iinc (v := (l1 + (nI 1))) (L' := [_, _]) dX6_stands_232 rfl (by rw [ji_1]) (by decide) rfl ?_
      refine ev_goto 218 dX6_stands_235 rfl ?_
      exact ih _ _ _ h hq
def fX6_stands_186 (n : Nat) : Nat → Int32 → jI → jJ → Option (jI × jJ)
  | 0, _, _, _ => none
  | k + 1, l1, ci, cj => if (ci 1547 47) ≤ l1 then fX6_stands_218 n  n (nI 0) ci cj else if jok l1 3200 then if jok ((nI 1600) + l1) 3200 then fX6_stands_186 n  k (l1 + (nI 1)) (ju ci 1584 (((nI 1600) + l1)).toNatClampNeg (ci 1584 (l1).toNatClampNeg)) cj else none else none
theorem wX6_stands_186 {g : jG} {d : Nat} {K : jK} {cr : jR} {c sl : Nat} {Qr : jQ} {Qx : jX} (hM : jMW K cr) (n : Nat) : ∀ (k : Nat) (l1 : Int32) (ci : jI) (cj : jJ) {q}, fX6_stands_186 n  k l1 ci cj = some q → Qr none K q.1 q.2 cr → Ev g (d + 1) mX6_stands 186 [.ref 1547, .int l1] [] K ci cj cr c sl Qr Qx := by
  intro k
  induction k with
  | zero =>
    intro l1 ci cj q h hq
    rw [fX6_stands_186.eq_1] at h; cases h
  | succ k ih =>
    intro l1 ci cj q h hq
    rw [fX6_stands_186.eq_2] at h
    refine ev_iload_n dX6_stands_186 rfl ?_
    refine ev_aload_n dX6_stands_187 rfl ?_
    refine ev_getI dX6_stands_188 fX6_362_6 (hk1547 hM) (Or.inl (hl1547 hM)) rfl ?_
    refine ev_icmp_ge 216 dX6_stands_191 rfl (fun z1 => ?_) (fun z1 => ?_)
    · rw [if_pos z1] at h
      refine ev_iconst (v := (nI 0)) dX6_stands_216 jc0 ?_
      refine ev_istore_n (L' := [_, _]) dX6_stands_217 (by decide) rfl ?_
      exact wX6_stands_218 hM n   n _ _ _ h hq
    · rw [if_neg z1] at h
      refine ev_aload_n dX6_stands_194 rfl ?_
      refine ev_getR dX6_stands_195 fX6_124_6 (hk1547 hM) (Or.inl (hl1547 hM)) rfl (hr46 hM) ?_
      refine ev_sipush (v := (nI 1600)) dX6_stands_198 js1600 ?_
      refine ev_iload_n dX6_stands_201 rfl ?_
      refine ev_iadd dX6_stands_202 ?_
      refine ev_aload_n dX6_stands_203 rfl ?_
      refine ev_getR dX6_stands_204 fX6_124_6 (hk1547 hM) (Or.inl (hl1547 hM)) rfl (hr46 hM) ?_
      refine ev_iload_n dX6_stands_207 rfl ?_
      by_cases z2 : jok l1 3200
      rotate_left
      · rw [if_neg z2] at h; cases h
      rw [if_pos z2] at h
      refine ev_iaload dX6_stands_208 (hk1584 hM) (Or.inl (hl1584 hM)) (jok.ix z2 (hn1584 hM)) ?_
      by_cases z3 : jok ((nI 1600) + l1) 3200
      rotate_left
      · rw [if_neg z3] at h; cases h
      rw [if_pos z3] at h
      refine ev_iastore dX6_stands_209 (hk1584 hM) (hl1584 hM) (jok.ix z3 (hn1584 hM)) ?_
      refine ev_iinc (v := (l1 + (nI 1))) (L' := [_, _]) dX6_stands_210 rfl (by rw [ji_1]) (by decide) rfl ?_
      refine ev_goto 186 dX6_stands_213 rfl ?_
      exact ih _ _ _ h hq
def fX6_stands_157 (n : Nat) : Nat → Int32 → jI → jJ → Option (jI × jJ)
  | 0, _, _, _ => none
  | k + 1, l1, ci, cj => if (nI 6) ≤ l1 then fX6_stands_186 n  n (nI 0) ci cj else if jok l1 12 then if jok ((nI 6) + l1) 12 then fX6_stands_157 n  k (l1 + (nI 1)) (ju ci 1581 (((nI 6) + l1)).toNatClampNeg (ci 1581 (l1).toNatClampNeg)) cj else none else none
theorem wX6_stands_157 {g : jG} {d : Nat} {K : jK} {cr : jR} {c sl : Nat} {Qr : jQ} {Qx : jX} (hM : jMW K cr) (n : Nat) : ∀ (k : Nat) (l1 : Int32) (ci : jI) (cj : jJ) {q}, fX6_stands_157 n  k l1 ci cj = some q → Qr none K q.1 q.2 cr → Ev g (d + 1) mX6_stands 157 [.ref 1547, .int l1] [] K ci cj cr c sl Qr Qx := by
  intro k
  induction k with
  | zero =>
    intro l1 ci cj q h hq
    rw [fX6_stands_157.eq_1] at h; cases h
  | succ k ih =>
    intro l1 ci cj q h hq
    rw [fX6_stands_157.eq_2] at h
    refine ev_iload_n dX6_stands_157 rfl ?_
    refine ev_bipush (v := (nI 6)) dX6_stands_158 jb6 ?_
    refine ev_icmp_ge 184 dX6_stands_160 rfl (fun z1 => ?_) (fun z1 => ?_)
    · rw [if_pos z1] at h
      refine ev_iconst (v := (nI 0)) dX6_stands_184 jc0 ?_
      refine ev_istore_n (L' := [_, _]) dX6_stands_185 (by decide) rfl ?_
      exact wX6_stands_186 hM n   n _ _ _ h hq
    · rw [if_neg z1] at h
      refine ev_aload_n dX6_stands_163 rfl ?_
      refine ev_getR dX6_stands_164 fX6_115_6 (hk1547 hM) (Or.inl (hl1547 hM)) rfl (hr43 hM) ?_
      refine ev_bipush (v := (nI 6)) dX6_stands_167 jb6 ?_
      refine ev_iload_n dX6_stands_169 rfl ?_
      refine ev_iadd dX6_stands_170 ?_
      refine ev_aload_n dX6_stands_171 rfl ?_
      refine ev_getR dX6_stands_172 fX6_115_6 (hk1547 hM) (Or.inl (hl1547 hM)) rfl (hr43 hM) ?_
      refine ev_iload_n dX6_stands_175 rfl ?_
      by_cases z2 : jok l1 12
      rotate_left
      · rw [if_neg z2] at h; cases h
      rw [if_pos z2] at h
      refine ev_iaload dX6_stands_176 (hk1581 hM) (Or.inl (hl1581 hM)) (jok.ix z2 (hn1581 hM)) ?_
      by_cases z3 : jok ((nI 6) + l1) 12
      rotate_left
      · rw [if_neg z3] at h; cases h
      rw [if_pos z3] at h
      refine ev_iastore dX6_stands_177 (hk1581 hM) (hl1581 hM) (jok.ix z3 (hn1581 hM)) ?_
      refine ev_iinc (v := (l1 + (nI 1))) (L' := [_, _]) dX6_stands_178 rfl (by rw [ji_1]) (by decide) rfl ?_
      refine ev_goto 157 dX6_stands_181 rfl ?_
      exact ih _ _ _ h hq
def fX6_stands_128 (n : Nat) : Nat → Int32 → jI → jJ → Option (jI × jJ)
  | 0, _, _, _ => none
  | k + 1, l1, ci, cj => if (nI 20) ≤ l1 then fX6_stands_157 n  n (nI 0) ci cj else if jok l1 40 then if jok ((nI 20) + l1) 40 then fX6_stands_128 n  k (l1 + (nI 1)) (ju ci 1580 (((nI 20) + l1)).toNatClampNeg (ci 1580 (l1).toNatClampNeg)) cj else none else none
theorem wX6_stands_128 {g : jG} {d : Nat} {K : jK} {cr : jR} {c sl : Nat} {Qr : jQ} {Qx : jX} (hM : jMW K cr) (n : Nat) : ∀ (k : Nat) (l1 : Int32) (ci : jI) (cj : jJ) {q}, fX6_stands_128 n  k l1 ci cj = some q → Qr none K q.1 q.2 cr → Ev g (d + 1) mX6_stands 128 [.ref 1547, .int l1] [] K ci cj cr c sl Qr Qx := by
  intro k
  induction k with
  | zero =>
    intro l1 ci cj q h hq
    rw [fX6_stands_128.eq_1] at h; cases h
  | succ k ih =>
    intro l1 ci cj q h hq
    rw [fX6_stands_128.eq_2] at h
    refine ev_iload_n dX6_stands_128 rfl ?_
    refine ev_bipush (v := (nI 20)) dX6_stands_129 jb20 ?_
    refine ev_icmp_ge 155 dX6_stands_131 rfl (fun z1 => ?_) (fun z1 => ?_)
    · rw [if_pos z1] at h
      refine ev_iconst (v := (nI 0)) dX6_stands_155 jc0 ?_
      refine ev_istore_n (L' := [_, _]) dX6_stands_156 (by decide) rfl ?_
      exact wX6_stands_157 hM n   n _ _ _ h hq
    · rw [if_neg z1] at h
      refine ev_aload_n dX6_stands_134 rfl ?_
      refine ev_getR dX6_stands_135 fX6_112_6 (hk1547 hM) (Or.inl (hl1547 hM)) rfl (hr42 hM) ?_
      refine ev_bipush (v := (nI 20)) dX6_stands_138 jb20 ?_
      refine ev_iload_n dX6_stands_140 rfl ?_
      refine ev_iadd dX6_stands_141 ?_
      refine ev_aload_n dX6_stands_142 rfl ?_
      refine ev_getR dX6_stands_143 fX6_112_6 (hk1547 hM) (Or.inl (hl1547 hM)) rfl (hr42 hM) ?_
      refine ev_iload_n dX6_stands_146 rfl ?_
      by_cases z2 : jok l1 40
      rotate_left
      · rw [if_neg z2] at h; cases h
      rw [if_pos z2] at h
      refine ev_iaload dX6_stands_147 (hk1580 hM) (Or.inl (hl1580 hM)) (jok.ix z2 (hn1580 hM)) ?_
      by_cases z3 : jok ((nI 20) + l1) 40
      rotate_left
      · rw [if_neg z3] at h; cases h
      rw [if_pos z3] at h
      refine ev_iastore dX6_stands_148 (hk1580 hM) (hl1580 hM) (jok.ix z3 (hn1580 hM)) ?_
      refine ev_iinc (v := (l1 + (nI 1))) (L' := [_, _]) dX6_stands_149 rfl (by rw [ji_1]) (by decide) rfl ?_
      refine ev_goto 128 dX6_stands_152 rfl ?_
      exact ih _ _ _ h hq
def fX6_stands_99 (n : Nat) : Nat → Int32 → jI → jJ → Option (jI × jJ)
  | 0, _, _, _ => none
  | k + 1, l1, ci, cj => if (nI 12) ≤ l1 then fX6_stands_128 n  n (nI 0) ci cj else if jok l1 24 then if jok ((nI 12) + l1) 24 then fX6_stands_99 n  k (l1 + (nI 1)) (ju ci 1579 (((nI 12) + l1)).toNatClampNeg (ci 1579 (l1).toNatClampNeg)) cj else none else none
theorem wX6_stands_99 {g : jG} {d : Nat} {K : jK} {cr : jR} {c sl : Nat} {Qr : jQ} {Qx : jX} (hM : jMW K cr) (n : Nat) : ∀ (k : Nat) (l1 : Int32) (ci : jI) (cj : jJ) {q}, fX6_stands_99 n  k l1 ci cj = some q → Qr none K q.1 q.2 cr → Ev g (d + 1) mX6_stands 99 [.ref 1547, .int l1] [] K ci cj cr c sl Qr Qx := by
  intro k
  induction k with
  | zero =>
    intro l1 ci cj q h hq
    rw [fX6_stands_99.eq_1] at h; cases h
  | succ k ih =>
    intro l1 ci cj q h hq
    rw [fX6_stands_99.eq_2] at h
    refine ev_iload_n dX6_stands_99 rfl ?_
    refine ev_bipush (v := (nI 12)) dX6_stands_100 jb12 ?_
    refine ev_icmp_ge 126 dX6_stands_102 rfl (fun z1 => ?_) (fun z1 => ?_)
    · rw [if_pos z1] at h
      refine ev_iconst (v := (nI 0)) dX6_stands_126 jc0 ?_
      refine ev_istore_n (L' := [_, _]) dX6_stands_127 (by decide) rfl ?_
      exact wX6_stands_128 hM n   n _ _ _ h hq
    · rw [if_neg z1] at h
      refine ev_aload_n dX6_stands_105 rfl ?_
      refine ev_getR dX6_stands_106 fX6_109_6 (hk1547 hM) (Or.inl (hl1547 hM)) rfl (hr41 hM) ?_
      refine ev_bipush (v := (nI 12)) dX6_stands_109 jb12 ?_
      refine ev_iload_n dX6_stands_111 rfl ?_
      refine ev_iadd dX6_stands_112 ?_
      refine ev_aload_n dX6_stands_113 rfl ?_
      refine ev_getR dX6_stands_114 fX6_109_6 (hk1547 hM) (Or.inl (hl1547 hM)) rfl (hr41 hM) ?_
      refine ev_iload_n dX6_stands_117 rfl ?_
      by_cases z2 : jok l1 24
      rotate_left
      · rw [if_neg z2] at h; cases h
      rw [if_pos z2] at h
      refine ev_iaload dX6_stands_118 (hk1579 hM) (Or.inl (hl1579 hM)) (jok.ix z2 (hn1579 hM)) ?_
      by_cases z3 : jok ((nI 12) + l1) 24
      rotate_left
      · rw [if_neg z3] at h; cases h
      rw [if_pos z3] at h
      refine ev_iastore dX6_stands_119 (hk1579 hM) (hl1579 hM) (jok.ix z3 (hn1579 hM)) ?_
      refine ev_iinc (v := (l1 + (nI 1))) (L' := [_, _]) dX6_stands_120 rfl (by rw [ji_1]) (by decide) rfl ?_
      refine ev_goto 99 dX6_stands_123 rfl ?_
      exact ih _ _ _ h hq
def fX6_stands_70 (n : Nat) : Nat → Int32 → jI → jJ → Option (jI × jJ)
  | 0, _, _, _ => none
  | k + 1, l1, ci, cj => if (nI 30) ≤ l1 then fX6_stands_99 n  n (nI 0) ci cj else if jok l1 60 then if jok ((nI 30) + l1) 60 then fX6_stands_70 n  k (l1 + (nI 1)) ci (ju cj 1578 (((nI 30) + l1)).toNatClampNeg (cj 1578 (l1).toNatClampNeg)) else none else none
theorem wX6_stands_70 {g : jG} {d : Nat} {K : jK} {cr : jR} {c sl : Nat} {Qr : jQ} {Qx : jX} (hM : jMW K cr) (n : Nat) : ∀ (k : Nat) (l1 : Int32) (ci : jI) (cj : jJ) {q}, fX6_stands_70 n  k l1 ci cj = some q → Qr none K q.1 q.2 cr → Ev g (d + 1) mX6_stands 70 [.ref 1547, .int l1] [] K ci cj cr c sl Qr Qx := by
  intro k
  induction k with
  | zero =>
    intro l1 ci cj q h hq
    rw [fX6_stands_70.eq_1] at h; cases h
  | succ k ih =>
    intro l1 ci cj q h hq
    rw [fX6_stands_70.eq_2] at h
    refine ev_iload_n dX6_stands_70 rfl ?_
    refine ev_bipush (v := (nI 30)) dX6_stands_71 jb30 ?_
    refine ev_icmp_ge 97 dX6_stands_73 rfl (fun z1 => ?_) (fun z1 => ?_)
    · rw [if_pos z1] at h
      refine ev_iconst (v := (nI 0)) dX6_stands_97 jc0 ?_
      refine ev_istore_n (L' := [_, _]) dX6_stands_98 (by decide) rfl ?_
      exact wX6_stands_99 hM n   n _ _ _ h hq
    · rw [if_neg z1] at h
      refine ev_aload_n dX6_stands_76 rfl ?_
      refine ev_getR dX6_stands_77 fX6_105_6 (hk1547 hM) (Or.inl (hl1547 hM)) rfl (hr40 hM) ?_
      refine ev_bipush (v := (nI 30)) dX6_stands_80 jb30 ?_
      refine ev_iload_n dX6_stands_82 rfl ?_
      refine ev_iadd dX6_stands_83 ?_
      refine ev_aload_n dX6_stands_84 rfl ?_
      refine ev_getR dX6_stands_85 fX6_105_6 (hk1547 hM) (Or.inl (hl1547 hM)) rfl (hr40 hM) ?_
      refine ev_iload_n dX6_stands_88 rfl ?_
      by_cases z2 : jok l1 60
      rotate_left
      · rw [if_neg z2] at h; cases h
      rw [if_pos z2] at h
      refine ev_laload dX6_stands_89 (hk1578 hM) (Or.inl (hl1578 hM)) (jok.ix z2 (hn1578 hM)) ?_
      by_cases z3 : jok ((nI 30) + l1) 60
      rotate_left
      · rw [if_neg z3] at h; cases h
      rw [if_pos z3] at h
      refine ev_lastore dX6_stands_90 (hk1578 hM) (hl1578 hM) (jok.ix z3 (hn1578 hM)) ?_
      refine ev_iinc (v := (l1 + (nI 1))) (L' := [_, _]) dX6_stands_91 rfl (by rw [ji_1]) (by decide) rfl ?_
      refine ev_goto 70 dX6_stands_94 rfl ?_
      exact ih _ _ _ h hq
def fX6_stands_29 (n : Nat) : Nat → Int32 → jI → jJ → Option (jI × jJ)
  | 0, _, _, _ => none
  | k + 1, l1, ci, cj => if (nI 4) ≤ l1 then fX6_stands_70 n  n (nI 0) ci cj else if jok l1 8 then if jok ((nI 4) + l1) 8 then if jok l1 8 then if jok ((nI 4) + l1) 8 then fX6_stands_29 n  k (l1 + (nI 1)) (ju (ju ci 1582 (((nI 4) + l1)).toNatClampNeg (ci 1582 (l1).toNatClampNeg)) 1583 (((nI 4) + l1)).toNatClampNeg ((ju ci 1582 (((nI 4) + l1)).toNatClampNeg (ci 1582 (l1).toNatClampNeg)) 1583 (l1).toNatClampNeg)) cj else none else none else none else none
theorem wX6_stands_29 {g : jG} {d : Nat} {K : jK} {cr : jR} {c sl : Nat} {Qr : jQ} {Qx : jX} (hM : jMW K cr) (n : Nat) : ∀ (k : Nat) (l1 : Int32) (ci : jI) (cj : jJ) {q}, fX6_stands_29 n  k l1 ci cj = some q → Qr none K q.1 q.2 cr → Ev g (d + 1) mX6_stands 29 [.ref 1547, .int l1] [] K ci cj cr c sl Qr Qx := by
  intro k
  induction k with
  | zero =>
    intro l1 ci cj q h hq
    rw [fX6_stands_29.eq_1] at h; cases h
  | succ k ih =>
    intro l1 ci cj q h hq
    rw [fX6_stands_29.eq_2] at h
    refine ev_iload_n dX6_stands_29 rfl ?_
    refine ev_iconst (v := (nI 4)) dX6_stands_30 jc4 ?_
    refine ev_icmp_ge 68 dX6_stands_31 rfl (fun z1 => ?_) (fun z1 => ?_)
    · rw [if_pos z1] at h
      refine ev_iconst (v := (nI 0)) dX6_stands_68 jc0 ?_
      refine ev_istore_n (L' := [_, _]) dX6_stands_69 (by decide) rfl ?_
      exact wX6_stands_70 hM n   n _ _ _ h hq
    · rw [if_neg z1] at h
      refine ev_aload_n dX6_stands_34 rfl ?_
      refine ev_getR dX6_stands_35 fX6_118_6 (hk1547 hM) (Or.inl (hl1547 hM)) rfl (hr44 hM) ?_
      refine ev_iconst (v := (nI 4)) dX6_stands_38 jc4 ?_
      refine ev_iload_n dX6_stands_39 rfl ?_
      refine ev_iadd dX6_stands_40 ?_
      refine ev_aload_n dX6_stands_41 rfl ?_
      refine ev_getR dX6_stands_42 fX6_118_6 (hk1547 hM) (Or.inl (hl1547 hM)) rfl (hr44 hM) ?_
      refine ev_iload_n dX6_stands_45 rfl ?_
      by_cases z2 : jok l1 8
      rotate_left
      · rw [if_neg z2] at h; cases h
      rw [if_pos z2] at h
      refine ev_iaload dX6_stands_46 (hk1582 hM) (Or.inl (hl1582 hM)) (jok.ix z2 (hn1582 hM)) ?_
      by_cases z3 : jok ((nI 4) + l1) 8
      rotate_left
      · rw [if_neg z3] at h; cases h
      rw [if_pos z3] at h
      refine ev_iastore dX6_stands_47 (hk1582 hM) (hl1582 hM) (jok.ix z3 (hn1582 hM)) ?_
      refine ev_aload_n dX6_stands_48 rfl ?_
      refine ev_getR dX6_stands_49 fX6_121_6 (hk1547 hM) (Or.inl (hl1547 hM)) rfl (hr45 hM) ?_
      refine ev_iconst (v := (nI 4)) dX6_stands_52 jc4 ?_
      refine ev_iload_n dX6_stands_53 rfl ?_
      refine ev_iadd dX6_stands_54 ?_
      refine ev_aload_n dX6_stands_55 rfl ?_
      refine ev_getR dX6_stands_56 fX6_121_6 (hk1547 hM) (Or.inl (hl1547 hM)) rfl (hr45 hM) ?_
      refine ev_iload_n dX6_stands_59 rfl ?_
      by_cases z4 : jok l1 8
      rotate_left
      · rw [if_neg z4] at h; cases h
      rw [if_pos z4] at h
      refine ev_iaload dX6_stands_60 (hk1583 hM) (Or.inl (hl1583 hM)) (jok.ix z4 (hn1583 hM)) ?_
      by_cases z5 : jok ((nI 4) + l1) 8
      rotate_left
      · rw [if_neg z5] at h; cases h
      rw [if_pos z5] at h
      refine ev_iastore dX6_stands_61 (hk1583 hM) (hl1583 hM) (jok.ix z5 (hn1583 hM)) ?_
      refine ev_iinc (v := (l1 + (nI 1))) (L' := [_, _]) dX6_stands_62 rfl (by rw [ji_1]) (by decide) rfl ?_
      refine ev_goto 29 dX6_stands_65 rfl ?_
      exact ih _ _ _ h hq
def fX6_stands_2 (n : Nat) : Nat → Int32 → jI → jJ → Option (jI × jJ)
  | 0, _, _, _ => none
  | k + 1, l1, ci, cj => if (nI 4) ≤ l1 then fX6_stands_29 n  n (nI 0) ci cj else if jok l1 8 then if jok ((nI 4) + l1) 8 then fX6_stands_2 n  k (l1 + (nI 1)) (ju ci 1577 (((nI 4) + l1)).toNatClampNeg (ci 1577 (l1).toNatClampNeg)) cj else none else none
theorem wX6_stands_2 {g : jG} {d : Nat} {K : jK} {cr : jR} {c sl : Nat} {Qr : jQ} {Qx : jX} (hM : jMW K cr) (n : Nat) : ∀ (k : Nat) (l1 : Int32) (ci : jI) (cj : jJ) {q}, fX6_stands_2 n  k l1 ci cj = some q → Qr none K q.1 q.2 cr → Ev g (d + 1) mX6_stands 2 [.ref 1547, .int l1] [] K ci cj cr c sl Qr Qx := by
  intro k
  induction k with
  | zero =>
    intro l1 ci cj q h hq
    rw [fX6_stands_2.eq_1] at h; cases h
  | succ k ih =>
    intro l1 ci cj q h hq
    rw [fX6_stands_2.eq_2] at h
    refine ev_iload_n dX6_stands_2 rfl ?_
    refine ev_iconst (v := (nI 4)) dX6_stands_3 jc4 ?_
    refine ev_icmp_ge 27 dX6_stands_4 rfl (fun z1 => ?_) (fun z1 => ?_)
    · rw [if_pos z1] at h
      refine ev_iconst (v := (nI 0)) dX6_stands_27 jc0 ?_
      refine ev_istore_n (L' := [_, _]) dX6_stands_28 (by decide) rfl ?_
      exact wX6_stands_29 hM n   n _ _ _ h hq
    · rw [if_neg z1] at h
      refine ev_aload_n dX6_stands_7 rfl ?_
      refine ev_getR dX6_stands_8 fX6_102_6 (hk1547 hM) (Or.inl (hl1547 hM)) rfl (hr39 hM) ?_
      refine ev_iconst (v := (nI 4)) dX6_stands_11 jc4 ?_
      refine ev_iload_n dX6_stands_12 rfl ?_
      refine ev_iadd dX6_stands_13 ?_
      refine ev_aload_n dX6_stands_14 rfl ?_
      refine ev_getR dX6_stands_15 fX6_102_6 (hk1547 hM) (Or.inl (hl1547 hM)) rfl (hr39 hM) ?_
      refine ev_iload_n dX6_stands_18 rfl ?_
      by_cases z2 : jok l1 8
      rotate_left
      · rw [if_neg z2] at h; cases h
      rw [if_pos z2] at h
      refine ev_iaload dX6_stands_19 (hk1577 hM) (Or.inl (hl1577 hM)) (jok.ix z2 (hn1577 hM)) ?_
      by_cases z3 : jok ((nI 4) + l1) 8
      rotate_left
      · rw [if_neg z3] at h; cases h
      rw [if_pos z3] at h
      refine ev_iastore dX6_stands_20 (hk1577 hM) (hl1577 hM) (jok.ix z3 (hn1577 hM)) ?_
      refine ev_iinc (v := (l1 + (nI 1))) (L' := [_, _]) dX6_stands_21 rfl (by rw [ji_1]) (by decide) rfl ?_
      refine ev_goto 2 dX6_stands_24 rfl ?_
      exact ih _ _ _ h hq
def fX6_stands (n : Nat) (ci : jI) (cj : jJ) : Option (jI × jJ) := fX6_stands_2 n  n (nI 0) ci cj
theorem metX6_stands {g : jG} {d : Nat} {K : jK} {cr : jR} {c sl : Nat} {Qr : jQ} {Qx : jX} (hM : jMW K cr) (n : Nat) (ci : jI) (cj : jJ) {q} (h : fX6_stands n  ci cj = some q) (hq : Qr none K q.1 q.2 cr) : EvM g (d + 1) mX6_stands [.ref 1547] K ci cj cr c sl Qr Qx := by
  unfold fX6_stands at h
  show Ev g (d + 1) mX6_stands 0 [.ref 1547, jU] [] K ci cj cr c sl Qr Qx
  refine ev_iconst (v := (nI 0)) dX6_stands_0 jc0 ?_
  refine ev_istore_n (L' := [_, _]) dX6_stands_1 (by decide) rfl ?_
  exact wX6_stands_2 hM n   n _ _ _ h hq
def fX6_fail (n : Nat) (a0 : Int32) (a1 : Int32) (ci : jI) (cj : jJ) : Option (jI × jJ) := if (ci 1547 5) = 0 then some ((ju (ju ci 1547 5 a0) 1547 6 a1), cj) else some (ci, cj)
theorem metX6_fail {g : jG} {d : Nat} {K : jK} {cr : jR} {c sl : Nat} {Qr : jQ} {Qx : jX} (hM : jMW K cr) (n : Nat) (a0 : Int32) (a1 : Int32) (ci : jI) (cj : jJ) {q} (h : fX6_fail n a0 a1 ci cj = some q) (hq : Qr none K q.1 q.2 cr) : EvM g (d + 1) mX6_fail [.ref 1547, .int a0, .int a1] K ci cj cr c sl Qr Qx := by
  unfold fX6_fail at h
  show Ev g (d + 1) mX6_fail 0 [.ref 1547, .int a0, .int a1] [] K ci cj cr c sl Qr Qx
  refine ev_aload_n dX6_fail_0 rfl ?_
  refine ev_getI dX6_fail_1 fX6_251_6 (hk1547 hM) (Or.inl (hl1547 hM)) rfl ?_
  refine ev_if_eq 8 dX6_fail_4 rfl (fun z1 => ?_) (fun z1 => ?_)
  · rw [if_pos z1] at h
    refine ev_aload_n dX6_fail_8 rfl ?_
    refine ev_iload_n dX6_fail_9 rfl ?_
    refine ev_putI dX6_fail_10 (pX6_251_6 _) (hk1547 hM) (hl1547 hM) rfl rfl rfl ?_
    refine ev_aload_n dX6_fail_13 rfl ?_
    refine ev_iload_n dX6_fail_14 rfl ?_
    refine ev_putI dX6_fail_15 (pX6_254_6 _) (hk1547 hM) (hl1547 hM) rfl rfl rfl ?_
    cases h
    exact ev_ret dX6_fail_18 rfl hq
  · rw [if_neg z1] at h
    cases h
    exact ev_ret dX6_fail_7 rfl hq
def fX6_isLetter_17 (n : Nat) (t0 : Int32) (ci : jI) (cj : jJ) : Option (Int32 × jI × jJ) := if t0 = 0 ∨ t0 = 1 then some (t0, ci, cj) else none
theorem wX6_isLetter_17 {g : jG} {d : Nat} {K : jK} {cr : jR} {c sl : Nat} {Qr : jQ} {Qx : jX} (hM : jMW K cr) (n : Nat) (t0 : Int32) (ci : jI) (cj : jJ) {q} (h : fX6_isLetter_17 n  t0 ci cj = some q) (hq : Qr (some (.int q.1)) K q.2.1 q.2.2 cr) : Ev g (d + 1) mX6_isLetter 17 [jU] [.int t0] K ci cj cr c sl Qr Qx := by
  unfold fX6_isLetter_17 at h
  by_cases z1 : t0 = 0 ∨ t0 = 1
  rotate_left
  · rw [if_neg z1] at h; cases h
  rw [if_pos z1] at h
  cases h
  exact ev_iret dX6_isLetter_17 rfl (jbool z1) hq
def fX6_isLetter_16 (n : Nat) (ci : jI) (cj : jJ) : Option (Int32 × jI × jJ) := fX6_isLetter_17 n  (nI 0) ci cj
theorem wX6_isLetter_16 {g : jG} {d : Nat} {K : jK} {cr : jR} {c sl : Nat} {Qr : jQ} {Qx : jX} (hM : jMW K cr) (n : Nat) (ci : jI) (cj : jJ) {q} (h : fX6_isLetter_16 n   ci cj = some q) (hq : Qr (some (.int q.1)) K q.2.1 q.2.2 cr) : Ev g (d + 1) mX6_isLetter 16 [jU] [] K ci cj cr c sl Qr Qx := by
  unfold fX6_isLetter_16 at h
  refine ev_iconst (v := (nI 0)) dX6_isLetter_16 jc0 ?_
  exact wX6_isLetter_17 hM n   _ _ _ h hq
def fX6_isLetter (n : Nat) (a0 : Int32) (ci : jI) (cj : jJ) : Option (Int32 × jI × jJ) := if a0 < (nI 97) then fX6_isLetter_16 n   ci cj else if (nI 122) < a0 then fX6_isLetter_16 n   ci cj else fX6_isLetter_17 n  (nI 1) ci cj
theorem metX6_isLetter {g : jG} {d : Nat} {K : jK} {cr : jR} {c sl : Nat} {Qr : jQ} {Qx : jX} (hM : jMW K cr) (n : Nat) (a0 : Int32) (ci : jI) (cj : jJ) {q} (h : fX6_isLetter n a0 ci cj = some q) (hq : Qr (some (.int q.1)) K q.2.1 q.2.2 cr) : EvM g (d + 1) mX6_isLetter [.int a0] K ci cj cr c sl Qr Qx := by
  unfold fX6_isLetter at h
  show Ev g (d + 1) mX6_isLetter 0 [.int a0] [] K ci cj cr c sl Qr Qx
  refine ev_iload_n dX6_isLetter_0 rfl ?_
  refine ev_bipush (v := (nI 97)) dX6_isLetter_1 jb97 ?_
  refine ev_icmp_lt 16 dX6_isLetter_3 rfl (fun z1 => ?_) (fun z1 => ?_)
  · rw [if_pos z1] at h
    exact ev_mask [false] (wX6_isLetter_16 hM n    _ _ h hq)
  · rw [if_neg z1] at h
    refine ev_iload_n dX6_isLetter_6 rfl ?_
    refine ev_bipush (v := (nI 122)) dX6_isLetter_7 jb122 ?_
    refine ev_icmp_gt 16 dX6_isLetter_9 rfl (fun z2 => ?_) (fun z2 => ?_)
    · rw [if_pos z2] at h
      exact ev_mask [false] (wX6_isLetter_16 hM n    _ _ h hq)
    · rw [if_neg z2] at h
      refine ev_iconst (v := (nI 1)) dX6_isLetter_12 jc1 ?_
      refine ev_goto 17 dX6_isLetter_13 rfl ?_
      exact ev_mask [false] (wX6_isLetter_17 hM n   _ _ _ h hq)
def fX6_isHere_28 (n : Nat) (ci : jI) (cj : jJ) : Option (Int32 × jI × jJ) := some ((nI 0), ci, cj)
theorem wX6_isHere_28 {g : jG} {d : Nat} {K : jK} {cr : jR} {c sl : Nat} {Qr : jQ} {Qx : jX} (hM : jMW K cr) (n : Nat) (ci : jI) (cj : jJ) {q} (h : fX6_isHere_28 n   ci cj = some q) (hq : Qr (some (.int q.1)) K q.2.1 q.2.2 cr) : Ev g (d + 2) mX6_isHere 28 [jU, jU, jU, jU] [] K ci cj cr c sl Qr Qx := by
  unfold fX6_isHere_28 at h
  refine ev_iconst (v := (nI 0)) dX6_isHere_28 jc0 ?_
  cases h
  exact ev_iret dX6_isHere_29 rfl (by decide) hq
def fX6_isHere_76 (n : Nat) : Nat → Nat → Int32 → jI → jJ → Option (Int32 × jI × jJ)
  | 0, _, _, _, _ => none
  | k + 1, l1, l3, ci, cj => if mkd l1 = 102 then if (nI (mln l1)) ≤ l3 then some ((nI 1), ci, cj) else if jok ((ci 1547 2) + l3) 1600 then if jok l3 (mln l1) then if (ci 1548 (((ci 1547 2) + l3)).toNatClampNeg) = (ci l1 (l3).toNatClampNeg) then fX6_isHere_76 n  k l1 (l3 + (nI 1)) ci cj else some ((nI 0), ci, cj) else none else none else none
theorem wX6_isHere_76 {g : jG} {d : Nat} {K : jK} {cr : jR} {c sl : Nat} {Qr : jQ} {Qx : jX} (hM : jMW K cr) (n : Nat) : ∀ (k : Nat) (l1 : Nat) (l3 : Int32) (ci : jI) (cj : jJ) {q}, fX6_isHere_76 n  k l1 l3 ci cj = some q → Qr (some (.int q.1)) K q.2.1 q.2.2 cr → Ev g (d + 2) mX6_isHere 76 [.ref 1547, .ref l1, jU, .int l3] [] K ci cj cr c sl Qr Qx := by
  intro k
  induction k with
  | zero =>
    intro l1 l3 ci cj q h hq
    rw [fX6_isHere_76.eq_1] at h; cases h
  | succ k ih =>
    intro l1 l3 ci cj q h hq
    rw [fX6_isHere_76.eq_2] at h
    by_cases zp_l1 : mkd l1 = 102
    rotate_left
    · rw [if_neg zp_l1] at h; cases h
    rw [if_pos zp_l1] at h
    refine ev_iload_n dX6_isHere_76 rfl ?_
    refine ev_aload_n dX6_isHere_77 rfl ?_
    refine ev_alenM (n := (mln l1)) dX6_isHere_78 (t := 2) (jMW.k hM zp_l1) (by decide) (jMW.l hM zp_l1) (jMW.n hM zp_l1) ?_
    refine ev_icmp_ge 107 dX6_isHere_79 rfl (fun z1 => ?_) (fun z1 => ?_)
    · rw [if_pos z1] at h
      refine ev_iconst (v := (nI 1)) dX6_isHere_107 jc1 ?_
      cases h
      exact ev_iret dX6_isHere_108 rfl (by decide) hq
    · rw [if_neg z1] at h
      refine ev_aload_n dX6_isHere_82 rfl ?_
      refine ev_getR dX6_isHere_83 fX6_7_6 (hk1547 hM) (Or.inl (hl1547 hM)) rfl (hr0 hM) ?_
      refine ev_aload_n dX6_isHere_86 rfl ?_
      refine ev_getI dX6_isHere_87 fX6_257_6 (hk1547 hM) (Or.inl (hl1547 hM)) rfl ?_
      refine ev_iload_n dX6_isHere_90 rfl ?_
      refine ev_iadd dX6_isHere_91 ?_
      by_cases z2 : jok ((ci 1547 2) + l3) 1600
      rotate_left
      · rw [if_neg z2] at h; cases h
      rw [if_pos z2] at h
      refine ev_iaload dX6_isHere_92 (hk1548 hM) (Or.inl (hl1548 hM)) (jok.ix z2 (hn1548 hM)) ?_
      refine ev_aload_n dX6_isHere_93 rfl ?_
      refine ev_iload_n dX6_isHere_94 rfl ?_
      by_cases z3 : jok l3 (mln l1)
      rotate_left
      · rw [if_neg z3] at h; cases h
      rw [if_pos z3] at h
      refine ev_caload dX6_isHere_95 (jMW.k hM zp_l1) (Or.inl (jMW.l hM zp_l1)) (jok.ix z3 (jMW.n hM zp_l1)) ?_
      refine ev_icmp_eq 101 dX6_isHere_96 rfl (fun z4 => ?_) (fun z4 => ?_)
      · rw [if_pos z4] at h
        refine ev_iinc (v := (l3 + (nI 1))) (L' := [_, _, _, _]) dX6_isHere_101 rfl (by rw [ji_1]) (by decide) rfl ?_
        refine ev_goto 76 dX6_isHere_104 rfl ?_
        exact ih _ _ _ _ h hq
      · rw [if_neg z4] at h
        refine ev_iconst (v := (nI 0)) dX6_isHere_99 jc0 ?_
        cases h
        exact ev_iret dX6_isHere_100 rfl (by decide) hq
def fX6_isHere_61 (n : Nat) (l1 : Nat) (l2 : Int32) (ci : jI) (cj : jJ) : Option (Int32 × jI × jJ) := if mkd l1 = 102 then if (l2 - (ci 1547 2)) = (nI (mln l1)) then fX6_isHere_76 n  n l1 (nI 0) ci cj else some ((nI 0), ci, cj) else none
theorem wX6_isHere_61 {g : jG} {d : Nat} {K : jK} {cr : jR} {c sl : Nat} {Qr : jQ} {Qx : jX} (hM : jMW K cr) (n : Nat) (l1 : Nat) (l2 : Int32) (ci : jI) (cj : jJ) {q} (h : fX6_isHere_61 n  l1 l2 ci cj = some q) (hq : Qr (some (.int q.1)) K q.2.1 q.2.2 cr) : Ev g (d + 2) mX6_isHere 61 [.ref 1547, .ref l1, .int l2, jU] [] K ci cj cr c sl Qr Qx := by
  unfold fX6_isHere_61 at h
  by_cases zp_l1 : mkd l1 = 102
  rotate_left
  · rw [if_neg zp_l1] at h; cases h
  rw [if_pos zp_l1] at h
  refine ev_iload_n dX6_isHere_61 rfl ?_
  refine ev_aload_n dX6_isHere_62 rfl ?_
  refine ev_getI dX6_isHere_63 fX6_257_6 (hk1547 hM) (Or.inl (hl1547 hM)) rfl ?_
  refine ev_isub dX6_isHere_66 ?_
  refine ev_aload_n dX6_isHere_67 rfl ?_
  refine ev_alenM (n := (mln l1)) dX6_isHere_68 (t := 2) (jMW.k hM zp_l1) (by decide) (jMW.l hM zp_l1) (jMW.n hM zp_l1) ?_
  refine ev_icmp_eq 74 dX6_isHere_69 rfl (fun z1 => ?_) (fun z1 => ?_)
  · rw [if_pos z1] at h
    refine ev_iconst (v := (nI 0)) dX6_isHere_74 jc0 ?_
    refine ev_istore_n (L' := [_, _, _, _]) dX6_isHere_75 (by decide) rfl ?_
    exact ev_mask [true, true, false, true] (wX6_isHere_76 hM n   n _ _ _ _ h hq)
  · rw [if_neg z1] at h
    refine ev_iconst (v := (nI 0)) dX6_isHere_72 jc0 ?_
    cases h
    exact ev_iret dX6_isHere_73 rfl (by decide) hq
def fX6_isHere_35 (n : Nat) : Nat → Nat → Int32 → jI → jJ → Option (Int32 × jI × jJ)
  | 0, _, _, _, _ => none
  | k + 1, l1, l2, ci, cj => if mkd l1 = 102 then if (ci 1547 3) ≤ l2 then fX6_isHere_61 n  l1 l2 ci cj else if jok l2 1600 then Option.bind (fX6_isLetter n (ci 1548 (l2).toNatClampNeg) ci cj) (fun q3 => if q3.1 = 0 then fX6_isHere_61 n  l1 l2 q3.2.1 q3.2.2 else fX6_isHere_35 n  k l1 (l2 + (nI 1)) q3.2.1 q3.2.2) else none else none
theorem wX6_isHere_35 {g : jG} {d : Nat} {K : jK} {cr : jR} {c sl : Nat} {Qr : jQ} {Qx : jX} (hM : jMW K cr) (n : Nat) : ∀ (k : Nat) (l1 : Nat) (l2 : Int32) (ci : jI) (cj : jJ) {q}, fX6_isHere_35 n  k l1 l2 ci cj = some q → Qr (some (.int q.1)) K q.2.1 q.2.2 cr → Ev g (d + 2) mX6_isHere 35 [.ref 1547, .ref l1, .int l2, jU] [] K ci cj cr c sl Qr Qx := by
  intro k
  induction k with
  | zero =>
    intro l1 l2 ci cj q h hq
    rw [fX6_isHere_35.eq_1] at h; cases h
  | succ k ih =>
    intro l1 l2 ci cj q h hq
    rw [fX6_isHere_35.eq_2] at h
    by_cases zp_l1 : mkd l1 = 102
    rotate_left
    · rw [if_neg zp_l1] at h; cases h
    rw [if_pos zp_l1] at h
    refine ev_iload_n dX6_isHere_35 rfl ?_
    refine ev_aload_n dX6_isHere_36 rfl ?_
    refine ev_getI dX6_isHere_37 fX6_260_6 (hk1547 hM) (Or.inl (hl1547 hM)) rfl ?_
    refine ev_icmp_ge 61 dX6_isHere_40 rfl (fun z1 => ?_) (fun z1 => ?_)
    · rw [if_pos z1] at h
      exact wX6_isHere_61 hM n   _ _ _ _ h hq
    · rw [if_neg z1] at h
      refine ev_aload_n dX6_isHere_43 rfl ?_
      refine ev_getR dX6_isHere_44 fX6_7_6 (hk1547 hM) (Or.inl (hl1547 hM)) rfl (hr0 hM) ?_
      refine ev_iload_n dX6_isHere_47 rfl ?_
      by_cases z2 : jok l2 1600
      rotate_left
      · rw [if_neg z2] at h; cases h
      rw [if_pos z2] at h
      refine ev_iaload dX6_isHere_48 (hk1548 hM) (Or.inl (hl1548 hM)) (jok.ix z2 (hn1548 hM)) ?_
      obtain ⟨q3, z4, h⟩ := Option.bind_eq_some_iff.mp h
      refine ev_zS1 dX6_isHere_49 sX6_267 (Nat.le_of_ble_eq_true rfl) (Nat.le_of_ble_eq_true rfl) rfl (metX6_isLetter hM n _ _ _ z4 ?_)
      show Ev g _ _ 52 _ [.int q3.1] K q3.2.1 q3.2.2 cr c sl Qr Qx
      refine ev_if_eq 61 dX6_isHere_52 rfl (fun z5 => ?_) (fun z5 => ?_)
      · rw [if_pos z5] at h
        exact wX6_isHere_61 hM n   _ _ _ _ h hq
      · rw [if_neg z5] at h
        refine ev_iinc (v := (l2 + (nI 1))) (L' := [_, _, _, _]) dX6_isHere_55 rfl (by rw [ji_1]) (by decide) rfl ?_
        refine ev_goto 35 dX6_isHere_58 rfl ?_
        exact ih _ _ _ _ h hq
def fX6_isHere (n : Nat) (a0 : Nat) (ci : jI) (cj : jJ) : Option (Int32 × jI × jJ) := if mkd a0 = 102 then if (ci 1547 5) = 0 then Option.bind (fX6_look n  ci cj) (fun q2 => Option.bind (fX6_isLetter n q2.1 q2.2.1 q2.2.2) (fun q4 => if q4.1 = 0 then fX6_isHere_28 n   q4.2.1 q4.2.2 else if (q4.2.1 1547 2) = (q4.2.1 1547 4) then fX6_isHere_28 n   q4.2.1 q4.2.2 else fX6_isHere_35 n  n a0 (q4.2.1 1547 2) q4.2.1 q4.2.2)) else fX6_isHere_28 n   ci cj else none
theorem metX6_isHere {g : jG} {d : Nat} {K : jK} {cr : jR} {c sl : Nat} {Qr : jQ} {Qx : jX} (hM : jMW K cr) (n : Nat) (a0 : Nat) (ci : jI) (cj : jJ) {q} (h : fX6_isHere n a0 ci cj = some q) (hq : Qr (some (.int q.1)) K q.2.1 q.2.2 cr) : EvM g (d + 2) mX6_isHere [.ref 1547, .ref a0] K ci cj cr c sl Qr Qx := by
  unfold fX6_isHere at h
  show Ev g (d + 2) mX6_isHere 0 [.ref 1547, .ref a0, jU, jU] [] K ci cj cr c sl Qr Qx
  by_cases zp_a0 : mkd a0 = 102
  rotate_left
  · rw [if_neg zp_a0] at h; cases h
  rw [if_pos zp_a0] at h
  refine ev_aload_n dX6_isHere_0 rfl ?_
  refine ev_getI dX6_isHere_1 fX6_251_6 (hk1547 hM) (Or.inl (hl1547 hM)) rfl ?_
  refine ev_if_ne 28 dX6_isHere_4 rfl (fun z1 => ?_) (fun z1 => ?_)
  · rw [if_neg z1] at h
    exact ev_mask [false, false, false, false] (wX6_isHere_28 hM n    _ _ h hq)
  · rw [if_pos z1] at h
    refine ev_aload_n dX6_isHere_7 rfl ?_
    obtain ⟨q2, z3, h⟩ := Option.bind_eq_some_iff.mp h
    refine ev_zV0 dX6_isHere_8 vX6_263_6 (hk1547 hM) (Or.inl (hl1547 hM)) (Nat.le_of_ble_eq_true rfl) (Nat.le_of_ble_eq_true rfl) rfl (metX6_look hM n  _ _ z3 ?_)
    show Ev g _ _ 11 _ [.int q2.1] K q2.2.1 q2.2.2 cr c sl Qr Qx
    obtain ⟨q4, z5, h⟩ := Option.bind_eq_some_iff.mp h
    refine ev_zS1 dX6_isHere_11 sX6_267 (Nat.le_of_ble_eq_true rfl) (Nat.le_of_ble_eq_true rfl) rfl (metX6_isLetter hM n _ _ _ z5 ?_)
    show Ev g _ _ 14 _ [.int q4.1] K q4.2.1 q4.2.2 cr c sl Qr Qx
    refine ev_if_eq 28 dX6_isHere_14 rfl (fun z6 => ?_) (fun z6 => ?_)
    · rw [if_pos z6] at h
      exact ev_mask [false, false, false, false] (wX6_isHere_28 hM n    _ _ h hq)
    · rw [if_neg z6] at h
      refine ev_aload_n dX6_isHere_17 rfl ?_
      refine ev_getI dX6_isHere_18 fX6_257_6 (hk1547 hM) (Or.inl (hl1547 hM)) rfl ?_
      refine ev_aload_n dX6_isHere_21 rfl ?_
      refine ev_getI dX6_isHere_22 fX6_271_6 (hk1547 hM) (Or.inl (hl1547 hM)) rfl ?_
      refine ev_icmp_ne 30 dX6_isHere_25 rfl (fun z7 => ?_) (fun z7 => ?_)
      · rw [if_neg z7] at h
        refine ev_aload_n dX6_isHere_30 rfl ?_
        refine ev_getI dX6_isHere_31 fX6_257_6 (hk1547 hM) (Or.inl (hl1547 hM)) rfl ?_
        refine ev_istore_n (L' := [_, _, _, _]) dX6_isHere_34 (by decide) rfl ?_
        exact wX6_isHere_35 hM n   n _ _ _ _ h hq
      · rw [if_pos z7] at h
        exact ev_mask [false, false, false, false] (wX6_isHere_28 hM n    _ _ h hq)
def fX6_takes (n : Nat) (a0 : Nat) (ci : jI) (cj : jJ) : Option (Int32 × jI × jJ) := if mkd a0 = 102 then Option.bind (fX6_isHere n a0 ci cj) (fun q1 => if q1.1 = 0 then some ((nI 0), q1.2.1, q1.2.2) else some ((nI 1), (ju (ju q1.2.1 1547 2 ((q1.2.1 1547 2) + (nI (mln a0)))) 1547 4 ((ju q1.2.1 1547 2 ((q1.2.1 1547 2) + (nI (mln a0)))) 1547 2)), q1.2.2)) else none
theorem metX6_takes {g : jG} {d : Nat} {K : jK} {cr : jR} {c sl : Nat} {Qr : jQ} {Qx : jX} (hM : jMW K cr) (n : Nat) (a0 : Nat) (ci : jI) (cj : jJ) {q} (h : fX6_takes n a0 ci cj = some q) (hq : Qr (some (.int q.1)) K q.2.1 q.2.2 cr) : EvM g (d + 3) mX6_takes [.ref 1547, .ref a0] K ci cj cr c sl Qr Qx := by
  unfold fX6_takes at h
  show Ev g (d + 3) mX6_takes 0 [.ref 1547, .ref a0] [] K ci cj cr c sl Qr Qx
  by_cases zp_a0 : mkd a0 = 102
  rotate_left
  · rw [if_neg zp_a0] at h; cases h
  rw [if_pos zp_a0] at h
  refine ev_aload_n dX6_takes_0 rfl ?_
  refine ev_aload_n dX6_takes_1 rfl ?_
  obtain ⟨q1, z2, h⟩ := Option.bind_eq_some_iff.mp h
  refine ev_zV1 dX6_takes_2 vX6_274_6 (hk1547 hM) (Or.inl (hl1547 hM)) (Nat.le_of_ble_eq_true rfl) (Nat.le_of_ble_eq_true rfl) rfl (metX6_isHere hM n _ _ _ z2 ?_)
  show Ev g _ _ 5 _ [.int q1.1] K q1.2.1 q1.2.2 cr c sl Qr Qx
  refine ev_if_ne 10 dX6_takes_5 rfl (fun z3 => ?_) (fun z3 => ?_)
  · rw [if_neg z3] at h
    refine ev_aload_n dX6_takes_10 rfl ?_
    refine ev_dup dX6_takes_11 rfl ?_
    refine ev_getI dX6_takes_12 fX6_257_6 (hk1547 hM) (Or.inl (hl1547 hM)) rfl ?_
    refine ev_aload_n dX6_takes_15 rfl ?_
    refine ev_alenM (n := (mln a0)) dX6_takes_16 (t := 2) (jMW.k hM zp_a0) (by decide) (jMW.l hM zp_a0) (jMW.n hM zp_a0) ?_
    refine ev_iadd dX6_takes_17 ?_
    refine ev_putI dX6_takes_18 (pX6_257_6 _) (hk1547 hM) (hl1547 hM) rfl rfl rfl ?_
    refine ev_aload_n dX6_takes_21 rfl ?_
    refine ev_aload_n dX6_takes_22 rfl ?_
    refine ev_getI dX6_takes_23 fX6_257_6 (hk1547 hM) (Or.inl (hl1547 hM)) rfl ?_
    refine ev_putI dX6_takes_26 (pX6_271_6 _) (hk1547 hM) (hl1547 hM) rfl rfl rfl ?_
    refine ev_iconst (v := (nI 1)) dX6_takes_29 jc1 ?_
    cases h
    exact ev_iret dX6_takes_30 rfl (by decide) hq
  · rw [if_pos z3] at h
    refine ev_iconst (v := (nI 0)) dX6_takes_8 jc0 ?_
    cases h
    exact ev_iret dX6_takes_9 rfl (by decide) hq
def fX6_asks_24 (n : Nat) (ci : jI) (cj : jJ) : Option (jI × jJ) := some (ci, cj)
theorem wX6_asks_24 {g : jG} {d : Nat} {K : jK} {cr : jR} {c sl : Nat} {Qr : jQ} {Qx : jX} (hM : jMW K cr) (n : Nat) (ci : jI) (cj : jJ) {q} (h : fX6_asks_24 n   ci cj = some q) (hq : Qr none K q.1 q.2 cr) : Ev g (d + 4) mX6_asks 24 [jU, jU] [] K ci cj cr c sl Qr Qx := by
  unfold fX6_asks_24 at h
  cases h
  exact ev_ret dX6_asks_24 rfl hq
def fX6_asks (n : Nat) (a0 : Nat) (ci : jI) (cj : jJ) : Option (jI × jJ) := if mkd a0 = 102 then if (ci 1547 5) = 0 then Option.bind (fX6_takes n a0 ci cj) (fun q2 => if q2.1 = 0 then Option.bind (fX6_fail n (nI 1) (q2.2.1 1547 2) q2.2.1 q2.2.2) (fun q5 => fX6_asks_24 n   q5.1 q5.2) else fX6_asks_24 n   q2.2.1 q2.2.2) else fX6_asks_24 n   ci cj else none
theorem metX6_asks {g : jG} {d : Nat} {K : jK} {cr : jR} {c sl : Nat} {Qr : jQ} {Qx : jX} (hM : jMW K cr) (n : Nat) (a0 : Nat) (ci : jI) (cj : jJ) {q} (h : fX6_asks n a0 ci cj = some q) (hq : Qr none K q.1 q.2 cr) : EvM g (d + 4) mX6_asks [.ref 1547, .ref a0] K ci cj cr c sl Qr Qx := by
  unfold fX6_asks at h
  show Ev g (d + 4) mX6_asks 0 [.ref 1547, .ref a0] [] K ci cj cr c sl Qr Qx
  by_cases zp_a0 : mkd a0 = 102
  rotate_left
  · rw [if_neg zp_a0] at h; cases h
  rw [if_pos zp_a0] at h
  refine ev_aload_n dX6_asks_0 rfl ?_
  refine ev_getI dX6_asks_1 fX6_251_6 (hk1547 hM) (Or.inl (hl1547 hM)) rfl ?_
  refine ev_if_ne 24 dX6_asks_4 rfl (fun z1 => ?_) (fun z1 => ?_)
  · rw [if_neg z1] at h
    exact ev_mask [false, false] (wX6_asks_24 hM n    _ _ h hq)
  · rw [if_pos z1] at h
    refine ev_aload_n dX6_asks_7 rfl ?_
    refine ev_aload_n dX6_asks_8 rfl ?_
    obtain ⟨q2, z3, h⟩ := Option.bind_eq_some_iff.mp h
    refine ev_zV1 dX6_asks_9 vX6_278_6 (hk1547 hM) (Or.inl (hl1547 hM)) (Nat.le_of_ble_eq_true rfl) (Nat.le_of_ble_eq_true rfl) rfl (metX6_takes hM n _ _ _ z3 ?_)
    show Ev g _ _ 12 _ [.int q2.1] K q2.2.1 q2.2.2 cr c sl Qr Qx
    refine ev_if_ne 24 dX6_asks_12 rfl (fun z4 => ?_) (fun z4 => ?_)
    · rw [if_neg z4] at h
      exact ev_mask [false, false] (wX6_asks_24 hM n    _ _ h hq)
    · rw [if_pos z4] at h
      refine ev_aload_n dX6_asks_15 rfl ?_
      refine ev_iconst (v := (nI 1)) dX6_asks_16 jc1 ?_
      refine ev_aload_n dX6_asks_17 rfl ?_
      refine ev_getI dX6_asks_18 fX6_257_6 (hk1547 hM) (Or.inl (hl1547 hM)) rfl ?_
      obtain ⟨q5, z6, h⟩ := Option.bind_eq_some_iff.mp h
      refine ev_zV2 dX6_asks_21 vX6_281_6 (hk1547 hM) (Or.inl (hl1547 hM)) (Nat.le_of_ble_eq_true rfl) (Nat.le_of_ble_eq_true rfl) rfl (metX6_fail hM n _ _ _ _ z6 ?_)
      show Ev g _ _ 24 _ [] K q5.1 q5.2 cr c sl Qr Qx
      exact ev_mask [false, false] (wX6_asks_24 hM n    _ _ h hq)
def fX6_takesSign_15 (n : Nat) (ci : jI) (cj : jJ) : Option (Int32 × jI × jJ) := some ((nI 0), ci, cj)
theorem wX6_takesSign_15 {g : jG} {d : Nat} {K : jK} {cr : jR} {c sl : Nat} {Qr : jQ} {Qx : jX} (hM : jMW K cr) (n : Nat) (ci : jI) (cj : jJ) {q} (h : fX6_takesSign_15 n   ci cj = some q) (hq : Qr (some (.int q.1)) K q.2.1 q.2.2 cr) : Ev g (d + 2) mX6_takesSign 15 [jU, jU] [] K ci cj cr c sl Qr Qx := by
  unfold fX6_takesSign_15 at h
  refine ev_iconst (v := (nI 0)) dX6_takesSign_15 jc0 ?_
  cases h
  exact ev_iret dX6_takesSign_16 rfl (by decide) hq
def fX6_takesSign (n : Nat) (a0 : Int32) (ci : jI) (cj : jJ) : Option (Int32 × jI × jJ) := if (ci 1547 5) = 0 then Option.bind (fX6_look n  ci cj) (fun q2 => if q2.1 = a0 then some ((nI 1), (ju q2.2.1 1547 2 ((q2.2.1 1547 2) + (nI 1))), q2.2.2) else fX6_takesSign_15 n   q2.2.1 q2.2.2) else fX6_takesSign_15 n   ci cj
theorem metX6_takesSign {g : jG} {d : Nat} {K : jK} {cr : jR} {c sl : Nat} {Qr : jQ} {Qx : jX} (hM : jMW K cr) (n : Nat) (a0 : Int32) (ci : jI) (cj : jJ) {q} (h : fX6_takesSign n a0 ci cj = some q) (hq : Qr (some (.int q.1)) K q.2.1 q.2.2 cr) : EvM g (d + 2) mX6_takesSign [.ref 1547, .int a0] K ci cj cr c sl Qr Qx := by
  unfold fX6_takesSign at h
  show Ev g (d + 2) mX6_takesSign 0 [.ref 1547, .int a0] [] K ci cj cr c sl Qr Qx
  refine ev_aload_n dX6_takesSign_0 rfl ?_
  refine ev_getI dX6_takesSign_1 fX6_251_6 (hk1547 hM) (Or.inl (hl1547 hM)) rfl ?_
  refine ev_if_ne 15 dX6_takesSign_4 rfl (fun z1 => ?_) (fun z1 => ?_)
  · rw [if_neg z1] at h
    exact ev_mask [false, false] (wX6_takesSign_15 hM n    _ _ h hq)
  · rw [if_pos z1] at h
    refine ev_aload_n dX6_takesSign_7 rfl ?_
    obtain ⟨q2, z3, h⟩ := Option.bind_eq_some_iff.mp h
    refine ev_zV0 dX6_takesSign_8 vX6_263_6 (hk1547 hM) (Or.inl (hl1547 hM)) (Nat.le_of_ble_eq_true rfl) (Nat.le_of_ble_eq_true rfl) rfl (metX6_look hM n  _ _ z3 ?_)
    show Ev g _ _ 11 _ [.int q2.1] K q2.2.1 q2.2.2 cr c sl Qr Qx
    refine ev_iload_n dX6_takesSign_11 rfl ?_
    refine ev_icmp_eq 17 dX6_takesSign_12 rfl (fun z4 => ?_) (fun z4 => ?_)
    · rw [if_pos z4] at h
      refine ev_aload_n dX6_takesSign_17 rfl ?_
      refine ev_dup dX6_takesSign_18 rfl ?_
      refine ev_getI dX6_takesSign_19 fX6_257_6 (hk1547 hM) (Or.inl (hl1547 hM)) rfl ?_
      refine ev_iconst (v := (nI 1)) dX6_takesSign_22 jc1 ?_
      refine ev_iadd dX6_takesSign_23 ?_
      refine ev_putI dX6_takesSign_24 (pX6_257_6 _) (hk1547 hM) (hl1547 hM) rfl rfl rfl ?_
      refine ev_iconst (v := (nI 1)) dX6_takesSign_27 jc1 ?_
      cases h
      exact ev_iret dX6_takesSign_28 rfl (by decide) hq
    · rw [if_neg z4] at h
      exact ev_mask [false, false] (wX6_takesSign_15 hM n    _ _ h hq)
def fX6_asksSign_24 (n : Nat) (ci : jI) (cj : jJ) : Option (jI × jJ) := some (ci, cj)
theorem wX6_asksSign_24 {g : jG} {d : Nat} {K : jK} {cr : jR} {c sl : Nat} {Qr : jQ} {Qx : jX} (hM : jMW K cr) (n : Nat) (ci : jI) (cj : jJ) {q} (h : fX6_asksSign_24 n   ci cj = some q) (hq : Qr none K q.1 q.2 cr) : Ev g (d + 3) mX6_asksSign 24 [jU, jU] [] K ci cj cr c sl Qr Qx := by
  unfold fX6_asksSign_24 at h
  cases h
  exact ev_ret dX6_asksSign_24 rfl hq
def fX6_asksSign (n : Nat) (a0 : Int32) (ci : jI) (cj : jJ) : Option (jI × jJ) := if (ci 1547 5) = 0 then Option.bind (fX6_takesSign n a0 ci cj) (fun q2 => if q2.1 = 0 then Option.bind (fX6_fail n (nI 1) (q2.2.1 1547 2) q2.2.1 q2.2.2) (fun q5 => fX6_asksSign_24 n   q5.1 q5.2) else fX6_asksSign_24 n   q2.2.1 q2.2.2) else fX6_asksSign_24 n   ci cj
theorem metX6_asksSign {g : jG} {d : Nat} {K : jK} {cr : jR} {c sl : Nat} {Qr : jQ} {Qx : jX} (hM : jMW K cr) (n : Nat) (a0 : Int32) (ci : jI) (cj : jJ) {q} (h : fX6_asksSign n a0 ci cj = some q) (hq : Qr none K q.1 q.2 cr) : EvM g (d + 3) mX6_asksSign [.ref 1547, .int a0] K ci cj cr c sl Qr Qx := by
  unfold fX6_asksSign at h
  show Ev g (d + 3) mX6_asksSign 0 [.ref 1547, .int a0] [] K ci cj cr c sl Qr Qx
  refine ev_aload_n dX6_asksSign_0 rfl ?_
  refine ev_getI dX6_asksSign_1 fX6_251_6 (hk1547 hM) (Or.inl (hl1547 hM)) rfl ?_
  refine ev_if_ne 24 dX6_asksSign_4 rfl (fun z1 => ?_) (fun z1 => ?_)
  · rw [if_neg z1] at h
    exact ev_mask [false, false] (wX6_asksSign_24 hM n    _ _ h hq)
  · rw [if_pos z1] at h
    refine ev_aload_n dX6_asksSign_7 rfl ?_
    refine ev_iload_n dX6_asksSign_8 rfl ?_
    obtain ⟨q2, z3, h⟩ := Option.bind_eq_some_iff.mp h
    refine ev_zV1 dX6_asksSign_9 vX6_285_6 (hk1547 hM) (Or.inl (hl1547 hM)) (Nat.le_of_ble_eq_true rfl) (Nat.le_of_ble_eq_true rfl) rfl (metX6_takesSign hM n _ _ _ z3 ?_)
    show Ev g _ _ 12 _ [.int q2.1] K q2.2.1 q2.2.2 cr c sl Qr Qx
    refine ev_if_ne 24 dX6_asksSign_12 rfl (fun z4 => ?_) (fun z4 => ?_)
    · rw [if_neg z4] at h
      exact ev_mask [false, false] (wX6_asksSign_24 hM n    _ _ h hq)
    · rw [if_pos z4] at h
      refine ev_aload_n dX6_asksSign_15 rfl ?_
      refine ev_iconst (v := (nI 1)) dX6_asksSign_16 jc1 ?_
      refine ev_aload_n dX6_asksSign_17 rfl ?_
      refine ev_getI dX6_asksSign_18 fX6_257_6 (hk1547 hM) (Or.inl (hl1547 hM)) rfl ?_
      obtain ⟨q5, z6, h⟩ := Option.bind_eq_some_iff.mp h
      refine ev_zV2 dX6_asksSign_21 vX6_281_6 (hk1547 hM) (Or.inl (hl1547 hM)) (Nat.le_of_ble_eq_true rfl) (Nat.le_of_ble_eq_true rfl) rfl (metX6_fail hM n _ _ _ _ z6 ?_)
      show Ev g _ _ 24 _ [] K q5.1 q5.2 cr c sl Qr Qx
      exact ev_mask [false, false] (wX6_asksSign_24 hM n    _ _ h hq)
def fX6_isFull_35 (n : Nat) (t0 : Int32) (ci : jI) (cj : jJ) : Option (Int32 × jI × jJ) := if t0 = 0 ∨ t0 = 1 then some (t0, ci, cj) else none
theorem wX6_isFull_35 {g : jG} {d : Nat} {K : jK} {cr : jR} {c sl : Nat} {Qr : jQ} {Qx : jX} (hM : jMW K cr) (n : Nat) (t0 : Int32) (ci : jI) (cj : jJ) {q} (h : fX6_isFull_35 n  t0 ci cj = some q) (hq : Qr (some (.int q.1)) K q.2.1 q.2.2 cr) : Ev g (d + 2) mX6_isFull 35 [jU, jU, jU, jU] [.int t0] K ci cj cr c sl Qr Qx := by
  unfold fX6_isFull_35 at h
  by_cases z1 : t0 = 0 ∨ t0 = 1
  rotate_left
  · rw [if_neg z1] at h; cases h
  rw [if_pos z1] at h
  cases h
  exact ev_iret dX6_isFull_35 rfl (jbool z1) hq
def fX6_isFull_23 (n : Nat) (ci : jI) (cj : jJ) : Option (Int32 × jI × jJ) := if (ci 1547 5) = 0 then fX6_isFull_35 n  (nI 0) ci cj else fX6_isFull_35 n  (nI 1) ci cj
theorem wX6_isFull_23 {g : jG} {d : Nat} {K : jK} {cr : jR} {c sl : Nat} {Qr : jQ} {Qx : jX} (hM : jMW K cr) (n : Nat) (ci : jI) (cj : jJ) {q} (h : fX6_isFull_23 n   ci cj = some q) (hq : Qr (some (.int q.1)) K q.2.1 q.2.2 cr) : Ev g (d + 2) mX6_isFull 23 [.ref 1547, jU, jU, jU] [] K ci cj cr c sl Qr Qx := by
  unfold fX6_isFull_23 at h
  refine ev_aload_n dX6_isFull_23 rfl ?_
  refine ev_getI dX6_isFull_24 fX6_251_6 (hk1547 hM) (Or.inl (hl1547 hM)) rfl ?_
  refine ev_if_eq 34 dX6_isFull_27 rfl (fun z1 => ?_) (fun z1 => ?_)
  · rw [if_pos z1] at h
    refine ev_iconst (v := (nI 0)) dX6_isFull_34 jc0 ?_
    exact ev_mask [false, false, false, false] (wX6_isFull_35 hM n   _ _ _ h hq)
  · rw [if_neg z1] at h
    refine ev_iconst (v := (nI 1)) dX6_isFull_30 jc1 ?_
    refine ev_goto 35 dX6_isFull_31 rfl ?_
    exact ev_mask [false, false, false, false] (wX6_isFull_35 hM n   _ _ _ h hq)
def fX6_isFull (n : Nat) (a0 : Int32) (a1 : Int32) (a2 : Int32) (ci : jI) (cj : jJ) : Option (Int32 × jI × jJ) := if (ci 1547 5) = 0 then if jok a0 8 then if (ci 1577 (a0).toNatClampNeg) = a1 then Option.bind (fX6_fail n (nI 5) a2 ci cj) (fun q4 => fX6_isFull_23 n   q4.1 q4.2) else fX6_isFull_23 n   ci cj else none else fX6_isFull_23 n   ci cj
theorem metX6_isFull {g : jG} {d : Nat} {K : jK} {cr : jR} {c sl : Nat} {Qr : jQ} {Qx : jX} (hM : jMW K cr) (n : Nat) (a0 : Int32) (a1 : Int32) (a2 : Int32) (ci : jI) (cj : jJ) {q} (h : fX6_isFull n a0 a1 a2 ci cj = some q) (hq : Qr (some (.int q.1)) K q.2.1 q.2.2 cr) : EvM g (d + 2) mX6_isFull [.ref 1547, .int a0, .int a1, .int a2] K ci cj cr c sl Qr Qx := by
  unfold fX6_isFull at h
  show Ev g (d + 2) mX6_isFull 0 [.ref 1547, .int a0, .int a1, .int a2] [] K ci cj cr c sl Qr Qx
  refine ev_aload_n dX6_isFull_0 rfl ?_
  refine ev_getI dX6_isFull_1 fX6_251_6 (hk1547 hM) (Or.inl (hl1547 hM)) rfl ?_
  refine ev_if_ne 23 dX6_isFull_4 rfl (fun z1 => ?_) (fun z1 => ?_)
  · rw [if_neg z1] at h
    exact ev_mask [true, false, false, false] (wX6_isFull_23 hM n    _ _ h hq)
  · rw [if_pos z1] at h
    refine ev_aload_n dX6_isFull_7 rfl ?_
    refine ev_getR dX6_isFull_8 fX6_102_6 (hk1547 hM) (Or.inl (hl1547 hM)) rfl (hr39 hM) ?_
    refine ev_iload_n dX6_isFull_11 rfl ?_
    by_cases z2 : jok a0 8
    rotate_left
    · rw [if_neg z2] at h; cases h
    rw [if_pos z2] at h
    refine ev_iaload dX6_isFull_12 (hk1577 hM) (Or.inl (hl1577 hM)) (jok.ix z2 (hn1577 hM)) ?_
    refine ev_iload_n dX6_isFull_13 rfl ?_
    refine ev_icmp_ne 23 dX6_isFull_14 rfl (fun z3 => ?_) (fun z3 => ?_)
    · rw [if_neg z3] at h
      exact ev_mask [true, false, false, false] (wX6_isFull_23 hM n    _ _ h hq)
    · rw [if_pos z3] at h
      refine ev_aload_n dX6_isFull_17 rfl ?_
      refine ev_iconst (v := (nI 5)) dX6_isFull_18 jc5 ?_
      refine ev_iload_n dX6_isFull_19 rfl ?_
      obtain ⟨q4, z5, h⟩ := Option.bind_eq_some_iff.mp h
      refine ev_zV2 dX6_isFull_20 vX6_281_6 (hk1547 hM) (Or.inl (hl1547 hM)) (Nat.le_of_ble_eq_true rfl) (Nat.le_of_ble_eq_true rfl) rfl (metX6_fail hM n _ _ _ _ z5 ?_)
      show Ev g _ _ 23 _ [] K q4.1 q4.2 cr c sl Qr Qx
      exact ev_mask [true, false, false, false] (wX6_isFull_23 hM n    _ _ h hq)
def fX6_laid (n : Nat) (a0 : Int32) (a1 : Int64) (a2 : Nat) (a3 : Int32) (a4 : Int32) (ci : jI) (cj : jJ) : Option (jI × jJ) := if mkd a2 = 100 then if (ci 1547 5) = 0 then if jok a0 8 then if jok (((nI 10) * a0) + (ci 1577 (a0).toNatClampNeg)) 60 then if jok ((nI 2) * (ci 1577 (a0).toNatClampNeg)) (mln a2) then if jok (((nI 2) * (ci 1577 (a0).toNatClampNeg)) + (nI 1)) (mln a2) then if jok a0 8 then if jok a0 8 then some ((ju (ju (ju ci a2 (((nI 2) * (ci 1577 (a0).toNatClampNeg))).toNatClampNeg a3) a2 ((((nI 2) * (ci 1577 (a0).toNatClampNeg)) + (nI 1))).toNatClampNeg a4) 1577 (a0).toNatClampNeg (((ju (ju ci a2 (((nI 2) * (ci 1577 (a0).toNatClampNeg))).toNatClampNeg a3) a2 ((((nI 2) * (ci 1577 (a0).toNatClampNeg)) + (nI 1))).toNatClampNeg a4) 1577 (a0).toNatClampNeg) + (nI 1))), (ju cj 1578 ((((nI 10) * a0) + (ci 1577 (a0).toNatClampNeg))).toNatClampNeg a1)) else none else none else none else none else none else none else some (ci, cj) else none
theorem metX6_laid {g : jG} {d : Nat} {K : jK} {cr : jR} {c sl : Nat} {Qr : jQ} {Qx : jX} (hM : jMW K cr) (n : Nat) (a0 : Int32) (a1 : Int64) (a2 : Nat) (a3 : Int32) (a4 : Int32) (ci : jI) (cj : jJ) {q} (h : fX6_laid n a0 a1 a2 a3 a4 ci cj = some q) (hq : Qr none K q.1 q.2 cr) : EvM g (d + 1) mX6_laid [.ref 1547, .int a0, .long a1, .ref a2, .int a3, .int a4] K ci cj cr c sl Qr Qx := by
  unfold fX6_laid at h
  show Ev g (d + 1) mX6_laid 0 [.ref 1547, .int a0, .long a1, jU, .ref a2, .int a3, .int a4, jU] [] K ci cj cr c sl Qr Qx
  by_cases zp_a2 : mkd a2 = 100
  rotate_left
  · rw [if_neg zp_a2] at h; cases h
  rw [if_pos zp_a2] at h
  refine ev_aload_n dX6_laid_0 rfl ?_
  refine ev_getI dX6_laid_1 fX6_251_6 (hk1547 hM) (Or.inl (hl1547 hM)) rfl ?_
  refine ev_if_eq 8 dX6_laid_4 rfl (fun z1 => ?_) (fun z1 => ?_)
  · rw [if_pos z1] at h
    refine ev_aload_n dX6_laid_8 rfl ?_
    refine ev_getR dX6_laid_9 fX6_102_6 (hk1547 hM) (Or.inl (hl1547 hM)) rfl (hr39 hM) ?_
    refine ev_iload_n dX6_laid_12 rfl ?_
    by_cases z2 : jok a0 8
    rotate_left
    · rw [if_neg z2] at h; cases h
    rw [if_pos z2] at h
    refine ev_iaload dX6_laid_13 (hk1577 hM) (Or.inl (hl1577 hM)) (jok.ix z2 (hn1577 hM)) ?_
    refine ev_istore (L' := [_, _, _, _, _, _, _, _]) dX6_laid_14 (by decide) rfl ?_
    refine ev_aload_n dX6_laid_16 rfl ?_
    refine ev_getR dX6_laid_17 fX6_105_6 (hk1547 hM) (Or.inl (hl1547 hM)) rfl (hr40 hM) ?_
    refine ev_bipush (v := (nI 10)) dX6_laid_20 jb10 ?_
    refine ev_iload_n dX6_laid_22 rfl ?_
    refine ev_imul dX6_laid_23 ?_
    refine ev_iload dX6_laid_24 rfl ?_
    refine ev_iadd dX6_laid_26 ?_
    refine ev_lload_n dX6_laid_27 rfl ?_
    by_cases z3 : jok (((nI 10) * a0) + (ci 1577 (a0).toNatClampNeg)) 60
    rotate_left
    · rw [if_neg z3] at h; cases h
    rw [if_pos z3] at h
    refine ev_lastore dX6_laid_28 (hk1578 hM) (hl1578 hM) (jok.ix z3 (hn1578 hM)) ?_
    refine ev_aload dX6_laid_29 rfl ?_
    refine ev_iconst (v := (nI 2)) dX6_laid_31 jc2 ?_
    refine ev_iload dX6_laid_32 rfl ?_
    refine ev_imul dX6_laid_34 ?_
    refine ev_iload dX6_laid_35 rfl ?_
    by_cases z4 : jok ((nI 2) * (ci 1577 (a0).toNatClampNeg)) (mln a2)
    rotate_left
    · rw [if_neg z4] at h; cases h
    rw [if_pos z4] at h
    refine ev_iastore dX6_laid_37 (jMW.k hM zp_a2) (jMW.l hM zp_a2) (jok.ix z4 (jMW.n hM zp_a2)) ?_
    refine ev_aload dX6_laid_38 rfl ?_
    refine ev_iconst (v := (nI 2)) dX6_laid_40 jc2 ?_
    refine ev_iload dX6_laid_41 rfl ?_
    refine ev_imul dX6_laid_43 ?_
    refine ev_iconst (v := (nI 1)) dX6_laid_44 jc1 ?_
    refine ev_iadd dX6_laid_45 ?_
    refine ev_iload dX6_laid_46 rfl ?_
    by_cases z5 : jok (((nI 2) * (ci 1577 (a0).toNatClampNeg)) + (nI 1)) (mln a2)
    rotate_left
    · rw [if_neg z5] at h; cases h
    rw [if_pos z5] at h
    refine ev_iastore dX6_laid_48 (jMW.k hM zp_a2) (jMW.l hM zp_a2) (jok.ix z5 (jMW.n hM zp_a2)) ?_
    refine ev_aload_n dX6_laid_49 rfl ?_
    refine ev_getR dX6_laid_50 fX6_102_6 (hk1547 hM) (Or.inl (hl1547 hM)) rfl (hr39 hM) ?_
    refine ev_iload_n dX6_laid_53 rfl ?_
    refine ev_dup2 dX6_laid_54 rfl rfl ?_
    by_cases z6 : jok a0 8
    rotate_left
    · rw [if_neg z6] at h; cases h
    rw [if_pos z6] at h
    refine ev_iaload dX6_laid_55 (hk1577 hM) (Or.inl (hl1577 hM)) (jok.ix z6 (hn1577 hM)) ?_
    refine ev_iconst (v := (nI 1)) dX6_laid_56 jc1 ?_
    refine ev_iadd dX6_laid_57 ?_
    by_cases z7 : jok a0 8
    rotate_left
    · rw [if_neg z7] at h; cases h
    rw [if_pos z7] at h
    refine ev_iastore dX6_laid_58 (hk1577 hM) (hl1577 hM) (jok.ix z7 (hn1577 hM)) ?_
    cases h
    exact ev_ret dX6_laid_59 rfl hq
  · rw [if_neg z1] at h
    cases h
    exact ev_ret dX6_laid_7 rfl hq
def fX6_isOwnHere_342 (n : Nat) (t0 : Int32) (ci : jI) (cj : jJ) : Option (Int32 × jI × jJ) := if t0 = 0 ∨ t0 = 1 then some (t0, ci, cj) else none
theorem wX6_isOwnHere_342 {g : jG} {d : Nat} {K : jK} {cr : jR} {c sl : Nat} {Qr : jQ} {Qx : jX} (hM : jMW K cr) (n : Nat) (t0 : Int32) (ci : jI) (cj : jJ) {q} (h : fX6_isOwnHere_342 n  t0 ci cj = some q) (hq : Qr (some (.int q.1)) K q.2.1 q.2.2 cr) : Ev g (d + 3) mX6_isOwnHere 342 [jU, jU] [.int t0] K ci cj cr c sl Qr Qx := by
  unfold fX6_isOwnHere_342 at h
  refine ev_istore_n (L' := [_, _]) dX6_isOwnHere_342 (by decide) rfl ?_
  refine ev_iload_n dX6_isOwnHere_343 rfl ?_
  by_cases z1 : t0 = 0 ∨ t0 = 1
  rotate_left
  · rw [if_neg z1] at h; cases h
  rw [if_pos z1] at h
  cases h
  exact ev_iret dX6_isOwnHere_344 rfl (jbool z1) hq
def fX6_isOwnHere_337 (n : Nat) (ci : jI) (cj : jJ) : Option (Int32 × jI × jJ) := fX6_isOwnHere_342 n  (nI 1) ci cj
theorem wX6_isOwnHere_337 {g : jG} {d : Nat} {K : jK} {cr : jR} {c sl : Nat} {Qr : jQ} {Qx : jX} (hM : jMW K cr) (n : Nat) (ci : jI) (cj : jJ) {q} (h : fX6_isOwnHere_337 n   ci cj = some q) (hq : Qr (some (.int q.1)) K q.2.1 q.2.2 cr) : Ev g (d + 3) mX6_isOwnHere 337 [jU, jU] [] K ci cj cr c sl Qr Qx := by
  unfold fX6_isOwnHere_337 at h
  refine ev_iconst (v := (nI 1)) dX6_isOwnHere_337 jc1 ?_
  refine ev_goto 342 dX6_isOwnHere_338 rfl ?_
  exact wX6_isOwnHere_342 hM n   _ _ _ h hq
def fX6_isOwnHere_299 (n : Nat) (t0 : Int32) (ci : jI) (cj : jJ) : Option (Int32 × jI × jJ) := if t0 = 0 then Option.bind (fX6_isHere n 1574 ci cj) (fun q2 => if q2.1 = 0 then Option.bind (fX6_isHere n 1575 q2.2.1 q2.2.2) (fun q5 => if q5.1 = 0 then Option.bind (fX6_isHere n 1576 q5.2.1 q5.2.2) (fun q8 => if q8.1 = 0 then fX6_isOwnHere_342 n  (nI 0) q8.2.1 q8.2.2 else fX6_isOwnHere_337 n   q8.2.1 q8.2.2) else fX6_isOwnHere_337 n   q5.2.1 q5.2.2) else fX6_isOwnHere_337 n   q2.2.1 q2.2.2) else fX6_isOwnHere_337 n   ci cj
theorem wX6_isOwnHere_299 {g : jG} {d : Nat} {K : jK} {cr : jR} {c sl : Nat} {Qr : jQ} {Qx : jX} (hM : jMW K cr) (n : Nat) (t0 : Int32) (ci : jI) (cj : jJ) {q} (h : fX6_isOwnHere_299 n  t0 ci cj = some q) (hq : Qr (some (.int q.1)) K q.2.1 q.2.2 cr) : Ev g (d + 3) mX6_isOwnHere 299 [.ref 1547, jU] [.int t0] K ci cj cr c sl Qr Qx := by
  unfold fX6_isOwnHere_299 at h
  refine ev_istore_n (L' := [_, _]) dX6_isOwnHere_299 (by decide) rfl ?_
  refine ev_iload_n dX6_isOwnHere_300 rfl ?_
  refine ev_if_ne 337 dX6_isOwnHere_301 rfl (fun z1 => ?_) (fun z1 => ?_)
  · rw [if_neg z1] at h
    exact ev_mask [false, false] (wX6_isOwnHere_337 hM n    _ _ h hq)
  · rw [if_pos z1] at h
    refine ev_aload_n dX6_isOwnHere_304 rfl ?_
    refine ev_aload_n dX6_isOwnHere_305 rfl ?_
    refine ev_getR dX6_isOwnHere_306 fX6_93_6 (hk1547 hM) (Or.inl (hl1547 hM)) rfl (hr35 hM) ?_
    obtain ⟨q2, z3, h⟩ := Option.bind_eq_some_iff.mp h
    refine ev_zV1 dX6_isOwnHere_309 vX6_274_6 (hk1547 hM) (Or.inl (hl1547 hM)) (Nat.le_of_ble_eq_true rfl) (Nat.le_of_ble_eq_true rfl) rfl (metX6_isHere hM n _ _ _ z3 ?_)
    show Ev g _ _ 312 _ [.int q2.1] K q2.2.1 q2.2.2 cr c sl Qr Qx
    refine ev_if_ne 337 dX6_isOwnHere_312 rfl (fun z4 => ?_) (fun z4 => ?_)
    · rw [if_neg z4] at h
      exact ev_mask [false, false] (wX6_isOwnHere_337 hM n    _ _ h hq)
    · rw [if_pos z4] at h
      refine ev_aload_n dX6_isOwnHere_315 rfl ?_
      refine ev_aload_n dX6_isOwnHere_316 rfl ?_
      refine ev_getR dX6_isOwnHere_317 fX6_96_6 (hk1547 hM) (Or.inl (hl1547 hM)) rfl (hr36 hM) ?_
      obtain ⟨q5, z6, h⟩ := Option.bind_eq_some_iff.mp h
      refine ev_zV1 dX6_isOwnHere_320 vX6_274_6 (hk1547 hM) (Or.inl (hl1547 hM)) (Nat.le_of_ble_eq_true rfl) (Nat.le_of_ble_eq_true rfl) rfl (metX6_isHere hM n _ _ _ z6 ?_)
      show Ev g _ _ 323 _ [.int q5.1] K q5.2.1 q5.2.2 cr c sl Qr Qx
      refine ev_if_ne 337 dX6_isOwnHere_323 rfl (fun z7 => ?_) (fun z7 => ?_)
      · rw [if_neg z7] at h
        exact ev_mask [false, false] (wX6_isOwnHere_337 hM n    _ _ h hq)
      · rw [if_pos z7] at h
        refine ev_aload_n dX6_isOwnHere_326 rfl ?_
        refine ev_aload_n dX6_isOwnHere_327 rfl ?_
        refine ev_getR dX6_isOwnHere_328 fX6_99_6 (hk1547 hM) (Or.inl (hl1547 hM)) rfl (hr37 hM) ?_
        obtain ⟨q8, z9, h⟩ := Option.bind_eq_some_iff.mp h
        refine ev_zV1 dX6_isOwnHere_331 vX6_274_6 (hk1547 hM) (Or.inl (hl1547 hM)) (Nat.le_of_ble_eq_true rfl) (Nat.le_of_ble_eq_true rfl) rfl (metX6_isHere hM n _ _ _ z9 ?_)
        show Ev g _ _ 334 _ [.int q8.1] K q8.2.1 q8.2.2 cr c sl Qr Qx
        refine ev_if_eq 341 dX6_isOwnHere_334 rfl (fun z10 => ?_) (fun z10 => ?_)
        · rw [if_pos z10] at h
          refine ev_iconst (v := (nI 0)) dX6_isOwnHere_341 jc0 ?_
          exact ev_mask [false, false] (wX6_isOwnHere_342 hM n   _ _ _ h hq)
        · rw [if_neg z10] at h
          exact ev_mask [false, false] (wX6_isOwnHere_337 hM n    _ _ h hq)
def fX6_isOwnHere_294 (n : Nat) (ci : jI) (cj : jJ) : Option (Int32 × jI × jJ) := fX6_isOwnHere_299 n  (nI 1) ci cj
theorem wX6_isOwnHere_294 {g : jG} {d : Nat} {K : jK} {cr : jR} {c sl : Nat} {Qr : jQ} {Qx : jX} (hM : jMW K cr) (n : Nat) (ci : jI) (cj : jJ) {q} (h : fX6_isOwnHere_294 n   ci cj = some q) (hq : Qr (some (.int q.1)) K q.2.1 q.2.2 cr) : Ev g (d + 3) mX6_isOwnHere 294 [.ref 1547, jU] [] K ci cj cr c sl Qr Qx := by
  unfold fX6_isOwnHere_294 at h
  refine ev_iconst (v := (nI 1)) dX6_isOwnHere_294 jc1 ?_
  refine ev_goto 299 dX6_isOwnHere_295 rfl ?_
  exact wX6_isOwnHere_299 hM n   _ _ _ h hq
def fX6_isOwnHere_223 (n : Nat) (t0 : Int32) (ci : jI) (cj : jJ) : Option (Int32 × jI × jJ) := if t0 = 0 then Option.bind (fX6_isHere n 1568 ci cj) (fun q2 => if q2.1 = 0 then Option.bind (fX6_isHere n 1569 q2.2.1 q2.2.2) (fun q5 => if q5.1 = 0 then Option.bind (fX6_isHere n 1570 q5.2.1 q5.2.2) (fun q8 => if q8.1 = 0 then Option.bind (fX6_isHere n 1571 q8.2.1 q8.2.2) (fun q11 => if q11.1 = 0 then Option.bind (fX6_isHere n 1572 q11.2.1 q11.2.2) (fun q14 => if q14.1 = 0 then Option.bind (fX6_isHere n 1573 q14.2.1 q14.2.2) (fun q17 => if q17.1 = 0 then fX6_isOwnHere_299 n  (nI 0) q17.2.1 q17.2.2 else fX6_isOwnHere_294 n   q17.2.1 q17.2.2) else fX6_isOwnHere_294 n   q14.2.1 q14.2.2) else fX6_isOwnHere_294 n   q11.2.1 q11.2.2) else fX6_isOwnHere_294 n   q8.2.1 q8.2.2) else fX6_isOwnHere_294 n   q5.2.1 q5.2.2) else fX6_isOwnHere_294 n   q2.2.1 q2.2.2) else fX6_isOwnHere_294 n   ci cj
theorem wX6_isOwnHere_223 {g : jG} {d : Nat} {K : jK} {cr : jR} {c sl : Nat} {Qr : jQ} {Qx : jX} (hM : jMW K cr) (n : Nat) (t0 : Int32) (ci : jI) (cj : jJ) {q} (h : fX6_isOwnHere_223 n  t0 ci cj = some q) (hq : Qr (some (.int q.1)) K q.2.1 q.2.2 cr) : Ev g (d + 3) mX6_isOwnHere 223 [.ref 1547, jU] [.int t0] K ci cj cr c sl Qr Qx := by
  unfold fX6_isOwnHere_223 at h
  refine ev_istore_n (L' := [_, _]) dX6_isOwnHere_223 (by decide) rfl ?_
  refine ev_iload_n dX6_isOwnHere_224 rfl ?_
  refine ev_if_ne 294 dX6_isOwnHere_225 rfl (fun z1 => ?_) (fun z1 => ?_)
  · rw [if_neg z1] at h
    exact ev_mask [true, false] (wX6_isOwnHere_294 hM n    _ _ h hq)
  · rw [if_pos z1] at h
    refine ev_aload_n dX6_isOwnHere_228 rfl ?_
    refine ev_aload_n dX6_isOwnHere_229 rfl ?_
    refine ev_getR dX6_isOwnHere_230 fX6_75_6 (hk1547 hM) (Or.inl (hl1547 hM)) rfl (hr29 hM) ?_
    obtain ⟨q2, z3, h⟩ := Option.bind_eq_some_iff.mp h
    refine ev_zV1 dX6_isOwnHere_233 vX6_274_6 (hk1547 hM) (Or.inl (hl1547 hM)) (Nat.le_of_ble_eq_true rfl) (Nat.le_of_ble_eq_true rfl) rfl (metX6_isHere hM n _ _ _ z3 ?_)
    show Ev g _ _ 236 _ [.int q2.1] K q2.2.1 q2.2.2 cr c sl Qr Qx
    refine ev_if_ne 294 dX6_isOwnHere_236 rfl (fun z4 => ?_) (fun z4 => ?_)
    · rw [if_neg z4] at h
      exact ev_mask [true, false] (wX6_isOwnHere_294 hM n    _ _ h hq)
    · rw [if_pos z4] at h
      refine ev_aload_n dX6_isOwnHere_239 rfl ?_
      refine ev_aload_n dX6_isOwnHere_240 rfl ?_
      refine ev_getR dX6_isOwnHere_241 fX6_78_6 (hk1547 hM) (Or.inl (hl1547 hM)) rfl (hr30 hM) ?_
      obtain ⟨q5, z6, h⟩ := Option.bind_eq_some_iff.mp h
      refine ev_zV1 dX6_isOwnHere_244 vX6_274_6 (hk1547 hM) (Or.inl (hl1547 hM)) (Nat.le_of_ble_eq_true rfl) (Nat.le_of_ble_eq_true rfl) rfl (metX6_isHere hM n _ _ _ z6 ?_)
      show Ev g _ _ 247 _ [.int q5.1] K q5.2.1 q5.2.2 cr c sl Qr Qx
      refine ev_if_ne 294 dX6_isOwnHere_247 rfl (fun z7 => ?_) (fun z7 => ?_)
      · rw [if_neg z7] at h
        exact ev_mask [true, false] (wX6_isOwnHere_294 hM n    _ _ h hq)
      · rw [if_pos z7] at h
        refine ev_aload_n dX6_isOwnHere_250 rfl ?_
        refine ev_aload_n dX6_isOwnHere_251 rfl ?_
        refine ev_getR dX6_isOwnHere_252 fX6_81_6 (hk1547 hM) (Or.inl (hl1547 hM)) rfl (hr31 hM) ?_
        obtain ⟨q8, z9, h⟩ := Option.bind_eq_some_iff.mp h
        refine ev_zV1 dX6_isOwnHere_255 vX6_274_6 (hk1547 hM) (Or.inl (hl1547 hM)) (Nat.le_of_ble_eq_true rfl) (Nat.le_of_ble_eq_true rfl) rfl (metX6_isHere hM n _ _ _ z9 ?_)
        show Ev g _ _ 258 _ [.int q8.1] K q8.2.1 q8.2.2 cr c sl Qr Qx
        refine ev_if_ne 294 dX6_isOwnHere_258 rfl (fun z10 => ?_) (fun z10 => ?_)
        · rw [if_neg z10] at h
          exact ev_mask [true, false] (wX6_isOwnHere_294 hM n    _ _ h hq)
        · rw [if_pos z10] at h
          refine ev_aload_n dX6_isOwnHere_261 rfl ?_
          refine ev_aload_n dX6_isOwnHere_262 rfl ?_
          refine ev_getR dX6_isOwnHere_263 fX6_84_6 (hk1547 hM) (Or.inl (hl1547 hM)) rfl (hr32 hM) ?_
          obtain ⟨q11, z12, h⟩ := Option.bind_eq_some_iff.mp h
          refine ev_zV1 dX6_isOwnHere_266 vX6_274_6 (hk1547 hM) (Or.inl (hl1547 hM)) (Nat.le_of_ble_eq_true rfl) (Nat.le_of_ble_eq_true rfl) rfl (metX6_isHere hM n _ _ _ z12 ?_)
          show Ev g _ _ 269 _ [.int q11.1] K q11.2.1 q11.2.2 cr c sl Qr Qx
          refine ev_if_ne 294 dX6_isOwnHere_269 rfl (fun z13 => ?_) (fun z13 => ?_)
          · rw [if_neg z13] at h
            exact ev_mask [true, false] (wX6_isOwnHere_294 hM n    _ _ h hq)
          · rw [if_pos z13] at h
            refine ev_aload_n dX6_isOwnHere_272 rfl ?_
            refine ev_aload_n dX6_isOwnHere_273 rfl ?_
            refine ev_getR dX6_isOwnHere_274 fX6_87_6 (hk1547 hM) (Or.inl (hl1547 hM)) rfl (hr33 hM) ?_
            obtain ⟨q14, z15, h⟩ := Option.bind_eq_some_iff.mp h
            refine ev_zV1 dX6_isOwnHere_277 vX6_274_6 (hk1547 hM) (Or.inl (hl1547 hM)) (Nat.le_of_ble_eq_true rfl) (Nat.le_of_ble_eq_true rfl) rfl (metX6_isHere hM n _ _ _ z15 ?_)
            show Ev g _ _ 280 _ [.int q14.1] K q14.2.1 q14.2.2 cr c sl Qr Qx
            refine ev_if_ne 294 dX6_isOwnHere_280 rfl (fun z16 => ?_) (fun z16 => ?_)
            · rw [if_neg z16] at h
              exact ev_mask [true, false] (wX6_isOwnHere_294 hM n    _ _ h hq)
            · rw [if_pos z16] at h
              refine ev_aload_n dX6_isOwnHere_283 rfl ?_
              refine ev_aload_n dX6_isOwnHere_284 rfl ?_
              refine ev_getR dX6_isOwnHere_285 fX6_90_6 (hk1547 hM) (Or.inl (hl1547 hM)) rfl (hr34 hM) ?_
              obtain ⟨q17, z18, h⟩ := Option.bind_eq_some_iff.mp h
              refine ev_zV1 dX6_isOwnHere_288 vX6_274_6 (hk1547 hM) (Or.inl (hl1547 hM)) (Nat.le_of_ble_eq_true rfl) (Nat.le_of_ble_eq_true rfl) rfl (metX6_isHere hM n _ _ _ z18 ?_)
              show Ev g _ _ 291 _ [.int q17.1] K q17.2.1 q17.2.2 cr c sl Qr Qx
              refine ev_if_eq 298 dX6_isOwnHere_291 rfl (fun z19 => ?_) (fun z19 => ?_)
              · rw [if_pos z19] at h
                refine ev_iconst (v := (nI 0)) dX6_isOwnHere_298 jc0 ?_
                exact ev_mask [true, false] (wX6_isOwnHere_299 hM n   _ _ _ h hq)
              · rw [if_neg z19] at h
                exact ev_mask [true, false] (wX6_isOwnHere_294 hM n    _ _ h hq)
def fX6_isOwnHere_218 (n : Nat) (ci : jI) (cj : jJ) : Option (Int32 × jI × jJ) := fX6_isOwnHere_223 n  (nI 1) ci cj
theorem wX6_isOwnHere_218 {g : jG} {d : Nat} {K : jK} {cr : jR} {c sl : Nat} {Qr : jQ} {Qx : jX} (hM : jMW K cr) (n : Nat) (ci : jI) (cj : jJ) {q} (h : fX6_isOwnHere_218 n   ci cj = some q) (hq : Qr (some (.int q.1)) K q.2.1 q.2.2 cr) : Ev g (d + 3) mX6_isOwnHere 218 [.ref 1547, jU] [] K ci cj cr c sl Qr Qx := by
  unfold fX6_isOwnHere_218 at h
  refine ev_iconst (v := (nI 1)) dX6_isOwnHere_218 jc1 ?_
  refine ev_goto 223 dX6_isOwnHere_219 rfl ?_
  exact wX6_isOwnHere_223 hM n   _ _ _ h hq
def fX6_isOwnHere_147 (n : Nat) (t0 : Int32) (ci : jI) (cj : jJ) : Option (Int32 × jI × jJ) := if t0 = 0 then Option.bind (fX6_isHere n 1562 ci cj) (fun q2 => if q2.1 = 0 then Option.bind (fX6_isHere n 1563 q2.2.1 q2.2.2) (fun q5 => if q5.1 = 0 then Option.bind (fX6_isHere n 1564 q5.2.1 q5.2.2) (fun q8 => if q8.1 = 0 then Option.bind (fX6_isHere n 1565 q8.2.1 q8.2.2) (fun q11 => if q11.1 = 0 then Option.bind (fX6_isHere n 1566 q11.2.1 q11.2.2) (fun q14 => if q14.1 = 0 then Option.bind (fX6_isHere n 1567 q14.2.1 q14.2.2) (fun q17 => if q17.1 = 0 then fX6_isOwnHere_223 n  (nI 0) q17.2.1 q17.2.2 else fX6_isOwnHere_218 n   q17.2.1 q17.2.2) else fX6_isOwnHere_218 n   q14.2.1 q14.2.2) else fX6_isOwnHere_218 n   q11.2.1 q11.2.2) else fX6_isOwnHere_218 n   q8.2.1 q8.2.2) else fX6_isOwnHere_218 n   q5.2.1 q5.2.2) else fX6_isOwnHere_218 n   q2.2.1 q2.2.2) else fX6_isOwnHere_218 n   ci cj
theorem wX6_isOwnHere_147 {g : jG} {d : Nat} {K : jK} {cr : jR} {c sl : Nat} {Qr : jQ} {Qx : jX} (hM : jMW K cr) (n : Nat) (t0 : Int32) (ci : jI) (cj : jJ) {q} (h : fX6_isOwnHere_147 n  t0 ci cj = some q) (hq : Qr (some (.int q.1)) K q.2.1 q.2.2 cr) : Ev g (d + 3) mX6_isOwnHere 147 [.ref 1547, jU] [.int t0] K ci cj cr c sl Qr Qx := by
  unfold fX6_isOwnHere_147 at h
  refine ev_istore_n (L' := [_, _]) dX6_isOwnHere_147 (by decide) rfl ?_
  refine ev_iload_n dX6_isOwnHere_148 rfl ?_
  refine ev_if_ne 218 dX6_isOwnHere_149 rfl (fun z1 => ?_) (fun z1 => ?_)
  · rw [if_neg z1] at h
    exact ev_mask [true, false] (wX6_isOwnHere_218 hM n    _ _ h hq)
  · rw [if_pos z1] at h
    refine ev_aload_n dX6_isOwnHere_152 rfl ?_
    refine ev_aload_n dX6_isOwnHere_153 rfl ?_
    refine ev_getR dX6_isOwnHere_154 fX6_57_6 (hk1547 hM) (Or.inl (hl1547 hM)) rfl (hr23 hM) ?_
    obtain ⟨q2, z3, h⟩ := Option.bind_eq_some_iff.mp h
    refine ev_zV1 dX6_isOwnHere_157 vX6_274_6 (hk1547 hM) (Or.inl (hl1547 hM)) (Nat.le_of_ble_eq_true rfl) (Nat.le_of_ble_eq_true rfl) rfl (metX6_isHere hM n _ _ _ z3 ?_)
    show Ev g _ _ 160 _ [.int q2.1] K q2.2.1 q2.2.2 cr c sl Qr Qx
    refine ev_if_ne 218 dX6_isOwnHere_160 rfl (fun z4 => ?_) (fun z4 => ?_)
    · rw [if_neg z4] at h
      exact ev_mask [true, false] (wX6_isOwnHere_218 hM n    _ _ h hq)
    · rw [if_pos z4] at h
      refine ev_aload_n dX6_isOwnHere_163 rfl ?_
      refine ev_aload_n dX6_isOwnHere_164 rfl ?_
      refine ev_getR dX6_isOwnHere_165 fX6_60_6 (hk1547 hM) (Or.inl (hl1547 hM)) rfl (hr24 hM) ?_
      obtain ⟨q5, z6, h⟩ := Option.bind_eq_some_iff.mp h
      refine ev_zV1 dX6_isOwnHere_168 vX6_274_6 (hk1547 hM) (Or.inl (hl1547 hM)) (Nat.le_of_ble_eq_true rfl) (Nat.le_of_ble_eq_true rfl) rfl (metX6_isHere hM n _ _ _ z6 ?_)
      show Ev g _ _ 171 _ [.int q5.1] K q5.2.1 q5.2.2 cr c sl Qr Qx
      refine ev_if_ne 218 dX6_isOwnHere_171 rfl (fun z7 => ?_) (fun z7 => ?_)
      · rw [if_neg z7] at h
        exact ev_mask [true, false] (wX6_isOwnHere_218 hM n    _ _ h hq)
      · rw [if_pos z7] at h
        refine ev_aload_n dX6_isOwnHere_174 rfl ?_
        refine ev_aload_n dX6_isOwnHere_175 rfl ?_
        refine ev_getR dX6_isOwnHere_176 fX6_63_6 (hk1547 hM) (Or.inl (hl1547 hM)) rfl (hr25 hM) ?_
        obtain ⟨q8, z9, h⟩ := Option.bind_eq_some_iff.mp h
        refine ev_zV1 dX6_isOwnHere_179 vX6_274_6 (hk1547 hM) (Or.inl (hl1547 hM)) (Nat.le_of_ble_eq_true rfl) (Nat.le_of_ble_eq_true rfl) rfl (metX6_isHere hM n _ _ _ z9 ?_)
        show Ev g _ _ 182 _ [.int q8.1] K q8.2.1 q8.2.2 cr c sl Qr Qx
        refine ev_if_ne 218 dX6_isOwnHere_182 rfl (fun z10 => ?_) (fun z10 => ?_)
        · rw [if_neg z10] at h
          exact ev_mask [true, false] (wX6_isOwnHere_218 hM n    _ _ h hq)
        · rw [if_pos z10] at h
          refine ev_aload_n dX6_isOwnHere_185 rfl ?_
          refine ev_aload_n dX6_isOwnHere_186 rfl ?_
          refine ev_getR dX6_isOwnHere_187 fX6_66_6 (hk1547 hM) (Or.inl (hl1547 hM)) rfl (hr26 hM) ?_
          obtain ⟨q11, z12, h⟩ := Option.bind_eq_some_iff.mp h
          refine ev_zV1 dX6_isOwnHere_190 vX6_274_6 (hk1547 hM) (Or.inl (hl1547 hM)) (Nat.le_of_ble_eq_true rfl) (Nat.le_of_ble_eq_true rfl) rfl (metX6_isHere hM n _ _ _ z12 ?_)
          show Ev g _ _ 193 _ [.int q11.1] K q11.2.1 q11.2.2 cr c sl Qr Qx
          refine ev_if_ne 218 dX6_isOwnHere_193 rfl (fun z13 => ?_) (fun z13 => ?_)
          · rw [if_neg z13] at h
            exact ev_mask [true, false] (wX6_isOwnHere_218 hM n    _ _ h hq)
          · rw [if_pos z13] at h
            refine ev_aload_n dX6_isOwnHere_196 rfl ?_
            refine ev_aload_n dX6_isOwnHere_197 rfl ?_
            refine ev_getR dX6_isOwnHere_198 fX6_69_6 (hk1547 hM) (Or.inl (hl1547 hM)) rfl (hr27 hM) ?_
            obtain ⟨q14, z15, h⟩ := Option.bind_eq_some_iff.mp h
            refine ev_zV1 dX6_isOwnHere_201 vX6_274_6 (hk1547 hM) (Or.inl (hl1547 hM)) (Nat.le_of_ble_eq_true rfl) (Nat.le_of_ble_eq_true rfl) rfl (metX6_isHere hM n _ _ _ z15 ?_)
            show Ev g _ _ 204 _ [.int q14.1] K q14.2.1 q14.2.2 cr c sl Qr Qx
            refine ev_if_ne 218 dX6_isOwnHere_204 rfl (fun z16 => ?_) (fun z16 => ?_)
            · rw [if_neg z16] at h
              exact ev_mask [true, false] (wX6_isOwnHere_218 hM n    _ _ h hq)
            · rw [if_pos z16] at h
              refine ev_aload_n dX6_isOwnHere_207 rfl ?_
              refine ev_aload_n dX6_isOwnHere_208 rfl ?_
              refine ev_getR dX6_isOwnHere_209 fX6_72_6 (hk1547 hM) (Or.inl (hl1547 hM)) rfl (hr28 hM) ?_
              obtain ⟨q17, z18, h⟩ := Option.bind_eq_some_iff.mp h
              refine ev_zV1 dX6_isOwnHere_212 vX6_274_6 (hk1547 hM) (Or.inl (hl1547 hM)) (Nat.le_of_ble_eq_true rfl) (Nat.le_of_ble_eq_true rfl) rfl (metX6_isHere hM n _ _ _ z18 ?_)
              show Ev g _ _ 215 _ [.int q17.1] K q17.2.1 q17.2.2 cr c sl Qr Qx
              refine ev_if_eq 222 dX6_isOwnHere_215 rfl (fun z19 => ?_) (fun z19 => ?_)
              · rw [if_pos z19] at h
                refine ev_iconst (v := (nI 0)) dX6_isOwnHere_222 jc0 ?_
                exact ev_mask [true, false] (wX6_isOwnHere_223 hM n   _ _ _ h hq)
              · rw [if_neg z19] at h
                exact ev_mask [true, false] (wX6_isOwnHere_218 hM n    _ _ h hq)
def fX6_isOwnHere_142 (n : Nat) (ci : jI) (cj : jJ) : Option (Int32 × jI × jJ) := fX6_isOwnHere_147 n  (nI 1) ci cj
theorem wX6_isOwnHere_142 {g : jG} {d : Nat} {K : jK} {cr : jR} {c sl : Nat} {Qr : jQ} {Qx : jX} (hM : jMW K cr) (n : Nat) (ci : jI) (cj : jJ) {q} (h : fX6_isOwnHere_142 n   ci cj = some q) (hq : Qr (some (.int q.1)) K q.2.1 q.2.2 cr) : Ev g (d + 3) mX6_isOwnHere 142 [.ref 1547, jU] [] K ci cj cr c sl Qr Qx := by
  unfold fX6_isOwnHere_142 at h
  refine ev_iconst (v := (nI 1)) dX6_isOwnHere_142 jc1 ?_
  refine ev_goto 147 dX6_isOwnHere_143 rfl ?_
  exact wX6_isOwnHere_147 hM n   _ _ _ h hq
def fX6_isOwnHere_71 (n : Nat) (t0 : Int32) (ci : jI) (cj : jJ) : Option (Int32 × jI × jJ) := if t0 = 0 then Option.bind (fX6_isHere n 1556 ci cj) (fun q2 => if q2.1 = 0 then Option.bind (fX6_isHere n 1557 q2.2.1 q2.2.2) (fun q5 => if q5.1 = 0 then Option.bind (fX6_isHere n 1558 q5.2.1 q5.2.2) (fun q8 => if q8.1 = 0 then Option.bind (fX6_isHere n 1559 q8.2.1 q8.2.2) (fun q11 => if q11.1 = 0 then Option.bind (fX6_isHere n 1560 q11.2.1 q11.2.2) (fun q14 => if q14.1 = 0 then Option.bind (fX6_isHere n 1561 q14.2.1 q14.2.2) (fun q17 => if q17.1 = 0 then fX6_isOwnHere_147 n  (nI 0) q17.2.1 q17.2.2 else fX6_isOwnHere_142 n   q17.2.1 q17.2.2) else fX6_isOwnHere_142 n   q14.2.1 q14.2.2) else fX6_isOwnHere_142 n   q11.2.1 q11.2.2) else fX6_isOwnHere_142 n   q8.2.1 q8.2.2) else fX6_isOwnHere_142 n   q5.2.1 q5.2.2) else fX6_isOwnHere_142 n   q2.2.1 q2.2.2) else fX6_isOwnHere_142 n   ci cj
theorem wX6_isOwnHere_71 {g : jG} {d : Nat} {K : jK} {cr : jR} {c sl : Nat} {Qr : jQ} {Qx : jX} (hM : jMW K cr) (n : Nat) (t0 : Int32) (ci : jI) (cj : jJ) {q} (h : fX6_isOwnHere_71 n  t0 ci cj = some q) (hq : Qr (some (.int q.1)) K q.2.1 q.2.2 cr) : Ev g (d + 3) mX6_isOwnHere 71 [.ref 1547, jU] [.int t0] K ci cj cr c sl Qr Qx := by
  unfold fX6_isOwnHere_71 at h
  refine ev_istore_n (L' := [_, _]) dX6_isOwnHere_71 (by decide) rfl ?_
  refine ev_iload_n dX6_isOwnHere_72 rfl ?_
  refine ev_if_ne 142 dX6_isOwnHere_73 rfl (fun z1 => ?_) (fun z1 => ?_)
  · rw [if_neg z1] at h
    exact ev_mask [true, false] (wX6_isOwnHere_142 hM n    _ _ h hq)
  · rw [if_pos z1] at h
    refine ev_aload_n dX6_isOwnHere_76 rfl ?_
    refine ev_aload_n dX6_isOwnHere_77 rfl ?_
    refine ev_getR dX6_isOwnHere_78 fX6_39_6 (hk1547 hM) (Or.inl (hl1547 hM)) rfl (hr17 hM) ?_
    obtain ⟨q2, z3, h⟩ := Option.bind_eq_some_iff.mp h
    refine ev_zV1 dX6_isOwnHere_81 vX6_274_6 (hk1547 hM) (Or.inl (hl1547 hM)) (Nat.le_of_ble_eq_true rfl) (Nat.le_of_ble_eq_true rfl) rfl (metX6_isHere hM n _ _ _ z3 ?_)
    show Ev g _ _ 84 _ [.int q2.1] K q2.2.1 q2.2.2 cr c sl Qr Qx
    refine ev_if_ne 142 dX6_isOwnHere_84 rfl (fun z4 => ?_) (fun z4 => ?_)
    · rw [if_neg z4] at h
      exact ev_mask [true, false] (wX6_isOwnHere_142 hM n    _ _ h hq)
    · rw [if_pos z4] at h
      refine ev_aload_n dX6_isOwnHere_87 rfl ?_
      refine ev_aload_n dX6_isOwnHere_88 rfl ?_
      refine ev_getR dX6_isOwnHere_89 fX6_42_6 (hk1547 hM) (Or.inl (hl1547 hM)) rfl (hr18 hM) ?_
      obtain ⟨q5, z6, h⟩ := Option.bind_eq_some_iff.mp h
      refine ev_zV1 dX6_isOwnHere_92 vX6_274_6 (hk1547 hM) (Or.inl (hl1547 hM)) (Nat.le_of_ble_eq_true rfl) (Nat.le_of_ble_eq_true rfl) rfl (metX6_isHere hM n _ _ _ z6 ?_)
      show Ev g _ _ 95 _ [.int q5.1] K q5.2.1 q5.2.2 cr c sl Qr Qx
      refine ev_if_ne 142 dX6_isOwnHere_95 rfl (fun z7 => ?_) (fun z7 => ?_)
      · rw [if_neg z7] at h
        exact ev_mask [true, false] (wX6_isOwnHere_142 hM n    _ _ h hq)
      · rw [if_pos z7] at h
        refine ev_aload_n dX6_isOwnHere_98 rfl ?_
        refine ev_aload_n dX6_isOwnHere_99 rfl ?_
        refine ev_getR dX6_isOwnHere_100 fX6_45_6 (hk1547 hM) (Or.inl (hl1547 hM)) rfl (hr19 hM) ?_
        obtain ⟨q8, z9, h⟩ := Option.bind_eq_some_iff.mp h
        refine ev_zV1 dX6_isOwnHere_103 vX6_274_6 (hk1547 hM) (Or.inl (hl1547 hM)) (Nat.le_of_ble_eq_true rfl) (Nat.le_of_ble_eq_true rfl) rfl (metX6_isHere hM n _ _ _ z9 ?_)
        show Ev g _ _ 106 _ [.int q8.1] K q8.2.1 q8.2.2 cr c sl Qr Qx
        refine ev_if_ne 142 dX6_isOwnHere_106 rfl (fun z10 => ?_) (fun z10 => ?_)
        · rw [if_neg z10] at h
          exact ev_mask [true, false] (wX6_isOwnHere_142 hM n    _ _ h hq)
        · rw [if_pos z10] at h
          refine ev_aload_n dX6_isOwnHere_109 rfl ?_
          refine ev_aload_n dX6_isOwnHere_110 rfl ?_
          refine ev_getR dX6_isOwnHere_111 fX6_48_6 (hk1547 hM) (Or.inl (hl1547 hM)) rfl (hr20 hM) ?_
          obtain ⟨q11, z12, h⟩ := Option.bind_eq_some_iff.mp h
          refine ev_zV1 dX6_isOwnHere_114 vX6_274_6 (hk1547 hM) (Or.inl (hl1547 hM)) (Nat.le_of_ble_eq_true rfl) (Nat.le_of_ble_eq_true rfl) rfl (metX6_isHere hM n _ _ _ z12 ?_)
          show Ev g _ _ 117 _ [.int q11.1] K q11.2.1 q11.2.2 cr c sl Qr Qx
          refine ev_if_ne 142 dX6_isOwnHere_117 rfl (fun z13 => ?_) (fun z13 => ?_)
          · rw [if_neg z13] at h
            exact ev_mask [true, false] (wX6_isOwnHere_142 hM n    _ _ h hq)
          · rw [if_pos z13] at h
            refine ev_aload_n dX6_isOwnHere_120 rfl ?_
            refine ev_aload_n dX6_isOwnHere_121 rfl ?_
            refine ev_getR dX6_isOwnHere_122 fX6_51_6 (hk1547 hM) (Or.inl (hl1547 hM)) rfl (hr21 hM) ?_
            obtain ⟨q14, z15, h⟩ := Option.bind_eq_some_iff.mp h
            refine ev_zV1 dX6_isOwnHere_125 vX6_274_6 (hk1547 hM) (Or.inl (hl1547 hM)) (Nat.le_of_ble_eq_true rfl) (Nat.le_of_ble_eq_true rfl) rfl (metX6_isHere hM n _ _ _ z15 ?_)
            show Ev g _ _ 128 _ [.int q14.1] K q14.2.1 q14.2.2 cr c sl Qr Qx
            refine ev_if_ne 142 dX6_isOwnHere_128 rfl (fun z16 => ?_) (fun z16 => ?_)
            · rw [if_neg z16] at h
              exact ev_mask [true, false] (wX6_isOwnHere_142 hM n    _ _ h hq)
            · rw [if_pos z16] at h
              refine ev_aload_n dX6_isOwnHere_131 rfl ?_
              refine ev_aload_n dX6_isOwnHere_132 rfl ?_
              refine ev_getR dX6_isOwnHere_133 fX6_54_6 (hk1547 hM) (Or.inl (hl1547 hM)) rfl (hr22 hM) ?_
              obtain ⟨q17, z18, h⟩ := Option.bind_eq_some_iff.mp h
              refine ev_zV1 dX6_isOwnHere_136 vX6_274_6 (hk1547 hM) (Or.inl (hl1547 hM)) (Nat.le_of_ble_eq_true rfl) (Nat.le_of_ble_eq_true rfl) rfl (metX6_isHere hM n _ _ _ z18 ?_)
              show Ev g _ _ 139 _ [.int q17.1] K q17.2.1 q17.2.2 cr c sl Qr Qx
              refine ev_if_eq 146 dX6_isOwnHere_139 rfl (fun z19 => ?_) (fun z19 => ?_)
              · rw [if_pos z19] at h
                refine ev_iconst (v := (nI 0)) dX6_isOwnHere_146 jc0 ?_
                exact ev_mask [true, false] (wX6_isOwnHere_147 hM n   _ _ _ h hq)
              · rw [if_neg z19] at h
                exact ev_mask [true, false] (wX6_isOwnHere_142 hM n    _ _ h hq)
def fX6_isOwnHere_66 (n : Nat) (ci : jI) (cj : jJ) : Option (Int32 × jI × jJ) := fX6_isOwnHere_71 n  (nI 1) ci cj
theorem wX6_isOwnHere_66 {g : jG} {d : Nat} {K : jK} {cr : jR} {c sl : Nat} {Qr : jQ} {Qx : jX} (hM : jMW K cr) (n : Nat) (ci : jI) (cj : jJ) {q} (h : fX6_isOwnHere_66 n   ci cj = some q) (hq : Qr (some (.int q.1)) K q.2.1 q.2.2 cr) : Ev g (d + 3) mX6_isOwnHere 66 [.ref 1547, jU] [] K ci cj cr c sl Qr Qx := by
  unfold fX6_isOwnHere_66 at h
  refine ev_iconst (v := (nI 1)) dX6_isOwnHere_66 jc1 ?_
  refine ev_goto 71 dX6_isOwnHere_67 rfl ?_
  exact wX6_isOwnHere_71 hM n   _ _ _ h hq
def fX6_isOwnHere (n : Nat) (ci : jI) (cj : jJ) : Option (Int32 × jI × jJ) := Option.bind (fX6_isHere n 1550 ci cj) (fun q1 => if q1.1 = 0 then Option.bind (fX6_isHere n 1551 q1.2.1 q1.2.2) (fun q4 => if q4.1 = 0 then Option.bind (fX6_isHere n 1552 q4.2.1 q4.2.2) (fun q7 => if q7.1 = 0 then Option.bind (fX6_isHere n 1553 q7.2.1 q7.2.2) (fun q10 => if q10.1 = 0 then Option.bind (fX6_isHere n 1554 q10.2.1 q10.2.2) (fun q13 => if q13.1 = 0 then Option.bind (fX6_isHere n 1555 q13.2.1 q13.2.2) (fun q16 => if q16.1 = 0 then fX6_isOwnHere_71 n  (nI 0) q16.2.1 q16.2.2 else fX6_isOwnHere_66 n   q16.2.1 q16.2.2) else fX6_isOwnHere_66 n   q13.2.1 q13.2.2) else fX6_isOwnHere_66 n   q10.2.1 q10.2.2) else fX6_isOwnHere_66 n   q7.2.1 q7.2.2) else fX6_isOwnHere_66 n   q4.2.1 q4.2.2) else fX6_isOwnHere_66 n   q1.2.1 q1.2.2)
theorem metX6_isOwnHere {g : jG} {d : Nat} {K : jK} {cr : jR} {c sl : Nat} {Qr : jQ} {Qx : jX} (hM : jMW K cr) (n : Nat) (ci : jI) (cj : jJ) {q} (h : fX6_isOwnHere n  ci cj = some q) (hq : Qr (some (.int q.1)) K q.2.1 q.2.2 cr) : EvM g (d + 3) mX6_isOwnHere [.ref 1547] K ci cj cr c sl Qr Qx := by
  unfold fX6_isOwnHere at h
  show Ev g (d + 3) mX6_isOwnHere 0 [.ref 1547, jU] [] K ci cj cr c sl Qr Qx
  refine ev_aload_n dX6_isOwnHere_0 rfl ?_
  refine ev_aload_n dX6_isOwnHere_1 rfl ?_
  refine ev_getR dX6_isOwnHere_2 fX6_20_6 (hk1547 hM) (Or.inl (hl1547 hM)) rfl (hr11 hM) ?_
  obtain ⟨q1, z2, h⟩ := Option.bind_eq_some_iff.mp h
  refine ev_zV1 dX6_isOwnHere_5 vX6_274_6 (hk1547 hM) (Or.inl (hl1547 hM)) (Nat.le_of_ble_eq_true rfl) (Nat.le_of_ble_eq_true rfl) rfl (metX6_isHere hM n _ _ _ z2 ?_)
  show Ev g _ _ 8 _ [.int q1.1] K q1.2.1 q1.2.2 cr c sl Qr Qx
  refine ev_if_ne 66 dX6_isOwnHere_8 rfl (fun z3 => ?_) (fun z3 => ?_)
  · rw [if_neg z3] at h
    exact wX6_isOwnHere_66 hM n    _ _ h hq
  · rw [if_pos z3] at h
    refine ev_aload_n dX6_isOwnHere_11 rfl ?_
    refine ev_aload_n dX6_isOwnHere_12 rfl ?_
    refine ev_getR dX6_isOwnHere_13 fX6_24_6 (hk1547 hM) (Or.inl (hl1547 hM)) rfl (hr12 hM) ?_
    obtain ⟨q4, z5, h⟩ := Option.bind_eq_some_iff.mp h
    refine ev_zV1 dX6_isOwnHere_16 vX6_274_6 (hk1547 hM) (Or.inl (hl1547 hM)) (Nat.le_of_ble_eq_true rfl) (Nat.le_of_ble_eq_true rfl) rfl (metX6_isHere hM n _ _ _ z5 ?_)
    show Ev g _ _ 19 _ [.int q4.1] K q4.2.1 q4.2.2 cr c sl Qr Qx
    refine ev_if_ne 66 dX6_isOwnHere_19 rfl (fun z6 => ?_) (fun z6 => ?_)
    · rw [if_neg z6] at h
      exact wX6_isOwnHere_66 hM n    _ _ h hq
    · rw [if_pos z6] at h
      refine ev_aload_n dX6_isOwnHere_22 rfl ?_
      refine ev_aload_n dX6_isOwnHere_23 rfl ?_
      refine ev_getR dX6_isOwnHere_24 fX6_27_6 (hk1547 hM) (Or.inl (hl1547 hM)) rfl (hr13 hM) ?_
      obtain ⟨q7, z8, h⟩ := Option.bind_eq_some_iff.mp h
      refine ev_zV1 dX6_isOwnHere_27 vX6_274_6 (hk1547 hM) (Or.inl (hl1547 hM)) (Nat.le_of_ble_eq_true rfl) (Nat.le_of_ble_eq_true rfl) rfl (metX6_isHere hM n _ _ _ z8 ?_)
      show Ev g _ _ 30 _ [.int q7.1] K q7.2.1 q7.2.2 cr c sl Qr Qx
      refine ev_if_ne 66 dX6_isOwnHere_30 rfl (fun z9 => ?_) (fun z9 => ?_)
      · rw [if_neg z9] at h
        exact wX6_isOwnHere_66 hM n    _ _ h hq
      · rw [if_pos z9] at h
        refine ev_aload_n dX6_isOwnHere_33 rfl ?_
        refine ev_aload_n dX6_isOwnHere_34 rfl ?_
        refine ev_getR dX6_isOwnHere_35 fX6_30_6 (hk1547 hM) (Or.inl (hl1547 hM)) rfl (hr14 hM) ?_
        obtain ⟨q10, z11, h⟩ := Option.bind_eq_some_iff.mp h
        refine ev_zV1 dX6_isOwnHere_38 vX6_274_6 (hk1547 hM) (Or.inl (hl1547 hM)) (Nat.le_of_ble_eq_true rfl) (Nat.le_of_ble_eq_true rfl) rfl (metX6_isHere hM n _ _ _ z11 ?_)
        show Ev g _ _ 41 _ [.int q10.1] K q10.2.1 q10.2.2 cr c sl Qr Qx
        refine ev_if_ne 66 dX6_isOwnHere_41 rfl (fun z12 => ?_) (fun z12 => ?_)
        · rw [if_neg z12] at h
          exact wX6_isOwnHere_66 hM n    _ _ h hq
        · rw [if_pos z12] at h
          refine ev_aload_n dX6_isOwnHere_44 rfl ?_
          refine ev_aload_n dX6_isOwnHere_45 rfl ?_
          refine ev_getR dX6_isOwnHere_46 fX6_33_6 (hk1547 hM) (Or.inl (hl1547 hM)) rfl (hr15 hM) ?_
          obtain ⟨q13, z14, h⟩ := Option.bind_eq_some_iff.mp h
          refine ev_zV1 dX6_isOwnHere_49 vX6_274_6 (hk1547 hM) (Or.inl (hl1547 hM)) (Nat.le_of_ble_eq_true rfl) (Nat.le_of_ble_eq_true rfl) rfl (metX6_isHere hM n _ _ _ z14 ?_)
          show Ev g _ _ 52 _ [.int q13.1] K q13.2.1 q13.2.2 cr c sl Qr Qx
          refine ev_if_ne 66 dX6_isOwnHere_52 rfl (fun z15 => ?_) (fun z15 => ?_)
          · rw [if_neg z15] at h
            exact wX6_isOwnHere_66 hM n    _ _ h hq
          · rw [if_pos z15] at h
            refine ev_aload_n dX6_isOwnHere_55 rfl ?_
            refine ev_aload_n dX6_isOwnHere_56 rfl ?_
            refine ev_getR dX6_isOwnHere_57 fX6_36_6 (hk1547 hM) (Or.inl (hl1547 hM)) rfl (hr16 hM) ?_
            obtain ⟨q16, z17, h⟩ := Option.bind_eq_some_iff.mp h
            refine ev_zV1 dX6_isOwnHere_60 vX6_274_6 (hk1547 hM) (Or.inl (hl1547 hM)) (Nat.le_of_ble_eq_true rfl) (Nat.le_of_ble_eq_true rfl) rfl (metX6_isHere hM n _ _ _ z17 ?_)
            show Ev g _ _ 63 _ [.int q16.1] K q16.2.1 q16.2.2 cr c sl Qr Qx
            refine ev_if_eq 70 dX6_isOwnHere_63 rfl (fun z18 => ?_) (fun z18 => ?_)
            · rw [if_pos z18] at h
              refine ev_iconst (v := (nI 0)) dX6_isOwnHere_70 jc0 ?_
              exact wX6_isOwnHere_71 hM n   _ _ _ h hq
            · rw [if_neg z18] at h
              exact wX6_isOwnHere_66 hM n    _ _ h hq
def fX6_name_37 (n : Nat) (ci : jI) (cj : jJ) : Option (Int64 × jI × jJ) := Option.bind (fX6_fail n (nI 1) (ci 1547 2) ci cj) (fun q1 => some ((lN 0), q1.1, q1.2))
theorem wX6_name_37 {g : jG} {d : Nat} {K : jK} {cr : jR} {c sl : Nat} {Qr : jQ} {Qx : jX} (hM : jMW K cr) (n : Nat) (ci : jI) (cj : jJ) {q} (h : fX6_name_37 n   ci cj = some q) (hq : Qr (some (.long q.1)) K q.2.1 q.2.2 cr) : Ev g (d + 4) mX6_name 37 [.ref 1547, jU, jU] [] K ci cj cr c sl Qr Qx := by
  unfold fX6_name_37 at h
  refine ev_aload_n dX6_name_37 rfl ?_
  refine ev_iconst (v := (nI 1)) dX6_name_38 jc1 ?_
  refine ev_aload_n dX6_name_39 rfl ?_
  refine ev_getI dX6_name_40 fX6_257_6 (hk1547 hM) (Or.inl (hl1547 hM)) rfl ?_
  obtain ⟨q1, z2, h⟩ := Option.bind_eq_some_iff.mp h
  refine ev_zV2 dX6_name_43 vX6_281_6 (hk1547 hM) (Or.inl (hl1547 hM)) (Nat.le_of_ble_eq_true rfl) (Nat.le_of_ble_eq_true rfl) rfl (metX6_fail hM n _ _ _ _ z2 ?_)
  show Ev g _ _ 46 _ [] K q1.1 q1.2 cr c sl Qr Qx
  refine ev_lconst (v := lN 0) dX6_name_46 rfl ?_
  cases h
  exact ev_lret dX6_name_47 rfl hq
def fX6_name_145 (n : Nat) (l1 : Int64) (ci : jI) (cj : jJ) : Option (Int64 × jI × jJ) := some (l1, (ju ci 1547 4 (ci 1547 2)), cj)
theorem wX6_name_145 {g : jG} {d : Nat} {K : jK} {cr : jR} {c sl : Nat} {Qr : jQ} {Qx : jX} (hM : jMW K cr) (n : Nat) (l1 : Int64) (ci : jI) (cj : jJ) {q} (h : fX6_name_145 n  l1 ci cj = some q) (hq : Qr (some (.long q.1)) K q.2.1 q.2.2 cr) : Ev g (d + 4) mX6_name 145 [.ref 1547, .long l1, jU] [] K ci cj cr c sl Qr Qx := by
  unfold fX6_name_145 at h
  refine ev_aload_n dX6_name_145 rfl ?_
  refine ev_aload_n dX6_name_146 rfl ?_
  refine ev_getI dX6_name_147 fX6_257_6 (hk1547 hM) (Or.inl (hl1547 hM)) rfl ?_
  refine ev_putI dX6_name_150 (pX6_271_6 _) (hk1547 hM) (hl1547 hM) rfl rfl rfl ?_
  refine ev_lload_n dX6_name_153 rfl ?_
  cases h
  exact ev_lret dX6_name_154 rfl hq
def fX6_name_58 (n : Nat) : Nat → Int64 → jI → jJ → Option (Int64 × jI × jJ)
  | 0, _, _, _ => none
  | k + 1, l1, ci, cj => if (ci 1547 3) ≤ (ci 1547 2) then fX6_name_145 n  l1 ci cj else if jok (ci 1547 2) 1600 then Option.bind (fX6_isLetter n (ci 1548 ((ci 1547 2)).toNatClampNeg) ci cj) (fun q3 => if q3.1 = 0 then fX6_name_145 n  l1 q3.2.1 q3.2.2 else if ((q3.2.1 1547 2) - (q3.2.1 1547 38)) = (nI 6) then Option.bind (fX6_fail n (nI 1) (q3.2.1 1547 2) q3.2.1 q3.2.2) (fun q8 => some ((lN 0), q8.1, q8.2)) else if jok (q3.2.1 1547 2) 1600 then fX6_name_58 n  k (((((27 : Int64) * l1) + ((q3.2.1 1548 ((q3.2.1 1547 2)).toNatClampNeg)).toInt64) - (97 : Int64)) + (lN 1)) (ju q3.2.1 1547 2 ((q3.2.1 1547 2) + (nI 1))) q3.2.2 else none) else none
theorem wX6_name_58 {g : jG} {d : Nat} {K : jK} {cr : jR} {c sl : Nat} {Qr : jQ} {Qx : jX} (hM : jMW K cr) (n : Nat) : ∀ (k : Nat) (l1 : Int64) (ci : jI) (cj : jJ) {q}, fX6_name_58 n  k l1 ci cj = some q → Qr (some (.long q.1)) K q.2.1 q.2.2 cr → Ev g (d + 4) mX6_name 58 [.ref 1547, .long l1, jU] [] K ci cj cr c sl Qr Qx := by
  intro k
  induction k with
  | zero =>
    intro l1 ci cj q h hq
    rw [fX6_name_58.eq_1] at h; cases h
  | succ k ih =>
    intro l1 ci cj q h hq
    rw [fX6_name_58.eq_2] at h
    refine ev_aload_n dX6_name_58 rfl ?_
    refine ev_getI dX6_name_59 fX6_257_6 (hk1547 hM) (Or.inl (hl1547 hM)) rfl ?_
    refine ev_aload_n dX6_name_62 rfl ?_
    refine ev_getI dX6_name_63 fX6_260_6 (hk1547 hM) (Or.inl (hl1547 hM)) rfl ?_
    refine ev_icmp_ge 145 dX6_name_66 rfl (fun z1 => ?_) (fun z1 => ?_)
    · rw [if_pos z1] at h
      exact wX6_name_145 hM n   _ _ _ h hq
    · rw [if_neg z1] at h
      refine ev_aload_n dX6_name_69 rfl ?_
      refine ev_getR dX6_name_70 fX6_7_6 (hk1547 hM) (Or.inl (hl1547 hM)) rfl (hr0 hM) ?_
      refine ev_aload_n dX6_name_73 rfl ?_
      refine ev_getI dX6_name_74 fX6_257_6 (hk1547 hM) (Or.inl (hl1547 hM)) rfl ?_
      by_cases z2 : jok (ci 1547 2) 1600
      rotate_left
      · rw [if_neg z2] at h; cases h
      rw [if_pos z2] at h
      refine ev_iaload dX6_name_77 (hk1548 hM) (Or.inl (hl1548 hM)) (jok.ix z2 (hn1548 hM)) ?_
      obtain ⟨q3, z4, h⟩ := Option.bind_eq_some_iff.mp h
      refine ev_zS1 dX6_name_78 sX6_267 (Nat.le_of_ble_eq_true rfl) (Nat.le_of_ble_eq_true rfl) rfl (metX6_isLetter hM n _ _ _ z4 ?_)
      show Ev g _ _ 81 _ [.int q3.1] K q3.2.1 q3.2.2 cr c sl Qr Qx
      refine ev_if_eq 145 dX6_name_81 rfl (fun z5 => ?_) (fun z5 => ?_)
      · rw [if_pos z5] at h
        exact wX6_name_145 hM n   _ _ _ h hq
      · rw [if_neg z5] at h
        refine ev_aload_n dX6_name_84 rfl ?_
        refine ev_getI dX6_name_85 fX6_257_6 (hk1547 hM) (Or.inl (hl1547 hM)) rfl ?_
        refine ev_aload_n dX6_name_88 rfl ?_
        refine ev_getI dX6_name_89 fX6_302_6 (hk1547 hM) (Or.inl (hl1547 hM)) rfl ?_
        refine ev_isub dX6_name_92 ?_
        refine ev_bipush (v := (nI 6)) dX6_name_93 jb6 ?_
        refine ev_icmp_ne 109 dX6_name_95 rfl (fun z6 => ?_) (fun z6 => ?_)
        · rw [if_neg z6] at h
          refine ev_ldc2 dX6_name_109 q2086 ?_
          refine ev_lload_n dX6_name_112 rfl ?_
          refine ev_lmul dX6_name_113 ?_
          refine ev_aload_n dX6_name_114 rfl ?_
          refine ev_getR dX6_name_115 fX6_7_6 (hk1547 hM) (Or.inl (hl1547 hM)) rfl (hr0 hM) ?_
          refine ev_aload_n dX6_name_118 rfl ?_
          refine ev_getI dX6_name_119 fX6_257_6 (hk1547 hM) (Or.inl (hl1547 hM)) rfl ?_
          by_cases z7 : jok (q3.2.1 1547 2) 1600
          rotate_left
          · rw [if_neg z7] at h; cases h
          rw [if_pos z7] at h
          refine ev_iaload dX6_name_122 (hk1548 hM) (Or.inl (hl1548 hM)) (jok.ix z7 (hn1548 hM)) ?_
          refine ev_i2l dX6_name_123 ?_
          refine ev_ladd dX6_name_124 ?_
          refine ev_ldc2 dX6_name_125 q2087 ?_
          refine ev_lsub dX6_name_128 ?_
          refine ev_lconst (v := lN 1) dX6_name_129 rfl ?_
          refine ev_ladd dX6_name_130 ?_
          refine ev_lstore_n (L' := [_, _, _]) dX6_name_131 (by decide) rfl ?_
          refine ev_aload_n dX6_name_132 rfl ?_
          refine ev_dup dX6_name_133 rfl ?_
          refine ev_getI dX6_name_134 fX6_257_6 (hk1547 hM) (Or.inl (hl1547 hM)) rfl ?_
          refine ev_iconst (v := (nI 1)) dX6_name_137 jc1 ?_
          refine ev_iadd dX6_name_138 ?_
          refine ev_putI dX6_name_139 (pX6_257_6 _) (hk1547 hM) (hl1547 hM) rfl rfl rfl ?_
          refine ev_goto 58 dX6_name_142 rfl ?_
          exact ih _ _ _ h hq
        · rw [if_pos z6] at h
          refine ev_aload_n dX6_name_98 rfl ?_
          refine ev_iconst (v := (nI 1)) dX6_name_99 jc1 ?_
          refine ev_aload_n dX6_name_100 rfl ?_
          refine ev_getI dX6_name_101 fX6_257_6 (hk1547 hM) (Or.inl (hl1547 hM)) rfl ?_
          obtain ⟨q8, z9, h⟩ := Option.bind_eq_some_iff.mp h
          refine ev_zV2 dX6_name_104 vX6_281_6 (hk1547 hM) (Or.inl (hl1547 hM)) (Nat.le_of_ble_eq_true rfl) (Nat.le_of_ble_eq_true rfl) rfl (metX6_fail hM n _ _ _ _ z9 ?_)
          show Ev g _ _ 107 _ [] K q8.1 q8.2 cr c sl Qr Qx
          refine ev_lconst (v := lN 0) dX6_name_107 rfl ?_
          cases h
          exact ev_lret dX6_name_108 rfl hq
def fX6_name (n : Nat) (ci : jI) (cj : jJ) : Option (Int64 × jI × jJ) := if (ci 1547 5) = 0 then Option.bind (fX6_look n  ci cj) (fun q2 => Option.bind (fX6_isLetter n q2.1 q2.2.1 q2.2.2) (fun q4 => if q4.1 = 0 then fX6_name_37 n   q4.2.1 q4.2.2 else if (q4.2.1 1547 2) = (q4.2.1 1547 4) then fX6_name_37 n   q4.2.1 q4.2.2 else Option.bind (fX6_isOwnHere n  q4.2.1 q4.2.2) (fun q8 => if q8.1 = 0 then fX6_name_58 n  n (lN 0) (ju q8.2.1 1547 38 (q8.2.1 1547 2)) q8.2.2 else fX6_name_37 n   q8.2.1 q8.2.2))) else some ((lN 0), ci, cj)
theorem metX6_name {g : jG} {d : Nat} {K : jK} {cr : jR} {c sl : Nat} {Qr : jQ} {Qx : jX} (hM : jMW K cr) (n : Nat) (ci : jI) (cj : jJ) {q} (h : fX6_name n  ci cj = some q) (hq : Qr (some (.long q.1)) K q.2.1 q.2.2 cr) : EvM g (d + 4) mX6_name [.ref 1547] K ci cj cr c sl Qr Qx := by
  unfold fX6_name at h
  show Ev g (d + 4) mX6_name 0 [.ref 1547, jU, jU] [] K ci cj cr c sl Qr Qx
  refine ev_aload_n dX6_name_0 rfl ?_
  refine ev_getI dX6_name_1 fX6_251_6 (hk1547 hM) (Or.inl (hl1547 hM)) rfl ?_
  refine ev_if_eq 9 dX6_name_4 rfl (fun z1 => ?_) (fun z1 => ?_)
  · rw [if_pos z1] at h
    refine ev_aload_n dX6_name_9 rfl ?_
    obtain ⟨q2, z3, h⟩ := Option.bind_eq_some_iff.mp h
    refine ev_zV0 dX6_name_10 vX6_263_6 (hk1547 hM) (Or.inl (hl1547 hM)) (Nat.le_of_ble_eq_true rfl) (Nat.le_of_ble_eq_true rfl) rfl (metX6_look hM n  _ _ z3 ?_)
    show Ev g _ _ 13 _ [.int q2.1] K q2.2.1 q2.2.2 cr c sl Qr Qx
    obtain ⟨q4, z5, h⟩ := Option.bind_eq_some_iff.mp h
    refine ev_zS1 dX6_name_13 sX6_267 (Nat.le_of_ble_eq_true rfl) (Nat.le_of_ble_eq_true rfl) rfl (metX6_isLetter hM n _ _ _ z5 ?_)
    show Ev g _ _ 16 _ [.int q4.1] K q4.2.1 q4.2.2 cr c sl Qr Qx
    refine ev_if_eq 37 dX6_name_16 rfl (fun z6 => ?_) (fun z6 => ?_)
    · rw [if_pos z6] at h
      exact wX6_name_37 hM n    _ _ h hq
    · rw [if_neg z6] at h
      refine ev_aload_n dX6_name_19 rfl ?_
      refine ev_getI dX6_name_20 fX6_257_6 (hk1547 hM) (Or.inl (hl1547 hM)) rfl ?_
      refine ev_aload_n dX6_name_23 rfl ?_
      refine ev_getI dX6_name_24 fX6_271_6 (hk1547 hM) (Or.inl (hl1547 hM)) rfl ?_
      refine ev_icmp_eq 37 dX6_name_27 rfl (fun z7 => ?_) (fun z7 => ?_)
      · rw [if_pos z7] at h
        exact wX6_name_37 hM n    _ _ h hq
      · rw [if_neg z7] at h
        refine ev_aload_n dX6_name_30 rfl ?_
        obtain ⟨q8, z9, h⟩ := Option.bind_eq_some_iff.mp h
        refine ev_zV0 dX6_name_31 vX6_298_6 (hk1547 hM) (Or.inl (hl1547 hM)) (Nat.le_of_ble_eq_true rfl) (Nat.le_of_ble_eq_true rfl) rfl (metX6_isOwnHere hM n  _ _ z9 ?_)
        show Ev g _ _ 34 _ [.int q8.1] K q8.2.1 q8.2.2 cr c sl Qr Qx
        refine ev_if_eq 48 dX6_name_34 rfl (fun z10 => ?_) (fun z10 => ?_)
        · rw [if_pos z10] at h
          refine ev_aload_n dX6_name_48 rfl ?_
          refine ev_aload_n dX6_name_49 rfl ?_
          refine ev_getI dX6_name_50 fX6_257_6 (hk1547 hM) (Or.inl (hl1547 hM)) rfl ?_
          refine ev_putI dX6_name_53 (pX6_302_6 _) (hk1547 hM) (hl1547 hM) rfl rfl rfl ?_
          refine ev_lconst (v := lN 0) dX6_name_56 rfl ?_
          refine ev_lstore_n (L' := [_, _, _]) dX6_name_57 (by decide) rfl ?_
          exact wX6_name_58 hM n   n _ _ _ h hq
        · rw [if_neg z10] at h
          exact wX6_name_37 hM n    _ _ h hq
  · rw [if_neg z1] at h
    refine ev_lconst (v := lN 0) dX6_name_7 rfl ?_
    cases h
    exact ev_lret dX6_name_8 rfl hq
def fX6_newName_59 (n : Nat) (rec7 : Int64 → Int32 → jI → jJ → Option (Int64 × jI × jJ)) (rec15 : Int64 → Int32 → Int32 → jI → jJ → Option (Int64 × jI × jJ)) (l1 : Int64) (l3 : Int32) (l4 : Int32) (ci : jI) (cj : jJ) : Option (Int64 × jI × jJ) := rec15 l1 l3 (l4 + (nI 1)) ci cj
theorem wX6_newName_59 {g : jG} {d : Nat} {K : jK} {cr : jR} {c sl : Nat} {Qr : jQ} {Qx : jX} (hM : jMW K cr) (n : Nat) (rec7 : Int64 → Int32 → jI → jJ → Option (Int64 × jI × jJ)) (rec15 : Int64 → Int32 → Int32 → jI → jJ → Option (Int64 × jI × jJ)) (hrec7 : (∀ (l1 : Int64) (l3 : Int32) (ci : jI) (cj : jJ) {q}, rec7 l1 l3 ci cj = some q → Qr (some (.long q.1)) K q.2.1 q.2.2 cr → Ev g (d + 5) mX6_newName 7 [.ref 1547, .long l1, jU, .int l3, jU] [] K ci cj cr c sl Qr Qx)) (hrec15 : (∀ (l1 : Int64) (l3 : Int32) (l4 : Int32) (ci : jI) (cj : jJ) {q}, rec15 l1 l3 l4 ci cj = some q → Qr (some (.long q.1)) K q.2.1 q.2.2 cr → Ev g (d + 5) mX6_newName 15 [.ref 1547, .long l1, jU, .int l3, .int l4] [] K ci cj cr c sl Qr Qx)) (l1 : Int64) (l3 : Int32) (l4 : Int32) (ci : jI) (cj : jJ) {q} (h : fX6_newName_59 n rec7 rec15 l1 l3 l4 ci cj = some q) (hq : Qr (some (.long q.1)) K q.2.1 q.2.2 cr) : Ev g (d + 5) mX6_newName 59 [.ref 1547, .long l1, jU, .int l3, .int l4] [] K ci cj cr c sl Qr Qx := by
  unfold fX6_newName_59 at h
  refine ev_iinc (v := (l4 + (nI 1))) (L' := [_, _, _, _, _]) dX6_newName_59 rfl (by rw [ji_1]) (by decide) rfl ?_
  refine ev_goto 15 dX6_newName_62 rfl ?_
  exact hrec15 _ _ _ _ _ h hq
def fX6_newName_15 (n : Nat) (rec7 : Int64 → Int32 → jI → jJ → Option (Int64 × jI × jJ)) : Nat → Int64 → Int32 → Int32 → jI → jJ → Option (Int64 × jI × jJ)
  | 0, _, _, _, _, _ => none
  | k + 1, l1, l3, l4, ci, cj => if jok l3 8 then if (ci 1577 (l3).toNatClampNeg) ≤ l4 then rec7 l1 (l3 + (nI 1)) ci cj else if (ci 1547 5) = 0 then if jok (((nI 10) * l3) + l4) 60 then if (cj 1578 ((((nI 10) * l3) + l4)).toNatClampNeg) = l1 then Option.bind (fX6_fail n (nI 3) (ci 1547 38) ci cj) (fun q6 => fX6_newName_59 n rec7 (fX6_newName_15 n rec7 k) l1 l3 l4 q6.1 q6.2) else fX6_newName_59 n rec7 (fX6_newName_15 n rec7 k) l1 l3 l4 ci cj else none else fX6_newName_59 n rec7 (fX6_newName_15 n rec7 k) l1 l3 l4 ci cj else none
theorem wX6_newName_15 {g : jG} {d : Nat} {K : jK} {cr : jR} {c sl : Nat} {Qr : jQ} {Qx : jX} (hM : jMW K cr) (n : Nat) (rec7 : Int64 → Int32 → jI → jJ → Option (Int64 × jI × jJ)) (hrec7 : (∀ (l1 : Int64) (l3 : Int32) (ci : jI) (cj : jJ) {q}, rec7 l1 l3 ci cj = some q → Qr (some (.long q.1)) K q.2.1 q.2.2 cr → Ev g (d + 5) mX6_newName 7 [.ref 1547, .long l1, jU, .int l3, jU] [] K ci cj cr c sl Qr Qx)) : ∀ (k : Nat) (l1 : Int64) (l3 : Int32) (l4 : Int32) (ci : jI) (cj : jJ) {q}, fX6_newName_15 n rec7 k l1 l3 l4 ci cj = some q → Qr (some (.long q.1)) K q.2.1 q.2.2 cr → Ev g (d + 5) mX6_newName 15 [.ref 1547, .long l1, jU, .int l3, .int l4] [] K ci cj cr c sl Qr Qx := by
  intro k
  induction k with
  | zero =>
    intro l1 l3 l4 ci cj q h hq
    rw [fX6_newName_15.eq_1] at h; cases h
  | succ k ih =>
    intro l1 l3 l4 ci cj q h hq
    rw [fX6_newName_15.eq_2] at h
    refine ev_iload dX6_newName_15 rfl ?_
    refine ev_aload_n dX6_newName_17 rfl ?_
    refine ev_getR dX6_newName_18 fX6_102_6 (hk1547 hM) (Or.inl (hl1547 hM)) rfl (hr39 hM) ?_
    refine ev_iload_n dX6_newName_21 rfl ?_
    by_cases z1 : jok l3 8
    rotate_left
    · rw [if_neg z1] at h; cases h
    rw [if_pos z1] at h
    refine ev_iaload dX6_newName_22 (hk1577 hM) (Or.inl (hl1577 hM)) (jok.ix z1 (hn1577 hM)) ?_
    refine ev_icmp_ge 65 dX6_newName_23 rfl (fun z2 => ?_) (fun z2 => ?_)
    · rw [if_pos z2] at h
      refine ev_iinc (v := (l3 + (nI 1))) (L' := [_, _, _, _, _]) dX6_newName_65 rfl (by rw [ji_1]) (by decide) rfl ?_
      refine ev_goto 7 dX6_newName_68 rfl ?_
      exact ev_mask [true, true, false, true, false] (hrec7 _ _ _ _ h hq)
    · rw [if_neg z2] at h
      refine ev_aload_n dX6_newName_26 rfl ?_
      refine ev_getI dX6_newName_27 fX6_251_6 (hk1547 hM) (Or.inl (hl1547 hM)) rfl ?_
      refine ev_if_ne 59 dX6_newName_30 rfl (fun z3 => ?_) (fun z3 => ?_)
      · rw [if_neg z3] at h
        exact wX6_newName_59 hM n _ _ (hrec7) (ih) _ _ _ _ _ h hq
      · rw [if_pos z3] at h
        refine ev_aload_n dX6_newName_33 rfl ?_
        refine ev_getR dX6_newName_34 fX6_105_6 (hk1547 hM) (Or.inl (hl1547 hM)) rfl (hr40 hM) ?_
        refine ev_bipush (v := (nI 10)) dX6_newName_37 jb10 ?_
        refine ev_iload_n dX6_newName_39 rfl ?_
        refine ev_imul dX6_newName_40 ?_
        refine ev_iload dX6_newName_41 rfl ?_
        refine ev_iadd dX6_newName_43 ?_
        by_cases z4 : jok (((nI 10) * l3) + l4) 60
        rotate_left
        · rw [if_neg z4] at h; cases h
        rw [if_pos z4] at h
        refine ev_laload dX6_newName_44 (hk1578 hM) (Or.inl (hl1578 hM)) (jok.ix z4 (hn1578 hM)) ?_
        refine ev_lload_n dX6_newName_45 rfl ?_
        refine ev_lcif_ne 59 dX6_newName_46 dX6_newName_47 rfl (fun z5 => ?_) (fun z5 => ?_)
        · rw [if_neg z5] at h
          exact wX6_newName_59 hM n _ _ (hrec7) (ih) _ _ _ _ _ h hq
        · rw [if_pos z5] at h
          refine ev_aload_n dX6_newName_50 rfl ?_
          refine ev_iconst (v := (nI 3)) dX6_newName_51 jc3 ?_
          refine ev_aload_n dX6_newName_52 rfl ?_
          refine ev_getI dX6_newName_53 fX6_302_6 (hk1547 hM) (Or.inl (hl1547 hM)) rfl ?_
          obtain ⟨q6, z7, h⟩ := Option.bind_eq_some_iff.mp h
          refine ev_zV2 dX6_newName_56 vX6_281_6 (hk1547 hM) (Or.inl (hl1547 hM)) (Nat.le_of_ble_eq_true rfl) (Nat.le_of_ble_eq_true rfl) rfl (metX6_fail hM n _ _ _ _ z7 ?_)
          show Ev g _ _ 59 _ [] K q6.1 q6.2 cr c sl Qr Qx
          exact wX6_newName_59 hM n _ _ (hrec7) (ih) _ _ _ _ _ h hq
def fX6_newName_7 (n : Nat) : Nat → Int64 → Int32 → jI → jJ → Option (Int64 × jI × jJ)
  | 0, _, _, _, _ => none
  | k + 1, l1, l3, ci, cj => if (nI 3) ≤ l3 then some (l1, ci, cj) else fX6_newName_15 n (fX6_newName_7 n  k) n l1 l3 (nI 0) ci cj
theorem wX6_newName_7 {g : jG} {d : Nat} {K : jK} {cr : jR} {c sl : Nat} {Qr : jQ} {Qx : jX} (hM : jMW K cr) (n : Nat) : ∀ (k : Nat) (l1 : Int64) (l3 : Int32) (ci : jI) (cj : jJ) {q}, fX6_newName_7 n  k l1 l3 ci cj = some q → Qr (some (.long q.1)) K q.2.1 q.2.2 cr → Ev g (d + 5) mX6_newName 7 [.ref 1547, .long l1, jU, .int l3, jU] [] K ci cj cr c sl Qr Qx := by
  intro k
  induction k with
  | zero =>
    intro l1 l3 ci cj q h hq
    rw [fX6_newName_7.eq_1] at h; cases h
  | succ k ih =>
    intro l1 l3 ci cj q h hq
    rw [fX6_newName_7.eq_2] at h
    refine ev_iload_n dX6_newName_7 rfl ?_
    refine ev_iconst (v := (nI 3)) dX6_newName_8 jc3 ?_
    refine ev_icmp_ge 71 dX6_newName_9 rfl (fun z1 => ?_) (fun z1 => ?_)
    · rw [if_pos z1] at h
      refine ev_lload_n dX6_newName_71 rfl ?_
      cases h
      exact ev_lret dX6_newName_72 rfl hq
    · rw [if_neg z1] at h
      refine ev_iconst (v := (nI 0)) dX6_newName_12 jc0 ?_
      refine ev_istore (L' := [_, _, _, _, _]) dX6_newName_13 (by decide) rfl ?_
      exact wX6_newName_15 hM n _ (ih) n _ _ _ _ _ h hq
def fX6_newName (n : Nat) (ci : jI) (cj : jJ) : Option (Int64 × jI × jJ) := Option.bind (fX6_name n  ci cj) (fun q1 => fX6_newName_7 n  n q1.1 (nI 0) q1.2.1 q1.2.2)
theorem metX6_newName {g : jG} {d : Nat} {K : jK} {cr : jR} {c sl : Nat} {Qr : jQ} {Qx : jX} (hM : jMW K cr) (n : Nat) (ci : jI) (cj : jJ) {q} (h : fX6_newName n  ci cj = some q) (hq : Qr (some (.long q.1)) K q.2.1 q.2.2 cr) : EvM g (d + 5) mX6_newName [.ref 1547] K ci cj cr c sl Qr Qx := by
  unfold fX6_newName at h
  show Ev g (d + 5) mX6_newName 0 [.ref 1547, jU, jU, jU, jU] [] K ci cj cr c sl Qr Qx
  refine ev_aload_n dX6_newName_0 rfl ?_
  obtain ⟨q1, z2, h⟩ := Option.bind_eq_some_iff.mp h
  refine ev_zV0 dX6_newName_1 vX6_318_6 (hk1547 hM) (Or.inl (hl1547 hM)) (Nat.le_of_ble_eq_true rfl) (Nat.le_of_ble_eq_true rfl) rfl (metX6_name hM n  _ _ z2 ?_)
  show Ev g _ _ 4 _ [.long q1.1] K q1.2.1 q1.2.2 cr c sl Qr Qx
  refine ev_lstore_n (L' := [_, _, _, _, _]) dX6_newName_4 (by decide) rfl ?_
  refine ev_iconst (v := (nI 0)) dX6_newName_5 jc0 ?_
  refine ev_istore_n (L' := [_, _, _, _, _]) dX6_newName_6 (by decide) rfl ?_
  exact wX6_newName_7 hM n   n _ _ _ _ h hq
