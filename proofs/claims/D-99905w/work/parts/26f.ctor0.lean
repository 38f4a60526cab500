/-! THE COMPONENT'S CONSTRUCTOR (printed by gen/ctor0.py) -/
theorem jb53 : (Int8.ofInt (53)).toInt32 = (nI 53) := by decide
def kl : Nat → List (Nat × Nat × Option Nat)
  | 0 => []
  | j + 1 => (505, j, some (506 + 52 * j)) :: kl j
def ss : Nat → List Nat
  | 0 => []
  | j + 1 => (506 + 52 * j) :: ss j
theorem kl_mem : ∀ (j : Nat) (q : Nat × Nat × Option Nat), q ∈ kl j → q.1 = 505 ∧ q.2.1 < j
  | 0, q, h => by cases h
  | j + 1, q, h => by
    rcases List.mem_cons.mp h with e | e
    · rw [e]; exact ⟨rfl, Nat.lt_succ_self j⟩
    · obtain ⟨a, b⟩ := kl_mem j q e
      exact ⟨a, Nat.lt_succ_of_lt b⟩
theorem ss_mem : ∀ (j t : Nat), t ∈ ss j → 506 ≤ t ∧ t + 52 ≤ 506 + 52 * j
  | 0, t, h => by cases h
  | j + 1, t, h => by
    rcases List.mem_cons.mp h with e | e
    · omega
    · have := ss_mem j t e
      omega
theorem ck_kept {j i : Nat} (hj : j < 20) (hi : i < 52) : ckd (506 + 52 * j + i) = stk i ∧ cln (506 + 52 * j + i) = stl i := by
  have e : (506 + 52 * j + i - 506) % 52 = i := by omega
  unfold ckd cln
  rw [if_neg (by omega), if_neg (by omega), if_neg (by omega), if_neg (by omega), if_neg (by omega), if_neg (by omega), if_neg (by omega), if_pos (by omega), if_neg (by omega), if_neg (by omega), if_neg (by omega), if_neg (by omega), if_neg (by omega), if_neg (by omega), if_neg (by omega), if_neg (by omega), if_pos (by omega), e]
  exact ⟨rfl, rfl⟩
/-- rows of the two arrays of arrays -/
def cB (cr : jR) : Prop := (∀ j, j < 60 → cr 120 j = some (121 + j)) ∧ (∀ j, j < 10 → cr 184 j = some (185 + j * 32)) ∧ ∀ i, i < 10 → ∀ j, j < 31 → cr (185 + i * 32) j = some (185 + i * 32 + 1 + j)
theorem cB.keep {cr cr' : jR} (h : cB cr) (hk : ∀ b, 1 ≤ b → b < 505 → ∀ j, cr' b j = cr b j) : cB cr' := ⟨fun j hj => (hk 120 (by decide) (by decide) j).trans (h.1 j hj), fun j hj => (hk 184 (by decide) (by decide) j).trans (h.2.1 j hj), fun i hi j hj => (hk _ (by omega) (by omega) j).trans (h.2.2 i hi j hj)⟩
def R0 : List (Nat × Nat × Option Nat) := [(0, 17, some 505), (0, 16, some 184), (0, 14, some 183), (0, 13, some 182), (0, 12, some 181), (0, 11, some 120), (0, 10, some 68), (0, 9, some 16), (0, 8, some 15), (0, 7, some 13), (13, 0, some 14), (0, 6, some 11), (11, 0, some 12), (0, 5, some 9), (9, 0, some 10), (9, 7, some 0), (0, 1, some 8), (0, 0, some 1), (1, 4, some 6), (6, 1, some 7), (1, 3, some 4), (4, 1, some 5), (1, 2, some 2), (2, 1, some 3), (1, 5, none), (1, 6, none), (1, 7, none), (1, 8, none)]
/-- the component stands -/
def CF (K : jK) (cr : jR) : Prop := FF 1547 ((0, 20, some 1546) :: (kl 20 ++ R0)) (ss 20 ++ [68, 16]) K cr ∧ cB cr
section
variable {g : jG} {d : Nat} {ci : jI} {cj : jJ} {Qr : jQ} {Qx : jX}
theorem c0_lt {j : Nat} (h : j < 20) : ¬ nI 20 ≤ nI j := by
  rcases (show j = 0 ∨ j = 1 ∨ j = 2 ∨ j = 3 ∨ j = 4 ∨ j = 5 ∨ j = 6 ∨ j = 7 ∨ j = 8 ∨ j = 9 ∨ j = 10 ∨ j = 11 ∨ j = 12 ∨ j = 13 ∨ j = 14 ∨ j = 15 ∨ j = 16 ∨ j = 17 ∨ j = 18 ∨ j = 19 by omega) with z | z | z | z | z | z | z | z | z | z | z | z | z | z | z | z | z | z | z | z <;> subst z <;> decide
theorem c0_inc (j : Nat) : nI (j + 1) = nI j + nI 1 := by
  unfold nI
  exact Int32.ofNat_add j 1
theorem c0_loop (hq : ∀ K cr, CF K cr → Qr none K ci (ju cj 0 19 1) cr) : ∀ (m j : Nat), j + m = 20 → ∀ {K : jK} {cr : jR}, FF (506 + 52 * j) (kl j ++ R0) (ss j ++ [68, 16]) K cr → cB cr → Ev g (d + 6) mX0_init 154 [.ref 0, .int (nI j)] [] K ci cj cr (52 * m + 1) (237 * m + 53) Qr Qx := by
  intro m
  induction m with
  | zero =>
    intro j hj K cr h hB
    have e : j = 20 := by omega
    subst e
    refine ev_iload_n dX0_init_154 rfl ?_
    refine ev_bipush (v := nI 20) dX0_init_155 jb20 ?_
    refine ev_icmp_ge 180 dX0_init_157 rfl (fun z => ?_) (fun z => absurd (by decide) z)
    refine ev_aload_n dX0_init_180 rfl ?_
    refine ev_lconst (v := 1) dX0_init_181 rfl ?_
    refine ev_putJ dX0_init_182 (pX0_99_0 _) (h.k (by decide) rfl) (by rw [h.1]; decide) rfl ?_
    refine ev_aload_n dX0_init_185 rfl ?_
    refine ev_bipush (v := nI 53) dX0_init_186 jb53 ?_
    refine ff_byte (c := 0) (sl := 0) (n := 53) (z := 1546) dX0_init_188 (by decide) (by decide) (by decide) h (by decide) (by decide) (fun K h => ?_)
    refine ff_put dX0_init_190 pX0_103_0 h (by decide) (by decide) rfl (by decide) (by decide) (fun cr h hf => ?_)
    exact ev_ret dX0_init_193 rfl (hq _ _ ⟨h, hB.keep (fun b h1 h2 j => hf b (by omega) j)⟩)
  | succ m ih =>
    intro j hj K cr h hB
    have hj20 : j < 20 := by omega
    refine ev_iload_n dX0_init_154 rfl ?_
    refine ev_bipush (v := nI 20) dX0_init_155 jb20 ?_
    refine ev_icmp_ge 180 dX0_init_157 rfl (fun z => absurd z (c0_lt hj20)) (fun z => ?_)
    refine ev_aload_n dX0_init_160 rfl ?_
    refine ev_getR dX0_init_161 fX0_95_0 (h.k (by omega) rfl) (Or.inl (by rw [h.1]; omega)) rfl (h.2.2.1 (0, 17, some 505) (List.mem_append_right _ (by decide))) ?_
    refine ev_iload_n dX0_init_164 rfl ?_
    have hc : 52 * (m + 1) + 1 = (51 + (52 * m + 1)) + 1 := by omega
    have hs : 237 * (m + 1) + 53 = (223 + (237 * m + 53)) + jfn 5 := by show _ = _ + 14; omega
    rw [hc, hs]
    have ck0 := ck_kept (i := 0) hj20 (by decide)
    refine ff_new (cN := 5) dX0_init_165 nX0_66 h (by omega) ⟨ck0.1, ck0.2⟩ (fun K h => ?_)
    refine ev_dup dX0_init_168 rfl ?_
    refine ev_aload_n dX0_init_169 rfl ?_
    refine ff_state (d := d + 4) dX0_init_170 iX0_68 (Nat.le_of_ble_eq_true rfl) rfl h (by omega) (fun q hq => ?_) (fun t ht => ?_) (fun i hi => ck_kept hj20 hi) (fun K cr h hf => ?_)
    · rcases List.mem_append.mp hq with e | e
      · have := (kl_mem j q e).1; omega
      · have : ∀ q ∈ R0, q.1 < 506 := by decide
        have := this q e; omega
    · rcases List.mem_append.mp ht with e | e
      · have := ss_mem j t e; omega
      · have : ∀ t ∈ ([68, 16] : List Nat), t + 11 < 506 := by decide
        have := this t e; omega
    · have hl := (h.2.1 505 (by omega)).2
      refine ev_aastS (n := j) dX0_init_173 (h.k (by omega) rfl) (by rw [h.1]; omega) (by rw [hl]; exact jix_nI hj20 (by decide)) (h.k (by omega) ck0.1) (Or.inl (by rw [h.1]; omega)) ?_
      refine ev_iinc (v := nI (j + 1)) (L' := [_, _]) dX0_init_174 rfl (by rw [ji_1]; exact (c0_inc j).symm) (by decide) rfl ?_
      refine ev_goto 154 dX0_init_177 rfl ?_
      have h9 := h.put (a := 505) (k := j) (v := 506 + 52 * j) (fun q hq => ?_) (fun t ht => ?_)
      · refine ih (j + 1) (by omega) (K := K) ?_ (hB.keep (fun b h1 h2 i => (ju_ne _ _ (by omega)).trans (hf b (by omega) i)))
        rw [show 506 + 52 * (j + 1) = 506 + 52 * j + 52 by omega]
        exact h9
      · rcases List.mem_append.mp hq with e | e
        · exact Or.inr (by have := (kl_mem j q e).2; omega)
        · have : ∀ q ∈ R0, q.1 ≠ 505 := by decide
          exact Or.inl (this q e)
      · rcases List.mem_cons.mp ht with e | e
        · omega
        · rcases List.mem_append.mp e with e | e
          · have := ss_mem j t e; omega
          · have : ∀ t ∈ ([68, 16] : List Nat), 505 ≠ t ∧ 505 ≠ t + 11 := by decide
            exact this t e
end
theorem ctor0 {g : jG} {d : Nat} {K : jK} {ci : jI} {cj : jJ} {cr : jR} {Qr : jQ} {Qx : jX} (h : FF 1 [(1, 5, none), (1, 6, none), (1, 7, none), (1, 8, none)] [] K cr) (hq : ∀ K cr, CF K cr → Qr none K (ju (ju (ju (ju ci 2 0 (nI 0)) 4 0 (nI 0)) 6 0 (nI 0)) 0 4 (-1)) (ju cj 0 19 1) cr) : EvM g (d + 6) mX0_init [.ref 0] K ci cj cr 1546 8499 Qr Qx := by
  show Ev g (d + 6) mX0_init 0 [.ref 0, jU] [] K ci cj cr 1546 8499 Qr Qx
  refine ev_aload_n dX0_init_0 rfl ?_
  refine ev_objInit dX0_init_1 q203 (Nat.le_of_ble_eq_true rfl) ?_
  refine ev_aload_n dX0_init_4 rfl ?_
  refine ff_new (c := 1545) (sl := 8490) (cN := 1) dX0_init_5 nX0_28 h (by decide) (by decide) (fun K h => ?_)
  refine ev_dup dX0_init_8 rfl ?_
  refine ev_invI0 (c1 := 6) (s1 := 19) (c := 1539) (sl := 8471) dX0_init_9 iX0_30 (Nat.le_of_ble_eq_true rfl) (Nat.le_of_ble_eq_true rfl) rfl (ctor1 h (fun K cr h => ?_))
  show Ev g _ _ 12 _ [.ref 1, .ref 0] K _ cj cr _ _ Qr Qx
  refine ff_put dX0_init_12 (pX0_31_0 _) h (by decide) (by decide) rfl (by decide) (by decide) (fun cr h hf => ?_)
  refine ev_aload_n dX0_init_15 rfl ?_
  refine ev_sipush (v := nI 1600) dX0_init_16 js1600 ?_
  refine ff_byte (c := 1538) (sl := 6871) (n := 1600) dX0_init_19 (by decide) (by decide) (by decide) h (by decide) (by decide) (fun K h => ?_)
  refine ff_put dX0_init_21 pX0_35_0 h (by decide) (by decide) rfl (by decide) (by decide) (fun cr h hf => ?_)
  refine ev_aload_n dX0_init_24 rfl ?_
  refine ev_iconst (v := -1) dX0_init_25 jcm1 ?_
  refine ev_putI dX0_init_26 (pX0_39_0 _) (h.k (by decide) rfl) (by rw [h.1]; decide) rfl rfl rfl ?_
  refine ev_aload_n dX0_init_29 rfl ?_
  refine ff_new (c := 1537) (sl := 6863) (cN := 2) dX0_init_30 nX0_43 h (by decide) (by decide) (fun K h => ?_)
  refine ev_dup dX0_init_33 rfl ?_
  refine ev_aload_n dX0_init_34 rfl ?_
  refine ev_invI1 (c1 := 1) (s1 := 8) (c := 1536) (sl := 6855) dX0_init_35 iX0_45 (Nat.le_of_ble_eq_true rfl) (Nat.le_of_ble_eq_true rfl) rfl (ctor2 (h.k (by decide) rfl) (by rw [h.1]; decide) (by rw [h.1]; decide) (fun cr' f1 f2 f3 f4 => ?_))
  have h10 : K.2.2 = 10 := h.1
  rw [h10] at f2 f3
  have g9 : ∀ q ∈ ([(0, 1, some 8), (0, 0, some 1), (1, 4, some 6), (6, 1, some 7), (1, 3, some 4), (4, 1, some 5), (1, 2, some 2), (2, 1, some 3), (1, 5, none), (1, 6, none), (1, 7, none), (1, 8, none)] : List (Nat × Nat × Option Nat)), q.1 ≠ 9 ∧ q.1 ≠ 10 := by decide
  replace h := ((h.new (kd := 3) (n := 0) rfl rfl).cr' (cr' := cr') (fun q hq => f3 q.1 (g9 q hq).1 (g9 q hq).2 _) (fun t ht => (by cases ht))).add f1 |>.add f2
  clear g9
  clear f1 f2 f3 f4 h10
  generalize jnK K 3 0 = K1 at h ⊢
  show Ev g _ _ 38 _ [.ref 9, .ref 0] K1 _ cj cr' _ _ Qr Qx
  refine ff_put dX0_init_38 pX0_48_0 h (by decide) (by decide) rfl (by decide) (by decide) (fun cr h hf => ?_)
  refine ev_aload_n dX0_init_41 rfl ?_
  refine ff_new (c := 1535) (sl := 6854) (cN := 4) dX0_init_42 nX0_52 h (by decide) (by decide) (fun K h => ?_)
  refine ev_dup dX0_init_45 rfl ?_
  have hz9 : K.2.2 = 12 := h.1
  have h7 := (h.new (kd := 103) (n := 11) rfl rfl).put (a := 11) (k := 0) (v := 12) (by decide) (by decide)
  refine ev_invI0 (c1 := 1) (s1 := 11) (c := 1534) (sl := 6843) dX0_init_46 iX0_54 (Nat.le_of_ble_eq_true rfl) (Nat.le_of_ble_eq_true rfl) rfl (ctor4 (h.k (by decide) rfl) (by rw [hz9]; decide) (by rw [hz9]; decide) ?_)
  rw [show (some K.2.2 : Option Nat) = some 12 by rw [hz9]]
  replace h := h7
  clear h7 hz9
  show Ev g _ _ 49 _ [.ref 11, .ref 0] (jnK K 103 11) _ cj (ju _ 11 0 (some 12)) _ _ Qr Qx
  generalize jnK K 103 11 = K1 at h ⊢
  generalize ju _ 11 0 (some 12) = cr1 at h ⊢
  refine ff_put dX0_init_49 pX0_55_0 h (by decide) (by decide) rfl (by decide) (by decide) (fun cr h hf => ?_)
  refine ev_aload_n dX0_init_52 rfl ?_
  refine ff_new (c := 1533) (sl := 6842) (cN := 4) dX0_init_53 nX0_52 h (by decide) (by decide) (fun K h => ?_)
  refine ev_dup dX0_init_56 rfl ?_
  have hz9 : K.2.2 = 14 := h.1
  have h7 := (h.new (kd := 103) (n := 11) rfl rfl).put (a := 13) (k := 0) (v := 14) (by decide) (by decide)
  refine ev_invI0 (c1 := 1) (s1 := 11) (c := 1532) (sl := 6831) dX0_init_57 iX0_54 (Nat.le_of_ble_eq_true rfl) (Nat.le_of_ble_eq_true rfl) rfl (ctor4 (h.k (by decide) rfl) (by rw [hz9]; decide) (by rw [hz9]; decide) ?_)
  rw [show (some K.2.2 : Option Nat) = some 14 by rw [hz9]]
  replace h := h7
  clear h7 hz9
  show Ev g _ _ 60 _ [.ref 13, .ref 0] (jnK K 103 11) _ cj (ju _ 13 0 (some 14)) _ _ Qr Qx
  generalize jnK K 103 11 = K1 at h ⊢
  generalize ju _ 13 0 (some 14) = cr1 at h ⊢
  refine ff_put dX0_init_60 pX0_59_0 h (by decide) (by decide) rfl (by decide) (by decide) (fun cr h hf => ?_)
  refine ev_aload_n dX0_init_63 rfl ?_
  refine ev_bipush (v := nI 6) dX0_init_64 jb6 ?_
  refine ff_int (c := 1531) (sl := 6825) (n := 6) dX0_init_66 (by decide) (by decide) (by decide) h (by decide) (by decide) (fun K h => ?_)
  refine ff_put dX0_init_68 pX0_62_0 h (by decide) (by decide) rfl (by decide) (by decide) (fun cr h hf => ?_)
  refine ev_aload_n dX0_init_71 rfl ?_
  refine ff_new (c := 1530) (sl := 6811) (cN := 5) dX0_init_72 nX0_66 h (by decide) (by decide) (fun K h => ?_)
  refine ev_dup dX0_init_75 rfl ?_
  refine ev_aload_n dX0_init_76 rfl ?_
  refine ff_state (c := 1479) (sl := 6588) (z := 16) dX0_init_77 iX0_68 (Nat.le_of_ble_eq_true rfl) rfl h (by decide) (by decide) (by decide) (by decide +kernel) (fun K cr h _ => ?_)
  refine ff_put dX0_init_80 pX0_69_0 h (by decide) (by decide) rfl (by decide) (by decide) (fun cr h hf => ?_)
  refine ev_aload_n dX0_init_83 rfl ?_
  refine ff_new (c := 1478) (sl := 6574) (cN := 5) dX0_init_84 nX0_66 h (by decide) (by decide) (fun K h => ?_)
  refine ev_dup dX0_init_87 rfl ?_
  refine ev_aload_n dX0_init_88 rfl ?_
  refine ff_state (c := 1427) (sl := 6351) (z := 68) dX0_init_89 iX0_68 (Nat.le_of_ble_eq_true rfl) rfl h (by decide) (by decide) (by decide) (by decide +kernel) (fun K cr h _ => ?_)
  refine ff_put dX0_init_92 pX0_73_0 h (by decide) (by decide) rfl (by decide) (by decide) (fun cr h hf => ?_)
  refine ev_aload_n dX0_init_95 rfl ?_
  refine ev_bipush (v := nI 60) dX0_init_96 jb60 ?_
  refine ev_iconst (v := nI 3) dX0_init_98 jc3 ?_
  refine ff_m2 (c := 1366) (sl := 6111) (a := 60) (b := 3) dX0_init_99 q460 (by decide) (by decide) (by decide) (by decide) (by decide) (by decide) h (by decide) (by decide) (by decide +kernel) (by decide) (by decide) (fun K cr h hB1 => ?_)
  refine ff_put dX0_init_103 pX0_78_0 h (by decide) (by decide) rfl (by decide) (by decide) (fun cr h hf => ?_)
  replace hB1 := fun j hj => (hf 120 (by decide) j).trans (hB1 j hj)
  refine ev_aload_n dX0_init_106 rfl ?_
  refine ev_bipush (v := nI 16) dX0_init_107 jb16 ?_
  refine ff_int (c := 1365) (sl := 6095) (n := 16) dX0_init_109 (by decide) (by decide) (by decide) h (by decide) (by decide) (fun K h => ?_)
  refine ff_put dX0_init_111 pX0_81_0 h (by decide) (by decide) rfl (by decide) (by decide) (fun cr h hf => ?_)
  replace hB1 := fun j hj => (hf 120 (by decide) j).trans (hB1 j hj)
  refine ev_aload_n dX0_init_114 rfl ?_
  refine ev_bipush (v := nI 16) dX0_init_115 jb16 ?_
  refine ff_int (c := 1364) (sl := 6079) (n := 16) dX0_init_117 (by decide) (by decide) (by decide) h (by decide) (by decide) (fun K h => ?_)
  refine ff_put dX0_init_119 pX0_84_0 h (by decide) (by decide) rfl (by decide) (by decide) (fun cr h hf => ?_)
  replace hB1 := fun j hj => (hf 120 (by decide) j).trans (hB1 j hj)
  refine ev_aload_n dX0_init_122 rfl ?_
  refine ev_bipush (v := nI 16) dX0_init_123 jb16 ?_
  refine ff_int (c := 1363) (sl := 6063) (n := 16) dX0_init_125 (by decide) (by decide) (by decide) h (by decide) (by decide) (fun K h => ?_)
  refine ff_put dX0_init_127 pX0_87_0 h (by decide) (by decide) rfl (by decide) (by decide) (fun cr h hf => ?_)
  replace hB1 := fun j hj => (hf 120 (by decide) j).trans (hB1 j hj)
  refine ev_aload_n dX0_init_130 rfl ?_
  refine ev_bipush (v := nI 10) dX0_init_131 jb10 ?_
  refine ev_bipush (v := nI 31) dX0_init_133 jb31 ?_
  refine ev_iconst (v := nI 3) dX0_init_135 jc3 ?_
  have hB0 := hB1
  refine ff_m3 (c := 1042) (sl := 4813) (a := 10) (b := 31) (f := 3) dX0_init_136 q461 (by decide) (by decide) (by decide) (by decide) (by decide) (by decide) (by decide) (by decide) (by decide) h (by decide) (by decide) (by decide +kernel) (by decide) (by decide) (fun K cr' h hB2 hB3 hB4 => ?_)
  have hB : cB cr' := ⟨fun j hj => (hB4 120 (by decide) j).trans ((hB0 j hj).trans (by first | rfl | (congr 1; omega))), fun j hj => hB2 j hj, fun i hi j hj => hB3 i hi j hj⟩
  clear hB0 hB1 hB2 hB3 hB4
  refine ff_put dX0_init_140 pX0_92_0 h (by decide) (by decide) rfl (by decide) (by decide) (fun cr h hf => ?_)
  replace hB := hB.keep (fun b h1 h2 j => hf b (by omega) j)
  refine ev_aload_n dX0_init_143 rfl ?_
  refine ev_bipush (v := nI 20) dX0_init_144 jb20 ?_
  refine ff_anewS (c := 1041) (sl := 4793) (n := 20) dX0_init_146 q398 (by decide) (by decide) (by decide) h (by decide) (by decide) (fun K h => ?_)
  refine ff_put dX0_init_149 pX0_95_0 h (by decide) (by decide) rfl (by decide) (by decide) (fun cr h hf => ?_)
  replace hB := hB.keep (fun b h1 h2 j => hf b (by omega) j)
  refine ev_iconst (v := nI 0) dX0_init_152 jc0 ?_
  refine ev_istore_n (L' := [_, _]) dX0_init_153 (by decide) rfl ?_
  exact c0_loop hq 20 0 rfl h hB
