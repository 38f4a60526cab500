/-! THE STATE'S CONSTRUCTOR (printed by gen/ctor5.py) -/
/-- behind j arrays: the State t was made last, its arrays behind it -/
def jI5 (t : Nat) (K0 : jK) (cr0 : jR) (j : Nat) (K : jK) (cr : jR) : Prop := K.2.2 = t + 1 + j ∧ K.1 t = 5 ∧ (∀ i, 1 ≤ i → i ≤ j → K.1 (t + i) = skd i ∧ K.2.1 (t + i) = sln i ∧ cr t (i + 1) = some (t + i)) ∧ cr t 13 = some 0 ∧ (∀ i, i < t + 1 ∨ 1000000 ≤ i → K.1 i = K0.1 i ∧ K.2.1 i = K0.2.1 i) ∧ ∀ a, a ≠ t → ∀ k, cr a k = cr0 a k
theorem jI5.new {t : Nat} {K0 K : jK} {cr0 cr : jR} {j : Nat} (h : jI5 t K0 cr0 j K cr) (hj : j < 10) (h6 : t + 60 < 1000000) {n : Nat} (hn : sln (j + 1) = n) : jI5 t K0 cr0 (j + 1) (jnK K 100 n) (ju cr t (j + 2) (some K.2.2)) := by
  obtain ⟨h1, h2, h3, h4, h5, h7⟩ := h
  refine ⟨by show K.2.2 + 1 = _; omega, (va_up_ne _ _ (by omega)).trans h2, fun i a b => ?_, ?_, fun i hi => ?_, fun a ha k => ?_⟩
  · by_cases hi : i = j + 1
    · subst hi
      refine ⟨?_, ?_, ?_⟩
      · rw [show t + (j + 1) = K.2.2 by omega]
        refine (va_up_self _ _ _).trans ?_
        unfold skd
        rw [if_neg (by omega)]
      · rw [show t + (j + 1) = K.2.2 by omega]
        exact (va_up_self _ _ _).trans hn.symm
      · rw [show t + (j + 1) = K.2.2 by omega]
        exact ju_eq cr t (j + 2) (some K.2.2)
    · obtain ⟨g1, g2, g3⟩ := h3 i a (by omega)
      exact ⟨(va_up_ne _ _ (by omega)).trans g1, (va_up_ne _ _ (by omega)).trans g2, by rw [ju_ne2 cr _ (by omega)]; exact g3⟩
  · rw [ju_ne2 cr _ (by omega)]; exact h4
  · obtain ⟨g1, g2⟩ := h5 i hi
    exact ⟨(va_up_ne _ _ (by omega)).trans g1, (va_up_ne _ _ (by omega)).trans g2⟩
  · rw [ju_ne cr _ ha]; exact h7 a ha k
/-- the State t stands -/
def jS5 (t : Nat) (K0 : jK) (cr0 : jR) (K : jK) (cr : jR) : Prop := K.2.2 = t + 52 ∧ K.1 t = 5 ∧ (∀ i, 1 ≤ i → i ≤ 11 → K.1 (t + i) = skd i ∧ K.2.1 (t + i) = sln i ∧ cr t (i + 1) = some (t + i)) ∧ cr t 13 = some 0 ∧ (∀ i, i < 40 → K.1 (t + 12 + i) = 100 ∧ K.2.1 (t + 12 + i) = 3 ∧ cr (t + 11) i = some (t + 12 + i)) ∧ (∀ i, i < t + 1 ∨ 1000000 ≤ i → K.1 i = K0.1 i ∧ K.2.1 i = K0.2.1 i) ∧ ∀ a, a ≠ t → a ≠ t + 11 → ∀ k, cr a k = cr0 a k
theorem jI5.last {t : Nat} {K0 K : jK} {cr0 cr : jR} (h : jI5 t K0 cr0 10 K cr) (h6 : t + 60 < 1000000) : jS5 t K0 cr0 (jK2 K 40 3) (ju (jR2 cr K.2.2 40) t 12 (some K.2.2)) := by
  obtain ⟨h1, h2, h3, h4, h5, h7⟩ := h
  have k1 : ∀ i, i < K.2.2 → (jK2 K 40 3).1 i = K.1 i ∧ (jK2 K 40 3).2.1 i = K.2.1 i := fun i hi => ⟨if_pos hi, if_pos hi⟩
  have r1 : ∀ a k, a ≠ K.2.2 → jR2 cr K.2.2 40 a k = cr a k := fun a k ha => if_neg ha
  refine ⟨by show K.2.2 + 1 + 40 = _; omega, by rw [(k1 t (by omega)).1]; exact h2, fun i a b => ?_, ?_, fun i hi => ?_, fun i hi => ?_, fun a ha hb k => ?_⟩
  · by_cases hi : i = 11
    · subst hi
      rw [show t + 11 = K.2.2 by omega]
      refine ⟨?_, ?_, ?_⟩
      · show (if K.2.2 < K.2.2 then _ else if K.2.2 = K.2.2 then 106 else _) = _
        rw [if_neg (Nat.lt_irrefl _), if_pos rfl]; rfl
      · show (if K.2.2 < K.2.2 then _ else if K.2.2 = K.2.2 then 40 else _) = _
        rw [if_neg (Nat.lt_irrefl _), if_pos rfl]; rfl
      · exact ju_eq _ t 12 (some K.2.2)
    · obtain ⟨g1, g2, g3⟩ := h3 i a (by omega)
      exact ⟨by rw [(k1 _ (by omega)).1]; exact g1, by rw [(k1 _ (by omega)).2]; exact g2, by rw [ju_ne2 _ _ (by omega), r1 _ _ (by omega)]; exact g3⟩
  · rw [ju_ne2 _ _ (by omega), r1 _ _ (by omega)]; exact h4
  · refine ⟨?_, ?_, ?_⟩
    · show (if t + 12 + i < K.2.2 then _ else if t + 12 + i = K.2.2 then 106 else if t + 12 + i < K.2.2 + 1 + 40 then 100 else _) = _
      rw [if_neg (by omega), if_neg (by omega), if_pos (by omega)]
    · show (if t + 12 + i < K.2.2 then _ else if t + 12 + i = K.2.2 then 40 else if t + 12 + i < K.2.2 + 1 + 40 then 3 else _) = _
      rw [if_neg (by omega), if_neg (by omega), if_pos (by omega)]
    · rw [ju_ne _ _ (by omega)]
      show (if t + 11 = K.2.2 then (if i < 40 then some (K.2.2 + 1 + i) else none) else _) = _
      rw [if_pos (by omega), if_pos hi]
      congr 1; omega
  · obtain ⟨g1, g2⟩ := h5 i hi
    rcases hi with hi | hi
    · exact ⟨by rw [(k1 i (by omega)).1]; exact g1, by rw [(k1 i (by omega)).2]; exact g2⟩
    · refine ⟨?_, ?_⟩
      · show (if i < K.2.2 then _ else if i = K.2.2 then 106 else if i < K.2.2 + 1 + 40 then 100 else K.1 i) = _
        rw [if_neg (by omega), if_neg (by omega), if_neg (by omega)]; exact g1
      · show (if i < K.2.2 then _ else if i = K.2.2 then 40 else if i < K.2.2 + 1 + 40 then 3 else K.2.1 i) = _
        rw [if_neg (by omega), if_neg (by omega), if_neg (by omega)]; exact g2
  · rw [ju_ne _ _ ha, r1 _ _ (by omega)]; exact h7 a ha k
theorem c5_10 {g : jG} {d t : Nat} {K0 K : jK} {ci : jI} {cj : jJ} {cr0 cr : jR} {Qr : jQ} {Qx : jX} (h6 : t + 60 < 1000000) (hq : ∀ K' cr', jS5 t K0 cr0 K' cr' → Qr none K' ci cj cr') (I : jI5 t K0 cr0 10 K cr) : Ev g (d + 1) mX5_init 86 [.ref t, .ref 0] [] K ci cj cr 41 160 Qr Qx := by
  have h1 := I.1
  refine ev_aload_n dX5_init_86 rfl ?_
  refine ev_bipush (v := nI 40) dX5_init_87 jb40 ?_
  refine ev_iconst (v := nI 3) dX5_init_89 jc3 ?_
  refine ev_multi2 (a := 40) (b := 3) (c := 0) (sl := 0) dX5_init_90 q404 (by decide) (by decide) (by decide) (by decide) (by decide) (by decide) (by omega) ?_
  refine ev_putR dX5_init_94 pX5_48_5 ((if_pos (by omega) : (jK2 K 40 3).1 t = K.1 t).trans I.2.1) (by show t < K.2.2 + 1 + 40; omega) rfl ?_
  exact ev_ret dX5_init_97 rfl (hq _ _ (I.last h6))
theorem c5_9 {g : jG} {d t : Nat} {K0 K : jK} {ci : jI} {cj : jJ} {cr0 cr : jR} {Qr : jQ} {Qx : jX} (h6 : t + 60 < 1000000) (hq : ∀ K' cr', jS5 t K0 cr0 K' cr' → Qr none K' ci cj cr') (I : jI5 t K0 cr0 9 K cr) : Ev g (d + 1) mX5_init 78 [.ref t, .ref 0] [] K ci cj cr 42 170 Qr Qx := by
  have h1 := I.1
  refine ev_aload_n dX5_init_78 rfl ?_
  refine ev_bipush (v := nI 10) dX5_init_79 jb10 ?_
  refine ev_newa_int (c := 41) (sl := 160) dX5_init_81 (by decide) (by decide : (nI 10).toNatClampNeg = 10) (by decide) (by omega) ?_
  refine ev_putR dX5_init_83 pX5_43_5 ((va_up_ne _ _ (by omega)).trans I.2.1) (by show t < K.2.2 + 1; omega) rfl ?_
  exact c5_10 h6 hq (I.new (by decide) h6 (n := 10) rfl)
theorem c5_8 {g : jG} {d t : Nat} {K0 K : jK} {ci : jI} {cj : jJ} {cr0 cr : jR} {Qr : jQ} {Qx : jX} (h6 : t + 60 < 1000000) (hq : ∀ K' cr', jS5 t K0 cr0 K' cr' → Qr none K' ci cj cr') (I : jI5 t K0 cr0 8 K cr) : Ev g (d + 1) mX5_init 70 [.ref t, .ref 0] [] K ci cj cr 43 180 Qr Qx := by
  have h1 := I.1
  refine ev_aload_n dX5_init_70 rfl ?_
  refine ev_bipush (v := nI 10) dX5_init_71 jb10 ?_
  refine ev_newa_int (c := 42) (sl := 170) dX5_init_73 (by decide) (by decide : (nI 10).toNatClampNeg = 10) (by decide) (by omega) ?_
  refine ev_putR dX5_init_75 pX5_40_5 ((va_up_ne _ _ (by omega)).trans I.2.1) (by show t < K.2.2 + 1; omega) rfl ?_
  exact c5_9 h6 hq (I.new (by decide) h6 (n := 10) rfl)
theorem c5_7 {g : jG} {d t : Nat} {K0 K : jK} {ci : jI} {cj : jJ} {cr0 cr : jR} {Qr : jQ} {Qx : jX} (h6 : t + 60 < 1000000) (hq : ∀ K' cr', jS5 t K0 cr0 K' cr' → Qr none K' ci cj cr') (I : jI5 t K0 cr0 7 K cr) : Ev g (d + 1) mX5_init 62 [.ref t, .ref 0] [] K ci cj cr 44 190 Qr Qx := by
  have h1 := I.1
  refine ev_aload_n dX5_init_62 rfl ?_
  refine ev_bipush (v := nI 10) dX5_init_63 jb10 ?_
  refine ev_newa_int (c := 43) (sl := 180) dX5_init_65 (by decide) (by decide : (nI 10).toNatClampNeg = 10) (by decide) (by omega) ?_
  refine ev_putR dX5_init_67 pX5_37_5 ((va_up_ne _ _ (by omega)).trans I.2.1) (by show t < K.2.2 + 1; omega) rfl ?_
  exact c5_8 h6 hq (I.new (by decide) h6 (n := 10) rfl)
theorem c5_6 {g : jG} {d t : Nat} {K0 K : jK} {ci : jI} {cj : jJ} {cr0 cr : jR} {Qr : jQ} {Qx : jX} (h6 : t + 60 < 1000000) (hq : ∀ K' cr', jS5 t K0 cr0 K' cr' → Qr none K' ci cj cr') (I : jI5 t K0 cr0 6 K cr) : Ev g (d + 1) mX5_init 54 [.ref t, .ref 0] [] K ci cj cr 45 196 Qr Qx := by
  have h1 := I.1
  refine ev_aload_n dX5_init_54 rfl ?_
  refine ev_bipush (v := nI 6) dX5_init_55 jb6 ?_
  refine ev_newa_int (c := 44) (sl := 190) dX5_init_57 (by decide) (by decide : (nI 6).toNatClampNeg = 6) (by decide) (by omega) ?_
  refine ev_putR dX5_init_59 pX5_34_5 ((va_up_ne _ _ (by omega)).trans I.2.1) (by show t < K.2.2 + 1; omega) rfl ?_
  exact c5_7 h6 hq (I.new (by decide) h6 (n := 6) rfl)
theorem c5_5 {g : jG} {d t : Nat} {K0 K : jK} {ci : jI} {cj : jJ} {cr0 cr : jR} {Qr : jQ} {Qx : jX} (h6 : t + 60 < 1000000) (hq : ∀ K' cr', jS5 t K0 cr0 K' cr' → Qr none K' ci cj cr') (I : jI5 t K0 cr0 5 K cr) : Ev g (d + 1) mX5_init 46 [.ref t, .ref 0] [] K ci cj cr 46 202 Qr Qx := by
  have h1 := I.1
  refine ev_aload_n dX5_init_46 rfl ?_
  refine ev_bipush (v := nI 6) dX5_init_47 jb6 ?_
  refine ev_newa_int (c := 45) (sl := 196) dX5_init_49 (by decide) (by decide : (nI 6).toNatClampNeg = 6) (by decide) (by omega) ?_
  refine ev_putR dX5_init_51 pX5_31_5 ((va_up_ne _ _ (by omega)).trans I.2.1) (by show t < K.2.2 + 1; omega) rfl ?_
  exact c5_6 h6 hq (I.new (by decide) h6 (n := 6) rfl)
theorem c5_4 {g : jG} {d t : Nat} {K0 K : jK} {ci : jI} {cj : jJ} {cr0 cr : jR} {Qr : jQ} {Qx : jX} (h6 : t + 60 < 1000000) (hq : ∀ K' cr', jS5 t K0 cr0 K' cr' → Qr none K' ci cj cr') (I : jI5 t K0 cr0 4 K cr) : Ev g (d + 1) mX5_init 38 [.ref t, .ref 0] [] K ci cj cr 47 208 Qr Qx := by
  have h1 := I.1
  refine ev_aload_n dX5_init_38 rfl ?_
  refine ev_bipush (v := nI 6) dX5_init_39 jb6 ?_
  refine ev_newa_int (c := 46) (sl := 202) dX5_init_41 (by decide) (by decide : (nI 6).toNatClampNeg = 6) (by decide) (by omega) ?_
  refine ev_putR dX5_init_43 pX5_28_5 ((va_up_ne _ _ (by omega)).trans I.2.1) (by show t < K.2.2 + 1; omega) rfl ?_
  exact c5_5 h6 hq (I.new (by decide) h6 (n := 6) rfl)
theorem c5_3 {g : jG} {d t : Nat} {K0 K : jK} {ci : jI} {cj : jJ} {cr0 cr : jR} {Qr : jQ} {Qx : jX} (h6 : t + 60 < 1000000) (hq : ∀ K' cr', jS5 t K0 cr0 K' cr' → Qr none K' ci cj cr') (I : jI5 t K0 cr0 3 K cr) : Ev g (d + 1) mX5_init 30 [.ref t, .ref 0] [] K ci cj cr 48 214 Qr Qx := by
  have h1 := I.1
  refine ev_aload_n dX5_init_30 rfl ?_
  refine ev_bipush (v := nI 6) dX5_init_31 jb6 ?_
  refine ev_newa_int (c := 47) (sl := 208) dX5_init_33 (by decide) (by decide : (nI 6).toNatClampNeg = 6) (by decide) (by omega) ?_
  refine ev_putR dX5_init_35 pX5_25_5 ((va_up_ne _ _ (by omega)).trans I.2.1) (by show t < K.2.2 + 1; omega) rfl ?_
  exact c5_4 h6 hq (I.new (by decide) h6 (n := 6) rfl)
theorem c5_2 {g : jG} {d t : Nat} {K0 K : jK} {ci : jI} {cj : jJ} {cr0 cr : jR} {Qr : jQ} {Qx : jX} (h6 : t + 60 < 1000000) (hq : ∀ K' cr', jS5 t K0 cr0 K' cr' → Qr none K' ci cj cr') (I : jI5 t K0 cr0 2 K cr) : Ev g (d + 1) mX5_init 23 [.ref t, .ref 0] [] K ci cj cr 49 217 Qr Qx := by
  have h1 := I.1
  refine ev_aload_n dX5_init_23 rfl ?_
  refine ev_iconst (v := nI 3) dX5_init_24 jc3 ?_
  refine ev_newa_int (c := 48) (sl := 214) dX5_init_25 (by decide) (by decide : (nI 3).toNatClampNeg = 3) (by decide) (by omega) ?_
  refine ev_putR dX5_init_27 pX5_22_5 ((va_up_ne _ _ (by omega)).trans I.2.1) (by show t < K.2.2 + 1; omega) rfl ?_
  exact c5_3 h6 hq (I.new (by decide) h6 (n := 3) rfl)
theorem c5_1 {g : jG} {d t : Nat} {K0 K : jK} {ci : jI} {cj : jJ} {cr0 cr : jR} {Qr : jQ} {Qx : jX} (h6 : t + 60 < 1000000) (hq : ∀ K' cr', jS5 t K0 cr0 K' cr' → Qr none K' ci cj cr') (I : jI5 t K0 cr0 1 K cr) : Ev g (d + 1) mX5_init 16 [.ref t, .ref 0] [] K ci cj cr 50 220 Qr Qx := by
  have h1 := I.1
  refine ev_aload_n dX5_init_16 rfl ?_
  refine ev_iconst (v := nI 3) dX5_init_17 jc3 ?_
  refine ev_newa_int (c := 49) (sl := 217) dX5_init_18 (by decide) (by decide : (nI 3).toNatClampNeg = 3) (by decide) (by omega) ?_
  refine ev_putR dX5_init_20 pX5_19_5 ((va_up_ne _ _ (by omega)).trans I.2.1) (by show t < K.2.2 + 1; omega) rfl ?_
  exact c5_2 h6 hq (I.new (by decide) h6 (n := 3) rfl)
theorem c5_0 {g : jG} {d t : Nat} {K0 K : jK} {ci : jI} {cj : jJ} {cr0 cr : jR} {Qr : jQ} {Qx : jX} (h6 : t + 60 < 1000000) (hq : ∀ K' cr', jS5 t K0 cr0 K' cr' → Qr none K' ci cj cr') (I : jI5 t K0 cr0 0 K cr) : Ev g (d + 1) mX5_init 9 [.ref t, .ref 0] [] K ci cj cr 51 223 Qr Qx := by
  have h1 := I.1
  refine ev_aload_n dX5_init_9 rfl ?_
  refine ev_iconst (v := nI 3) dX5_init_10 jc3 ?_
  refine ev_newa_int (c := 50) (sl := 220) dX5_init_11 (by decide) (by decide : (nI 3).toNatClampNeg = 3) (by decide) (by omega) ?_
  refine ev_putR dX5_init_13 pX5_15_5 ((va_up_ne _ _ (by omega)).trans I.2.1) (by show t < K.2.2 + 1; omega) rfl ?_
  exact c5_1 h6 hq (I.new (by decide) h6 (n := 3) rfl)
theorem ctor5 {g : jG} {d t : Nat} {K : jK} {ci : jI} {cj : jJ} {cr : jR} {Qr : jQ} {Qx : jX} (hk : K.1 t = 5) (ht : K.2.2 = t + 1) (h6 : t + 60 < 1000000) (hq : ∀ K' cr', jS5 t K cr K' cr' → Qr none K' ci cj cr') : EvM g (d + 1) mX5_init [.ref t, .ref 0] K ci cj cr 51 223 Qr Qx := by
  show Ev g (d + 1) mX5_init 0 [.ref t, .ref 0] [] K ci cj cr 51 223 Qr Qx
  refine ev_aload_n dX5_init_0 rfl ?_
  refine ev_aload_n dX5_init_1 rfl ?_
  refine ev_putR dX5_init_2 pX5_3_5 hk (by omega) rfl ?_
  refine ev_aload_n dX5_init_5 rfl ?_
  refine ev_objInit dX5_init_6 q403 (Nat.le_of_ble_eq_true rfl) ?_
  exact c5_0 h6 hq ⟨by omega, hk, fun i a b => by omega, ju_eq cr t 13 (some 0), fun i _ => ⟨rfl, rfl⟩, fun a ha k => ju_ne cr _ ha⟩
