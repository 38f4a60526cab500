set_option maxRecDepth 100000
/-! THE MODEL'S CONSTRUCTOR (printed by gen/ctor6.py) -/
/-- writes, one after another -/
def jwa : List (Nat × Nat × Int32) → jI → jI
  | [], ci => ci
  | w :: W, ci => jwa W (ju ci w.1 w.2.1 w.2.2)
def FM (K0 : jK) (cr0 : jR) (z : Nat) (rl : List Nat) (K : jK) (cr : jR) : Prop := K.2.2 = z ∧ (∀ i, 1547 ≤ i → i < z → K.1 i = mkd i ∧ K.2.1 i = mln i) ∧ (∀ k ∈ rl, cr 1547 k = some (mar k)) ∧ (∀ i, i < 1547 ∨ 1000000 ≤ i → K.1 i = K0.1 i ∧ K.2.1 i = K0.2.1 i) ∧ (∀ a, a ≠ 1547 → ∀ k, cr a k = cr0 a k) ∧ 1547 < z
section
variable {K0 K : jK} {cr0 cr : jR} {z : Nat} {rl : List Nat}
theorem FM.k0 (h : FM K0 cr0 z rl K cr) : K.1 1547 = 6 := ((h.2.1 1547 (by decide) h.2.2.2.2.2).1).trans (by decide)
theorem FM.k (h : FM K0 cr0 z rl K cr) {i kd : Nat} (h1 : 1547 ≤ i) (h2 : i < z) (e : mkd i = kd) : K.1 i = kd := ((h.2.1 i h1 h2).1).trans e
theorem FM.ix (h : FM K0 cr0 z rl K cr) {i n : Nat} (h1 : 1547 ≤ i) (h2 : i < z) (e : n < mln i ∧ mln i ≤ 2147483648) : jix (nI n) n (K.2.1 i) := by
  rw [(h.2.1 i h1 h2).2]
  exact jix_nI e.1 e.2
theorem FM.new (h : FM K0 cr0 z rl K cr) (hz : z < 1000000) {kd n : Nat} (hk : mkd z = kd) (hn : mln z = n) : FM K0 cr0 (z + 1) rl (jnK K kd n) cr := by
  obtain ⟨h1, h2, h3, h4, h5, h6⟩ := h
  refine ⟨by show K.2.2 + 1 = _; omega, fun i a b => ?_, h3, fun i hi => ?_, h5, by omega⟩
  · by_cases e : i = z
    · rw [e]
      subst h1
      exact ⟨(va_up_self _ _ _).trans hk.symm, (va_up_self _ _ _).trans hn.symm⟩
    · obtain ⟨g1, g2⟩ := h2 i a (by omega)
      exact ⟨(va_up_ne _ _ (by omega)).trans g1, (va_up_ne _ _ (by omega)).trans g2⟩
  · obtain ⟨g1, g2⟩ := h4 i hi
    exact ⟨(va_up_ne _ _ (by omega)).trans g1, (va_up_ne _ _ (by omega)).trans g2⟩
theorem FM.put (h : FM K0 cr0 z rl K cr) {k x : Nat} (hx : mar k = x) : FM K0 cr0 z (k :: rl) K (ju cr 1547 k (some x)) := by
  obtain ⟨h1, h2, h3, h4, h5, h6⟩ := h
  refine ⟨h1, h2, fun j hj => ?_, h4, fun a ha j => by rw [ju_ne cr _ ha]; exact h5 a ha j, h6⟩
  by_cases e : j = k
  · rw [e, ju_eq, hx]
  · rw [ju_ne2 cr _ e]
    rcases List.mem_cons.mp hj with g | g
    · exact absurd g e
    · exact h3 j g
variable {g : jG} {d : Nat} {M : jM} {pc : Nat} {L st : List Value} {ci : jI} {cj : jJ} {c sl : Nat} {Qr : jQ} {Qx : jX}
theorem ev_castoreV {a n : Nat} {i x y : Int32} (hd : decode M.2.1 pc = .ok (.castore, 1)) (hk : K.1 a = 102) (ha : a < K.2.2) (hi : jix i n (K.2.1 a)) (hy : x.toUInt32.toUInt16.toUInt32.toInt32 = y) (kk : Ev g d M (pc + 1) L st K (ju ci a n y) cj cr c sl Qr Qx) : Ev g d M pc L (.int x :: .int i :: .ref a :: st) K ci cj cr c sl Qr Qx := by
  refine ev_castore hd hk ha hi ?_
  rw [hy]; exact kk
theorem fm_new_int {n : Nat} {i : Int32} (hd : decode M.2.1 pc = .ok (.newarray .int, 2)) (hi : ¬ i < 0) (hin : i.toNatClampNeg = n) (hsz : n ≤ 65536) (h : FM K0 cr0 z rl K cr) (hz : z < 1000000) (hk : mkd z = 100 ∧ mln z = n) (k : ∀ K', FM K0 cr0 (z + 1) rl K' cr → Ev g d M (pc + 2) L (.ref z :: st) K' ci cj cr c sl Qr Qx) : Ev g d M pc L (.int i :: st) K ci cj cr (c + 1) (sl + n) Qr Qx := by
  refine ev_newa_int hd hi hin hsz (by rw [h.1]; exact hz) ?_
  have h9 := k _ (h.new hz hk.1 hk.2)
  rw [← h.1] at h9
  exact h9
theorem fm_new_char {n : Nat} {i : Int32} (hd : decode M.2.1 pc = .ok (.newarray .char, 2)) (hi : ¬ i < 0) (hin : i.toNatClampNeg = n) (hsz : n ≤ 65536) (h : FM K0 cr0 z rl K cr) (hz : z < 1000000) (hk : mkd z = 102 ∧ mln z = n) (k : ∀ K', FM K0 cr0 (z + 1) rl K' cr → Ev g d M (pc + 2) L (.ref z :: st) K' ci cj cr c sl Qr Qx) : Ev g d M pc L (.int i :: st) K ci cj cr (c + 1) (sl + n) Qr Qx := by
  refine ev_newa_char hd hi hin hsz (by rw [h.1]; exact hz) ?_
  have h9 := k _ (h.new hz hk.1 hk.2)
  rw [← h.1] at h9
  exact h9
theorem fm_new_long {n : Nat} {i : Int32} (hd : decode M.2.1 pc = .ok (.newarray .long, 2)) (hi : ¬ i < 0) (hin : i.toNatClampNeg = n) (hsz : n ≤ 65536) (h : FM K0 cr0 z rl K cr) (hz : z < 1000000) (hk : mkd z = 103 ∧ mln z = n) (k : ∀ K', FM K0 cr0 (z + 1) rl K' cr → Ev g d M (pc + 2) L (.ref z :: st) K' ci cj cr c sl Qr Qx) : Ev g d M pc L (.int i :: st) K ci cj cr (c + 1) (sl + n) Qr Qx := by
  refine ev_newa_long hd hi hin hsz (by rw [h.1]; exact hz) ?_
  have h9 := k _ (h.new hz hk.1 hk.2)
  rw [← h.1] at h9
  exact h9
theorem fm_put {index k x : Nat} (hd : decode M.2.1 pc = .ok (.putfield index, 3)) (hF : jP M.1.cls M.1.name index 6 k) (h : FM K0 cr0 z rl K cr) (ht : jtag (jfty 6 k) = 2) (hx : mar k = x) (kk : ∀ cr', FM K0 cr0 z (k :: rl) K cr' → Ev g d M (pc + 3) L st K ci cj cr' c sl Qr Qx) : Ev g d M pc L (.ref x :: .ref 1547 :: st) K ci cj cr c sl Qr Qx :=
  ev_putR hd hF h.k0 (by rw [h.1]; exact h.2.2.2.2.2) ht (kk _ (h.put hx))
end
theorem jb101 : (Int8.ofInt (101)).toInt32 = (nI 101) := by decide
theorem jb102 : (Int8.ofInt (102)).toInt32 = (nI 102) := by decide
theorem jb103 : (Int8.ofInt (103)).toInt32 = (nI 103) := by decide
theorem jb104 : (Int8.ofInt (104)).toInt32 = (nI 104) := by decide
theorem jb105 : (Int8.ofInt (105)).toInt32 = (nI 105) := by decide
theorem jb108 : (Int8.ofInt (108)).toInt32 = (nI 108) := by decide
theorem jb109 : (Int8.ofInt (109)).toInt32 = (nI 109) := by decide
theorem jb110 : (Int8.ofInt (110)).toInt32 = (nI 110) := by decide
theorem jb111 : (Int8.ofInt (111)).toInt32 = (nI 111) := by decide
theorem jb112 : (Int8.ofInt (112)).toInt32 = (nI 112) := by decide
theorem jb114 : (Int8.ofInt (114)).toInt32 = (nI 114) := by decide
theorem jb115 : (Int8.ofInt (115)).toInt32 = (nI 115) := by decide
theorem jb116 : (Int8.ofInt (116)).toInt32 = (nI 116) := by decide
theorem jb117 : (Int8.ofInt (117)).toInt32 = (nI 117) := by decide
theorem jb118 : (Int8.ofInt (118)).toInt32 = (nI 118) := by decide
theorem jb119 : (Int8.ofInt (119)).toInt32 = (nI 119) := by decide
theorem jb120 : (Int8.ofInt (120)).toInt32 = (nI 120) := by decide
theorem jb121 : (Int8.ofInt (121)).toInt32 = (nI 121) := by decide
theorem jb98 : (Int8.ofInt (98)).toInt32 = (nI 98) := by decide
theorem js1700 : (Int16.ofInt (1700)).toInt32 = (nI 1700) := by decide
theorem js180 : (Int16.ofInt (180)).toInt32 = (nI 180) := by decide
theorem js3200 : (Int16.ofInt (3200)).toInt32 = (nI 3200) := by decide
theorem js3320 : (Int16.ofInt (3320)).toInt32 = (nI 3320) := by decide
theorem js930 : (Int16.ofInt (930)).toInt32 = (nI 930) := by decide
def mW : List (Nat × Nat × Int32) := [(1547, 8, (-1)), (1550, 0, nI 98), (1550, 1, nI 97), (1550, 2, nI 121), (1551, 0, nI 109), (1551, 1, nI 105), (1551, 2, nI 108), (1551, 3, nI 101), (1552, 0, nI 104), (1552, 1, nI 117), (1552, 2, nI 110), (1552, 3, nI 103), (1552, 4, nI 101), (1552, 5, nI 114), (1553, 0, nI 112), (1553, 1, nI 97), (1553, 2, nI 105), (1553, 3, nI 114), (1554, 0, nI 105), (1554, 1, nI 110), (1555, 0, nI 116), (1555, 1, nI 114), (1555, 2, nI 117), (1555, 3, nI 101), (1556, 0, nI 115), (1556, 1, nI 104), (1556, 2, nI 111), (1556, 3, nI 97), (1556, 4, nI 108), (1557, 0, nI 115), (1557, 1, nI 105), (1557, 2, nI 122), (1557, 3, nI 101), (1558, 0, nI 108), (1558, 1, nI 117), (1558, 2, nI 114), (1558, 3, nI 101), (1558, 4, nI 115), (1559, 0, nI 109), (1559, 1, nI 101), (1559, 2, nI 110), (1559, 3, nI 100), (1559, 4, nI 115), (1560, 0, nI 115), (1560, 1, nI 116), (1560, 2, nI 97), (1560, 3, nI 114), (1560, 4, nI 118), (1560, 5, nI 101), (1560, 6, nI 115), (1561, 0, nI 99), (1561, 1, nI 111), (1561, 2, nI 117), (1561, 3, nI 110), (1561, 4, nI 116), (1561, 5, nI 115), (1562, 0, nI 115), (1562, 1, nI 116), (1562, 2, nI 111), (1562, 3, nI 114), (1562, 4, nI 109), (1563, 0, nI 118), (1563, 1, nI 111), (1563, 2, nI 119), (1563, 3, nI 115), (1564, 0, nI 102), (1564, 1, nI 97), (1564, 2, nI 114), (1565, 0, nI 121), (1565, 1, nI 101), (1565, 2, nI 97), (1565, 3, nI 114), (1566, 0, nI 108), (1566, 1, nI 97), (1566, 2, nI 116), (1566, 3, nI 101), (1567, 0, nI 99), (1567, 1, nI 97), (1567, 2, nI 117), (1567, 3, nI 103), (1567, 4, nI 104), (1567, 5, nI 116), (1568, 0, nI 115), (1568, 1, nI 105), (1568, 2, nI 110), (1568, 3, nI 99), (1568, 4, nI 101), (1569, 0, nI 110), (1569, 1, nI 117), (1569, 2, nI 109), (1569, 3, nI 98), (1569, 4, nI 101), (1569, 5, nI 114), (1570, 0, nI 112), (1570, 1, nI 108), (1570, 2, nI 97), (1570, 3, nI 99), (1570, 4, nI 101), (1571, 0, nI 111), (1571, 1, nI 114), (1572, 0, nI 97), (1572, 1, nI 110), (1572, 2, nI 100), (1573, 0, nI 110), (1573, 1, nI 111), (1573, 2, nI 116), (1574, 0, nI 97), (1574, 1, nI 108), (1574, 2, nI 108), (1575, 0, nI 109), (1575, 1, nI 105), (1575, 2, nI 110), (1576, 0, nI 109), (1576, 1, nI 97), (1576, 2, nI 120), (1582, 0, (-1)), (1582, 1, (-1)), (1582, 2, (-1)), (1582, 3, (-1)), (1582, 4, (-1)), (1582, 5, (-1)), (1582, 6, (-1)), (1582, 7, (-1)), (1595, 0, nI 102), (1595, 1, nI 105), (1595, 2, nI 114), (1595, 3, nI 115), (1595, 4, nI 116), (1596, 0, nI 108), (1596, 1, nI 97), (1596, 2, nI 115), (1596, 3, nI 116), (1597, 0, nI 111), (1597, 1, nI 102), (1597, 2, nI 116), (1597, 3, nI 101), (1597, 4, nI 110), (1598, 0, nI 116), (1598, 1, nI 111), (1598, 2, nI 116), (1598, 3, nI 97), (1598, 4, nI 108), (1599, 0, nI 109), (1599, 1, nI 111), (1599, 2, nI 115), (1599, 3, nI 116), (1600, 0, nI 108), (1600, 1, nI 101), (1600, 2, nI 97), (1600, 3, nI 115), (1600, 4, nI 116), (1601, 0, nI 110), (1601, 1, nI 111), (1601, 2, nI 116), (1602, 0, nI 97), (1602, 1, nI 110), (1602, 2, nI 100), (1603, 0, nI 111), (1603, 1, nI 114), (1604, 0, nI 97), (1604, 1, nI 108), (1604, 2, nI 108), (1605, 0, nI 109), (1605, 1, nI 105), (1605, 2, nI 110), (1606, 0, nI 109), (1606, 1, nI 97), (1606, 2, nI 120), (1607, 0, nI 104), (1607, 1, nI 117), (1607, 2, nI 110), (1607, 3, nI 103), (1607, 4, nI 101), (1607, 5, nI 114), (1608, 0, nI 121), (1608, 1, nI 101), (1608, 2, nI 97), (1608, 3, nI 114), (1609, 0, nI 118), (1609, 1, nI 111), (1609, 2, nI 119), (1609, 3, nI 115), (1610, 0, nI 108), (1610, 1, nI 97), (1610, 2, nI 116), (1610, 3, nI 101), (1611, 0, nI 102), (1611, 1, nI 97), (1611, 2, nI 114), (1612, 0, nI 115), (1612, 1, nI 105), (1612, 2, nI 122), (1612, 3, nI 101), (1613, 0, nI 99), (1613, 1, nI 97), (1613, 2, nI 117), (1613, 3, nI 103), (1613, 4, nI 104), (1613, 5, nI 116), (1614, 0, nI 116), (1614, 1, nI 114), (1614, 2, nI 117), (1614, 3, nI 101), (1615, 0, nI 115), (1615, 1, nI 105), (1615, 2, nI 110), (1615, 3, nI 99), (1615, 4, nI 101), (1616, 0, nI 110), (1616, 1, nI 117), (1616, 2, nI 109), (1616, 3, nI 98), (1616, 4, nI 101), (1616, 5, nI 114), (1617, 0, nI 112), (1617, 1, nI 108), (1617, 2, nI 97), (1617, 3, nI 99), (1617, 4, nI 101), (1618, 0, nI 118), (1618, 1, nI 111), (1618, 2, nI 119), (1618, 3, nI 115), (1619, 0, nI 99), (1619, 1, nI 97), (1619, 2, nI 117), (1619, 3, nI 103), (1619, 4, nI 104), (1619, 5, nI 116)]
theorem c6_9 {g : jG} {d : Nat} {K0 K : jK} {cr0 cr : jR} {ci : jI} {cj : jJ} {Qr : jQ} {Qx : jX} (h : FM K0 cr0 1617 [92, 91, 90, 89, 88, 87, 86, 85, 84, 83, 82, 81, 80, 79, 78, 77, 76, 75, 74, 73, 72, 71, 67, 66, 65, 63, 62, 61, 57, 56, 51, 50, 46, 45, 44, 43, 42, 41, 40, 39, 37, 36, 35, 34, 33, 32, 31, 30, 29, 28, 27, 26, 25, 24, 23, 22, 21, 20, 19, 18, 17, 16, 15, 14, 13, 12, 11, 9, 0] K cr) (hq : ∀ K cr, FM K0 cr0 1624 [106, 102, 98, 96, 95, 94, 93, 92, 91, 90, 89, 88, 87, 86, 85, 84, 83, 82, 81, 80, 79, 78, 77, 76, 75, 74, 73, 72, 71, 67, 66, 65, 63, 62, 61, 57, 56, 51, 50, 46, 45, 44, 43, 42, 41, 40, 39, 37, 36, 35, 34, 33, 32, 31, 30, 29, 28, 27, 26, 25, 24, 23, 22, 21, 20, 19, 18, 17, 16, 15, 14, 13, 12, 11, 9, 0] K cr → Qr none K (jwa [(1617, 0, nI 112), (1617, 1, nI 108), (1617, 2, nI 97), (1617, 3, nI 99), (1617, 4, nI 101), (1618, 0, nI 118), (1618, 1, nI 111), (1618, 2, nI 119), (1618, 3, nI 115), (1619, 0, nI 99), (1619, 1, nI 97), (1619, 2, nI 117), (1619, 3, nI 103), (1619, 4, nI 104), (1619, 5, nI 116)] ci) cj cr) : Ev g (d + 1) mX6_init 1590 [.ref 1547] [] K ci cj cr 7 5168 Qr Qx := by
  refine ev_aload_n dX6_init_1590 rfl ?_
  refine ev_iconst (v := nI 5) dX6_init_1591 jc5 ?_
  refine fm_new_char (c := 6) (sl := 5163) (n := 5) dX6_init_1592 (by decide) (by decide) (by decide) h (by decide) (by decide) (fun K h => ?_)
  refine ev_dup dX6_init_1594 rfl ?_
  refine ev_iconst (v := nI 0) dX6_init_1595 jc0 ?_
  refine ev_bipush (v := nI 112) dX6_init_1596 jb112 ?_
  refine ev_castoreV (y := nI 112) dX6_init_1598 (h.k (by decide) (by decide) (by decide)) (by rw [h.1]; decide) (h.ix (n := 0) (by decide) (by decide) (by decide)) (by decide) ?_
  refine ev_dup dX6_init_1599 rfl ?_
  refine ev_iconst (v := nI 1) dX6_init_1600 jc1 ?_
  refine ev_bipush (v := nI 108) dX6_init_1601 jb108 ?_
  refine ev_castoreV (y := nI 108) dX6_init_1603 (h.k (by decide) (by decide) (by decide)) (by rw [h.1]; decide) (h.ix (n := 1) (by decide) (by decide) (by decide)) (by decide) ?_
  refine ev_dup dX6_init_1604 rfl ?_
  refine ev_iconst (v := nI 2) dX6_init_1605 jc2 ?_
  refine ev_bipush (v := nI 97) dX6_init_1606 jb97 ?_
  refine ev_castoreV (y := nI 97) dX6_init_1608 (h.k (by decide) (by decide) (by decide)) (by rw [h.1]; decide) (h.ix (n := 2) (by decide) (by decide) (by decide)) (by decide) ?_
  refine ev_dup dX6_init_1609 rfl ?_
  refine ev_iconst (v := nI 3) dX6_init_1610 jc3 ?_
  refine ev_bipush (v := nI 99) dX6_init_1611 jb99 ?_
  refine ev_castoreV (y := nI 99) dX6_init_1613 (h.k (by decide) (by decide) (by decide)) (by rw [h.1]; decide) (h.ix (n := 3) (by decide) (by decide) (by decide)) (by decide) ?_
  refine ev_dup dX6_init_1614 rfl ?_
  refine ev_iconst (v := nI 4) dX6_init_1615 jc4 ?_
  refine ev_bipush (v := nI 101) dX6_init_1616 jb101 ?_
  refine ev_castoreV (y := nI 101) dX6_init_1618 (h.k (by decide) (by decide) (by decide)) (by rw [h.1]; decide) (h.ix (n := 4) (by decide) (by decide) (by decide)) (by decide) ?_
  refine fm_put dX6_init_1619 pX6_227_6 h rfl (by decide) (fun cr h => ?_)
  refine ev_aload_n dX6_init_1622 rfl ?_
  refine ev_iconst (v := nI 4) dX6_init_1623 jc4 ?_
  refine fm_new_char (c := 5) (sl := 5159) (n := 4) dX6_init_1624 (by decide) (by decide) (by decide) h (by decide) (by decide) (fun K h => ?_)
  refine ev_dup dX6_init_1626 rfl ?_
  refine ev_iconst (v := nI 0) dX6_init_1627 jc0 ?_
  refine ev_bipush (v := nI 118) dX6_init_1628 jb118 ?_
  refine ev_castoreV (y := nI 118) dX6_init_1630 (h.k (by decide) (by decide) (by decide)) (by rw [h.1]; decide) (h.ix (n := 0) (by decide) (by decide) (by decide)) (by decide) ?_
  refine ev_dup dX6_init_1631 rfl ?_
  refine ev_iconst (v := nI 1) dX6_init_1632 jc1 ?_
  refine ev_bipush (v := nI 111) dX6_init_1633 jb111 ?_
  refine ev_castoreV (y := nI 111) dX6_init_1635 (h.k (by decide) (by decide) (by decide)) (by rw [h.1]; decide) (h.ix (n := 1) (by decide) (by decide) (by decide)) (by decide) ?_
  refine ev_dup dX6_init_1636 rfl ?_
  refine ev_iconst (v := nI 2) dX6_init_1637 jc2 ?_
  refine ev_bipush (v := nI 119) dX6_init_1638 jb119 ?_
  refine ev_castoreV (y := nI 119) dX6_init_1640 (h.k (by decide) (by decide) (by decide)) (by rw [h.1]; decide) (h.ix (n := 2) (by decide) (by decide) (by decide)) (by decide) ?_
  refine ev_dup dX6_init_1641 rfl ?_
  refine ev_iconst (v := nI 3) dX6_init_1642 jc3 ?_
  refine ev_bipush (v := nI 115) dX6_init_1643 jb115 ?_
  refine ev_castoreV (y := nI 115) dX6_init_1645 (h.k (by decide) (by decide) (by decide)) (by rw [h.1]; decide) (h.ix (n := 3) (by decide) (by decide) (by decide)) (by decide) ?_
  refine fm_put dX6_init_1646 pX6_230_6 h rfl (by decide) (fun cr h => ?_)
  refine ev_aload_n dX6_init_1649 rfl ?_
  refine ev_bipush (v := nI 6) dX6_init_1650 jb6 ?_
  refine fm_new_char (c := 4) (sl := 5153) (n := 6) dX6_init_1652 (by decide) (by decide) (by decide) h (by decide) (by decide) (fun K h => ?_)
  refine ev_dup dX6_init_1654 rfl ?_
  refine ev_iconst (v := nI 0) dX6_init_1655 jc0 ?_
  refine ev_bipush (v := nI 99) dX6_init_1656 jb99 ?_
  refine ev_castoreV (y := nI 99) dX6_init_1658 (h.k (by decide) (by decide) (by decide)) (by rw [h.1]; decide) (h.ix (n := 0) (by decide) (by decide) (by decide)) (by decide) ?_
  refine ev_dup dX6_init_1659 rfl ?_
  refine ev_iconst (v := nI 1) dX6_init_1660 jc1 ?_
  refine ev_bipush (v := nI 97) dX6_init_1661 jb97 ?_
  refine ev_castoreV (y := nI 97) dX6_init_1663 (h.k (by decide) (by decide) (by decide)) (by rw [h.1]; decide) (h.ix (n := 1) (by decide) (by decide) (by decide)) (by decide) ?_
  refine ev_dup dX6_init_1664 rfl ?_
  refine ev_iconst (v := nI 2) dX6_init_1665 jc2 ?_
  refine ev_bipush (v := nI 117) dX6_init_1666 jb117 ?_
  refine ev_castoreV (y := nI 117) dX6_init_1668 (h.k (by decide) (by decide) (by decide)) (by rw [h.1]; decide) (h.ix (n := 2) (by decide) (by decide) (by decide)) (by decide) ?_
  refine ev_dup dX6_init_1669 rfl ?_
  refine ev_iconst (v := nI 3) dX6_init_1670 jc3 ?_
  refine ev_bipush (v := nI 103) dX6_init_1671 jb103 ?_
  refine ev_castoreV (y := nI 103) dX6_init_1673 (h.k (by decide) (by decide) (by decide)) (by rw [h.1]; decide) (h.ix (n := 3) (by decide) (by decide) (by decide)) (by decide) ?_
  refine ev_dup dX6_init_1674 rfl ?_
  refine ev_iconst (v := nI 4) dX6_init_1675 jc4 ?_
  refine ev_bipush (v := nI 104) dX6_init_1676 jb104 ?_
  refine ev_castoreV (y := nI 104) dX6_init_1678 (h.k (by decide) (by decide) (by decide)) (by rw [h.1]; decide) (h.ix (n := 4) (by decide) (by decide) (by decide)) (by decide) ?_
  refine ev_dup dX6_init_1679 rfl ?_
  refine ev_iconst (v := nI 5) dX6_init_1680 jc5 ?_
  refine ev_bipush (v := nI 116) dX6_init_1681 jb116 ?_
  refine ev_castoreV (y := nI 116) dX6_init_1683 (h.k (by decide) (by decide) (by decide)) (by rw [h.1]; decide) (h.ix (n := 5) (by decide) (by decide) (by decide)) (by decide) ?_
  refine fm_put dX6_init_1684 pX6_233_6 h rfl (by decide) (fun cr h => ?_)
  refine ev_aload_n dX6_init_1687 rfl ?_
  refine ev_sipush (v := nI 1700) dX6_init_1688 js1700 ?_
  refine fm_new_int (c := 3) (sl := 3453) (n := 1700) dX6_init_1691 (by decide) (by decide) (by decide) h (by decide) (by decide) (fun K h => ?_)
  refine fm_put dX6_init_1693 pX6_236_6 h rfl (by decide) (fun cr h => ?_)
  refine ev_aload_n dX6_init_1696 rfl ?_
  refine ev_sipush (v := nI 1700) dX6_init_1697 js1700 ?_
  refine fm_new_int (c := 2) (sl := 1753) (n := 1700) dX6_init_1700 (by decide) (by decide) (by decide) h (by decide) (by decide) (fun K h => ?_)
  refine fm_put dX6_init_1702 pX6_239_6 h rfl (by decide) (fun cr h => ?_)
  refine ev_aload_n dX6_init_1705 rfl ?_
  refine ev_sipush (v := nI 1700) dX6_init_1706 js1700 ?_
  refine fm_new_long (c := 1) (sl := 53) (n := 1700) dX6_init_1709 (by decide) (by decide) (by decide) h (by decide) (by decide) (fun K h => ?_)
  refine fm_put dX6_init_1711 pX6_242_6 h rfl (by decide) (fun cr h => ?_)
  refine ev_aload_n dX6_init_1714 rfl ?_
  refine ev_bipush (v := nI 53) dX6_init_1715 jb53 ?_
  refine fm_new_int (c := 0) (sl := 0) (n := 53) dX6_init_1717 (by decide) (by decide) (by decide) h (by decide) (by decide) (fun K h => ?_)
  refine fm_put dX6_init_1719 pX6_245_6 h rfl (by decide) (fun cr h => ?_)
  exact ev_ret dX6_init_1722 rfl (hq _ _ h)
theorem c6_8 {g : jG} {d : Nat} {K0 K : jK} {cr0 cr : jR} {ci : jI} {cj : jJ} {Qr : jQ} {Qx : jX} (h : FM K0 cr0 1609 [84, 83, 82, 81, 80, 79, 78, 77, 76, 75, 74, 73, 72, 71, 67, 66, 65, 63, 62, 61, 57, 56, 51, 50, 46, 45, 44, 43, 42, 41, 40, 39, 37, 36, 35, 34, 33, 32, 31, 30, 29, 28, 27, 26, 25, 24, 23, 22, 21, 20, 19, 18, 17, 16, 15, 14, 13, 12, 11, 9, 0] K cr) (hq : ∀ K cr, FM K0 cr0 1624 [106, 102, 98, 96, 95, 94, 93, 92, 91, 90, 89, 88, 87, 86, 85, 84, 83, 82, 81, 80, 79, 78, 77, 76, 75, 74, 73, 72, 71, 67, 66, 65, 63, 62, 61, 57, 56, 51, 50, 46, 45, 44, 43, 42, 41, 40, 39, 37, 36, 35, 34, 33, 32, 31, 30, 29, 28, 27, 26, 25, 24, 23, 22, 21, 20, 19, 18, 17, 16, 15, 14, 13, 12, 11, 9, 0] K cr → Qr none K (jwa [(1609, 0, nI 118), (1609, 1, nI 111), (1609, 2, nI 119), (1609, 3, nI 115), (1610, 0, nI 108), (1610, 1, nI 97), (1610, 2, nI 116), (1610, 3, nI 101), (1611, 0, nI 102), (1611, 1, nI 97), (1611, 2, nI 114), (1612, 0, nI 115), (1612, 1, nI 105), (1612, 2, nI 122), (1612, 3, nI 101), (1613, 0, nI 99), (1613, 1, nI 97), (1613, 2, nI 117), (1613, 3, nI 103), (1613, 4, nI 104), (1613, 5, nI 116), (1614, 0, nI 116), (1614, 1, nI 114), (1614, 2, nI 117), (1614, 3, nI 101), (1615, 0, nI 115), (1615, 1, nI 105), (1615, 2, nI 110), (1615, 3, nI 99), (1615, 4, nI 101), (1616, 0, nI 110), (1616, 1, nI 117), (1616, 2, nI 109), (1616, 3, nI 98), (1616, 4, nI 101), (1616, 5, nI 114), (1617, 0, nI 112), (1617, 1, nI 108), (1617, 2, nI 97), (1617, 3, nI 99), (1617, 4, nI 101), (1618, 0, nI 118), (1618, 1, nI 111), (1618, 2, nI 119), (1618, 3, nI 115), (1619, 0, nI 99), (1619, 1, nI 97), (1619, 2, nI 117), (1619, 3, nI 103), (1619, 4, nI 104), (1619, 5, nI 116)] ci) cj cr) : Ev g (d + 1) mX6_init 1352 [.ref 1547] [] K ci cj cr 15 5204 Qr Qx := by
  refine ev_aload_n dX6_init_1352 rfl ?_
  refine ev_iconst (v := nI 4) dX6_init_1353 jc4 ?_
  refine fm_new_char (c := 14) (sl := 5200) (n := 4) dX6_init_1354 (by decide) (by decide) (by decide) h (by decide) (by decide) (fun K h => ?_)
  refine ev_dup dX6_init_1356 rfl ?_
  refine ev_iconst (v := nI 0) dX6_init_1357 jc0 ?_
  refine ev_bipush (v := nI 118) dX6_init_1358 jb118 ?_
  refine ev_castoreV (y := nI 118) dX6_init_1360 (h.k (by decide) (by decide) (by decide)) (by rw [h.1]; decide) (h.ix (n := 0) (by decide) (by decide) (by decide)) (by decide) ?_
  refine ev_dup dX6_init_1361 rfl ?_
  refine ev_iconst (v := nI 1) dX6_init_1362 jc1 ?_
  refine ev_bipush (v := nI 111) dX6_init_1363 jb111 ?_
  refine ev_castoreV (y := nI 111) dX6_init_1365 (h.k (by decide) (by decide) (by decide)) (by rw [h.1]; decide) (h.ix (n := 1) (by decide) (by decide) (by decide)) (by decide) ?_
  refine ev_dup dX6_init_1366 rfl ?_
  refine ev_iconst (v := nI 2) dX6_init_1367 jc2 ?_
  refine ev_bipush (v := nI 119) dX6_init_1368 jb119 ?_
  refine ev_castoreV (y := nI 119) dX6_init_1370 (h.k (by decide) (by decide) (by decide)) (by rw [h.1]; decide) (h.ix (n := 2) (by decide) (by decide) (by decide)) (by decide) ?_
  refine ev_dup dX6_init_1371 rfl ?_
  refine ev_iconst (v := nI 3) dX6_init_1372 jc3 ?_
  refine ev_bipush (v := nI 115) dX6_init_1373 jb115 ?_
  refine ev_castoreV (y := nI 115) dX6_init_1375 (h.k (by decide) (by decide) (by decide)) (by rw [h.1]; decide) (h.ix (n := 3) (by decide) (by decide) (by decide)) (by decide) ?_
  refine fm_put dX6_init_1376 pX6_203_6 h rfl (by decide) (fun cr h => ?_)
  refine ev_aload_n dX6_init_1379 rfl ?_
  refine ev_iconst (v := nI 4) dX6_init_1380 jc4 ?_
  refine fm_new_char (c := 13) (sl := 5196) (n := 4) dX6_init_1381 (by decide) (by decide) (by decide) h (by decide) (by decide) (fun K h => ?_)
  refine ev_dup dX6_init_1383 rfl ?_
  refine ev_iconst (v := nI 0) dX6_init_1384 jc0 ?_
  refine ev_bipush (v := nI 108) dX6_init_1385 jb108 ?_
  refine ev_castoreV (y := nI 108) dX6_init_1387 (h.k (by decide) (by decide) (by decide)) (by rw [h.1]; decide) (h.ix (n := 0) (by decide) (by decide) (by decide)) (by decide) ?_
  refine ev_dup dX6_init_1388 rfl ?_
  refine ev_iconst (v := nI 1) dX6_init_1389 jc1 ?_
  refine ev_bipush (v := nI 97) dX6_init_1390 jb97 ?_
  refine ev_castoreV (y := nI 97) dX6_init_1392 (h.k (by decide) (by decide) (by decide)) (by rw [h.1]; decide) (h.ix (n := 1) (by decide) (by decide) (by decide)) (by decide) ?_
  refine ev_dup dX6_init_1393 rfl ?_
  refine ev_iconst (v := nI 2) dX6_init_1394 jc2 ?_
  refine ev_bipush (v := nI 116) dX6_init_1395 jb116 ?_
  refine ev_castoreV (y := nI 116) dX6_init_1397 (h.k (by decide) (by decide) (by decide)) (by rw [h.1]; decide) (h.ix (n := 2) (by decide) (by decide) (by decide)) (by decide) ?_
  refine ev_dup dX6_init_1398 rfl ?_
  refine ev_iconst (v := nI 3) dX6_init_1399 jc3 ?_
  refine ev_bipush (v := nI 101) dX6_init_1400 jb101 ?_
  refine ev_castoreV (y := nI 101) dX6_init_1402 (h.k (by decide) (by decide) (by decide)) (by rw [h.1]; decide) (h.ix (n := 3) (by decide) (by decide) (by decide)) (by decide) ?_
  refine fm_put dX6_init_1403 pX6_206_6 h rfl (by decide) (fun cr h => ?_)
  refine ev_aload_n dX6_init_1406 rfl ?_
  refine ev_iconst (v := nI 3) dX6_init_1407 jc3 ?_
  refine fm_new_char (c := 12) (sl := 5193) (n := 3) dX6_init_1408 (by decide) (by decide) (by decide) h (by decide) (by decide) (fun K h => ?_)
  refine ev_dup dX6_init_1410 rfl ?_
  refine ev_iconst (v := nI 0) dX6_init_1411 jc0 ?_
  refine ev_bipush (v := nI 102) dX6_init_1412 jb102 ?_
  refine ev_castoreV (y := nI 102) dX6_init_1414 (h.k (by decide) (by decide) (by decide)) (by rw [h.1]; decide) (h.ix (n := 0) (by decide) (by decide) (by decide)) (by decide) ?_
  refine ev_dup dX6_init_1415 rfl ?_
  refine ev_iconst (v := nI 1) dX6_init_1416 jc1 ?_
  refine ev_bipush (v := nI 97) dX6_init_1417 jb97 ?_
  refine ev_castoreV (y := nI 97) dX6_init_1419 (h.k (by decide) (by decide) (by decide)) (by rw [h.1]; decide) (h.ix (n := 1) (by decide) (by decide) (by decide)) (by decide) ?_
  refine ev_dup dX6_init_1420 rfl ?_
  refine ev_iconst (v := nI 2) dX6_init_1421 jc2 ?_
  refine ev_bipush (v := nI 114) dX6_init_1422 jb114 ?_
  refine ev_castoreV (y := nI 114) dX6_init_1424 (h.k (by decide) (by decide) (by decide)) (by rw [h.1]; decide) (h.ix (n := 2) (by decide) (by decide) (by decide)) (by decide) ?_
  refine fm_put dX6_init_1425 pX6_209_6 h rfl (by decide) (fun cr h => ?_)
  refine ev_aload_n dX6_init_1428 rfl ?_
  refine ev_iconst (v := nI 4) dX6_init_1429 jc4 ?_
  refine fm_new_char (c := 11) (sl := 5189) (n := 4) dX6_init_1430 (by decide) (by decide) (by decide) h (by decide) (by decide) (fun K h => ?_)
  refine ev_dup dX6_init_1432 rfl ?_
  refine ev_iconst (v := nI 0) dX6_init_1433 jc0 ?_
  refine ev_bipush (v := nI 115) dX6_init_1434 jb115 ?_
  refine ev_castoreV (y := nI 115) dX6_init_1436 (h.k (by decide) (by decide) (by decide)) (by rw [h.1]; decide) (h.ix (n := 0) (by decide) (by decide) (by decide)) (by decide) ?_
  refine ev_dup dX6_init_1437 rfl ?_
  refine ev_iconst (v := nI 1) dX6_init_1438 jc1 ?_
  refine ev_bipush (v := nI 105) dX6_init_1439 jb105 ?_
  refine ev_castoreV (y := nI 105) dX6_init_1441 (h.k (by decide) (by decide) (by decide)) (by rw [h.1]; decide) (h.ix (n := 1) (by decide) (by decide) (by decide)) (by decide) ?_
  refine ev_dup dX6_init_1442 rfl ?_
  refine ev_iconst (v := nI 2) dX6_init_1443 jc2 ?_
  refine ev_bipush (v := nI 122) dX6_init_1444 jb122 ?_
  refine ev_castoreV (y := nI 122) dX6_init_1446 (h.k (by decide) (by decide) (by decide)) (by rw [h.1]; decide) (h.ix (n := 2) (by decide) (by decide) (by decide)) (by decide) ?_
  refine ev_dup dX6_init_1447 rfl ?_
  refine ev_iconst (v := nI 3) dX6_init_1448 jc3 ?_
  refine ev_bipush (v := nI 101) dX6_init_1449 jb101 ?_
  refine ev_castoreV (y := nI 101) dX6_init_1451 (h.k (by decide) (by decide) (by decide)) (by rw [h.1]; decide) (h.ix (n := 3) (by decide) (by decide) (by decide)) (by decide) ?_
  refine fm_put dX6_init_1452 pX6_212_6 h rfl (by decide) (fun cr h => ?_)
  refine ev_aload_n dX6_init_1455 rfl ?_
  refine ev_bipush (v := nI 6) dX6_init_1456 jb6 ?_
  refine fm_new_char (c := 10) (sl := 5183) (n := 6) dX6_init_1458 (by decide) (by decide) (by decide) h (by decide) (by decide) (fun K h => ?_)
  refine ev_dup dX6_init_1460 rfl ?_
  refine ev_iconst (v := nI 0) dX6_init_1461 jc0 ?_
  refine ev_bipush (v := nI 99) dX6_init_1462 jb99 ?_
  refine ev_castoreV (y := nI 99) dX6_init_1464 (h.k (by decide) (by decide) (by decide)) (by rw [h.1]; decide) (h.ix (n := 0) (by decide) (by decide) (by decide)) (by decide) ?_
  refine ev_dup dX6_init_1465 rfl ?_
  refine ev_iconst (v := nI 1) dX6_init_1466 jc1 ?_
  refine ev_bipush (v := nI 97) dX6_init_1467 jb97 ?_
  refine ev_castoreV (y := nI 97) dX6_init_1469 (h.k (by decide) (by decide) (by decide)) (by rw [h.1]; decide) (h.ix (n := 1) (by decide) (by decide) (by decide)) (by decide) ?_
  refine ev_dup dX6_init_1470 rfl ?_
  refine ev_iconst (v := nI 2) dX6_init_1471 jc2 ?_
  refine ev_bipush (v := nI 117) dX6_init_1472 jb117 ?_
  refine ev_castoreV (y := nI 117) dX6_init_1474 (h.k (by decide) (by decide) (by decide)) (by rw [h.1]; decide) (h.ix (n := 2) (by decide) (by decide) (by decide)) (by decide) ?_
  refine ev_dup dX6_init_1475 rfl ?_
  refine ev_iconst (v := nI 3) dX6_init_1476 jc3 ?_
  refine ev_bipush (v := nI 103) dX6_init_1477 jb103 ?_
  refine ev_castoreV (y := nI 103) dX6_init_1479 (h.k (by decide) (by decide) (by decide)) (by rw [h.1]; decide) (h.ix (n := 3) (by decide) (by decide) (by decide)) (by decide) ?_
  refine ev_dup dX6_init_1480 rfl ?_
  refine ev_iconst (v := nI 4) dX6_init_1481 jc4 ?_
  refine ev_bipush (v := nI 104) dX6_init_1482 jb104 ?_
  refine ev_castoreV (y := nI 104) dX6_init_1484 (h.k (by decide) (by decide) (by decide)) (by rw [h.1]; decide) (h.ix (n := 4) (by decide) (by decide) (by decide)) (by decide) ?_
  refine ev_dup dX6_init_1485 rfl ?_
  refine ev_iconst (v := nI 5) dX6_init_1486 jc5 ?_
  refine ev_bipush (v := nI 116) dX6_init_1487 jb116 ?_
  refine ev_castoreV (y := nI 116) dX6_init_1489 (h.k (by decide) (by decide) (by decide)) (by rw [h.1]; decide) (h.ix (n := 5) (by decide) (by decide) (by decide)) (by decide) ?_
  refine fm_put dX6_init_1490 pX6_215_6 h rfl (by decide) (fun cr h => ?_)
  refine ev_aload_n dX6_init_1493 rfl ?_
  refine ev_iconst (v := nI 4) dX6_init_1494 jc4 ?_
  refine fm_new_char (c := 9) (sl := 5179) (n := 4) dX6_init_1495 (by decide) (by decide) (by decide) h (by decide) (by decide) (fun K h => ?_)
  refine ev_dup dX6_init_1497 rfl ?_
  refine ev_iconst (v := nI 0) dX6_init_1498 jc0 ?_
  refine ev_bipush (v := nI 116) dX6_init_1499 jb116 ?_
  refine ev_castoreV (y := nI 116) dX6_init_1501 (h.k (by decide) (by decide) (by decide)) (by rw [h.1]; decide) (h.ix (n := 0) (by decide) (by decide) (by decide)) (by decide) ?_
  refine ev_dup dX6_init_1502 rfl ?_
  refine ev_iconst (v := nI 1) dX6_init_1503 jc1 ?_
  refine ev_bipush (v := nI 114) dX6_init_1504 jb114 ?_
  refine ev_castoreV (y := nI 114) dX6_init_1506 (h.k (by decide) (by decide) (by decide)) (by rw [h.1]; decide) (h.ix (n := 1) (by decide) (by decide) (by decide)) (by decide) ?_
  refine ev_dup dX6_init_1507 rfl ?_
  refine ev_iconst (v := nI 2) dX6_init_1508 jc2 ?_
  refine ev_bipush (v := nI 117) dX6_init_1509 jb117 ?_
  refine ev_castoreV (y := nI 117) dX6_init_1511 (h.k (by decide) (by decide) (by decide)) (by rw [h.1]; decide) (h.ix (n := 2) (by decide) (by decide) (by decide)) (by decide) ?_
  refine ev_dup dX6_init_1512 rfl ?_
  refine ev_iconst (v := nI 3) dX6_init_1513 jc3 ?_
  refine ev_bipush (v := nI 101) dX6_init_1514 jb101 ?_
  refine ev_castoreV (y := nI 101) dX6_init_1516 (h.k (by decide) (by decide) (by decide)) (by rw [h.1]; decide) (h.ix (n := 3) (by decide) (by decide) (by decide)) (by decide) ?_
  refine fm_put dX6_init_1517 pX6_218_6 h rfl (by decide) (fun cr h => ?_)
  refine ev_aload_n dX6_init_1520 rfl ?_
  refine ev_iconst (v := nI 5) dX6_init_1521 jc5 ?_
  refine fm_new_char (c := 8) (sl := 5174) (n := 5) dX6_init_1522 (by decide) (by decide) (by decide) h (by decide) (by decide) (fun K h => ?_)
  refine ev_dup dX6_init_1524 rfl ?_
  refine ev_iconst (v := nI 0) dX6_init_1525 jc0 ?_
  refine ev_bipush (v := nI 115) dX6_init_1526 jb115 ?_
  refine ev_castoreV (y := nI 115) dX6_init_1528 (h.k (by decide) (by decide) (by decide)) (by rw [h.1]; decide) (h.ix (n := 0) (by decide) (by decide) (by decide)) (by decide) ?_
  refine ev_dup dX6_init_1529 rfl ?_
  refine ev_iconst (v := nI 1) dX6_init_1530 jc1 ?_
  refine ev_bipush (v := nI 105) dX6_init_1531 jb105 ?_
  refine ev_castoreV (y := nI 105) dX6_init_1533 (h.k (by decide) (by decide) (by decide)) (by rw [h.1]; decide) (h.ix (n := 1) (by decide) (by decide) (by decide)) (by decide) ?_
  refine ev_dup dX6_init_1534 rfl ?_
  refine ev_iconst (v := nI 2) dX6_init_1535 jc2 ?_
  refine ev_bipush (v := nI 110) dX6_init_1536 jb110 ?_
  refine ev_castoreV (y := nI 110) dX6_init_1538 (h.k (by decide) (by decide) (by decide)) (by rw [h.1]; decide) (h.ix (n := 2) (by decide) (by decide) (by decide)) (by decide) ?_
  refine ev_dup dX6_init_1539 rfl ?_
  refine ev_iconst (v := nI 3) dX6_init_1540 jc3 ?_
  refine ev_bipush (v := nI 99) dX6_init_1541 jb99 ?_
  refine ev_castoreV (y := nI 99) dX6_init_1543 (h.k (by decide) (by decide) (by decide)) (by rw [h.1]; decide) (h.ix (n := 3) (by decide) (by decide) (by decide)) (by decide) ?_
  refine ev_dup dX6_init_1544 rfl ?_
  refine ev_iconst (v := nI 4) dX6_init_1545 jc4 ?_
  refine ev_bipush (v := nI 101) dX6_init_1546 jb101 ?_
  refine ev_castoreV (y := nI 101) dX6_init_1548 (h.k (by decide) (by decide) (by decide)) (by rw [h.1]; decide) (h.ix (n := 4) (by decide) (by decide) (by decide)) (by decide) ?_
  refine fm_put dX6_init_1549 pX6_221_6 h rfl (by decide) (fun cr h => ?_)
  refine ev_aload_n dX6_init_1552 rfl ?_
  refine ev_bipush (v := nI 6) dX6_init_1553 jb6 ?_
  refine fm_new_char (c := 7) (sl := 5168) (n := 6) dX6_init_1555 (by decide) (by decide) (by decide) h (by decide) (by decide) (fun K h => ?_)
  refine ev_dup dX6_init_1557 rfl ?_
  refine ev_iconst (v := nI 0) dX6_init_1558 jc0 ?_
  refine ev_bipush (v := nI 110) dX6_init_1559 jb110 ?_
  refine ev_castoreV (y := nI 110) dX6_init_1561 (h.k (by decide) (by decide) (by decide)) (by rw [h.1]; decide) (h.ix (n := 0) (by decide) (by decide) (by decide)) (by decide) ?_
  refine ev_dup dX6_init_1562 rfl ?_
  refine ev_iconst (v := nI 1) dX6_init_1563 jc1 ?_
  refine ev_bipush (v := nI 117) dX6_init_1564 jb117 ?_
  refine ev_castoreV (y := nI 117) dX6_init_1566 (h.k (by decide) (by decide) (by decide)) (by rw [h.1]; decide) (h.ix (n := 1) (by decide) (by decide) (by decide)) (by decide) ?_
  refine ev_dup dX6_init_1567 rfl ?_
  refine ev_iconst (v := nI 2) dX6_init_1568 jc2 ?_
  refine ev_bipush (v := nI 109) dX6_init_1569 jb109 ?_
  refine ev_castoreV (y := nI 109) dX6_init_1571 (h.k (by decide) (by decide) (by decide)) (by rw [h.1]; decide) (h.ix (n := 2) (by decide) (by decide) (by decide)) (by decide) ?_
  refine ev_dup dX6_init_1572 rfl ?_
  refine ev_iconst (v := nI 3) dX6_init_1573 jc3 ?_
  refine ev_bipush (v := nI 98) dX6_init_1574 jb98 ?_
  refine ev_castoreV (y := nI 98) dX6_init_1576 (h.k (by decide) (by decide) (by decide)) (by rw [h.1]; decide) (h.ix (n := 3) (by decide) (by decide) (by decide)) (by decide) ?_
  refine ev_dup dX6_init_1577 rfl ?_
  refine ev_iconst (v := nI 4) dX6_init_1578 jc4 ?_
  refine ev_bipush (v := nI 101) dX6_init_1579 jb101 ?_
  refine ev_castoreV (y := nI 101) dX6_init_1581 (h.k (by decide) (by decide) (by decide)) (by rw [h.1]; decide) (h.ix (n := 4) (by decide) (by decide) (by decide)) (by decide) ?_
  refine ev_dup dX6_init_1582 rfl ?_
  refine ev_iconst (v := nI 5) dX6_init_1583 jc5 ?_
  refine ev_bipush (v := nI 114) dX6_init_1584 jb114 ?_
  refine ev_castoreV (y := nI 114) dX6_init_1586 (h.k (by decide) (by decide) (by decide)) (by rw [h.1]; decide) (h.ix (n := 5) (by decide) (by decide) (by decide)) (by decide) ?_
  refine fm_put dX6_init_1587 pX6_224_6 h rfl (by decide) (fun cr h => ?_)
  exact c6_9 h hq
theorem c6_7 {g : jG} {d : Nat} {K0 K : jK} {cr0 cr : jR} {ci : jI} {cj : jJ} {Qr : jQ} {Qx : jX} (h : FM K0 cr0 1601 [76, 75, 74, 73, 72, 71, 67, 66, 65, 63, 62, 61, 57, 56, 51, 50, 46, 45, 44, 43, 42, 41, 40, 39, 37, 36, 35, 34, 33, 32, 31, 30, 29, 28, 27, 26, 25, 24, 23, 22, 21, 20, 19, 18, 17, 16, 15, 14, 13, 12, 11, 9, 0] K cr) (hq : ∀ K cr, FM K0 cr0 1624 [106, 102, 98, 96, 95, 94, 93, 92, 91, 90, 89, 88, 87, 86, 85, 84, 83, 82, 81, 80, 79, 78, 77, 76, 75, 74, 73, 72, 71, 67, 66, 65, 63, 62, 61, 57, 56, 51, 50, 46, 45, 44, 43, 42, 41, 40, 39, 37, 36, 35, 34, 33, 32, 31, 30, 29, 28, 27, 26, 25, 24, 23, 22, 21, 20, 19, 18, 17, 16, 15, 14, 13, 12, 11, 9, 0] K cr → Qr none K (jwa [(1601, 0, nI 110), (1601, 1, nI 111), (1601, 2, nI 116), (1602, 0, nI 97), (1602, 1, nI 110), (1602, 2, nI 100), (1603, 0, nI 111), (1603, 1, nI 114), (1604, 0, nI 97), (1604, 1, nI 108), (1604, 2, nI 108), (1605, 0, nI 109), (1605, 1, nI 105), (1605, 2, nI 110), (1606, 0, nI 109), (1606, 1, nI 97), (1606, 2, nI 120), (1607, 0, nI 104), (1607, 1, nI 117), (1607, 2, nI 110), (1607, 3, nI 103), (1607, 4, nI 101), (1607, 5, nI 114), (1608, 0, nI 121), (1608, 1, nI 101), (1608, 2, nI 97), (1608, 3, nI 114), (1609, 0, nI 118), (1609, 1, nI 111), (1609, 2, nI 119), (1609, 3, nI 115), (1610, 0, nI 108), (1610, 1, nI 97), (1610, 2, nI 116), (1610, 3, nI 101), (1611, 0, nI 102), (1611, 1, nI 97), (1611, 2, nI 114), (1612, 0, nI 115), (1612, 1, nI 105), (1612, 2, nI 122), (1612, 3, nI 101), (1613, 0, nI 99), (1613, 1, nI 97), (1613, 2, nI 117), (1613, 3, nI 103), (1613, 4, nI 104), (1613, 5, nI 116), (1614, 0, nI 116), (1614, 1, nI 114), (1614, 2, nI 117), (1614, 3, nI 101), (1615, 0, nI 115), (1615, 1, nI 105), (1615, 2, nI 110), (1615, 3, nI 99), (1615, 4, nI 101), (1616, 0, nI 110), (1616, 1, nI 117), (1616, 2, nI 109), (1616, 3, nI 98), (1616, 4, nI 101), (1616, 5, nI 114), (1617, 0, nI 112), (1617, 1, nI 108), (1617, 2, nI 97), (1617, 3, nI 99), (1617, 4, nI 101), (1618, 0, nI 118), (1618, 1, nI 111), (1618, 2, nI 119), (1618, 3, nI 115), (1619, 0, nI 99), (1619, 1, nI 97), (1619, 2, nI 117), (1619, 3, nI 103), (1619, 4, nI 104), (1619, 5, nI 116)] ci) cj cr) : Ev g (d + 1) mX6_init 1160 [.ref 1547] [] K ci cj cr 23 5231 Qr Qx := by
  refine ev_aload_n dX6_init_1160 rfl ?_
  refine ev_iconst (v := nI 3) dX6_init_1161 jc3 ?_
  refine fm_new_char (c := 22) (sl := 5228) (n := 3) dX6_init_1162 (by decide) (by decide) (by decide) h (by decide) (by decide) (fun K h => ?_)
  refine ev_dup dX6_init_1164 rfl ?_
  refine ev_iconst (v := nI 0) dX6_init_1165 jc0 ?_
  refine ev_bipush (v := nI 110) dX6_init_1166 jb110 ?_
  refine ev_castoreV (y := nI 110) dX6_init_1168 (h.k (by decide) (by decide) (by decide)) (by rw [h.1]; decide) (h.ix (n := 0) (by decide) (by decide) (by decide)) (by decide) ?_
  refine ev_dup dX6_init_1169 rfl ?_
  refine ev_iconst (v := nI 1) dX6_init_1170 jc1 ?_
  refine ev_bipush (v := nI 111) dX6_init_1171 jb111 ?_
  refine ev_castoreV (y := nI 111) dX6_init_1173 (h.k (by decide) (by decide) (by decide)) (by rw [h.1]; decide) (h.ix (n := 1) (by decide) (by decide) (by decide)) (by decide) ?_
  refine ev_dup dX6_init_1174 rfl ?_
  refine ev_iconst (v := nI 2) dX6_init_1175 jc2 ?_
  refine ev_bipush (v := nI 116) dX6_init_1176 jb116 ?_
  refine ev_castoreV (y := nI 116) dX6_init_1178 (h.k (by decide) (by decide) (by decide)) (by rw [h.1]; decide) (h.ix (n := 2) (by decide) (by decide) (by decide)) (by decide) ?_
  refine fm_put dX6_init_1179 pX6_179_6 h rfl (by decide) (fun cr h => ?_)
  refine ev_aload_n dX6_init_1182 rfl ?_
  refine ev_iconst (v := nI 3) dX6_init_1183 jc3 ?_
  refine fm_new_char (c := 21) (sl := 5225) (n := 3) dX6_init_1184 (by decide) (by decide) (by decide) h (by decide) (by decide) (fun K h => ?_)
  refine ev_dup dX6_init_1186 rfl ?_
  refine ev_iconst (v := nI 0) dX6_init_1187 jc0 ?_
  refine ev_bipush (v := nI 97) dX6_init_1188 jb97 ?_
  refine ev_castoreV (y := nI 97) dX6_init_1190 (h.k (by decide) (by decide) (by decide)) (by rw [h.1]; decide) (h.ix (n := 0) (by decide) (by decide) (by decide)) (by decide) ?_
  refine ev_dup dX6_init_1191 rfl ?_
  refine ev_iconst (v := nI 1) dX6_init_1192 jc1 ?_
  refine ev_bipush (v := nI 110) dX6_init_1193 jb110 ?_
  refine ev_castoreV (y := nI 110) dX6_init_1195 (h.k (by decide) (by decide) (by decide)) (by rw [h.1]; decide) (h.ix (n := 1) (by decide) (by decide) (by decide)) (by decide) ?_
  refine ev_dup dX6_init_1196 rfl ?_
  refine ev_iconst (v := nI 2) dX6_init_1197 jc2 ?_
  refine ev_bipush (v := nI 100) dX6_init_1198 jb100 ?_
  refine ev_castoreV (y := nI 100) dX6_init_1200 (h.k (by decide) (by decide) (by decide)) (by rw [h.1]; decide) (h.ix (n := 2) (by decide) (by decide) (by decide)) (by decide) ?_
  refine fm_put dX6_init_1201 pX6_182_6 h rfl (by decide) (fun cr h => ?_)
  refine ev_aload_n dX6_init_1204 rfl ?_
  refine ev_iconst (v := nI 2) dX6_init_1205 jc2 ?_
  refine fm_new_char (c := 20) (sl := 5223) (n := 2) dX6_init_1206 (by decide) (by decide) (by decide) h (by decide) (by decide) (fun K h => ?_)
  refine ev_dup dX6_init_1208 rfl ?_
  refine ev_iconst (v := nI 0) dX6_init_1209 jc0 ?_
  refine ev_bipush (v := nI 111) dX6_init_1210 jb111 ?_
  refine ev_castoreV (y := nI 111) dX6_init_1212 (h.k (by decide) (by decide) (by decide)) (by rw [h.1]; decide) (h.ix (n := 0) (by decide) (by decide) (by decide)) (by decide) ?_
  refine ev_dup dX6_init_1213 rfl ?_
  refine ev_iconst (v := nI 1) dX6_init_1214 jc1 ?_
  refine ev_bipush (v := nI 114) dX6_init_1215 jb114 ?_
  refine ev_castoreV (y := nI 114) dX6_init_1217 (h.k (by decide) (by decide) (by decide)) (by rw [h.1]; decide) (h.ix (n := 1) (by decide) (by decide) (by decide)) (by decide) ?_
  refine fm_put dX6_init_1218 pX6_185_6 h rfl (by decide) (fun cr h => ?_)
  refine ev_aload_n dX6_init_1221 rfl ?_
  refine ev_iconst (v := nI 3) dX6_init_1222 jc3 ?_
  refine fm_new_char (c := 19) (sl := 5220) (n := 3) dX6_init_1223 (by decide) (by decide) (by decide) h (by decide) (by decide) (fun K h => ?_)
  refine ev_dup dX6_init_1225 rfl ?_
  refine ev_iconst (v := nI 0) dX6_init_1226 jc0 ?_
  refine ev_bipush (v := nI 97) dX6_init_1227 jb97 ?_
  refine ev_castoreV (y := nI 97) dX6_init_1229 (h.k (by decide) (by decide) (by decide)) (by rw [h.1]; decide) (h.ix (n := 0) (by decide) (by decide) (by decide)) (by decide) ?_
  refine ev_dup dX6_init_1230 rfl ?_
  refine ev_iconst (v := nI 1) dX6_init_1231 jc1 ?_
  refine ev_bipush (v := nI 108) dX6_init_1232 jb108 ?_
  refine ev_castoreV (y := nI 108) dX6_init_1234 (h.k (by decide) (by decide) (by decide)) (by rw [h.1]; decide) (h.ix (n := 1) (by decide) (by decide) (by decide)) (by decide) ?_
  refine ev_dup dX6_init_1235 rfl ?_
  refine ev_iconst (v := nI 2) dX6_init_1236 jc2 ?_
  refine ev_bipush (v := nI 108) dX6_init_1237 jb108 ?_
  refine ev_castoreV (y := nI 108) dX6_init_1239 (h.k (by decide) (by decide) (by decide)) (by rw [h.1]; decide) (h.ix (n := 2) (by decide) (by decide) (by decide)) (by decide) ?_
  refine fm_put dX6_init_1240 pX6_188_6 h rfl (by decide) (fun cr h => ?_)
  refine ev_aload_n dX6_init_1243 rfl ?_
  refine ev_iconst (v := nI 3) dX6_init_1244 jc3 ?_
  refine fm_new_char (c := 18) (sl := 5217) (n := 3) dX6_init_1245 (by decide) (by decide) (by decide) h (by decide) (by decide) (fun K h => ?_)
  refine ev_dup dX6_init_1247 rfl ?_
  refine ev_iconst (v := nI 0) dX6_init_1248 jc0 ?_
  refine ev_bipush (v := nI 109) dX6_init_1249 jb109 ?_
  refine ev_castoreV (y := nI 109) dX6_init_1251 (h.k (by decide) (by decide) (by decide)) (by rw [h.1]; decide) (h.ix (n := 0) (by decide) (by decide) (by decide)) (by decide) ?_
  refine ev_dup dX6_init_1252 rfl ?_
  refine ev_iconst (v := nI 1) dX6_init_1253 jc1 ?_
  refine ev_bipush (v := nI 105) dX6_init_1254 jb105 ?_
  refine ev_castoreV (y := nI 105) dX6_init_1256 (h.k (by decide) (by decide) (by decide)) (by rw [h.1]; decide) (h.ix (n := 1) (by decide) (by decide) (by decide)) (by decide) ?_
  refine ev_dup dX6_init_1257 rfl ?_
  refine ev_iconst (v := nI 2) dX6_init_1258 jc2 ?_
  refine ev_bipush (v := nI 110) dX6_init_1259 jb110 ?_
  refine ev_castoreV (y := nI 110) dX6_init_1261 (h.k (by decide) (by decide) (by decide)) (by rw [h.1]; decide) (h.ix (n := 2) (by decide) (by decide) (by decide)) (by decide) ?_
  refine fm_put dX6_init_1262 pX6_191_6 h rfl (by decide) (fun cr h => ?_)
  refine ev_aload_n dX6_init_1265 rfl ?_
  refine ev_iconst (v := nI 3) dX6_init_1266 jc3 ?_
  refine fm_new_char (c := 17) (sl := 5214) (n := 3) dX6_init_1267 (by decide) (by decide) (by decide) h (by decide) (by decide) (fun K h => ?_)
  refine ev_dup dX6_init_1269 rfl ?_
  refine ev_iconst (v := nI 0) dX6_init_1270 jc0 ?_
  refine ev_bipush (v := nI 109) dX6_init_1271 jb109 ?_
  refine ev_castoreV (y := nI 109) dX6_init_1273 (h.k (by decide) (by decide) (by decide)) (by rw [h.1]; decide) (h.ix (n := 0) (by decide) (by decide) (by decide)) (by decide) ?_
  refine ev_dup dX6_init_1274 rfl ?_
  refine ev_iconst (v := nI 1) dX6_init_1275 jc1 ?_
  refine ev_bipush (v := nI 97) dX6_init_1276 jb97 ?_
  refine ev_castoreV (y := nI 97) dX6_init_1278 (h.k (by decide) (by decide) (by decide)) (by rw [h.1]; decide) (h.ix (n := 1) (by decide) (by decide) (by decide)) (by decide) ?_
  refine ev_dup dX6_init_1279 rfl ?_
  refine ev_iconst (v := nI 2) dX6_init_1280 jc2 ?_
  refine ev_bipush (v := nI 120) dX6_init_1281 jb120 ?_
  refine ev_castoreV (y := nI 120) dX6_init_1283 (h.k (by decide) (by decide) (by decide)) (by rw [h.1]; decide) (h.ix (n := 2) (by decide) (by decide) (by decide)) (by decide) ?_
  refine fm_put dX6_init_1284 pX6_194_6 h rfl (by decide) (fun cr h => ?_)
  refine ev_aload_n dX6_init_1287 rfl ?_
  refine ev_bipush (v := nI 6) dX6_init_1288 jb6 ?_
  refine fm_new_char (c := 16) (sl := 5208) (n := 6) dX6_init_1290 (by decide) (by decide) (by decide) h (by decide) (by decide) (fun K h => ?_)
  refine ev_dup dX6_init_1292 rfl ?_
  refine ev_iconst (v := nI 0) dX6_init_1293 jc0 ?_
  refine ev_bipush (v := nI 104) dX6_init_1294 jb104 ?_
  refine ev_castoreV (y := nI 104) dX6_init_1296 (h.k (by decide) (by decide) (by decide)) (by rw [h.1]; decide) (h.ix (n := 0) (by decide) (by decide) (by decide)) (by decide) ?_
  refine ev_dup dX6_init_1297 rfl ?_
  refine ev_iconst (v := nI 1) dX6_init_1298 jc1 ?_
  refine ev_bipush (v := nI 117) dX6_init_1299 jb117 ?_
  refine ev_castoreV (y := nI 117) dX6_init_1301 (h.k (by decide) (by decide) (by decide)) (by rw [h.1]; decide) (h.ix (n := 1) (by decide) (by decide) (by decide)) (by decide) ?_
  refine ev_dup dX6_init_1302 rfl ?_
  refine ev_iconst (v := nI 2) dX6_init_1303 jc2 ?_
  refine ev_bipush (v := nI 110) dX6_init_1304 jb110 ?_
  refine ev_castoreV (y := nI 110) dX6_init_1306 (h.k (by decide) (by decide) (by decide)) (by rw [h.1]; decide) (h.ix (n := 2) (by decide) (by decide) (by decide)) (by decide) ?_
  refine ev_dup dX6_init_1307 rfl ?_
  refine ev_iconst (v := nI 3) dX6_init_1308 jc3 ?_
  refine ev_bipush (v := nI 103) dX6_init_1309 jb103 ?_
  refine ev_castoreV (y := nI 103) dX6_init_1311 (h.k (by decide) (by decide) (by decide)) (by rw [h.1]; decide) (h.ix (n := 3) (by decide) (by decide) (by decide)) (by decide) ?_
  refine ev_dup dX6_init_1312 rfl ?_
  refine ev_iconst (v := nI 4) dX6_init_1313 jc4 ?_
  refine ev_bipush (v := nI 101) dX6_init_1314 jb101 ?_
  refine ev_castoreV (y := nI 101) dX6_init_1316 (h.k (by decide) (by decide) (by decide)) (by rw [h.1]; decide) (h.ix (n := 4) (by decide) (by decide) (by decide)) (by decide) ?_
  refine ev_dup dX6_init_1317 rfl ?_
  refine ev_iconst (v := nI 5) dX6_init_1318 jc5 ?_
  refine ev_bipush (v := nI 114) dX6_init_1319 jb114 ?_
  refine ev_castoreV (y := nI 114) dX6_init_1321 (h.k (by decide) (by decide) (by decide)) (by rw [h.1]; decide) (h.ix (n := 5) (by decide) (by decide) (by decide)) (by decide) ?_
  refine fm_put dX6_init_1322 pX6_197_6 h rfl (by decide) (fun cr h => ?_)
  refine ev_aload_n dX6_init_1325 rfl ?_
  refine ev_iconst (v := nI 4) dX6_init_1326 jc4 ?_
  refine fm_new_char (c := 15) (sl := 5204) (n := 4) dX6_init_1327 (by decide) (by decide) (by decide) h (by decide) (by decide) (fun K h => ?_)
  refine ev_dup dX6_init_1329 rfl ?_
  refine ev_iconst (v := nI 0) dX6_init_1330 jc0 ?_
  refine ev_bipush (v := nI 121) dX6_init_1331 jb121 ?_
  refine ev_castoreV (y := nI 121) dX6_init_1333 (h.k (by decide) (by decide) (by decide)) (by rw [h.1]; decide) (h.ix (n := 0) (by decide) (by decide) (by decide)) (by decide) ?_
  refine ev_dup dX6_init_1334 rfl ?_
  refine ev_iconst (v := nI 1) dX6_init_1335 jc1 ?_
  refine ev_bipush (v := nI 101) dX6_init_1336 jb101 ?_
  refine ev_castoreV (y := nI 101) dX6_init_1338 (h.k (by decide) (by decide) (by decide)) (by rw [h.1]; decide) (h.ix (n := 1) (by decide) (by decide) (by decide)) (by decide) ?_
  refine ev_dup dX6_init_1339 rfl ?_
  refine ev_iconst (v := nI 2) dX6_init_1340 jc2 ?_
  refine ev_bipush (v := nI 97) dX6_init_1341 jb97 ?_
  refine ev_castoreV (y := nI 97) dX6_init_1343 (h.k (by decide) (by decide) (by decide)) (by rw [h.1]; decide) (h.ix (n := 2) (by decide) (by decide) (by decide)) (by decide) ?_
  refine ev_dup dX6_init_1344 rfl ?_
  refine ev_iconst (v := nI 3) dX6_init_1345 jc3 ?_
  refine ev_bipush (v := nI 114) dX6_init_1346 jb114 ?_
  refine ev_castoreV (y := nI 114) dX6_init_1348 (h.k (by decide) (by decide) (by decide)) (by rw [h.1]; decide) (h.ix (n := 3) (by decide) (by decide) (by decide)) (by decide) ?_
  refine fm_put dX6_init_1349 pX6_200_6 h rfl (by decide) (fun cr h => ?_)
  exact c6_8 h hq
theorem c6_6 {g : jG} {d : Nat} {K0 K : jK} {cr0 cr : jR} {ci : jI} {cj : jJ} {Qr : jQ} {Qx : jX} (h : FM K0 cr0 1594 [66, 65, 63, 62, 61, 57, 56, 51, 50, 46, 45, 44, 43, 42, 41, 40, 39, 37, 36, 35, 34, 33, 32, 31, 30, 29, 28, 27, 26, 25, 24, 23, 22, 21, 20, 19, 18, 17, 16, 15, 14, 13, 12, 11, 9, 0] K cr) (hq : ∀ K cr, FM K0 cr0 1624 [106, 102, 98, 96, 95, 94, 93, 92, 91, 90, 89, 88, 87, 86, 85, 84, 83, 82, 81, 80, 79, 78, 77, 76, 75, 74, 73, 72, 71, 67, 66, 65, 63, 62, 61, 57, 56, 51, 50, 46, 45, 44, 43, 42, 41, 40, 39, 37, 36, 35, 34, 33, 32, 31, 30, 29, 28, 27, 26, 25, 24, 23, 22, 21, 20, 19, 18, 17, 16, 15, 14, 13, 12, 11, 9, 0] K cr → Qr none K (jwa [(1595, 0, nI 102), (1595, 1, nI 105), (1595, 2, nI 114), (1595, 3, nI 115), (1595, 4, nI 116), (1596, 0, nI 108), (1596, 1, nI 97), (1596, 2, nI 115), (1596, 3, nI 116), (1597, 0, nI 111), (1597, 1, nI 102), (1597, 2, nI 116), (1597, 3, nI 101), (1597, 4, nI 110), (1598, 0, nI 116), (1598, 1, nI 111), (1598, 2, nI 116), (1598, 3, nI 97), (1598, 4, nI 108), (1599, 0, nI 109), (1599, 1, nI 111), (1599, 2, nI 115), (1599, 3, nI 116), (1600, 0, nI 108), (1600, 1, nI 101), (1600, 2, nI 97), (1600, 3, nI 115), (1600, 4, nI 116), (1601, 0, nI 110), (1601, 1, nI 111), (1601, 2, nI 116), (1602, 0, nI 97), (1602, 1, nI 110), (1602, 2, nI 100), (1603, 0, nI 111), (1603, 1, nI 114), (1604, 0, nI 97), (1604, 1, nI 108), (1604, 2, nI 108), (1605, 0, nI 109), (1605, 1, nI 105), (1605, 2, nI 110), (1606, 0, nI 109), (1606, 1, nI 97), (1606, 2, nI 120), (1607, 0, nI 104), (1607, 1, nI 117), (1607, 2, nI 110), (1607, 3, nI 103), (1607, 4, nI 101), (1607, 5, nI 114), (1608, 0, nI 121), (1608, 1, nI 101), (1608, 2, nI 97), (1608, 3, nI 114), (1609, 0, nI 118), (1609, 1, nI 111), (1609, 2, nI 119), (1609, 3, nI 115), (1610, 0, nI 108), (1610, 1, nI 97), (1610, 2, nI 116), (1610, 3, nI 101), (1611, 0, nI 102), (1611, 1, nI 97), (1611, 2, nI 114), (1612, 0, nI 115), (1612, 1, nI 105), (1612, 2, nI 122), (1612, 3, nI 101), (1613, 0, nI 99), (1613, 1, nI 97), (1613, 2, nI 117), (1613, 3, nI 103), (1613, 4, nI 104), (1613, 5, nI 116), (1614, 0, nI 116), (1614, 1, nI 114), (1614, 2, nI 117), (1614, 3, nI 101), (1615, 0, nI 115), (1615, 1, nI 105), (1615, 2, nI 110), (1615, 3, nI 99), (1615, 4, nI 101), (1616, 0, nI 110), (1616, 1, nI 117), (1616, 2, nI 109), (1616, 3, nI 98), (1616, 4, nI 101), (1616, 5, nI 114), (1617, 0, nI 112), (1617, 1, nI 108), (1617, 2, nI 97), (1617, 3, nI 99), (1617, 4, nI 101), (1618, 0, nI 118), (1618, 1, nI 111), (1618, 2, nI 119), (1618, 3, nI 115), (1619, 0, nI 99), (1619, 1, nI 97), (1619, 2, nI 117), (1619, 3, nI 103), (1619, 4, nI 104), (1619, 5, nI 116)] ci) (ju cj 1547 70 1) cr) : Ev g (d + 1) mX6_init 964 [.ref 1547] [] K ci cj cr 30 8579 Qr Qx := by
  refine ev_aload_n dX6_init_964 rfl ?_
  refine ev_sipush (v := nI 3320) dX6_init_965 js3320 ?_
  refine fm_new_int (c := 29) (sl := 5259) (n := 3320) dX6_init_968 (by decide) (by decide) (by decide) h (by decide) (by decide) (fun K h => ?_)
  refine fm_put dX6_init_970 pX6_154_6 h rfl (by decide) (fun cr h => ?_)
  refine ev_aload_n dX6_init_973 rfl ?_
  refine ev_lconst (v := 1) dX6_init_974 rfl ?_
  refine ev_putJ dX6_init_975 (pX6_157_6 _) (h.k0) (by rw [h.1]; exact h.2.2.2.2.2) rfl ?_
  refine ev_aload_n dX6_init_978 rfl ?_
  refine ev_iconst (v := nI 5) dX6_init_979 jc5 ?_
  refine fm_new_char (c := 28) (sl := 5254) (n := 5) dX6_init_980 (by decide) (by decide) (by decide) h (by decide) (by decide) (fun K h => ?_)
  refine ev_dup dX6_init_982 rfl ?_
  refine ev_iconst (v := nI 0) dX6_init_983 jc0 ?_
  refine ev_bipush (v := nI 102) dX6_init_984 jb102 ?_
  refine ev_castoreV (y := nI 102) dX6_init_986 (h.k (by decide) (by decide) (by decide)) (by rw [h.1]; decide) (h.ix (n := 0) (by decide) (by decide) (by decide)) (by decide) ?_
  refine ev_dup dX6_init_987 rfl ?_
  refine ev_iconst (v := nI 1) dX6_init_988 jc1 ?_
  refine ev_bipush (v := nI 105) dX6_init_989 jb105 ?_
  refine ev_castoreV (y := nI 105) dX6_init_991 (h.k (by decide) (by decide) (by decide)) (by rw [h.1]; decide) (h.ix (n := 1) (by decide) (by decide) (by decide)) (by decide) ?_
  refine ev_dup dX6_init_992 rfl ?_
  refine ev_iconst (v := nI 2) dX6_init_993 jc2 ?_
  refine ev_bipush (v := nI 114) dX6_init_994 jb114 ?_
  refine ev_castoreV (y := nI 114) dX6_init_996 (h.k (by decide) (by decide) (by decide)) (by rw [h.1]; decide) (h.ix (n := 2) (by decide) (by decide) (by decide)) (by decide) ?_
  refine ev_dup dX6_init_997 rfl ?_
  refine ev_iconst (v := nI 3) dX6_init_998 jc3 ?_
  refine ev_bipush (v := nI 115) dX6_init_999 jb115 ?_
  refine ev_castoreV (y := nI 115) dX6_init_1001 (h.k (by decide) (by decide) (by decide)) (by rw [h.1]; decide) (h.ix (n := 3) (by decide) (by decide) (by decide)) (by decide) ?_
  refine ev_dup dX6_init_1002 rfl ?_
  refine ev_iconst (v := nI 4) dX6_init_1003 jc4 ?_
  refine ev_bipush (v := nI 116) dX6_init_1004 jb116 ?_
  refine ev_castoreV (y := nI 116) dX6_init_1006 (h.k (by decide) (by decide) (by decide)) (by rw [h.1]; decide) (h.ix (n := 4) (by decide) (by decide) (by decide)) (by decide) ?_
  refine fm_put dX6_init_1007 pX6_161_6 h rfl (by decide) (fun cr h => ?_)
  refine ev_aload_n dX6_init_1010 rfl ?_
  refine ev_iconst (v := nI 4) dX6_init_1011 jc4 ?_
  refine fm_new_char (c := 27) (sl := 5250) (n := 4) dX6_init_1012 (by decide) (by decide) (by decide) h (by decide) (by decide) (fun K h => ?_)
  refine ev_dup dX6_init_1014 rfl ?_
  refine ev_iconst (v := nI 0) dX6_init_1015 jc0 ?_
  refine ev_bipush (v := nI 108) dX6_init_1016 jb108 ?_
  refine ev_castoreV (y := nI 108) dX6_init_1018 (h.k (by decide) (by decide) (by decide)) (by rw [h.1]; decide) (h.ix (n := 0) (by decide) (by decide) (by decide)) (by decide) ?_
  refine ev_dup dX6_init_1019 rfl ?_
  refine ev_iconst (v := nI 1) dX6_init_1020 jc1 ?_
  refine ev_bipush (v := nI 97) dX6_init_1021 jb97 ?_
  refine ev_castoreV (y := nI 97) dX6_init_1023 (h.k (by decide) (by decide) (by decide)) (by rw [h.1]; decide) (h.ix (n := 1) (by decide) (by decide) (by decide)) (by decide) ?_
  refine ev_dup dX6_init_1024 rfl ?_
  refine ev_iconst (v := nI 2) dX6_init_1025 jc2 ?_
  refine ev_bipush (v := nI 115) dX6_init_1026 jb115 ?_
  refine ev_castoreV (y := nI 115) dX6_init_1028 (h.k (by decide) (by decide) (by decide)) (by rw [h.1]; decide) (h.ix (n := 2) (by decide) (by decide) (by decide)) (by decide) ?_
  refine ev_dup dX6_init_1029 rfl ?_
  refine ev_iconst (v := nI 3) dX6_init_1030 jc3 ?_
  refine ev_bipush (v := nI 116) dX6_init_1031 jb116 ?_
  refine ev_castoreV (y := nI 116) dX6_init_1033 (h.k (by decide) (by decide) (by decide)) (by rw [h.1]; decide) (h.ix (n := 3) (by decide) (by decide) (by decide)) (by decide) ?_
  refine fm_put dX6_init_1034 pX6_164_6 h rfl (by decide) (fun cr h => ?_)
  refine ev_aload_n dX6_init_1037 rfl ?_
  refine ev_iconst (v := nI 5) dX6_init_1038 jc5 ?_
  refine fm_new_char (c := 26) (sl := 5245) (n := 5) dX6_init_1039 (by decide) (by decide) (by decide) h (by decide) (by decide) (fun K h => ?_)
  refine ev_dup dX6_init_1041 rfl ?_
  refine ev_iconst (v := nI 0) dX6_init_1042 jc0 ?_
  refine ev_bipush (v := nI 111) dX6_init_1043 jb111 ?_
  refine ev_castoreV (y := nI 111) dX6_init_1045 (h.k (by decide) (by decide) (by decide)) (by rw [h.1]; decide) (h.ix (n := 0) (by decide) (by decide) (by decide)) (by decide) ?_
  refine ev_dup dX6_init_1046 rfl ?_
  refine ev_iconst (v := nI 1) dX6_init_1047 jc1 ?_
  refine ev_bipush (v := nI 102) dX6_init_1048 jb102 ?_
  refine ev_castoreV (y := nI 102) dX6_init_1050 (h.k (by decide) (by decide) (by decide)) (by rw [h.1]; decide) (h.ix (n := 1) (by decide) (by decide) (by decide)) (by decide) ?_
  refine ev_dup dX6_init_1051 rfl ?_
  refine ev_iconst (v := nI 2) dX6_init_1052 jc2 ?_
  refine ev_bipush (v := nI 116) dX6_init_1053 jb116 ?_
  refine ev_castoreV (y := nI 116) dX6_init_1055 (h.k (by decide) (by decide) (by decide)) (by rw [h.1]; decide) (h.ix (n := 2) (by decide) (by decide) (by decide)) (by decide) ?_
  refine ev_dup dX6_init_1056 rfl ?_
  refine ev_iconst (v := nI 3) dX6_init_1057 jc3 ?_
  refine ev_bipush (v := nI 101) dX6_init_1058 jb101 ?_
  refine ev_castoreV (y := nI 101) dX6_init_1060 (h.k (by decide) (by decide) (by decide)) (by rw [h.1]; decide) (h.ix (n := 3) (by decide) (by decide) (by decide)) (by decide) ?_
  refine ev_dup dX6_init_1061 rfl ?_
  refine ev_iconst (v := nI 4) dX6_init_1062 jc4 ?_
  refine ev_bipush (v := nI 110) dX6_init_1063 jb110 ?_
  refine ev_castoreV (y := nI 110) dX6_init_1065 (h.k (by decide) (by decide) (by decide)) (by rw [h.1]; decide) (h.ix (n := 4) (by decide) (by decide) (by decide)) (by decide) ?_
  refine fm_put dX6_init_1066 pX6_167_6 h rfl (by decide) (fun cr h => ?_)
  refine ev_aload_n dX6_init_1069 rfl ?_
  refine ev_iconst (v := nI 5) dX6_init_1070 jc5 ?_
  refine fm_new_char (c := 25) (sl := 5240) (n := 5) dX6_init_1071 (by decide) (by decide) (by decide) h (by decide) (by decide) (fun K h => ?_)
  refine ev_dup dX6_init_1073 rfl ?_
  refine ev_iconst (v := nI 0) dX6_init_1074 jc0 ?_
  refine ev_bipush (v := nI 116) dX6_init_1075 jb116 ?_
  refine ev_castoreV (y := nI 116) dX6_init_1077 (h.k (by decide) (by decide) (by decide)) (by rw [h.1]; decide) (h.ix (n := 0) (by decide) (by decide) (by decide)) (by decide) ?_
  refine ev_dup dX6_init_1078 rfl ?_
  refine ev_iconst (v := nI 1) dX6_init_1079 jc1 ?_
  refine ev_bipush (v := nI 111) dX6_init_1080 jb111 ?_
  refine ev_castoreV (y := nI 111) dX6_init_1082 (h.k (by decide) (by decide) (by decide)) (by rw [h.1]; decide) (h.ix (n := 1) (by decide) (by decide) (by decide)) (by decide) ?_
  refine ev_dup dX6_init_1083 rfl ?_
  refine ev_iconst (v := nI 2) dX6_init_1084 jc2 ?_
  refine ev_bipush (v := nI 116) dX6_init_1085 jb116 ?_
  refine ev_castoreV (y := nI 116) dX6_init_1087 (h.k (by decide) (by decide) (by decide)) (by rw [h.1]; decide) (h.ix (n := 2) (by decide) (by decide) (by decide)) (by decide) ?_
  refine ev_dup dX6_init_1088 rfl ?_
  refine ev_iconst (v := nI 3) dX6_init_1089 jc3 ?_
  refine ev_bipush (v := nI 97) dX6_init_1090 jb97 ?_
  refine ev_castoreV (y := nI 97) dX6_init_1092 (h.k (by decide) (by decide) (by decide)) (by rw [h.1]; decide) (h.ix (n := 3) (by decide) (by decide) (by decide)) (by decide) ?_
  refine ev_dup dX6_init_1093 rfl ?_
  refine ev_iconst (v := nI 4) dX6_init_1094 jc4 ?_
  refine ev_bipush (v := nI 108) dX6_init_1095 jb108 ?_
  refine ev_castoreV (y := nI 108) dX6_init_1097 (h.k (by decide) (by decide) (by decide)) (by rw [h.1]; decide) (h.ix (n := 4) (by decide) (by decide) (by decide)) (by decide) ?_
  refine fm_put dX6_init_1098 pX6_170_6 h rfl (by decide) (fun cr h => ?_)
  refine ev_aload_n dX6_init_1101 rfl ?_
  refine ev_iconst (v := nI 4) dX6_init_1102 jc4 ?_
  refine fm_new_char (c := 24) (sl := 5236) (n := 4) dX6_init_1103 (by decide) (by decide) (by decide) h (by decide) (by decide) (fun K h => ?_)
  refine ev_dup dX6_init_1105 rfl ?_
  refine ev_iconst (v := nI 0) dX6_init_1106 jc0 ?_
  refine ev_bipush (v := nI 109) dX6_init_1107 jb109 ?_
  refine ev_castoreV (y := nI 109) dX6_init_1109 (h.k (by decide) (by decide) (by decide)) (by rw [h.1]; decide) (h.ix (n := 0) (by decide) (by decide) (by decide)) (by decide) ?_
  refine ev_dup dX6_init_1110 rfl ?_
  refine ev_iconst (v := nI 1) dX6_init_1111 jc1 ?_
  refine ev_bipush (v := nI 111) dX6_init_1112 jb111 ?_
  refine ev_castoreV (y := nI 111) dX6_init_1114 (h.k (by decide) (by decide) (by decide)) (by rw [h.1]; decide) (h.ix (n := 1) (by decide) (by decide) (by decide)) (by decide) ?_
  refine ev_dup dX6_init_1115 rfl ?_
  refine ev_iconst (v := nI 2) dX6_init_1116 jc2 ?_
  refine ev_bipush (v := nI 115) dX6_init_1117 jb115 ?_
  refine ev_castoreV (y := nI 115) dX6_init_1119 (h.k (by decide) (by decide) (by decide)) (by rw [h.1]; decide) (h.ix (n := 2) (by decide) (by decide) (by decide)) (by decide) ?_
  refine ev_dup dX6_init_1120 rfl ?_
  refine ev_iconst (v := nI 3) dX6_init_1121 jc3 ?_
  refine ev_bipush (v := nI 116) dX6_init_1122 jb116 ?_
  refine ev_castoreV (y := nI 116) dX6_init_1124 (h.k (by decide) (by decide) (by decide)) (by rw [h.1]; decide) (h.ix (n := 3) (by decide) (by decide) (by decide)) (by decide) ?_
  refine fm_put dX6_init_1125 pX6_173_6 h rfl (by decide) (fun cr h => ?_)
  refine ev_aload_n dX6_init_1128 rfl ?_
  refine ev_iconst (v := nI 5) dX6_init_1129 jc5 ?_
  refine fm_new_char (c := 23) (sl := 5231) (n := 5) dX6_init_1130 (by decide) (by decide) (by decide) h (by decide) (by decide) (fun K h => ?_)
  refine ev_dup dX6_init_1132 rfl ?_
  refine ev_iconst (v := nI 0) dX6_init_1133 jc0 ?_
  refine ev_bipush (v := nI 108) dX6_init_1134 jb108 ?_
  refine ev_castoreV (y := nI 108) dX6_init_1136 (h.k (by decide) (by decide) (by decide)) (by rw [h.1]; decide) (h.ix (n := 0) (by decide) (by decide) (by decide)) (by decide) ?_
  refine ev_dup dX6_init_1137 rfl ?_
  refine ev_iconst (v := nI 1) dX6_init_1138 jc1 ?_
  refine ev_bipush (v := nI 101) dX6_init_1139 jb101 ?_
  refine ev_castoreV (y := nI 101) dX6_init_1141 (h.k (by decide) (by decide) (by decide)) (by rw [h.1]; decide) (h.ix (n := 1) (by decide) (by decide) (by decide)) (by decide) ?_
  refine ev_dup dX6_init_1142 rfl ?_
  refine ev_iconst (v := nI 2) dX6_init_1143 jc2 ?_
  refine ev_bipush (v := nI 97) dX6_init_1144 jb97 ?_
  refine ev_castoreV (y := nI 97) dX6_init_1146 (h.k (by decide) (by decide) (by decide)) (by rw [h.1]; decide) (h.ix (n := 2) (by decide) (by decide) (by decide)) (by decide) ?_
  refine ev_dup dX6_init_1147 rfl ?_
  refine ev_iconst (v := nI 3) dX6_init_1148 jc3 ?_
  refine ev_bipush (v := nI 115) dX6_init_1149 jb115 ?_
  refine ev_castoreV (y := nI 115) dX6_init_1151 (h.k (by decide) (by decide) (by decide)) (by rw [h.1]; decide) (h.ix (n := 3) (by decide) (by decide) (by decide)) (by decide) ?_
  refine ev_dup dX6_init_1152 rfl ?_
  refine ev_iconst (v := nI 4) dX6_init_1153 jc4 ?_
  refine ev_bipush (v := nI 116) dX6_init_1154 jb116 ?_
  refine ev_castoreV (y := nI 116) dX6_init_1156 (h.k (by decide) (by decide) (by decide)) (by rw [h.1]; decide) (h.ix (n := 4) (by decide) (by decide) (by decide)) (by decide) ?_
  refine fm_put dX6_init_1157 pX6_176_6 h rfl (by decide) (fun cr h => ?_)
  exact c6_7 h hq
theorem c6_5 {g : jG} {d : Nat} {K0 K : jK} {cr0 cr : jR} {ci : jI} {cj : jJ} {Qr : jQ} {Qx : jX} (h : FM K0 cr0 1586 [50, 46, 45, 44, 43, 42, 41, 40, 39, 37, 36, 35, 34, 33, 32, 31, 30, 29, 28, 27, 26, 25, 24, 23, 22, 21, 20, 19, 18, 17, 16, 15, 14, 13, 12, 11, 9, 0] K cr) (hq : ∀ K cr, FM K0 cr0 1624 [106, 102, 98, 96, 95, 94, 93, 92, 91, 90, 89, 88, 87, 86, 85, 84, 83, 82, 81, 80, 79, 78, 77, 76, 75, 74, 73, 72, 71, 67, 66, 65, 63, 62, 61, 57, 56, 51, 50, 46, 45, 44, 43, 42, 41, 40, 39, 37, 36, 35, 34, 33, 32, 31, 30, 29, 28, 27, 26, 25, 24, 23, 22, 21, 20, 19, 18, 17, 16, 15, 14, 13, 12, 11, 9, 0] K cr → Qr none K (jwa [(1595, 0, nI 102), (1595, 1, nI 105), (1595, 2, nI 114), (1595, 3, nI 115), (1595, 4, nI 116), (1596, 0, nI 108), (1596, 1, nI 97), (1596, 2, nI 115), (1596, 3, nI 116), (1597, 0, nI 111), (1597, 1, nI 102), (1597, 2, nI 116), (1597, 3, nI 101), (1597, 4, nI 110), (1598, 0, nI 116), (1598, 1, nI 111), (1598, 2, nI 116), (1598, 3, nI 97), (1598, 4, nI 108), (1599, 0, nI 109), (1599, 1, nI 111), (1599, 2, nI 115), (1599, 3, nI 116), (1600, 0, nI 108), (1600, 1, nI 101), (1600, 2, nI 97), (1600, 3, nI 115), (1600, 4, nI 116), (1601, 0, nI 110), (1601, 1, nI 111), (1601, 2, nI 116), (1602, 0, nI 97), (1602, 1, nI 110), (1602, 2, nI 100), (1603, 0, nI 111), (1603, 1, nI 114), (1604, 0, nI 97), (1604, 1, nI 108), (1604, 2, nI 108), (1605, 0, nI 109), (1605, 1, nI 105), (1605, 2, nI 110), (1606, 0, nI 109), (1606, 1, nI 97), (1606, 2, nI 120), (1607, 0, nI 104), (1607, 1, nI 117), (1607, 2, nI 110), (1607, 3, nI 103), (1607, 4, nI 101), (1607, 5, nI 114), (1608, 0, nI 121), (1608, 1, nI 101), (1608, 2, nI 97), (1608, 3, nI 114), (1609, 0, nI 118), (1609, 1, nI 111), (1609, 2, nI 119), (1609, 3, nI 115), (1610, 0, nI 108), (1610, 1, nI 97), (1610, 2, nI 116), (1610, 3, nI 101), (1611, 0, nI 102), (1611, 1, nI 97), (1611, 2, nI 114), (1612, 0, nI 115), (1612, 1, nI 105), (1612, 2, nI 122), (1612, 3, nI 101), (1613, 0, nI 99), (1613, 1, nI 97), (1613, 2, nI 117), (1613, 3, nI 103), (1613, 4, nI 104), (1613, 5, nI 116), (1614, 0, nI 116), (1614, 1, nI 114), (1614, 2, nI 117), (1614, 3, nI 101), (1615, 0, nI 115), (1615, 1, nI 105), (1615, 2, nI 110), (1615, 3, nI 99), (1615, 4, nI 101), (1616, 0, nI 110), (1616, 1, nI 117), (1616, 2, nI 109), (1616, 3, nI 98), (1616, 4, nI 101), (1616, 5, nI 114), (1617, 0, nI 112), (1617, 1, nI 108), (1617, 2, nI 97), (1617, 3, nI 99), (1617, 4, nI 101), (1618, 0, nI 118), (1618, 1, nI 111), (1618, 2, nI 119), (1618, 3, nI 115), (1619, 0, nI 99), (1619, 1, nI 97), (1619, 2, nI 117), (1619, 3, nI 103), (1619, 4, nI 104), (1619, 5, nI 116)] ci) (ju cj 1547 70 1) cr) : Ev g (d + 1) mX6_init 899 [.ref 1547] [] K ci cj cr 38 9813 Qr Qx := by
  refine ev_aload_n dX6_init_899 rfl ?_
  refine ev_bipush (v := nI 45) dX6_init_900 jb45 ?_
  refine fm_new_int (c := 37) (sl := 9768) (n := 45) dX6_init_902 (by decide) (by decide) (by decide) h (by decide) (by decide) (fun K h => ?_)
  refine fm_put dX6_init_904 pX6_130_6 h rfl (by decide) (fun cr h => ?_)
  refine ev_aload_n dX6_init_907 rfl ?_
  refine ev_bipush (v := nI 6) dX6_init_908 jb6 ?_
  refine fm_new_int (c := 36) (sl := 9762) (n := 6) dX6_init_910 (by decide) (by decide) (by decide) h (by decide) (by decide) (fun K h => ?_)
  refine fm_put dX6_init_912 pX6_133_6 h rfl (by decide) (fun cr h => ?_)
  refine ev_aload_n dX6_init_915 rfl ?_
  refine ev_bipush (v := nI 6) dX6_init_916 jb6 ?_
  refine fm_new_int (c := 35) (sl := 9756) (n := 6) dX6_init_918 (by decide) (by decide) (by decide) h (by decide) (by decide) (fun K h => ?_)
  refine fm_put dX6_init_920 pX6_136_6 h rfl (by decide) (fun cr h => ?_)
  refine ev_aload_n dX6_init_923 rfl ?_
  refine ev_iconst (v := nI 3) dX6_init_924 jc3 ?_
  refine fm_new_int (c := 34) (sl := 9753) (n := 3) dX6_init_925 (by decide) (by decide) (by decide) h (by decide) (by decide) (fun K h => ?_)
  refine fm_put dX6_init_927 pX6_139_6 h rfl (by decide) (fun cr h => ?_)
  refine ev_aload_n dX6_init_930 rfl ?_
  refine ev_bipush (v := nI 16) dX6_init_931 jb16 ?_
  refine fm_new_int (c := 33) (sl := 9737) (n := 16) dX6_init_933 (by decide) (by decide) (by decide) h (by decide) (by decide) (fun K h => ?_)
  refine fm_put dX6_init_935 pX6_142_6 h rfl (by decide) (fun cr h => ?_)
  refine ev_aload_n dX6_init_938 rfl ?_
  refine ev_sipush (v := nI 180) dX6_init_939 js180 ?_
  refine fm_new_int (c := 32) (sl := 9557) (n := 180) dX6_init_942 (by decide) (by decide) (by decide) h (by decide) (by decide) (fun K h => ?_)
  refine fm_put dX6_init_944 pX6_145_6 h rfl (by decide) (fun cr h => ?_)
  refine ev_aload_n dX6_init_947 rfl ?_
  refine ev_bipush (v := nI 48) dX6_init_948 jb48 ?_
  refine fm_new_int (c := 31) (sl := 9509) (n := 48) dX6_init_950 (by decide) (by decide) (by decide) h (by decide) (by decide) (fun K h => ?_)
  refine fm_put dX6_init_952 pX6_148_6 h rfl (by decide) (fun cr h => ?_)
  refine ev_aload_n dX6_init_955 rfl ?_
  refine ev_sipush (v := nI 930) dX6_init_956 js930 ?_
  refine fm_new_int (c := 30) (sl := 8579) (n := 930) dX6_init_959 (by decide) (by decide) (by decide) h (by decide) (by decide) (fun K h => ?_)
  refine fm_put dX6_init_961 pX6_151_6 h rfl (by decide) (fun cr h => ?_)
  exact c6_6 h hq
theorem c6_4 {g : jG} {d : Nat} {K0 K : jK} {cr0 cr : jR} {ci : jI} {cj : jJ} {Qr : jQ} {Qx : jX} (h : FM K0 cr0 1578 [39, 37, 36, 35, 34, 33, 32, 31, 30, 29, 28, 27, 26, 25, 24, 23, 22, 21, 20, 19, 18, 17, 16, 15, 14, 13, 12, 11, 9, 0] K cr) (hq : ∀ K cr, FM K0 cr0 1624 [106, 102, 98, 96, 95, 94, 93, 92, 91, 90, 89, 88, 87, 86, 85, 84, 83, 82, 81, 80, 79, 78, 77, 76, 75, 74, 73, 72, 71, 67, 66, 65, 63, 62, 61, 57, 56, 51, 50, 46, 45, 44, 43, 42, 41, 40, 39, 37, 36, 35, 34, 33, 32, 31, 30, 29, 28, 27, 26, 25, 24, 23, 22, 21, 20, 19, 18, 17, 16, 15, 14, 13, 12, 11, 9, 0] K cr → Qr none K (jwa [(1582, 0, (-1)), (1582, 1, (-1)), (1582, 2, (-1)), (1582, 3, (-1)), (1582, 4, (-1)), (1582, 5, (-1)), (1582, 6, (-1)), (1582, 7, (-1)), (1595, 0, nI 102), (1595, 1, nI 105), (1595, 2, nI 114), (1595, 3, nI 115), (1595, 4, nI 116), (1596, 0, nI 108), (1596, 1, nI 97), (1596, 2, nI 115), (1596, 3, nI 116), (1597, 0, nI 111), (1597, 1, nI 102), (1597, 2, nI 116), (1597, 3, nI 101), (1597, 4, nI 110), (1598, 0, nI 116), (1598, 1, nI 111), (1598, 2, nI 116), (1598, 3, nI 97), (1598, 4, nI 108), (1599, 0, nI 109), (1599, 1, nI 111), (1599, 2, nI 115), (1599, 3, nI 116), (1600, 0, nI 108), (1600, 1, nI 101), (1600, 2, nI 97), (1600, 3, nI 115), (1600, 4, nI 116), (1601, 0, nI 110), (1601, 1, nI 111), (1601, 2, nI 116), (1602, 0, nI 97), (1602, 1, nI 110), (1602, 2, nI 100), (1603, 0, nI 111), (1603, 1, nI 114), (1604, 0, nI 97), (1604, 1, nI 108), (1604, 2, nI 108), (1605, 0, nI 109), (1605, 1, nI 105), (1605, 2, nI 110), (1606, 0, nI 109), (1606, 1, nI 97), (1606, 2, nI 120), (1607, 0, nI 104), (1607, 1, nI 117), (1607, 2, nI 110), (1607, 3, nI 103), (1607, 4, nI 101), (1607, 5, nI 114), (1608, 0, nI 121), (1608, 1, nI 101), (1608, 2, nI 97), (1608, 3, nI 114), (1609, 0, nI 118), (1609, 1, nI 111), (1609, 2, nI 119), (1609, 3, nI 115), (1610, 0, nI 108), (1610, 1, nI 97), (1610, 2, nI 116), (1610, 3, nI 101), (1611, 0, nI 102), (1611, 1, nI 97), (1611, 2, nI 114), (1612, 0, nI 115), (1612, 1, nI 105), (1612, 2, nI 122), (1612, 3, nI 101), (1613, 0, nI 99), (1613, 1, nI 97), (1613, 2, nI 117), (1613, 3, nI 103), (1613, 4, nI 104), (1613, 5, nI 116), (1614, 0, nI 116), (1614, 1, nI 114), (1614, 2, nI 117), (1614, 3, nI 101), (1615, 0, nI 115), (1615, 1, nI 105), (1615, 2, nI 110), (1615, 3, nI 99), (1615, 4, nI 101), (1616, 0, nI 110), (1616, 1, nI 117), (1616, 2, nI 109), (1616, 3, nI 98), (1616, 4, nI 101), (1616, 5, nI 114), (1617, 0, nI 112), (1617, 1, nI 108), (1617, 2, nI 97), (1617, 3, nI 99), (1617, 4, nI 101), (1618, 0, nI 118), (1618, 1, nI 111), (1618, 2, nI 119), (1618, 3, nI 115), (1619, 0, nI 99), (1619, 1, nI 97), (1619, 2, nI 117), (1619, 3, nI 103), (1619, 4, nI 104), (1619, 5, nI 116)] ci) (ju cj 1547 70 1) cr) : Ev g (d + 1) mX6_init 799 [.ref 1547] [] K ci cj cr 46 13331 Qr Qx := by
  refine ev_aload_n dX6_init_799 rfl ?_
  refine ev_bipush (v := nI 60) dX6_init_800 jb60 ?_
  refine fm_new_long (c := 45) (sl := 13271) (n := 60) dX6_init_802 (by decide) (by decide) (by decide) h (by decide) (by decide) (fun K h => ?_)
  refine fm_put dX6_init_804 pX6_105_6 h rfl (by decide) (fun cr h => ?_)
  refine ev_aload_n dX6_init_807 rfl ?_
  refine ev_bipush (v := nI 24) dX6_init_808 jb24 ?_
  refine fm_new_int (c := 44) (sl := 13247) (n := 24) dX6_init_810 (by decide) (by decide) (by decide) h (by decide) (by decide) (fun K h => ?_)
  refine fm_put dX6_init_812 pX6_109_6 h rfl (by decide) (fun cr h => ?_)
  refine ev_aload_n dX6_init_815 rfl ?_
  refine ev_bipush (v := nI 40) dX6_init_816 jb40 ?_
  refine fm_new_int (c := 43) (sl := 13207) (n := 40) dX6_init_818 (by decide) (by decide) (by decide) h (by decide) (by decide) (fun K h => ?_)
  refine fm_put dX6_init_820 pX6_112_6 h rfl (by decide) (fun cr h => ?_)
  refine ev_aload_n dX6_init_823 rfl ?_
  refine ev_bipush (v := nI 12) dX6_init_824 jb12 ?_
  refine fm_new_int (c := 42) (sl := 13195) (n := 12) dX6_init_826 (by decide) (by decide) (by decide) h (by decide) (by decide) (fun K h => ?_)
  refine fm_put dX6_init_828 pX6_115_6 h rfl (by decide) (fun cr h => ?_)
  refine ev_aload_n dX6_init_831 rfl ?_
  refine ev_bipush (v := nI 8) dX6_init_832 jb8 ?_
  refine fm_new_int (c := 41) (sl := 13187) (n := 8) dX6_init_834 (by decide) (by decide) (by decide) h (by decide) (by decide) (fun K h => ?_)
  refine ev_dup dX6_init_836 rfl ?_
  refine ev_iconst (v := nI 0) dX6_init_837 jc0 ?_
  refine ev_iconst (v := (-1)) dX6_init_838 jcm1 ?_
  refine ev_iastore dX6_init_839 (h.k (by decide) (by decide) (by decide)) (by rw [h.1]; decide) (h.ix (n := 0) (by decide) (by decide) (by decide)) ?_
  refine ev_dup dX6_init_840 rfl ?_
  refine ev_iconst (v := nI 1) dX6_init_841 jc1 ?_
  refine ev_iconst (v := (-1)) dX6_init_842 jcm1 ?_
  refine ev_iastore dX6_init_843 (h.k (by decide) (by decide) (by decide)) (by rw [h.1]; decide) (h.ix (n := 1) (by decide) (by decide) (by decide)) ?_
  refine ev_dup dX6_init_844 rfl ?_
  refine ev_iconst (v := nI 2) dX6_init_845 jc2 ?_
  refine ev_iconst (v := (-1)) dX6_init_846 jcm1 ?_
  refine ev_iastore dX6_init_847 (h.k (by decide) (by decide) (by decide)) (by rw [h.1]; decide) (h.ix (n := 2) (by decide) (by decide) (by decide)) ?_
  refine ev_dup dX6_init_848 rfl ?_
  refine ev_iconst (v := nI 3) dX6_init_849 jc3 ?_
  refine ev_iconst (v := (-1)) dX6_init_850 jcm1 ?_
  refine ev_iastore dX6_init_851 (h.k (by decide) (by decide) (by decide)) (by rw [h.1]; decide) (h.ix (n := 3) (by decide) (by decide) (by decide)) ?_
  refine ev_dup dX6_init_852 rfl ?_
  refine ev_iconst (v := nI 4) dX6_init_853 jc4 ?_
  refine ev_iconst (v := (-1)) dX6_init_854 jcm1 ?_
  refine ev_iastore dX6_init_855 (h.k (by decide) (by decide) (by decide)) (by rw [h.1]; decide) (h.ix (n := 4) (by decide) (by decide) (by decide)) ?_
  refine ev_dup dX6_init_856 rfl ?_
  refine ev_iconst (v := nI 5) dX6_init_857 jc5 ?_
  refine ev_iconst (v := (-1)) dX6_init_858 jcm1 ?_
  refine ev_iastore dX6_init_859 (h.k (by decide) (by decide) (by decide)) (by rw [h.1]; decide) (h.ix (n := 5) (by decide) (by decide) (by decide)) ?_
  refine ev_dup dX6_init_860 rfl ?_
  refine ev_bipush (v := nI 6) dX6_init_861 jb6 ?_
  refine ev_iconst (v := (-1)) dX6_init_863 jcm1 ?_
  refine ev_iastore dX6_init_864 (h.k (by decide) (by decide) (by decide)) (by rw [h.1]; decide) (h.ix (n := 6) (by decide) (by decide) (by decide)) ?_
  refine ev_dup dX6_init_865 rfl ?_
  refine ev_bipush (v := nI 7) dX6_init_866 jb7 ?_
  refine ev_iconst (v := (-1)) dX6_init_868 jcm1 ?_
  refine ev_iastore dX6_init_869 (h.k (by decide) (by decide) (by decide)) (by rw [h.1]; decide) (h.ix (n := 7) (by decide) (by decide) (by decide)) ?_
  refine fm_put dX6_init_870 pX6_118_6 h rfl (by decide) (fun cr h => ?_)
  refine ev_aload_n dX6_init_873 rfl ?_
  refine ev_bipush (v := nI 8) dX6_init_874 jb8 ?_
  refine fm_new_int (c := 40) (sl := 13179) (n := 8) dX6_init_876 (by decide) (by decide) (by decide) h (by decide) (by decide) (fun K h => ?_)
  refine fm_put dX6_init_878 pX6_121_6 h rfl (by decide) (fun cr h => ?_)
  refine ev_aload_n dX6_init_881 rfl ?_
  refine ev_sipush (v := nI 3200) dX6_init_882 js3200 ?_
  refine fm_new_int (c := 39) (sl := 9979) (n := 3200) dX6_init_885 (by decide) (by decide) (by decide) h (by decide) (by decide) (fun K h => ?_)
  refine fm_put dX6_init_887 pX6_124_6 h rfl (by decide) (fun cr h => ?_)
  refine ev_aload_n dX6_init_890 rfl ?_
  refine ev_sipush (v := nI 166) dX6_init_891 js166 ?_
  refine fm_new_int (c := 38) (sl := 9813) (n := 166) dX6_init_894 (by decide) (by decide) (by decide) h (by decide) (by decide) (fun K h => ?_)
  refine fm_put dX6_init_896 pX6_127_6 h rfl (by decide) (fun cr h => ?_)
  exact c6_5 h hq
theorem c6_3 {g : jG} {d : Nat} {K0 K : jK} {cr0 cr : jR} {ci : jI} {cj : jJ} {Qr : jQ} {Qx : jX} (h : FM K0 cr0 1570 [30, 29, 28, 27, 26, 25, 24, 23, 22, 21, 20, 19, 18, 17, 16, 15, 14, 13, 12, 11, 9, 0] K cr) (hq : ∀ K cr, FM K0 cr0 1624 [106, 102, 98, 96, 95, 94, 93, 92, 91, 90, 89, 88, 87, 86, 85, 84, 83, 82, 81, 80, 79, 78, 77, 76, 75, 74, 73, 72, 71, 67, 66, 65, 63, 62, 61, 57, 56, 51, 50, 46, 45, 44, 43, 42, 41, 40, 39, 37, 36, 35, 34, 33, 32, 31, 30, 29, 28, 27, 26, 25, 24, 23, 22, 21, 20, 19, 18, 17, 16, 15, 14, 13, 12, 11, 9, 0] K cr → Qr none K (jwa [(1570, 0, nI 112), (1570, 1, nI 108), (1570, 2, nI 97), (1570, 3, nI 99), (1570, 4, nI 101), (1571, 0, nI 111), (1571, 1, nI 114), (1572, 0, nI 97), (1572, 1, nI 110), (1572, 2, nI 100), (1573, 0, nI 110), (1573, 1, nI 111), (1573, 2, nI 116), (1574, 0, nI 97), (1574, 1, nI 108), (1574, 2, nI 108), (1575, 0, nI 109), (1575, 1, nI 105), (1575, 2, nI 110), (1576, 0, nI 109), (1576, 1, nI 97), (1576, 2, nI 120), (1582, 0, (-1)), (1582, 1, (-1)), (1582, 2, (-1)), (1582, 3, (-1)), (1582, 4, (-1)), (1582, 5, (-1)), (1582, 6, (-1)), (1582, 7, (-1)), (1595, 0, nI 102), (1595, 1, nI 105), (1595, 2, nI 114), (1595, 3, nI 115), (1595, 4, nI 116), (1596, 0, nI 108), (1596, 1, nI 97), (1596, 2, nI 115), (1596, 3, nI 116), (1597, 0, nI 111), (1597, 1, nI 102), (1597, 2, nI 116), (1597, 3, nI 101), (1597, 4, nI 110), (1598, 0, nI 116), (1598, 1, nI 111), (1598, 2, nI 116), (1598, 3, nI 97), (1598, 4, nI 108), (1599, 0, nI 109), (1599, 1, nI 111), (1599, 2, nI 115), (1599, 3, nI 116), (1600, 0, nI 108), (1600, 1, nI 101), (1600, 2, nI 97), (1600, 3, nI 115), (1600, 4, nI 116), (1601, 0, nI 110), (1601, 1, nI 111), (1601, 2, nI 116), (1602, 0, nI 97), (1602, 1, nI 110), (1602, 2, nI 100), (1603, 0, nI 111), (1603, 1, nI 114), (1604, 0, nI 97), (1604, 1, nI 108), (1604, 2, nI 108), (1605, 0, nI 109), (1605, 1, nI 105), (1605, 2, nI 110), (1606, 0, nI 109), (1606, 1, nI 97), (1606, 2, nI 120), (1607, 0, nI 104), (1607, 1, nI 117), (1607, 2, nI 110), (1607, 3, nI 103), (1607, 4, nI 101), (1607, 5, nI 114), (1608, 0, nI 121), (1608, 1, nI 101), (1608, 2, nI 97), (1608, 3, nI 114), (1609, 0, nI 118), (1609, 1, nI 111), (1609, 2, nI 119), (1609, 3, nI 115), (1610, 0, nI 108), (1610, 1, nI 97), (1610, 2, nI 116), (1610, 3, nI 101), (1611, 0, nI 102), (1611, 1, nI 97), (1611, 2, nI 114), (1612, 0, nI 115), (1612, 1, nI 105), (1612, 2, nI 122), (1612, 3, nI 101), (1613, 0, nI 99), (1613, 1, nI 97), (1613, 2, nI 117), (1613, 3, nI 103), (1613, 4, nI 104), (1613, 5, nI 116), (1614, 0, nI 116), (1614, 1, nI 114), (1614, 2, nI 117), (1614, 3, nI 101), (1615, 0, nI 115), (1615, 1, nI 105), (1615, 2, nI 110), (1615, 3, nI 99), (1615, 4, nI 101), (1616, 0, nI 110), (1616, 1, nI 117), (1616, 2, nI 109), (1616, 3, nI 98), (1616, 4, nI 101), (1616, 5, nI 114), (1617, 0, nI 112), (1617, 1, nI 108), (1617, 2, nI 97), (1617, 3, nI 99), (1617, 4, nI 101), (1618, 0, nI 118), (1618, 1, nI 111), (1618, 2, nI 119), (1618, 3, nI 115), (1619, 0, nI 99), (1619, 1, nI 97), (1619, 2, nI 117), (1619, 3, nI 103), (1619, 4, nI 104), (1619, 5, nI 116)] ci) (ju cj 1547 70 1) cr) : Ev g (d + 1) mX6_init 632 [.ref 1547] [] K ci cj cr 54 13361 Qr Qx := by
  refine ev_aload_n dX6_init_632 rfl ?_
  refine ev_iconst (v := nI 5) dX6_init_633 jc5 ?_
  refine fm_new_char (c := 53) (sl := 13356) (n := 5) dX6_init_634 (by decide) (by decide) (by decide) h (by decide) (by decide) (fun K h => ?_)
  refine ev_dup dX6_init_636 rfl ?_
  refine ev_iconst (v := nI 0) dX6_init_637 jc0 ?_
  refine ev_bipush (v := nI 112) dX6_init_638 jb112 ?_
  refine ev_castoreV (y := nI 112) dX6_init_640 (h.k (by decide) (by decide) (by decide)) (by rw [h.1]; decide) (h.ix (n := 0) (by decide) (by decide) (by decide)) (by decide) ?_
  refine ev_dup dX6_init_641 rfl ?_
  refine ev_iconst (v := nI 1) dX6_init_642 jc1 ?_
  refine ev_bipush (v := nI 108) dX6_init_643 jb108 ?_
  refine ev_castoreV (y := nI 108) dX6_init_645 (h.k (by decide) (by decide) (by decide)) (by rw [h.1]; decide) (h.ix (n := 1) (by decide) (by decide) (by decide)) (by decide) ?_
  refine ev_dup dX6_init_646 rfl ?_
  refine ev_iconst (v := nI 2) dX6_init_647 jc2 ?_
  refine ev_bipush (v := nI 97) dX6_init_648 jb97 ?_
  refine ev_castoreV (y := nI 97) dX6_init_650 (h.k (by decide) (by decide) (by decide)) (by rw [h.1]; decide) (h.ix (n := 2) (by decide) (by decide) (by decide)) (by decide) ?_
  refine ev_dup dX6_init_651 rfl ?_
  refine ev_iconst (v := nI 3) dX6_init_652 jc3 ?_
  refine ev_bipush (v := nI 99) dX6_init_653 jb99 ?_
  refine ev_castoreV (y := nI 99) dX6_init_655 (h.k (by decide) (by decide) (by decide)) (by rw [h.1]; decide) (h.ix (n := 3) (by decide) (by decide) (by decide)) (by decide) ?_
  refine ev_dup dX6_init_656 rfl ?_
  refine ev_iconst (v := nI 4) dX6_init_657 jc4 ?_
  refine ev_bipush (v := nI 101) dX6_init_658 jb101 ?_
  refine ev_castoreV (y := nI 101) dX6_init_660 (h.k (by decide) (by decide) (by decide)) (by rw [h.1]; decide) (h.ix (n := 4) (by decide) (by decide) (by decide)) (by decide) ?_
  refine fm_put dX6_init_661 pX6_81_6 h rfl (by decide) (fun cr h => ?_)
  refine ev_aload_n dX6_init_664 rfl ?_
  refine ev_iconst (v := nI 2) dX6_init_665 jc2 ?_
  refine fm_new_char (c := 52) (sl := 13354) (n := 2) dX6_init_666 (by decide) (by decide) (by decide) h (by decide) (by decide) (fun K h => ?_)
  refine ev_dup dX6_init_668 rfl ?_
  refine ev_iconst (v := nI 0) dX6_init_669 jc0 ?_
  refine ev_bipush (v := nI 111) dX6_init_670 jb111 ?_
  refine ev_castoreV (y := nI 111) dX6_init_672 (h.k (by decide) (by decide) (by decide)) (by rw [h.1]; decide) (h.ix (n := 0) (by decide) (by decide) (by decide)) (by decide) ?_
  refine ev_dup dX6_init_673 rfl ?_
  refine ev_iconst (v := nI 1) dX6_init_674 jc1 ?_
  refine ev_bipush (v := nI 114) dX6_init_675 jb114 ?_
  refine ev_castoreV (y := nI 114) dX6_init_677 (h.k (by decide) (by decide) (by decide)) (by rw [h.1]; decide) (h.ix (n := 1) (by decide) (by decide) (by decide)) (by decide) ?_
  refine fm_put dX6_init_678 pX6_84_6 h rfl (by decide) (fun cr h => ?_)
  refine ev_aload_n dX6_init_681 rfl ?_
  refine ev_iconst (v := nI 3) dX6_init_682 jc3 ?_
  refine fm_new_char (c := 51) (sl := 13351) (n := 3) dX6_init_683 (by decide) (by decide) (by decide) h (by decide) (by decide) (fun K h => ?_)
  refine ev_dup dX6_init_685 rfl ?_
  refine ev_iconst (v := nI 0) dX6_init_686 jc0 ?_
  refine ev_bipush (v := nI 97) dX6_init_687 jb97 ?_
  refine ev_castoreV (y := nI 97) dX6_init_689 (h.k (by decide) (by decide) (by decide)) (by rw [h.1]; decide) (h.ix (n := 0) (by decide) (by decide) (by decide)) (by decide) ?_
  refine ev_dup dX6_init_690 rfl ?_
  refine ev_iconst (v := nI 1) dX6_init_691 jc1 ?_
  refine ev_bipush (v := nI 110) dX6_init_692 jb110 ?_
  refine ev_castoreV (y := nI 110) dX6_init_694 (h.k (by decide) (by decide) (by decide)) (by rw [h.1]; decide) (h.ix (n := 1) (by decide) (by decide) (by decide)) (by decide) ?_
  refine ev_dup dX6_init_695 rfl ?_
  refine ev_iconst (v := nI 2) dX6_init_696 jc2 ?_
  refine ev_bipush (v := nI 100) dX6_init_697 jb100 ?_
  refine ev_castoreV (y := nI 100) dX6_init_699 (h.k (by decide) (by decide) (by decide)) (by rw [h.1]; decide) (h.ix (n := 2) (by decide) (by decide) (by decide)) (by decide) ?_
  refine fm_put dX6_init_700 pX6_87_6 h rfl (by decide) (fun cr h => ?_)
  refine ev_aload_n dX6_init_703 rfl ?_
  refine ev_iconst (v := nI 3) dX6_init_704 jc3 ?_
  refine fm_new_char (c := 50) (sl := 13348) (n := 3) dX6_init_705 (by decide) (by decide) (by decide) h (by decide) (by decide) (fun K h => ?_)
  refine ev_dup dX6_init_707 rfl ?_
  refine ev_iconst (v := nI 0) dX6_init_708 jc0 ?_
  refine ev_bipush (v := nI 110) dX6_init_709 jb110 ?_
  refine ev_castoreV (y := nI 110) dX6_init_711 (h.k (by decide) (by decide) (by decide)) (by rw [h.1]; decide) (h.ix (n := 0) (by decide) (by decide) (by decide)) (by decide) ?_
  refine ev_dup dX6_init_712 rfl ?_
  refine ev_iconst (v := nI 1) dX6_init_713 jc1 ?_
  refine ev_bipush (v := nI 111) dX6_init_714 jb111 ?_
  refine ev_castoreV (y := nI 111) dX6_init_716 (h.k (by decide) (by decide) (by decide)) (by rw [h.1]; decide) (h.ix (n := 1) (by decide) (by decide) (by decide)) (by decide) ?_
  refine ev_dup dX6_init_717 rfl ?_
  refine ev_iconst (v := nI 2) dX6_init_718 jc2 ?_
  refine ev_bipush (v := nI 116) dX6_init_719 jb116 ?_
  refine ev_castoreV (y := nI 116) dX6_init_721 (h.k (by decide) (by decide) (by decide)) (by rw [h.1]; decide) (h.ix (n := 2) (by decide) (by decide) (by decide)) (by decide) ?_
  refine fm_put dX6_init_722 pX6_90_6 h rfl (by decide) (fun cr h => ?_)
  refine ev_aload_n dX6_init_725 rfl ?_
  refine ev_iconst (v := nI 3) dX6_init_726 jc3 ?_
  refine fm_new_char (c := 49) (sl := 13345) (n := 3) dX6_init_727 (by decide) (by decide) (by decide) h (by decide) (by decide) (fun K h => ?_)
  refine ev_dup dX6_init_729 rfl ?_
  refine ev_iconst (v := nI 0) dX6_init_730 jc0 ?_
  refine ev_bipush (v := nI 97) dX6_init_731 jb97 ?_
  refine ev_castoreV (y := nI 97) dX6_init_733 (h.k (by decide) (by decide) (by decide)) (by rw [h.1]; decide) (h.ix (n := 0) (by decide) (by decide) (by decide)) (by decide) ?_
  refine ev_dup dX6_init_734 rfl ?_
  refine ev_iconst (v := nI 1) dX6_init_735 jc1 ?_
  refine ev_bipush (v := nI 108) dX6_init_736 jb108 ?_
  refine ev_castoreV (y := nI 108) dX6_init_738 (h.k (by decide) (by decide) (by decide)) (by rw [h.1]; decide) (h.ix (n := 1) (by decide) (by decide) (by decide)) (by decide) ?_
  refine ev_dup dX6_init_739 rfl ?_
  refine ev_iconst (v := nI 2) dX6_init_740 jc2 ?_
  refine ev_bipush (v := nI 108) dX6_init_741 jb108 ?_
  refine ev_castoreV (y := nI 108) dX6_init_743 (h.k (by decide) (by decide) (by decide)) (by rw [h.1]; decide) (h.ix (n := 2) (by decide) (by decide) (by decide)) (by decide) ?_
  refine fm_put dX6_init_744 pX6_93_6 h rfl (by decide) (fun cr h => ?_)
  refine ev_aload_n dX6_init_747 rfl ?_
  refine ev_iconst (v := nI 3) dX6_init_748 jc3 ?_
  refine fm_new_char (c := 48) (sl := 13342) (n := 3) dX6_init_749 (by decide) (by decide) (by decide) h (by decide) (by decide) (fun K h => ?_)
  refine ev_dup dX6_init_751 rfl ?_
  refine ev_iconst (v := nI 0) dX6_init_752 jc0 ?_
  refine ev_bipush (v := nI 109) dX6_init_753 jb109 ?_
  refine ev_castoreV (y := nI 109) dX6_init_755 (h.k (by decide) (by decide) (by decide)) (by rw [h.1]; decide) (h.ix (n := 0) (by decide) (by decide) (by decide)) (by decide) ?_
  refine ev_dup dX6_init_756 rfl ?_
  refine ev_iconst (v := nI 1) dX6_init_757 jc1 ?_
  refine ev_bipush (v := nI 105) dX6_init_758 jb105 ?_
  refine ev_castoreV (y := nI 105) dX6_init_760 (h.k (by decide) (by decide) (by decide)) (by rw [h.1]; decide) (h.ix (n := 1) (by decide) (by decide) (by decide)) (by decide) ?_
  refine ev_dup dX6_init_761 rfl ?_
  refine ev_iconst (v := nI 2) dX6_init_762 jc2 ?_
  refine ev_bipush (v := nI 110) dX6_init_763 jb110 ?_
  refine ev_castoreV (y := nI 110) dX6_init_765 (h.k (by decide) (by decide) (by decide)) (by rw [h.1]; decide) (h.ix (n := 2) (by decide) (by decide) (by decide)) (by decide) ?_
  refine fm_put dX6_init_766 pX6_96_6 h rfl (by decide) (fun cr h => ?_)
  refine ev_aload_n dX6_init_769 rfl ?_
  refine ev_iconst (v := nI 3) dX6_init_770 jc3 ?_
  refine fm_new_char (c := 47) (sl := 13339) (n := 3) dX6_init_771 (by decide) (by decide) (by decide) h (by decide) (by decide) (fun K h => ?_)
  refine ev_dup dX6_init_773 rfl ?_
  refine ev_iconst (v := nI 0) dX6_init_774 jc0 ?_
  refine ev_bipush (v := nI 109) dX6_init_775 jb109 ?_
  refine ev_castoreV (y := nI 109) dX6_init_777 (h.k (by decide) (by decide) (by decide)) (by rw [h.1]; decide) (h.ix (n := 0) (by decide) (by decide) (by decide)) (by decide) ?_
  refine ev_dup dX6_init_778 rfl ?_
  refine ev_iconst (v := nI 1) dX6_init_779 jc1 ?_
  refine ev_bipush (v := nI 97) dX6_init_780 jb97 ?_
  refine ev_castoreV (y := nI 97) dX6_init_782 (h.k (by decide) (by decide) (by decide)) (by rw [h.1]; decide) (h.ix (n := 1) (by decide) (by decide) (by decide)) (by decide) ?_
  refine ev_dup dX6_init_783 rfl ?_
  refine ev_iconst (v := nI 2) dX6_init_784 jc2 ?_
  refine ev_bipush (v := nI 120) dX6_init_785 jb120 ?_
  refine ev_castoreV (y := nI 120) dX6_init_787 (h.k (by decide) (by decide) (by decide)) (by rw [h.1]; decide) (h.ix (n := 2) (by decide) (by decide) (by decide)) (by decide) ?_
  refine fm_put dX6_init_788 pX6_99_6 h rfl (by decide) (fun cr h => ?_)
  refine ev_aload_n dX6_init_791 rfl ?_
  refine ev_bipush (v := nI 8) dX6_init_792 jb8 ?_
  refine fm_new_int (c := 46) (sl := 13331) (n := 8) dX6_init_794 (by decide) (by decide) (by decide) h (by decide) (by decide) (fun K h => ?_)
  refine fm_put dX6_init_796 pX6_102_6 h rfl (by decide) (fun cr h => ?_)
  exact c6_4 h hq
theorem c6_2 {g : jG} {d : Nat} {K0 K : jK} {cr0 cr : jR} {ci : jI} {cj : jJ} {Qr : jQ} {Qx : jX} (h : FM K0 cr0 1562 [22, 21, 20, 19, 18, 17, 16, 15, 14, 13, 12, 11, 9, 0] K cr) (hq : ∀ K cr, FM K0 cr0 1624 [106, 102, 98, 96, 95, 94, 93, 92, 91, 90, 89, 88, 87, 86, 85, 84, 83, 82, 81, 80, 79, 78, 77, 76, 75, 74, 73, 72, 71, 67, 66, 65, 63, 62, 61, 57, 56, 51, 50, 46, 45, 44, 43, 42, 41, 40, 39, 37, 36, 35, 34, 33, 32, 31, 30, 29, 28, 27, 26, 25, 24, 23, 22, 21, 20, 19, 18, 17, 16, 15, 14, 13, 12, 11, 9, 0] K cr → Qr none K (jwa [(1562, 0, nI 115), (1562, 1, nI 116), (1562, 2, nI 111), (1562, 3, nI 114), (1562, 4, nI 109), (1563, 0, nI 118), (1563, 1, nI 111), (1563, 2, nI 119), (1563, 3, nI 115), (1564, 0, nI 102), (1564, 1, nI 97), (1564, 2, nI 114), (1565, 0, nI 121), (1565, 1, nI 101), (1565, 2, nI 97), (1565, 3, nI 114), (1566, 0, nI 108), (1566, 1, nI 97), (1566, 2, nI 116), (1566, 3, nI 101), (1567, 0, nI 99), (1567, 1, nI 97), (1567, 2, nI 117), (1567, 3, nI 103), (1567, 4, nI 104), (1567, 5, nI 116), (1568, 0, nI 115), (1568, 1, nI 105), (1568, 2, nI 110), (1568, 3, nI 99), (1568, 4, nI 101), (1569, 0, nI 110), (1569, 1, nI 117), (1569, 2, nI 109), (1569, 3, nI 98), (1569, 4, nI 101), (1569, 5, nI 114), (1570, 0, nI 112), (1570, 1, nI 108), (1570, 2, nI 97), (1570, 3, nI 99), (1570, 4, nI 101), (1571, 0, nI 111), (1571, 1, nI 114), (1572, 0, nI 97), (1572, 1, nI 110), (1572, 2, nI 100), (1573, 0, nI 110), (1573, 1, nI 111), (1573, 2, nI 116), (1574, 0, nI 97), (1574, 1, nI 108), (1574, 2, nI 108), (1575, 0, nI 109), (1575, 1, nI 105), (1575, 2, nI 110), (1576, 0, nI 109), (1576, 1, nI 97), (1576, 2, nI 120), (1582, 0, (-1)), (1582, 1, (-1)), (1582, 2, (-1)), (1582, 3, (-1)), (1582, 4, (-1)), (1582, 5, (-1)), (1582, 6, (-1)), (1582, 7, (-1)), (1595, 0, nI 102), (1595, 1, nI 105), (1595, 2, nI 114), (1595, 3, nI 115), (1595, 4, nI 116), (1596, 0, nI 108), (1596, 1, nI 97), (1596, 2, nI 115), (1596, 3, nI 116), (1597, 0, nI 111), (1597, 1, nI 102), (1597, 2, nI 116), (1597, 3, nI 101), (1597, 4, nI 110), (1598, 0, nI 116), (1598, 1, nI 111), (1598, 2, nI 116), (1598, 3, nI 97), (1598, 4, nI 108), (1599, 0, nI 109), (1599, 1, nI 111), (1599, 2, nI 115), (1599, 3, nI 116), (1600, 0, nI 108), (1600, 1, nI 101), (1600, 2, nI 97), (1600, 3, nI 115), (1600, 4, nI 116), (1601, 0, nI 110), (1601, 1, nI 111), (1601, 2, nI 116), (1602, 0, nI 97), (1602, 1, nI 110), (1602, 2, nI 100), (1603, 0, nI 111), (1603, 1, nI 114), (1604, 0, nI 97), (1604, 1, nI 108), (1604, 2, nI 108), (1605, 0, nI 109), (1605, 1, nI 105), (1605, 2, nI 110), (1606, 0, nI 109), (1606, 1, nI 97), (1606, 2, nI 120), (1607, 0, nI 104), (1607, 1, nI 117), (1607, 2, nI 110), (1607, 3, nI 103), (1607, 4, nI 101), (1607, 5, nI 114), (1608, 0, nI 121), (1608, 1, nI 101), (1608, 2, nI 97), (1608, 3, nI 114), (1609, 0, nI 118), (1609, 1, nI 111), (1609, 2, nI 119), (1609, 3, nI 115), (1610, 0, nI 108), (1610, 1, nI 97), (1610, 2, nI 116), (1610, 3, nI 101), (1611, 0, nI 102), (1611, 1, nI 97), (1611, 2, nI 114), (1612, 0, nI 115), (1612, 1, nI 105), (1612, 2, nI 122), (1612, 3, nI 101), (1613, 0, nI 99), (1613, 1, nI 97), (1613, 2, nI 117), (1613, 3, nI 103), (1613, 4, nI 104), (1613, 5, nI 116), (1614, 0, nI 116), (1614, 1, nI 114), (1614, 2, nI 117), (1614, 3, nI 101), (1615, 0, nI 115), (1615, 1, nI 105), (1615, 2, nI 110), (1615, 3, nI 99), (1615, 4, nI 101), (1616, 0, nI 110), (1616, 1, nI 117), (1616, 2, nI 109), (1616, 3, nI 98), (1616, 4, nI 101), (1616, 5, nI 114), (1617, 0, nI 112), (1617, 1, nI 108), (1617, 2, nI 97), (1617, 3, nI 99), (1617, 4, nI 101), (1618, 0, nI 118), (1618, 1, nI 111), (1618, 2, nI 119), (1618, 3, nI 115), (1619, 0, nI 99), (1619, 1, nI 97), (1619, 2, nI 117), (1619, 3, nI 103), (1619, 4, nI 104), (1619, 5, nI 116)] ci) (ju cj 1547 70 1) cr) : Ev g (d + 1) mX6_init 389 [.ref 1547] [] K ci cj cr 62 13398 Qr Qx := by
  refine ev_aload_n dX6_init_389 rfl ?_
  refine ev_iconst (v := nI 5) dX6_init_390 jc5 ?_
  refine fm_new_char (c := 61) (sl := 13393) (n := 5) dX6_init_391 (by decide) (by decide) (by decide) h (by decide) (by decide) (fun K h => ?_)
  refine ev_dup dX6_init_393 rfl ?_
  refine ev_iconst (v := nI 0) dX6_init_394 jc0 ?_
  refine ev_bipush (v := nI 115) dX6_init_395 jb115 ?_
  refine ev_castoreV (y := nI 115) dX6_init_397 (h.k (by decide) (by decide) (by decide)) (by rw [h.1]; decide) (h.ix (n := 0) (by decide) (by decide) (by decide)) (by decide) ?_
  refine ev_dup dX6_init_398 rfl ?_
  refine ev_iconst (v := nI 1) dX6_init_399 jc1 ?_
  refine ev_bipush (v := nI 116) dX6_init_400 jb116 ?_
  refine ev_castoreV (y := nI 116) dX6_init_402 (h.k (by decide) (by decide) (by decide)) (by rw [h.1]; decide) (h.ix (n := 1) (by decide) (by decide) (by decide)) (by decide) ?_
  refine ev_dup dX6_init_403 rfl ?_
  refine ev_iconst (v := nI 2) dX6_init_404 jc2 ?_
  refine ev_bipush (v := nI 111) dX6_init_405 jb111 ?_
  refine ev_castoreV (y := nI 111) dX6_init_407 (h.k (by decide) (by decide) (by decide)) (by rw [h.1]; decide) (h.ix (n := 2) (by decide) (by decide) (by decide)) (by decide) ?_
  refine ev_dup dX6_init_408 rfl ?_
  refine ev_iconst (v := nI 3) dX6_init_409 jc3 ?_
  refine ev_bipush (v := nI 114) dX6_init_410 jb114 ?_
  refine ev_castoreV (y := nI 114) dX6_init_412 (h.k (by decide) (by decide) (by decide)) (by rw [h.1]; decide) (h.ix (n := 3) (by decide) (by decide) (by decide)) (by decide) ?_
  refine ev_dup dX6_init_413 rfl ?_
  refine ev_iconst (v := nI 4) dX6_init_414 jc4 ?_
  refine ev_bipush (v := nI 109) dX6_init_415 jb109 ?_
  refine ev_castoreV (y := nI 109) dX6_init_417 (h.k (by decide) (by decide) (by decide)) (by rw [h.1]; decide) (h.ix (n := 4) (by decide) (by decide) (by decide)) (by decide) ?_
  refine fm_put dX6_init_418 pX6_57_6 h rfl (by decide) (fun cr h => ?_)
  refine ev_aload_n dX6_init_421 rfl ?_
  refine ev_iconst (v := nI 4) dX6_init_422 jc4 ?_
  refine fm_new_char (c := 60) (sl := 13389) (n := 4) dX6_init_423 (by decide) (by decide) (by decide) h (by decide) (by decide) (fun K h => ?_)
  refine ev_dup dX6_init_425 rfl ?_
  refine ev_iconst (v := nI 0) dX6_init_426 jc0 ?_
  refine ev_bipush (v := nI 118) dX6_init_427 jb118 ?_
  refine ev_castoreV (y := nI 118) dX6_init_429 (h.k (by decide) (by decide) (by decide)) (by rw [h.1]; decide) (h.ix (n := 0) (by decide) (by decide) (by decide)) (by decide) ?_
  refine ev_dup dX6_init_430 rfl ?_
  refine ev_iconst (v := nI 1) dX6_init_431 jc1 ?_
  refine ev_bipush (v := nI 111) dX6_init_432 jb111 ?_
  refine ev_castoreV (y := nI 111) dX6_init_434 (h.k (by decide) (by decide) (by decide)) (by rw [h.1]; decide) (h.ix (n := 1) (by decide) (by decide) (by decide)) (by decide) ?_
  refine ev_dup dX6_init_435 rfl ?_
  refine ev_iconst (v := nI 2) dX6_init_436 jc2 ?_
  refine ev_bipush (v := nI 119) dX6_init_437 jb119 ?_
  refine ev_castoreV (y := nI 119) dX6_init_439 (h.k (by decide) (by decide) (by decide)) (by rw [h.1]; decide) (h.ix (n := 2) (by decide) (by decide) (by decide)) (by decide) ?_
  refine ev_dup dX6_init_440 rfl ?_
  refine ev_iconst (v := nI 3) dX6_init_441 jc3 ?_
  refine ev_bipush (v := nI 115) dX6_init_442 jb115 ?_
  refine ev_castoreV (y := nI 115) dX6_init_444 (h.k (by decide) (by decide) (by decide)) (by rw [h.1]; decide) (h.ix (n := 3) (by decide) (by decide) (by decide)) (by decide) ?_
  refine fm_put dX6_init_445 pX6_60_6 h rfl (by decide) (fun cr h => ?_)
  refine ev_aload_n dX6_init_448 rfl ?_
  refine ev_iconst (v := nI 3) dX6_init_449 jc3 ?_
  refine fm_new_char (c := 59) (sl := 13386) (n := 3) dX6_init_450 (by decide) (by decide) (by decide) h (by decide) (by decide) (fun K h => ?_)
  refine ev_dup dX6_init_452 rfl ?_
  refine ev_iconst (v := nI 0) dX6_init_453 jc0 ?_
  refine ev_bipush (v := nI 102) dX6_init_454 jb102 ?_
  refine ev_castoreV (y := nI 102) dX6_init_456 (h.k (by decide) (by decide) (by decide)) (by rw [h.1]; decide) (h.ix (n := 0) (by decide) (by decide) (by decide)) (by decide) ?_
  refine ev_dup dX6_init_457 rfl ?_
  refine ev_iconst (v := nI 1) dX6_init_458 jc1 ?_
  refine ev_bipush (v := nI 97) dX6_init_459 jb97 ?_
  refine ev_castoreV (y := nI 97) dX6_init_461 (h.k (by decide) (by decide) (by decide)) (by rw [h.1]; decide) (h.ix (n := 1) (by decide) (by decide) (by decide)) (by decide) ?_
  refine ev_dup dX6_init_462 rfl ?_
  refine ev_iconst (v := nI 2) dX6_init_463 jc2 ?_
  refine ev_bipush (v := nI 114) dX6_init_464 jb114 ?_
  refine ev_castoreV (y := nI 114) dX6_init_466 (h.k (by decide) (by decide) (by decide)) (by rw [h.1]; decide) (h.ix (n := 2) (by decide) (by decide) (by decide)) (by decide) ?_
  refine fm_put dX6_init_467 pX6_63_6 h rfl (by decide) (fun cr h => ?_)
  refine ev_aload_n dX6_init_470 rfl ?_
  refine ev_iconst (v := nI 4) dX6_init_471 jc4 ?_
  refine fm_new_char (c := 58) (sl := 13382) (n := 4) dX6_init_472 (by decide) (by decide) (by decide) h (by decide) (by decide) (fun K h => ?_)
  refine ev_dup dX6_init_474 rfl ?_
  refine ev_iconst (v := nI 0) dX6_init_475 jc0 ?_
  refine ev_bipush (v := nI 121) dX6_init_476 jb121 ?_
  refine ev_castoreV (y := nI 121) dX6_init_478 (h.k (by decide) (by decide) (by decide)) (by rw [h.1]; decide) (h.ix (n := 0) (by decide) (by decide) (by decide)) (by decide) ?_
  refine ev_dup dX6_init_479 rfl ?_
  refine ev_iconst (v := nI 1) dX6_init_480 jc1 ?_
  refine ev_bipush (v := nI 101) dX6_init_481 jb101 ?_
  refine ev_castoreV (y := nI 101) dX6_init_483 (h.k (by decide) (by decide) (by decide)) (by rw [h.1]; decide) (h.ix (n := 1) (by decide) (by decide) (by decide)) (by decide) ?_
  refine ev_dup dX6_init_484 rfl ?_
  refine ev_iconst (v := nI 2) dX6_init_485 jc2 ?_
  refine ev_bipush (v := nI 97) dX6_init_486 jb97 ?_
  refine ev_castoreV (y := nI 97) dX6_init_488 (h.k (by decide) (by decide) (by decide)) (by rw [h.1]; decide) (h.ix (n := 2) (by decide) (by decide) (by decide)) (by decide) ?_
  refine ev_dup dX6_init_489 rfl ?_
  refine ev_iconst (v := nI 3) dX6_init_490 jc3 ?_
  refine ev_bipush (v := nI 114) dX6_init_491 jb114 ?_
  refine ev_castoreV (y := nI 114) dX6_init_493 (h.k (by decide) (by decide) (by decide)) (by rw [h.1]; decide) (h.ix (n := 3) (by decide) (by decide) (by decide)) (by decide) ?_
  refine fm_put dX6_init_494 pX6_66_6 h rfl (by decide) (fun cr h => ?_)
  refine ev_aload_n dX6_init_497 rfl ?_
  refine ev_iconst (v := nI 4) dX6_init_498 jc4 ?_
  refine fm_new_char (c := 57) (sl := 13378) (n := 4) dX6_init_499 (by decide) (by decide) (by decide) h (by decide) (by decide) (fun K h => ?_)
  refine ev_dup dX6_init_501 rfl ?_
  refine ev_iconst (v := nI 0) dX6_init_502 jc0 ?_
  refine ev_bipush (v := nI 108) dX6_init_503 jb108 ?_
  refine ev_castoreV (y := nI 108) dX6_init_505 (h.k (by decide) (by decide) (by decide)) (by rw [h.1]; decide) (h.ix (n := 0) (by decide) (by decide) (by decide)) (by decide) ?_
  refine ev_dup dX6_init_506 rfl ?_
  refine ev_iconst (v := nI 1) dX6_init_507 jc1 ?_
  refine ev_bipush (v := nI 97) dX6_init_508 jb97 ?_
  refine ev_castoreV (y := nI 97) dX6_init_510 (h.k (by decide) (by decide) (by decide)) (by rw [h.1]; decide) (h.ix (n := 1) (by decide) (by decide) (by decide)) (by decide) ?_
  refine ev_dup dX6_init_511 rfl ?_
  refine ev_iconst (v := nI 2) dX6_init_512 jc2 ?_
  refine ev_bipush (v := nI 116) dX6_init_513 jb116 ?_
  refine ev_castoreV (y := nI 116) dX6_init_515 (h.k (by decide) (by decide) (by decide)) (by rw [h.1]; decide) (h.ix (n := 2) (by decide) (by decide) (by decide)) (by decide) ?_
  refine ev_dup dX6_init_516 rfl ?_
  refine ev_iconst (v := nI 3) dX6_init_517 jc3 ?_
  refine ev_bipush (v := nI 101) dX6_init_518 jb101 ?_
  refine ev_castoreV (y := nI 101) dX6_init_520 (h.k (by decide) (by decide) (by decide)) (by rw [h.1]; decide) (h.ix (n := 3) (by decide) (by decide) (by decide)) (by decide) ?_
  refine fm_put dX6_init_521 pX6_69_6 h rfl (by decide) (fun cr h => ?_)
  refine ev_aload_n dX6_init_524 rfl ?_
  refine ev_bipush (v := nI 6) dX6_init_525 jb6 ?_
  refine fm_new_char (c := 56) (sl := 13372) (n := 6) dX6_init_527 (by decide) (by decide) (by decide) h (by decide) (by decide) (fun K h => ?_)
  refine ev_dup dX6_init_529 rfl ?_
  refine ev_iconst (v := nI 0) dX6_init_530 jc0 ?_
  refine ev_bipush (v := nI 99) dX6_init_531 jb99 ?_
  refine ev_castoreV (y := nI 99) dX6_init_533 (h.k (by decide) (by decide) (by decide)) (by rw [h.1]; decide) (h.ix (n := 0) (by decide) (by decide) (by decide)) (by decide) ?_
  refine ev_dup dX6_init_534 rfl ?_
  refine ev_iconst (v := nI 1) dX6_init_535 jc1 ?_
  refine ev_bipush (v := nI 97) dX6_init_536 jb97 ?_
  refine ev_castoreV (y := nI 97) dX6_init_538 (h.k (by decide) (by decide) (by decide)) (by rw [h.1]; decide) (h.ix (n := 1) (by decide) (by decide) (by decide)) (by decide) ?_
  refine ev_dup dX6_init_539 rfl ?_
  refine ev_iconst (v := nI 2) dX6_init_540 jc2 ?_
  refine ev_bipush (v := nI 117) dX6_init_541 jb117 ?_
  refine ev_castoreV (y := nI 117) dX6_init_543 (h.k (by decide) (by decide) (by decide)) (by rw [h.1]; decide) (h.ix (n := 2) (by decide) (by decide) (by decide)) (by decide) ?_
  refine ev_dup dX6_init_544 rfl ?_
  refine ev_iconst (v := nI 3) dX6_init_545 jc3 ?_
  refine ev_bipush (v := nI 103) dX6_init_546 jb103 ?_
  refine ev_castoreV (y := nI 103) dX6_init_548 (h.k (by decide) (by decide) (by decide)) (by rw [h.1]; decide) (h.ix (n := 3) (by decide) (by decide) (by decide)) (by decide) ?_
  refine ev_dup dX6_init_549 rfl ?_
  refine ev_iconst (v := nI 4) dX6_init_550 jc4 ?_
  refine ev_bipush (v := nI 104) dX6_init_551 jb104 ?_
  refine ev_castoreV (y := nI 104) dX6_init_553 (h.k (by decide) (by decide) (by decide)) (by rw [h.1]; decide) (h.ix (n := 4) (by decide) (by decide) (by decide)) (by decide) ?_
  refine ev_dup dX6_init_554 rfl ?_
  refine ev_iconst (v := nI 5) dX6_init_555 jc5 ?_
  refine ev_bipush (v := nI 116) dX6_init_556 jb116 ?_
  refine ev_castoreV (y := nI 116) dX6_init_558 (h.k (by decide) (by decide) (by decide)) (by rw [h.1]; decide) (h.ix (n := 5) (by decide) (by decide) (by decide)) (by decide) ?_
  refine fm_put dX6_init_559 pX6_72_6 h rfl (by decide) (fun cr h => ?_)
  refine ev_aload_n dX6_init_562 rfl ?_
  refine ev_iconst (v := nI 5) dX6_init_563 jc5 ?_
  refine fm_new_char (c := 55) (sl := 13367) (n := 5) dX6_init_564 (by decide) (by decide) (by decide) h (by decide) (by decide) (fun K h => ?_)
  refine ev_dup dX6_init_566 rfl ?_
  refine ev_iconst (v := nI 0) dX6_init_567 jc0 ?_
  refine ev_bipush (v := nI 115) dX6_init_568 jb115 ?_
  refine ev_castoreV (y := nI 115) dX6_init_570 (h.k (by decide) (by decide) (by decide)) (by rw [h.1]; decide) (h.ix (n := 0) (by decide) (by decide) (by decide)) (by decide) ?_
  refine ev_dup dX6_init_571 rfl ?_
  refine ev_iconst (v := nI 1) dX6_init_572 jc1 ?_
  refine ev_bipush (v := nI 105) dX6_init_573 jb105 ?_
  refine ev_castoreV (y := nI 105) dX6_init_575 (h.k (by decide) (by decide) (by decide)) (by rw [h.1]; decide) (h.ix (n := 1) (by decide) (by decide) (by decide)) (by decide) ?_
  refine ev_dup dX6_init_576 rfl ?_
  refine ev_iconst (v := nI 2) dX6_init_577 jc2 ?_
  refine ev_bipush (v := nI 110) dX6_init_578 jb110 ?_
  refine ev_castoreV (y := nI 110) dX6_init_580 (h.k (by decide) (by decide) (by decide)) (by rw [h.1]; decide) (h.ix (n := 2) (by decide) (by decide) (by decide)) (by decide) ?_
  refine ev_dup dX6_init_581 rfl ?_
  refine ev_iconst (v := nI 3) dX6_init_582 jc3 ?_
  refine ev_bipush (v := nI 99) dX6_init_583 jb99 ?_
  refine ev_castoreV (y := nI 99) dX6_init_585 (h.k (by decide) (by decide) (by decide)) (by rw [h.1]; decide) (h.ix (n := 3) (by decide) (by decide) (by decide)) (by decide) ?_
  refine ev_dup dX6_init_586 rfl ?_
  refine ev_iconst (v := nI 4) dX6_init_587 jc4 ?_
  refine ev_bipush (v := nI 101) dX6_init_588 jb101 ?_
  refine ev_castoreV (y := nI 101) dX6_init_590 (h.k (by decide) (by decide) (by decide)) (by rw [h.1]; decide) (h.ix (n := 4) (by decide) (by decide) (by decide)) (by decide) ?_
  refine fm_put dX6_init_591 pX6_75_6 h rfl (by decide) (fun cr h => ?_)
  refine ev_aload_n dX6_init_594 rfl ?_
  refine ev_bipush (v := nI 6) dX6_init_595 jb6 ?_
  refine fm_new_char (c := 54) (sl := 13361) (n := 6) dX6_init_597 (by decide) (by decide) (by decide) h (by decide) (by decide) (fun K h => ?_)
  refine ev_dup dX6_init_599 rfl ?_
  refine ev_iconst (v := nI 0) dX6_init_600 jc0 ?_
  refine ev_bipush (v := nI 110) dX6_init_601 jb110 ?_
  refine ev_castoreV (y := nI 110) dX6_init_603 (h.k (by decide) (by decide) (by decide)) (by rw [h.1]; decide) (h.ix (n := 0) (by decide) (by decide) (by decide)) (by decide) ?_
  refine ev_dup dX6_init_604 rfl ?_
  refine ev_iconst (v := nI 1) dX6_init_605 jc1 ?_
  refine ev_bipush (v := nI 117) dX6_init_606 jb117 ?_
  refine ev_castoreV (y := nI 117) dX6_init_608 (h.k (by decide) (by decide) (by decide)) (by rw [h.1]; decide) (h.ix (n := 1) (by decide) (by decide) (by decide)) (by decide) ?_
  refine ev_dup dX6_init_609 rfl ?_
  refine ev_iconst (v := nI 2) dX6_init_610 jc2 ?_
  refine ev_bipush (v := nI 109) dX6_init_611 jb109 ?_
  refine ev_castoreV (y := nI 109) dX6_init_613 (h.k (by decide) (by decide) (by decide)) (by rw [h.1]; decide) (h.ix (n := 2) (by decide) (by decide) (by decide)) (by decide) ?_
  refine ev_dup dX6_init_614 rfl ?_
  refine ev_iconst (v := nI 3) dX6_init_615 jc3 ?_
  refine ev_bipush (v := nI 98) dX6_init_616 jb98 ?_
  refine ev_castoreV (y := nI 98) dX6_init_618 (h.k (by decide) (by decide) (by decide)) (by rw [h.1]; decide) (h.ix (n := 3) (by decide) (by decide) (by decide)) (by decide) ?_
  refine ev_dup dX6_init_619 rfl ?_
  refine ev_iconst (v := nI 4) dX6_init_620 jc4 ?_
  refine ev_bipush (v := nI 101) dX6_init_621 jb101 ?_
  refine ev_castoreV (y := nI 101) dX6_init_623 (h.k (by decide) (by decide) (by decide)) (by rw [h.1]; decide) (h.ix (n := 4) (by decide) (by decide) (by decide)) (by decide) ?_
  refine ev_dup dX6_init_624 rfl ?_
  refine ev_iconst (v := nI 5) dX6_init_625 jc5 ?_
  refine ev_bipush (v := nI 114) dX6_init_626 jb114 ?_
  refine ev_castoreV (y := nI 114) dX6_init_628 (h.k (by decide) (by decide) (by decide)) (by rw [h.1]; decide) (h.ix (n := 5) (by decide) (by decide) (by decide)) (by decide) ?_
  refine fm_put dX6_init_629 pX6_78_6 h rfl (by decide) (fun cr h => ?_)
  exact c6_3 h hq
theorem c6_1 {g : jG} {d : Nat} {K0 K : jK} {cr0 cr : jR} {ci : jI} {cj : jJ} {Qr : jQ} {Qx : jX} (h : FM K0 cr0 1554 [14, 13, 12, 11, 9, 0] K cr) (hq : ∀ K cr, FM K0 cr0 1624 [106, 102, 98, 96, 95, 94, 93, 92, 91, 90, 89, 88, 87, 86, 85, 84, 83, 82, 81, 80, 79, 78, 77, 76, 75, 74, 73, 72, 71, 67, 66, 65, 63, 62, 61, 57, 56, 51, 50, 46, 45, 44, 43, 42, 41, 40, 39, 37, 36, 35, 34, 33, 32, 31, 30, 29, 28, 27, 26, 25, 24, 23, 22, 21, 20, 19, 18, 17, 16, 15, 14, 13, 12, 11, 9, 0] K cr → Qr none K (jwa [(1554, 0, nI 105), (1554, 1, nI 110), (1555, 0, nI 116), (1555, 1, nI 114), (1555, 2, nI 117), (1555, 3, nI 101), (1556, 0, nI 115), (1556, 1, nI 104), (1556, 2, nI 111), (1556, 3, nI 97), (1556, 4, nI 108), (1557, 0, nI 115), (1557, 1, nI 105), (1557, 2, nI 122), (1557, 3, nI 101), (1558, 0, nI 108), (1558, 1, nI 117), (1558, 2, nI 114), (1558, 3, nI 101), (1558, 4, nI 115), (1559, 0, nI 109), (1559, 1, nI 101), (1559, 2, nI 110), (1559, 3, nI 100), (1559, 4, nI 115), (1560, 0, nI 115), (1560, 1, nI 116), (1560, 2, nI 97), (1560, 3, nI 114), (1560, 4, nI 118), (1560, 5, nI 101), (1560, 6, nI 115), (1561, 0, nI 99), (1561, 1, nI 111), (1561, 2, nI 117), (1561, 3, nI 110), (1561, 4, nI 116), (1561, 5, nI 115), (1562, 0, nI 115), (1562, 1, nI 116), (1562, 2, nI 111), (1562, 3, nI 114), (1562, 4, nI 109), (1563, 0, nI 118), (1563, 1, nI 111), (1563, 2, nI 119), (1563, 3, nI 115), (1564, 0, nI 102), (1564, 1, nI 97), (1564, 2, nI 114), (1565, 0, nI 121), (1565, 1, nI 101), (1565, 2, nI 97), (1565, 3, nI 114), (1566, 0, nI 108), (1566, 1, nI 97), (1566, 2, nI 116), (1566, 3, nI 101), (1567, 0, nI 99), (1567, 1, nI 97), (1567, 2, nI 117), (1567, 3, nI 103), (1567, 4, nI 104), (1567, 5, nI 116), (1568, 0, nI 115), (1568, 1, nI 105), (1568, 2, nI 110), (1568, 3, nI 99), (1568, 4, nI 101), (1569, 0, nI 110), (1569, 1, nI 117), (1569, 2, nI 109), (1569, 3, nI 98), (1569, 4, nI 101), (1569, 5, nI 114), (1570, 0, nI 112), (1570, 1, nI 108), (1570, 2, nI 97), (1570, 3, nI 99), (1570, 4, nI 101), (1571, 0, nI 111), (1571, 1, nI 114), (1572, 0, nI 97), (1572, 1, nI 110), (1572, 2, nI 100), (1573, 0, nI 110), (1573, 1, nI 111), (1573, 2, nI 116), (1574, 0, nI 97), (1574, 1, nI 108), (1574, 2, nI 108), (1575, 0, nI 109), (1575, 1, nI 105), (1575, 2, nI 110), (1576, 0, nI 109), (1576, 1, nI 97), (1576, 2, nI 120), (1582, 0, (-1)), (1582, 1, (-1)), (1582, 2, (-1)), (1582, 3, (-1)), (1582, 4, (-1)), (1582, 5, (-1)), (1582, 6, (-1)), (1582, 7, (-1)), (1595, 0, nI 102), (1595, 1, nI 105), (1595, 2, nI 114), (1595, 3, nI 115), (1595, 4, nI 116), (1596, 0, nI 108), (1596, 1, nI 97), (1596, 2, nI 115), (1596, 3, nI 116), (1597, 0, nI 111), (1597, 1, nI 102), (1597, 2, nI 116), (1597, 3, nI 101), (1597, 4, nI 110), (1598, 0, nI 116), (1598, 1, nI 111), (1598, 2, nI 116), (1598, 3, nI 97), (1598, 4, nI 108), (1599, 0, nI 109), (1599, 1, nI 111), (1599, 2, nI 115), (1599, 3, nI 116), (1600, 0, nI 108), (1600, 1, nI 101), (1600, 2, nI 97), (1600, 3, nI 115), (1600, 4, nI 116), (1601, 0, nI 110), (1601, 1, nI 111), (1601, 2, nI 116), (1602, 0, nI 97), (1602, 1, nI 110), (1602, 2, nI 100), (1603, 0, nI 111), (1603, 1, nI 114), (1604, 0, nI 97), (1604, 1, nI 108), (1604, 2, nI 108), (1605, 0, nI 109), (1605, 1, nI 105), (1605, 2, nI 110), (1606, 0, nI 109), (1606, 1, nI 97), (1606, 2, nI 120), (1607, 0, nI 104), (1607, 1, nI 117), (1607, 2, nI 110), (1607, 3, nI 103), (1607, 4, nI 101), (1607, 5, nI 114), (1608, 0, nI 121), (1608, 1, nI 101), (1608, 2, nI 97), (1608, 3, nI 114), (1609, 0, nI 118), (1609, 1, nI 111), (1609, 2, nI 119), (1609, 3, nI 115), (1610, 0, nI 108), (1610, 1, nI 97), (1610, 2, nI 116), (1610, 3, nI 101), (1611, 0, nI 102), (1611, 1, nI 97), (1611, 2, nI 114), (1612, 0, nI 115), (1612, 1, nI 105), (1612, 2, nI 122), (1612, 3, nI 101), (1613, 0, nI 99), (1613, 1, nI 97), (1613, 2, nI 117), (1613, 3, nI 103), (1613, 4, nI 104), (1613, 5, nI 116), (1614, 0, nI 116), (1614, 1, nI 114), (1614, 2, nI 117), (1614, 3, nI 101), (1615, 0, nI 115), (1615, 1, nI 105), (1615, 2, nI 110), (1615, 3, nI 99), (1615, 4, nI 101), (1616, 0, nI 110), (1616, 1, nI 117), (1616, 2, nI 109), (1616, 3, nI 98), (1616, 4, nI 101), (1616, 5, nI 114), (1617, 0, nI 112), (1617, 1, nI 108), (1617, 2, nI 97), (1617, 3, nI 99), (1617, 4, nI 101), (1618, 0, nI 118), (1618, 1, nI 111), (1618, 2, nI 119), (1618, 3, nI 115), (1619, 0, nI 99), (1619, 1, nI 97), (1619, 2, nI 117), (1619, 3, nI 103), (1619, 4, nI 104), (1619, 5, nI 116)] ci) (ju cj 1547 70 1) cr) : Ev g (d + 1) mX6_init 140 [.ref 1547] [] K ci cj cr 70 13436 Qr Qx := by
  refine ev_aload_n dX6_init_140 rfl ?_
  refine ev_iconst (v := nI 2) dX6_init_141 jc2 ?_
  refine fm_new_char (c := 69) (sl := 13434) (n := 2) dX6_init_142 (by decide) (by decide) (by decide) h (by decide) (by decide) (fun K h => ?_)
  refine ev_dup dX6_init_144 rfl ?_
  refine ev_iconst (v := nI 0) dX6_init_145 jc0 ?_
  refine ev_bipush (v := nI 105) dX6_init_146 jb105 ?_
  refine ev_castoreV (y := nI 105) dX6_init_148 (h.k (by decide) (by decide) (by decide)) (by rw [h.1]; decide) (h.ix (n := 0) (by decide) (by decide) (by decide)) (by decide) ?_
  refine ev_dup dX6_init_149 rfl ?_
  refine ev_iconst (v := nI 1) dX6_init_150 jc1 ?_
  refine ev_bipush (v := nI 110) dX6_init_151 jb110 ?_
  refine ev_castoreV (y := nI 110) dX6_init_153 (h.k (by decide) (by decide) (by decide)) (by rw [h.1]; decide) (h.ix (n := 1) (by decide) (by decide) (by decide)) (by decide) ?_
  refine fm_put dX6_init_154 pX6_33_6 h rfl (by decide) (fun cr h => ?_)
  refine ev_aload_n dX6_init_157 rfl ?_
  refine ev_iconst (v := nI 4) dX6_init_158 jc4 ?_
  refine fm_new_char (c := 68) (sl := 13430) (n := 4) dX6_init_159 (by decide) (by decide) (by decide) h (by decide) (by decide) (fun K h => ?_)
  refine ev_dup dX6_init_161 rfl ?_
  refine ev_iconst (v := nI 0) dX6_init_162 jc0 ?_
  refine ev_bipush (v := nI 116) dX6_init_163 jb116 ?_
  refine ev_castoreV (y := nI 116) dX6_init_165 (h.k (by decide) (by decide) (by decide)) (by rw [h.1]; decide) (h.ix (n := 0) (by decide) (by decide) (by decide)) (by decide) ?_
  refine ev_dup dX6_init_166 rfl ?_
  refine ev_iconst (v := nI 1) dX6_init_167 jc1 ?_
  refine ev_bipush (v := nI 114) dX6_init_168 jb114 ?_
  refine ev_castoreV (y := nI 114) dX6_init_170 (h.k (by decide) (by decide) (by decide)) (by rw [h.1]; decide) (h.ix (n := 1) (by decide) (by decide) (by decide)) (by decide) ?_
  refine ev_dup dX6_init_171 rfl ?_
  refine ev_iconst (v := nI 2) dX6_init_172 jc2 ?_
  refine ev_bipush (v := nI 117) dX6_init_173 jb117 ?_
  refine ev_castoreV (y := nI 117) dX6_init_175 (h.k (by decide) (by decide) (by decide)) (by rw [h.1]; decide) (h.ix (n := 2) (by decide) (by decide) (by decide)) (by decide) ?_
  refine ev_dup dX6_init_176 rfl ?_
  refine ev_iconst (v := nI 3) dX6_init_177 jc3 ?_
  refine ev_bipush (v := nI 101) dX6_init_178 jb101 ?_
  refine ev_castoreV (y := nI 101) dX6_init_180 (h.k (by decide) (by decide) (by decide)) (by rw [h.1]; decide) (h.ix (n := 3) (by decide) (by decide) (by decide)) (by decide) ?_
  refine fm_put dX6_init_181 pX6_36_6 h rfl (by decide) (fun cr h => ?_)
  refine ev_aload_n dX6_init_184 rfl ?_
  refine ev_iconst (v := nI 5) dX6_init_185 jc5 ?_
  refine fm_new_char (c := 67) (sl := 13425) (n := 5) dX6_init_186 (by decide) (by decide) (by decide) h (by decide) (by decide) (fun K h => ?_)
  refine ev_dup dX6_init_188 rfl ?_
  refine ev_iconst (v := nI 0) dX6_init_189 jc0 ?_
  refine ev_bipush (v := nI 115) dX6_init_190 jb115 ?_
  refine ev_castoreV (y := nI 115) dX6_init_192 (h.k (by decide) (by decide) (by decide)) (by rw [h.1]; decide) (h.ix (n := 0) (by decide) (by decide) (by decide)) (by decide) ?_
  refine ev_dup dX6_init_193 rfl ?_
  refine ev_iconst (v := nI 1) dX6_init_194 jc1 ?_
  refine ev_bipush (v := nI 104) dX6_init_195 jb104 ?_
  refine ev_castoreV (y := nI 104) dX6_init_197 (h.k (by decide) (by decide) (by decide)) (by rw [h.1]; decide) (h.ix (n := 1) (by decide) (by decide) (by decide)) (by decide) ?_
  refine ev_dup dX6_init_198 rfl ?_
  refine ev_iconst (v := nI 2) dX6_init_199 jc2 ?_
  refine ev_bipush (v := nI 111) dX6_init_200 jb111 ?_
  refine ev_castoreV (y := nI 111) dX6_init_202 (h.k (by decide) (by decide) (by decide)) (by rw [h.1]; decide) (h.ix (n := 2) (by decide) (by decide) (by decide)) (by decide) ?_
  refine ev_dup dX6_init_203 rfl ?_
  refine ev_iconst (v := nI 3) dX6_init_204 jc3 ?_
  refine ev_bipush (v := nI 97) dX6_init_205 jb97 ?_
  refine ev_castoreV (y := nI 97) dX6_init_207 (h.k (by decide) (by decide) (by decide)) (by rw [h.1]; decide) (h.ix (n := 3) (by decide) (by decide) (by decide)) (by decide) ?_
  refine ev_dup dX6_init_208 rfl ?_
  refine ev_iconst (v := nI 4) dX6_init_209 jc4 ?_
  refine ev_bipush (v := nI 108) dX6_init_210 jb108 ?_
  refine ev_castoreV (y := nI 108) dX6_init_212 (h.k (by decide) (by decide) (by decide)) (by rw [h.1]; decide) (h.ix (n := 4) (by decide) (by decide) (by decide)) (by decide) ?_
  refine fm_put dX6_init_213 pX6_39_6 h rfl (by decide) (fun cr h => ?_)
  refine ev_aload_n dX6_init_216 rfl ?_
  refine ev_iconst (v := nI 4) dX6_init_217 jc4 ?_
  refine fm_new_char (c := 66) (sl := 13421) (n := 4) dX6_init_218 (by decide) (by decide) (by decide) h (by decide) (by decide) (fun K h => ?_)
  refine ev_dup dX6_init_220 rfl ?_
  refine ev_iconst (v := nI 0) dX6_init_221 jc0 ?_
  refine ev_bipush (v := nI 115) dX6_init_222 jb115 ?_
  refine ev_castoreV (y := nI 115) dX6_init_224 (h.k (by decide) (by decide) (by decide)) (by rw [h.1]; decide) (h.ix (n := 0) (by decide) (by decide) (by decide)) (by decide) ?_
  refine ev_dup dX6_init_225 rfl ?_
  refine ev_iconst (v := nI 1) dX6_init_226 jc1 ?_
  refine ev_bipush (v := nI 105) dX6_init_227 jb105 ?_
  refine ev_castoreV (y := nI 105) dX6_init_229 (h.k (by decide) (by decide) (by decide)) (by rw [h.1]; decide) (h.ix (n := 1) (by decide) (by decide) (by decide)) (by decide) ?_
  refine ev_dup dX6_init_230 rfl ?_
  refine ev_iconst (v := nI 2) dX6_init_231 jc2 ?_
  refine ev_bipush (v := nI 122) dX6_init_232 jb122 ?_
  refine ev_castoreV (y := nI 122) dX6_init_234 (h.k (by decide) (by decide) (by decide)) (by rw [h.1]; decide) (h.ix (n := 2) (by decide) (by decide) (by decide)) (by decide) ?_
  refine ev_dup dX6_init_235 rfl ?_
  refine ev_iconst (v := nI 3) dX6_init_236 jc3 ?_
  refine ev_bipush (v := nI 101) dX6_init_237 jb101 ?_
  refine ev_castoreV (y := nI 101) dX6_init_239 (h.k (by decide) (by decide) (by decide)) (by rw [h.1]; decide) (h.ix (n := 3) (by decide) (by decide) (by decide)) (by decide) ?_
  refine fm_put dX6_init_240 pX6_42_6 h rfl (by decide) (fun cr h => ?_)
  refine ev_aload_n dX6_init_243 rfl ?_
  refine ev_iconst (v := nI 5) dX6_init_244 jc5 ?_
  refine fm_new_char (c := 65) (sl := 13416) (n := 5) dX6_init_245 (by decide) (by decide) (by decide) h (by decide) (by decide) (fun K h => ?_)
  refine ev_dup dX6_init_247 rfl ?_
  refine ev_iconst (v := nI 0) dX6_init_248 jc0 ?_
  refine ev_bipush (v := nI 108) dX6_init_249 jb108 ?_
  refine ev_castoreV (y := nI 108) dX6_init_251 (h.k (by decide) (by decide) (by decide)) (by rw [h.1]; decide) (h.ix (n := 0) (by decide) (by decide) (by decide)) (by decide) ?_
  refine ev_dup dX6_init_252 rfl ?_
  refine ev_iconst (v := nI 1) dX6_init_253 jc1 ?_
  refine ev_bipush (v := nI 117) dX6_init_254 jb117 ?_
  refine ev_castoreV (y := nI 117) dX6_init_256 (h.k (by decide) (by decide) (by decide)) (by rw [h.1]; decide) (h.ix (n := 1) (by decide) (by decide) (by decide)) (by decide) ?_
  refine ev_dup dX6_init_257 rfl ?_
  refine ev_iconst (v := nI 2) dX6_init_258 jc2 ?_
  refine ev_bipush (v := nI 114) dX6_init_259 jb114 ?_
  refine ev_castoreV (y := nI 114) dX6_init_261 (h.k (by decide) (by decide) (by decide)) (by rw [h.1]; decide) (h.ix (n := 2) (by decide) (by decide) (by decide)) (by decide) ?_
  refine ev_dup dX6_init_262 rfl ?_
  refine ev_iconst (v := nI 3) dX6_init_263 jc3 ?_
  refine ev_bipush (v := nI 101) dX6_init_264 jb101 ?_
  refine ev_castoreV (y := nI 101) dX6_init_266 (h.k (by decide) (by decide) (by decide)) (by rw [h.1]; decide) (h.ix (n := 3) (by decide) (by decide) (by decide)) (by decide) ?_
  refine ev_dup dX6_init_267 rfl ?_
  refine ev_iconst (v := nI 4) dX6_init_268 jc4 ?_
  refine ev_bipush (v := nI 115) dX6_init_269 jb115 ?_
  refine ev_castoreV (y := nI 115) dX6_init_271 (h.k (by decide) (by decide) (by decide)) (by rw [h.1]; decide) (h.ix (n := 4) (by decide) (by decide) (by decide)) (by decide) ?_
  refine fm_put dX6_init_272 pX6_45_6 h rfl (by decide) (fun cr h => ?_)
  refine ev_aload_n dX6_init_275 rfl ?_
  refine ev_iconst (v := nI 5) dX6_init_276 jc5 ?_
  refine fm_new_char (c := 64) (sl := 13411) (n := 5) dX6_init_277 (by decide) (by decide) (by decide) h (by decide) (by decide) (fun K h => ?_)
  refine ev_dup dX6_init_279 rfl ?_
  refine ev_iconst (v := nI 0) dX6_init_280 jc0 ?_
  refine ev_bipush (v := nI 109) dX6_init_281 jb109 ?_
  refine ev_castoreV (y := nI 109) dX6_init_283 (h.k (by decide) (by decide) (by decide)) (by rw [h.1]; decide) (h.ix (n := 0) (by decide) (by decide) (by decide)) (by decide) ?_
  refine ev_dup dX6_init_284 rfl ?_
  refine ev_iconst (v := nI 1) dX6_init_285 jc1 ?_
  refine ev_bipush (v := nI 101) dX6_init_286 jb101 ?_
  refine ev_castoreV (y := nI 101) dX6_init_288 (h.k (by decide) (by decide) (by decide)) (by rw [h.1]; decide) (h.ix (n := 1) (by decide) (by decide) (by decide)) (by decide) ?_
  refine ev_dup dX6_init_289 rfl ?_
  refine ev_iconst (v := nI 2) dX6_init_290 jc2 ?_
  refine ev_bipush (v := nI 110) dX6_init_291 jb110 ?_
  refine ev_castoreV (y := nI 110) dX6_init_293 (h.k (by decide) (by decide) (by decide)) (by rw [h.1]; decide) (h.ix (n := 2) (by decide) (by decide) (by decide)) (by decide) ?_
  refine ev_dup dX6_init_294 rfl ?_
  refine ev_iconst (v := nI 3) dX6_init_295 jc3 ?_
  refine ev_bipush (v := nI 100) dX6_init_296 jb100 ?_
  refine ev_castoreV (y := nI 100) dX6_init_298 (h.k (by decide) (by decide) (by decide)) (by rw [h.1]; decide) (h.ix (n := 3) (by decide) (by decide) (by decide)) (by decide) ?_
  refine ev_dup dX6_init_299 rfl ?_
  refine ev_iconst (v := nI 4) dX6_init_300 jc4 ?_
  refine ev_bipush (v := nI 115) dX6_init_301 jb115 ?_
  refine ev_castoreV (y := nI 115) dX6_init_303 (h.k (by decide) (by decide) (by decide)) (by rw [h.1]; decide) (h.ix (n := 4) (by decide) (by decide) (by decide)) (by decide) ?_
  refine fm_put dX6_init_304 pX6_48_6 h rfl (by decide) (fun cr h => ?_)
  refine ev_aload_n dX6_init_307 rfl ?_
  refine ev_bipush (v := nI 7) dX6_init_308 jb7 ?_
  refine fm_new_char (c := 63) (sl := 13404) (n := 7) dX6_init_310 (by decide) (by decide) (by decide) h (by decide) (by decide) (fun K h => ?_)
  refine ev_dup dX6_init_312 rfl ?_
  refine ev_iconst (v := nI 0) dX6_init_313 jc0 ?_
  refine ev_bipush (v := nI 115) dX6_init_314 jb115 ?_
  refine ev_castoreV (y := nI 115) dX6_init_316 (h.k (by decide) (by decide) (by decide)) (by rw [h.1]; decide) (h.ix (n := 0) (by decide) (by decide) (by decide)) (by decide) ?_
  refine ev_dup dX6_init_317 rfl ?_
  refine ev_iconst (v := nI 1) dX6_init_318 jc1 ?_
  refine ev_bipush (v := nI 116) dX6_init_319 jb116 ?_
  refine ev_castoreV (y := nI 116) dX6_init_321 (h.k (by decide) (by decide) (by decide)) (by rw [h.1]; decide) (h.ix (n := 1) (by decide) (by decide) (by decide)) (by decide) ?_
  refine ev_dup dX6_init_322 rfl ?_
  refine ev_iconst (v := nI 2) dX6_init_323 jc2 ?_
  refine ev_bipush (v := nI 97) dX6_init_324 jb97 ?_
  refine ev_castoreV (y := nI 97) dX6_init_326 (h.k (by decide) (by decide) (by decide)) (by rw [h.1]; decide) (h.ix (n := 2) (by decide) (by decide) (by decide)) (by decide) ?_
  refine ev_dup dX6_init_327 rfl ?_
  refine ev_iconst (v := nI 3) dX6_init_328 jc3 ?_
  refine ev_bipush (v := nI 114) dX6_init_329 jb114 ?_
  refine ev_castoreV (y := nI 114) dX6_init_331 (h.k (by decide) (by decide) (by decide)) (by rw [h.1]; decide) (h.ix (n := 3) (by decide) (by decide) (by decide)) (by decide) ?_
  refine ev_dup dX6_init_332 rfl ?_
  refine ev_iconst (v := nI 4) dX6_init_333 jc4 ?_
  refine ev_bipush (v := nI 118) dX6_init_334 jb118 ?_
  refine ev_castoreV (y := nI 118) dX6_init_336 (h.k (by decide) (by decide) (by decide)) (by rw [h.1]; decide) (h.ix (n := 4) (by decide) (by decide) (by decide)) (by decide) ?_
  refine ev_dup dX6_init_337 rfl ?_
  refine ev_iconst (v := nI 5) dX6_init_338 jc5 ?_
  refine ev_bipush (v := nI 101) dX6_init_339 jb101 ?_
  refine ev_castoreV (y := nI 101) dX6_init_341 (h.k (by decide) (by decide) (by decide)) (by rw [h.1]; decide) (h.ix (n := 5) (by decide) (by decide) (by decide)) (by decide) ?_
  refine ev_dup dX6_init_342 rfl ?_
  refine ev_bipush (v := nI 6) dX6_init_343 jb6 ?_
  refine ev_bipush (v := nI 115) dX6_init_345 jb115 ?_
  refine ev_castoreV (y := nI 115) dX6_init_347 (h.k (by decide) (by decide) (by decide)) (by rw [h.1]; decide) (h.ix (n := 6) (by decide) (by decide) (by decide)) (by decide) ?_
  refine fm_put dX6_init_348 pX6_51_6 h rfl (by decide) (fun cr h => ?_)
  refine ev_aload_n dX6_init_351 rfl ?_
  refine ev_bipush (v := nI 6) dX6_init_352 jb6 ?_
  refine fm_new_char (c := 62) (sl := 13398) (n := 6) dX6_init_354 (by decide) (by decide) (by decide) h (by decide) (by decide) (fun K h => ?_)
  refine ev_dup dX6_init_356 rfl ?_
  refine ev_iconst (v := nI 0) dX6_init_357 jc0 ?_
  refine ev_bipush (v := nI 99) dX6_init_358 jb99 ?_
  refine ev_castoreV (y := nI 99) dX6_init_360 (h.k (by decide) (by decide) (by decide)) (by rw [h.1]; decide) (h.ix (n := 0) (by decide) (by decide) (by decide)) (by decide) ?_
  refine ev_dup dX6_init_361 rfl ?_
  refine ev_iconst (v := nI 1) dX6_init_362 jc1 ?_
  refine ev_bipush (v := nI 111) dX6_init_363 jb111 ?_
  refine ev_castoreV (y := nI 111) dX6_init_365 (h.k (by decide) (by decide) (by decide)) (by rw [h.1]; decide) (h.ix (n := 1) (by decide) (by decide) (by decide)) (by decide) ?_
  refine ev_dup dX6_init_366 rfl ?_
  refine ev_iconst (v := nI 2) dX6_init_367 jc2 ?_
  refine ev_bipush (v := nI 117) dX6_init_368 jb117 ?_
  refine ev_castoreV (y := nI 117) dX6_init_370 (h.k (by decide) (by decide) (by decide)) (by rw [h.1]; decide) (h.ix (n := 2) (by decide) (by decide) (by decide)) (by decide) ?_
  refine ev_dup dX6_init_371 rfl ?_
  refine ev_iconst (v := nI 3) dX6_init_372 jc3 ?_
  refine ev_bipush (v := nI 110) dX6_init_373 jb110 ?_
  refine ev_castoreV (y := nI 110) dX6_init_375 (h.k (by decide) (by decide) (by decide)) (by rw [h.1]; decide) (h.ix (n := 3) (by decide) (by decide) (by decide)) (by decide) ?_
  refine ev_dup dX6_init_376 rfl ?_
  refine ev_iconst (v := nI 4) dX6_init_377 jc4 ?_
  refine ev_bipush (v := nI 116) dX6_init_378 jb116 ?_
  refine ev_castoreV (y := nI 116) dX6_init_380 (h.k (by decide) (by decide) (by decide)) (by rw [h.1]; decide) (h.ix (n := 4) (by decide) (by decide) (by decide)) (by decide) ?_
  refine ev_dup dX6_init_381 rfl ?_
  refine ev_iconst (v := nI 5) dX6_init_382 jc5 ?_
  refine ev_bipush (v := nI 115) dX6_init_383 jb115 ?_
  refine ev_castoreV (y := nI 115) dX6_init_385 (h.k (by decide) (by decide) (by decide)) (by rw [h.1]; decide) (h.ix (n := 5) (by decide) (by decide) (by decide)) (by decide) ?_
  refine fm_put dX6_init_386 pX6_54_6 h rfl (by decide) (fun cr h => ?_)
  exact c6_2 h hq
theorem c6_0 {g : jG} {d : Nat} {K0 K : jK} {cr0 cr : jR} {ci : jI} {cj : jJ} {Qr : jQ} {Qx : jX} (h : FM K0 cr0 1548 [] K cr) (hq : ∀ K cr, FM K0 cr0 1624 [106, 102, 98, 96, 95, 94, 93, 92, 91, 90, 89, 88, 87, 86, 85, 84, 83, 82, 81, 80, 79, 78, 77, 76, 75, 74, 73, 72, 71, 67, 66, 65, 63, 62, 61, 57, 56, 51, 50, 46, 45, 44, 43, 42, 41, 40, 39, 37, 36, 35, 34, 33, 32, 31, 30, 29, 28, 27, 26, 25, 24, 23, 22, 21, 20, 19, 18, 17, 16, 15, 14, 13, 12, 11, 9, 0] K cr → Qr none K (jwa [(1547, 8, (-1)), (1550, 0, nI 98), (1550, 1, nI 97), (1550, 2, nI 121), (1551, 0, nI 109), (1551, 1, nI 105), (1551, 2, nI 108), (1551, 3, nI 101), (1552, 0, nI 104), (1552, 1, nI 117), (1552, 2, nI 110), (1552, 3, nI 103), (1552, 4, nI 101), (1552, 5, nI 114), (1553, 0, nI 112), (1553, 1, nI 97), (1553, 2, nI 105), (1553, 3, nI 114), (1554, 0, nI 105), (1554, 1, nI 110), (1555, 0, nI 116), (1555, 1, nI 114), (1555, 2, nI 117), (1555, 3, nI 101), (1556, 0, nI 115), (1556, 1, nI 104), (1556, 2, nI 111), (1556, 3, nI 97), (1556, 4, nI 108), (1557, 0, nI 115), (1557, 1, nI 105), (1557, 2, nI 122), (1557, 3, nI 101), (1558, 0, nI 108), (1558, 1, nI 117), (1558, 2, nI 114), (1558, 3, nI 101), (1558, 4, nI 115), (1559, 0, nI 109), (1559, 1, nI 101), (1559, 2, nI 110), (1559, 3, nI 100), (1559, 4, nI 115), (1560, 0, nI 115), (1560, 1, nI 116), (1560, 2, nI 97), (1560, 3, nI 114), (1560, 4, nI 118), (1560, 5, nI 101), (1560, 6, nI 115), (1561, 0, nI 99), (1561, 1, nI 111), (1561, 2, nI 117), (1561, 3, nI 110), (1561, 4, nI 116), (1561, 5, nI 115), (1562, 0, nI 115), (1562, 1, nI 116), (1562, 2, nI 111), (1562, 3, nI 114), (1562, 4, nI 109), (1563, 0, nI 118), (1563, 1, nI 111), (1563, 2, nI 119), (1563, 3, nI 115), (1564, 0, nI 102), (1564, 1, nI 97), (1564, 2, nI 114), (1565, 0, nI 121), (1565, 1, nI 101), (1565, 2, nI 97), (1565, 3, nI 114), (1566, 0, nI 108), (1566, 1, nI 97), (1566, 2, nI 116), (1566, 3, nI 101), (1567, 0, nI 99), (1567, 1, nI 97), (1567, 2, nI 117), (1567, 3, nI 103), (1567, 4, nI 104), (1567, 5, nI 116), (1568, 0, nI 115), (1568, 1, nI 105), (1568, 2, nI 110), (1568, 3, nI 99), (1568, 4, nI 101), (1569, 0, nI 110), (1569, 1, nI 117), (1569, 2, nI 109), (1569, 3, nI 98), (1569, 4, nI 101), (1569, 5, nI 114), (1570, 0, nI 112), (1570, 1, nI 108), (1570, 2, nI 97), (1570, 3, nI 99), (1570, 4, nI 101), (1571, 0, nI 111), (1571, 1, nI 114), (1572, 0, nI 97), (1572, 1, nI 110), (1572, 2, nI 100), (1573, 0, nI 110), (1573, 1, nI 111), (1573, 2, nI 116), (1574, 0, nI 97), (1574, 1, nI 108), (1574, 2, nI 108), (1575, 0, nI 109), (1575, 1, nI 105), (1575, 2, nI 110), (1576, 0, nI 109), (1576, 1, nI 97), (1576, 2, nI 120), (1582, 0, (-1)), (1582, 1, (-1)), (1582, 2, (-1)), (1582, 3, (-1)), (1582, 4, (-1)), (1582, 5, (-1)), (1582, 6, (-1)), (1582, 7, (-1)), (1595, 0, nI 102), (1595, 1, nI 105), (1595, 2, nI 114), (1595, 3, nI 115), (1595, 4, nI 116), (1596, 0, nI 108), (1596, 1, nI 97), (1596, 2, nI 115), (1596, 3, nI 116), (1597, 0, nI 111), (1597, 1, nI 102), (1597, 2, nI 116), (1597, 3, nI 101), (1597, 4, nI 110), (1598, 0, nI 116), (1598, 1, nI 111), (1598, 2, nI 116), (1598, 3, nI 97), (1598, 4, nI 108), (1599, 0, nI 109), (1599, 1, nI 111), (1599, 2, nI 115), (1599, 3, nI 116), (1600, 0, nI 108), (1600, 1, nI 101), (1600, 2, nI 97), (1600, 3, nI 115), (1600, 4, nI 116), (1601, 0, nI 110), (1601, 1, nI 111), (1601, 2, nI 116), (1602, 0, nI 97), (1602, 1, nI 110), (1602, 2, nI 100), (1603, 0, nI 111), (1603, 1, nI 114), (1604, 0, nI 97), (1604, 1, nI 108), (1604, 2, nI 108), (1605, 0, nI 109), (1605, 1, nI 105), (1605, 2, nI 110), (1606, 0, nI 109), (1606, 1, nI 97), (1606, 2, nI 120), (1607, 0, nI 104), (1607, 1, nI 117), (1607, 2, nI 110), (1607, 3, nI 103), (1607, 4, nI 101), (1607, 5, nI 114), (1608, 0, nI 121), (1608, 1, nI 101), (1608, 2, nI 97), (1608, 3, nI 114), (1609, 0, nI 118), (1609, 1, nI 111), (1609, 2, nI 119), (1609, 3, nI 115), (1610, 0, nI 108), (1610, 1, nI 97), (1610, 2, nI 116), (1610, 3, nI 101), (1611, 0, nI 102), (1611, 1, nI 97), (1611, 2, nI 114), (1612, 0, nI 115), (1612, 1, nI 105), (1612, 2, nI 122), (1612, 3, nI 101), (1613, 0, nI 99), (1613, 1, nI 97), (1613, 2, nI 117), (1613, 3, nI 103), (1613, 4, nI 104), (1613, 5, nI 116), (1614, 0, nI 116), (1614, 1, nI 114), (1614, 2, nI 117), (1614, 3, nI 101), (1615, 0, nI 115), (1615, 1, nI 105), (1615, 2, nI 110), (1615, 3, nI 99), (1615, 4, nI 101), (1616, 0, nI 110), (1616, 1, nI 117), (1616, 2, nI 109), (1616, 3, nI 98), (1616, 4, nI 101), (1616, 5, nI 114), (1617, 0, nI 112), (1617, 1, nI 108), (1617, 2, nI 97), (1617, 3, nI 99), (1617, 4, nI 101), (1618, 0, nI 118), (1618, 1, nI 111), (1618, 2, nI 119), (1618, 3, nI 115), (1619, 0, nI 99), (1619, 1, nI 97), (1619, 2, nI 117), (1619, 3, nI 103), (1619, 4, nI 104), (1619, 5, nI 116)] ci) (ju cj 1547 70 1) cr) : Ev g (d + 1) mX6_init 0 [.ref 1547] [] K ci cj cr 76 15059 Qr Qx := by
  refine ev_aload_n dX6_init_0 rfl ?_
  refine ev_objInit dX6_init_1 q1705 (Nat.le_of_ble_eq_true rfl) ?_
  refine ev_aload_n dX6_init_4 rfl ?_
  refine ev_sipush (v := nI 1600) dX6_init_5 js1600 ?_
  refine fm_new_int (c := 75) (sl := 13459) (n := 1600) dX6_init_8 (by decide) (by decide) (by decide) h (by decide) (by decide) (fun K h => ?_)
  refine fm_put dX6_init_10 pX6_7_6 h rfl (by decide) (fun cr h => ?_)
  refine ev_aload_n dX6_init_13 rfl ?_
  refine ev_iconst (v := (-1)) dX6_init_14 jcm1 ?_
  refine ev_putI dX6_init_15 (pX6_13_6 _) (h.k0) (by rw [h.1]; decide) rfl rfl rfl ?_
  refine ev_aload_n dX6_init_18 rfl ?_
  refine ev_bipush (v := nI 6) dX6_init_19 jb6 ?_
  refine fm_new_int (c := 74) (sl := 13453) (n := 6) dX6_init_21 (by decide) (by decide) (by decide) h (by decide) (by decide) (fun K h => ?_)
  refine fm_put dX6_init_23 pX6_17_6 h rfl (by decide) (fun cr h => ?_)
  refine ev_aload_n dX6_init_26 rfl ?_
  refine ev_iconst (v := nI 3) dX6_init_27 jc3 ?_
  refine fm_new_char (c := 73) (sl := 13450) (n := 3) dX6_init_28 (by decide) (by decide) (by decide) h (by decide) (by decide) (fun K h => ?_)
  refine ev_dup dX6_init_30 rfl ?_
  refine ev_iconst (v := nI 0) dX6_init_31 jc0 ?_
  refine ev_bipush (v := nI 98) dX6_init_32 jb98 ?_
  refine ev_castoreV (y := nI 98) dX6_init_34 (h.k (by decide) (by decide) (by decide)) (by rw [h.1]; decide) (h.ix (n := 0) (by decide) (by decide) (by decide)) (by decide) ?_
  refine ev_dup dX6_init_35 rfl ?_
  refine ev_iconst (v := nI 1) dX6_init_36 jc1 ?_
  refine ev_bipush (v := nI 97) dX6_init_37 jb97 ?_
  refine ev_castoreV (y := nI 97) dX6_init_39 (h.k (by decide) (by decide) (by decide)) (by rw [h.1]; decide) (h.ix (n := 1) (by decide) (by decide) (by decide)) (by decide) ?_
  refine ev_dup dX6_init_40 rfl ?_
  refine ev_iconst (v := nI 2) dX6_init_41 jc2 ?_
  refine ev_bipush (v := nI 121) dX6_init_42 jb121 ?_
  refine ev_castoreV (y := nI 121) dX6_init_44 (h.k (by decide) (by decide) (by decide)) (by rw [h.1]; decide) (h.ix (n := 2) (by decide) (by decide) (by decide)) (by decide) ?_
  refine fm_put dX6_init_45 pX6_20_6 h rfl (by decide) (fun cr h => ?_)
  refine ev_aload_n dX6_init_48 rfl ?_
  refine ev_iconst (v := nI 4) dX6_init_49 jc4 ?_
  refine fm_new_char (c := 72) (sl := 13446) (n := 4) dX6_init_50 (by decide) (by decide) (by decide) h (by decide) (by decide) (fun K h => ?_)
  refine ev_dup dX6_init_52 rfl ?_
  refine ev_iconst (v := nI 0) dX6_init_53 jc0 ?_
  refine ev_bipush (v := nI 109) dX6_init_54 jb109 ?_
  refine ev_castoreV (y := nI 109) dX6_init_56 (h.k (by decide) (by decide) (by decide)) (by rw [h.1]; decide) (h.ix (n := 0) (by decide) (by decide) (by decide)) (by decide) ?_
  refine ev_dup dX6_init_57 rfl ?_
  refine ev_iconst (v := nI 1) dX6_init_58 jc1 ?_
  refine ev_bipush (v := nI 105) dX6_init_59 jb105 ?_
  refine ev_castoreV (y := nI 105) dX6_init_61 (h.k (by decide) (by decide) (by decide)) (by rw [h.1]; decide) (h.ix (n := 1) (by decide) (by decide) (by decide)) (by decide) ?_
  refine ev_dup dX6_init_62 rfl ?_
  refine ev_iconst (v := nI 2) dX6_init_63 jc2 ?_
  refine ev_bipush (v := nI 108) dX6_init_64 jb108 ?_
  refine ev_castoreV (y := nI 108) dX6_init_66 (h.k (by decide) (by decide) (by decide)) (by rw [h.1]; decide) (h.ix (n := 2) (by decide) (by decide) (by decide)) (by decide) ?_
  refine ev_dup dX6_init_67 rfl ?_
  refine ev_iconst (v := nI 3) dX6_init_68 jc3 ?_
  refine ev_bipush (v := nI 101) dX6_init_69 jb101 ?_
  refine ev_castoreV (y := nI 101) dX6_init_71 (h.k (by decide) (by decide) (by decide)) (by rw [h.1]; decide) (h.ix (n := 3) (by decide) (by decide) (by decide)) (by decide) ?_
  refine fm_put dX6_init_72 pX6_24_6 h rfl (by decide) (fun cr h => ?_)
  refine ev_aload_n dX6_init_75 rfl ?_
  refine ev_bipush (v := nI 6) dX6_init_76 jb6 ?_
  refine fm_new_char (c := 71) (sl := 13440) (n := 6) dX6_init_78 (by decide) (by decide) (by decide) h (by decide) (by decide) (fun K h => ?_)
  refine ev_dup dX6_init_80 rfl ?_
  refine ev_iconst (v := nI 0) dX6_init_81 jc0 ?_
  refine ev_bipush (v := nI 104) dX6_init_82 jb104 ?_
  refine ev_castoreV (y := nI 104) dX6_init_84 (h.k (by decide) (by decide) (by decide)) (by rw [h.1]; decide) (h.ix (n := 0) (by decide) (by decide) (by decide)) (by decide) ?_
  refine ev_dup dX6_init_85 rfl ?_
  refine ev_iconst (v := nI 1) dX6_init_86 jc1 ?_
  refine ev_bipush (v := nI 117) dX6_init_87 jb117 ?_
  refine ev_castoreV (y := nI 117) dX6_init_89 (h.k (by decide) (by decide) (by decide)) (by rw [h.1]; decide) (h.ix (n := 1) (by decide) (by decide) (by decide)) (by decide) ?_
  refine ev_dup dX6_init_90 rfl ?_
  refine ev_iconst (v := nI 2) dX6_init_91 jc2 ?_
  refine ev_bipush (v := nI 110) dX6_init_92 jb110 ?_
  refine ev_castoreV (y := nI 110) dX6_init_94 (h.k (by decide) (by decide) (by decide)) (by rw [h.1]; decide) (h.ix (n := 2) (by decide) (by decide) (by decide)) (by decide) ?_
  refine ev_dup dX6_init_95 rfl ?_
  refine ev_iconst (v := nI 3) dX6_init_96 jc3 ?_
  refine ev_bipush (v := nI 103) dX6_init_97 jb103 ?_
  refine ev_castoreV (y := nI 103) dX6_init_99 (h.k (by decide) (by decide) (by decide)) (by rw [h.1]; decide) (h.ix (n := 3) (by decide) (by decide) (by decide)) (by decide) ?_
  refine ev_dup dX6_init_100 rfl ?_
  refine ev_iconst (v := nI 4) dX6_init_101 jc4 ?_
  refine ev_bipush (v := nI 101) dX6_init_102 jb101 ?_
  refine ev_castoreV (y := nI 101) dX6_init_104 (h.k (by decide) (by decide) (by decide)) (by rw [h.1]; decide) (h.ix (n := 4) (by decide) (by decide) (by decide)) (by decide) ?_
  refine ev_dup dX6_init_105 rfl ?_
  refine ev_iconst (v := nI 5) dX6_init_106 jc5 ?_
  refine ev_bipush (v := nI 114) dX6_init_107 jb114 ?_
  refine ev_castoreV (y := nI 114) dX6_init_109 (h.k (by decide) (by decide) (by decide)) (by rw [h.1]; decide) (h.ix (n := 5) (by decide) (by decide) (by decide)) (by decide) ?_
  refine fm_put dX6_init_110 pX6_27_6 h rfl (by decide) (fun cr h => ?_)
  refine ev_aload_n dX6_init_113 rfl ?_
  refine ev_iconst (v := nI 4) dX6_init_114 jc4 ?_
  refine fm_new_char (c := 70) (sl := 13436) (n := 4) dX6_init_115 (by decide) (by decide) (by decide) h (by decide) (by decide) (fun K h => ?_)
  refine ev_dup dX6_init_117 rfl ?_
  refine ev_iconst (v := nI 0) dX6_init_118 jc0 ?_
  refine ev_bipush (v := nI 112) dX6_init_119 jb112 ?_
  refine ev_castoreV (y := nI 112) dX6_init_121 (h.k (by decide) (by decide) (by decide)) (by rw [h.1]; decide) (h.ix (n := 0) (by decide) (by decide) (by decide)) (by decide) ?_
  refine ev_dup dX6_init_122 rfl ?_
  refine ev_iconst (v := nI 1) dX6_init_123 jc1 ?_
  refine ev_bipush (v := nI 97) dX6_init_124 jb97 ?_
  refine ev_castoreV (y := nI 97) dX6_init_126 (h.k (by decide) (by decide) (by decide)) (by rw [h.1]; decide) (h.ix (n := 1) (by decide) (by decide) (by decide)) (by decide) ?_
  refine ev_dup dX6_init_127 rfl ?_
  refine ev_iconst (v := nI 2) dX6_init_128 jc2 ?_
  refine ev_bipush (v := nI 105) dX6_init_129 jb105 ?_
  refine ev_castoreV (y := nI 105) dX6_init_131 (h.k (by decide) (by decide) (by decide)) (by rw [h.1]; decide) (h.ix (n := 2) (by decide) (by decide) (by decide)) (by decide) ?_
  refine ev_dup dX6_init_132 rfl ?_
  refine ev_iconst (v := nI 3) dX6_init_133 jc3 ?_
  refine ev_bipush (v := nI 114) dX6_init_134 jb114 ?_
  refine ev_castoreV (y := nI 114) dX6_init_136 (h.k (by decide) (by decide) (by decide)) (by rw [h.1]; decide) (h.ix (n := 3) (by decide) (by decide) (by decide)) (by decide) ?_
  refine fm_put dX6_init_137 pX6_30_6 h rfl (by decide) (fun cr h => ?_)
  exact c6_1 h hq
def mRL : List Nat := [106, 102, 98, 96, 95, 94, 93, 92, 91, 90, 89, 88, 87, 86, 85, 84, 83, 82, 81, 80, 79, 78, 77, 76, 75, 74, 73, 72, 71, 67, 66, 65, 63, 62, 61, 57, 56, 51, 50, 46, 45, 44, 43, 42, 41, 40, 39, 37, 36, 35, 34, 33, 32, 31, 30, 29, 28, 27, 26, 25, 24, 23, 22, 21, 20, 19, 18, 17, 16, 15, 14, 13, 12, 11, 9, 0]
theorem ctor6 {g : jG} {d : Nat} {K0 K : jK} {cr0 cr : jR} {ci : jI} {cj : jJ} {Qr : jQ} {Qx : jX} (h : FM K0 cr0 1548 [] K cr) (hq : ∀ K cr, FM K0 cr0 1624 mRL K cr → Qr none K (jwa mW ci) (ju cj 1547 70 1) cr) : EvM g (d + 1) mX6_init [.ref 1547] K ci cj cr 76 15059 Qr Qx := c6_0 h hq
theorem FM.mw {K0 K : jK} {cr0 cr : jR} (h : FM K0 cr0 1624 mRL K cr) : jMW K cr := by
  refine ⟨fun i hi => ?_, fun k hk hm => h.2.2.1 k ?_⟩
  · have h1 : 1547 ≤ i ∧ i < 1624 := by
      unfold mkd at hi
      by_cases e : i < 1547
      · rw [if_pos e] at hi; exact absurd rfl hi
      · rw [if_neg e] at hi
        refine ⟨by omega, ?_⟩
        by_cases e2 : i < 1624
        · exact e2
        · exfalso
          apply hi
          rw [List.getD_eq_getElem?_getD, List.getElem?_eq_none (by show mkdL.length ≤ _; have : mkdL.length = 77 := by decide
                                                                    omega)]
          rfl
    obtain ⟨g1, g2⟩ := h.2.1 i h1.1 h1.2
    exact ⟨g1, g2, by rw [h.1]; exact h1.2⟩
  · have key : ∀ k, k < 108 → mar k ≠ 0 → k ∈ mRL := by decide
    exact key k hk hm
