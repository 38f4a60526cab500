/-! WORDS, SIGNS, NUMBERS IN THE MODEL -/
set_option maxRecDepth 100000
/-- the model's words -/
def wtab : List (Nat × List Nat) := [(1550, [98, 97, 121]), (1551, [109, 105, 108, 101]), (1552, [104, 117, 110, 103, 101, 114]), (1553, [112, 97, 105, 114]), (1554, [105, 110]), (1555, [116, 114, 117, 101]), (1556, [115, 104, 111, 97, 108]), (1557, [115, 105, 122, 101]), (1558, [108, 117, 114, 101, 115]), (1559, [109, 101, 110, 100, 115]), (1560, [115, 116, 97, 114, 118, 101, 115]), (1561, [99, 111, 117, 110, 116, 115]), (1562, [115, 116, 111, 114, 109]), (1563, [118, 111, 119, 115]), (1564, [102, 97, 114]), (1565, [121, 101, 97, 114]), (1566, [108, 97, 116, 101]), (1567, [99, 97, 117, 103, 104, 116]), (1568, [115, 105, 110, 99, 101]), (1569, [110, 117, 109, 98, 101, 114]), (1570, [112, 108, 97, 99, 101]), (1571, [111, 114]), (1572, [97, 110, 100]), (1573, [110, 111, 116]), (1574, [97, 108, 108]), (1575, [109, 105, 110]), (1576, [109, 97, 120]), (1595, [102, 105, 114, 115, 116]), (1596, [108, 97, 115, 116]), (1597, [111, 102, 116, 101, 110]), (1598, [116, 111, 116, 97, 108]), (1599, [109, 111, 115, 116]), (1600, [108, 101, 97, 115, 116]), (1601, [110, 111, 116]), (1602, [97, 110, 100]), (1603, [111, 114]), (1604, [97, 108, 108]), (1605, [109, 105, 110]), (1606, [109, 97, 120]), (1607, [104, 117, 110, 103, 101, 114]), (1608, [121, 101, 97, 114]), (1609, [118, 111, 119, 115]), (1610, [108, 97, 116, 101]), (1611, [102, 97, 114]), (1612, [115, 105, 122, 101]), (1613, [99, 97, 117, 103, 104, 116]), (1614, [116, 114, 117, 101]), (1615, [115, 105, 110, 99, 101]), (1616, [110, 117, 109, 98, 101, 114]), (1617, [112, 108, 97, 99, 101]), (1618, [118, 111, 119, 115]), (1619, [99, 97, 117, 103, 104, 116])]
def WO (ci : jI) : Prop := ∀ q ∈ wtab, ∀ i, i < q.2.length → ci q.1 i = nI (q.2.getD i 0)
theorem wtab_k : ∀ q ∈ wtab, mkd q.1 = 102 ∧ mln q.1 = q.2.length ∧ q.1 ≠ 1547 ∧ q.2.length ≤ 7 ∧ 0 < q.2.length := by decide
theorem WO.fr {L M : List Nat} {ci ci' : jI} (h : WO ci) (g : Fr L M ci ci') (hL : ∀ q ∈ wtab, q.1 ∉ L) : WO ci' := fun q hq i hi => by
  rw [g.1 q.1 (wtab_k q hq).2.2.1 (hL q hq)]; exact h q hq i hi
theorem wtab_nil : ∀ q ∈ wtab, q.1 ∉ ([] : List Nat) := fun _ _ h => by cases h
/-- a fault -/
def BD (ci : jI) (k p : Nat) : Prop := ci 1547 5 = nI k ∧ ci 1547 6 = nI p ∧ 1 ≤ k ∧ k ≤ 5
section
variable {n : Nat} {t : jTx} {ci : jI} {cj : jJ}
theorem BD.ne {k p : Nat} (h : BD ci k p) : ¬ ci 1547 5 = 0 := by
  rw [h.1, nI_eq0 (by have := h.2.2; omega)]
  have := h.2.2; omega
theorem BD.fr {L M : List Nat} {ci' : jI} {k p : Nat} (h : BD ci k p) (g : Fr L M ci ci') (h5 : 5 ∉ M) (h6 : 6 ∉ M) : BD ci' k p := ⟨(g.2 5 h5).trans h.1, (g.2 6 h6).trans h.2.1, h.2.2⟩
theorem e6_fail {k p : Nat} (h : ci 1547 5 = 0) : fX6_fail n (nI k) (nI p) ci cj = some (ju (ju ci 1547 5 (nI k)) 1547 6 (nI p), cj) := by
  unfold fX6_fail
  rw [if_pos h]
theorem BD.mk' {k p : Nat} (h1 : 1 ≤ k) (h2 : k ≤ 5) : BD (ju (ju ci 1547 5 (nI k)) 1547 6 (nI p)) k p := ⟨by rw [ju_ne2 _ _ (by decide), ju_eq], ju_eq _ _ _ _, h1, h2⟩
theorem sp6_isHere (hn : 4000 ≤ n) (hT : TXok t) {p : Nat} (h : MN t ci p) (hW : WO ci) {w : Nat × List Nat} (hw : w ∈ wtab) : Wp (fX6_isHere n w.1 ci cj) (fun q => q.1 = (if hasW t p w.2 then nI 1 else nI 0) ∧ ML t q.2.1 (sk t p) ∧ Fr [] [2] ci q.2.1 ∧ q.2.2 = cj) := by
  have hT1 := hT.1
  obtain ⟨k1, k2, k3, k4, k5⟩ := wtab_k w hw
  have hb : ci 1547 5 = 0 := by obtain ⟨a, h, -⟩ := h; exact h.2.2.1
  unfold fX6_isHere fX6_isHere_28
  rw [if_pos k1, if_pos hb, wp_bind]
  refine (sp6_look hn hT h).mono ?_
  rintro ⟨x, d, j⟩ ⟨q1, q2, q3, q4⟩
  dsimp only at q1 q2 q3 q4 ⊢
  subst q1 q4
  rw [wp_bind, e6_isLetter (cAt_le hT _), wp_some]
  dsimp only
  have q2' := q2
  obtain ⟨h1, h2, h3, h4, h5, h6, h7⟩ := q2
  by_cases hl : isL (cAt t (sk t p))
  rotate_left
  · rw [if_neg hl, if_pos z00, wp_some, if_neg (show ¬ hasW t p w.2 from fun z => hl z.1)]; exact ⟨rfl, q2', q3, rfl⟩
  rw [if_pos hl, if_neg n10]
  by_cases hp : pt t (sk t p)
  · rw [if_pos (show d 1547 2 = d 1547 4 by rw [h5, h7.mpr hp]), wp_some, if_neg (show ¬ hasW t p w.2 from fun z => z.2.1 hp)]; exact ⟨rfl, q2', q3, rfl⟩
  rw [if_neg (show ¬ d 1547 2 = d 1547 4 from fun z => hp (h7.mp (by rw [← z, h5]))), h5]
  have hwe := we_le (t := t) h4
  have hge := we_ge (t := t) (sk t p)
  have hW' : WO d := hW.fr q3 wtab_nil
  refine Wp.loop (fun k (x : Int32) => fX6_isHere_35 n k w.1 x d j) (fun r x => ∃ m, m + r = we t (sk t p) ∧ (sk t p) ≤ m ∧ x = nI m) _ ?_ n (we t (sk t p) - (sk t p)) (nI (sk t p)) (by omega) ⟨(sk t p), by omega, Nat.le_refl _, rfl⟩
  rintro k r x ⟨m, g1, g2, rfl⟩ ih
  rw [fX6_isHere_35.eq_2, if_pos k1, h1]
  have fin : ∀ hm : m = we t (sk t p), Wp (fX6_isHere_61 n w.1 (nI m) d j) (fun q => q.1 = (if hasW t p w.2 then nI 1 else nI 0) ∧ ML t q.2.1 (sk t p) ∧ Fr [] [2] ci q.2.1 ∧ q.2.2 = j) := by
    intro hm
    unfold fX6_isHere_61
    rw [if_pos k1, h5, nI_subN g2, k2]
    by_cases hlen : m - (sk t p) = w.2.length
    rotate_left
    · rw [if_neg (show ¬ nI (m - (sk t p)) = nI w.2.length by rw [nI_eqN (by omega) (by omega)]; exact hlen), wp_some]
      refine ⟨?_, q2', q3, rfl⟩
      rw [if_neg]
      intro z
      have := congrArg List.length z.2.2
      unfold wd at this
      rw [wdN_len] at this
      omega
    rw [if_pos (by rw [hlen])]
    have key := wdN_eq t w.2.length (sk t p) w.2 rfl
    refine Wp.loop (fun k (x : Int32) => fX6_isHere_76 n k w.1 x d j) (fun r x => ∃ i, i + r = w.2.length ∧ x = nI i ∧ ∀ i', i' < i → t.2 ((sk t p) + i') = w.2.getD i' 0) _ ?_ n w.2.length (nI 0) (by omega) ⟨0, by omega, rfl, fun i' hi => absurd hi (Nat.not_lt_zero i')⟩
    rintro k r x ⟨i, g4, rfl, g5⟩ ih
    rw [fX6_isHere_76.eq_2, if_pos k1, k2]
    by_cases hi : w.2.length ≤ i
    · rw [if_pos (nI_le hi (by omega)), wp_some]
      refine ⟨?_, q2', q3, rfl⟩
      rw [if_pos]
      refine ⟨hl, hp, ?_⟩
      unfold wd
      rw [← hm, hlen]
      exact key.mp (fun i' hi' => g5 i' (by omega))
    · have e1 := h2 ((sk t p) + i) (by omega)
      have e2 := hW' w hw i (by omega)
      have e3 := hT.2 ((sk t p) + i) (by omega)
      rw [if_neg (nI_ge (by omega) (by omega)), h5, nI_add, nI_add]
      simp (disch := omega) only [jok_t, if_true, nI_cl, e1, e2]
      by_cases e : nI (t.2 ((sk t p) + i)) = nI (w.2.getD i 0)
      · rw [if_pos e]
        have hlt : w.2.getD i 0 < 256 := by
          have : ∀ q ∈ wtab, ∀ i, i < 7 → q.2.getD i 0 < 256 := by decide
          exact this w hw i (by omega)
        refine ih (r - 1) _ (by omega) ⟨i + 1, by omega, rfl, fun i' hi' => ?_⟩
        by_cases e' : i' = i
        · rw [e']; exact (nI_eq (by omega) (by omega)).mp e
        · exact g5 i' (by omega)
      · rw [if_neg e, wp_some]
        refine ⟨?_, q2', q3, rfl⟩
        rw [if_neg]
        intro z
        have z2 := z.2.2
        unfold wd at z2
        rw [← hm, hlen] at z2
        exact e (by rw [key.mpr z2 i (by omega)])
  by_cases hmT : t.1 ≤ m
  · rw [if_pos (nI_le hmT (by omega))]; exact fin (by omega)
  have em : d 1548 m = cI (cAt t m) := by
    have := hT.2 m (by omega)
    rw [h2 m (by omega), cAt_in (show m < t.1 by omega), cI_N this]
  rw [if_neg (nI_ge (by omega) (by omega)), if_pos (by rw [jok_t (by omega) (by omega)]; trivial), nI_cl (by omega), em, wp_bind, e6_isLetter (cAt_le hT _), wp_some]
  dsimp only
  by_cases hm : m = we t (sk t p)
  · rw [if_neg (show ¬ isL (cAt t m) by rw [hm]; exact we_nl (sk t p)), if_pos z00]; exact fin hm
  · rw [if_pos (show isL (cAt t m) from we_l g2 (by omega)), if_neg n10, nI_add]
    exact ih (r - 1) _ (by omega) ⟨m + 1, by omega, by omega, rfl⟩
/-- behind a word or a number -/
theorem ML.to {a b : Nat} (h : ML t ci a) (hT : TXok t) (hb : b ≤ t.1) (hp : pt t b) : ML t (ju (ju ci 1547 2 (nI b)) 1547 4 (nI b)) b := by
  obtain ⟨h1, h2, h3, h4, h5, h6, h7⟩ := h
  refine ⟨by rw [ju_ne2 _ _ (by decide), ju_ne2 _ _ (by decide)]; exact h1, fun k hk => by rw [ju_row _ _ (by decide), ju_row _ _ (by decide)]; exact h2 k hk, by rw [ju_ne2 _ _ (by decide), ju_ne2 _ _ (by decide)]; exact h3, hb, by rw [ju_ne2 _ _ (by decide), ju_eq], Or.inr ⟨b, Nat.le_refl _, ju_eq _ _ _ _⟩, by rw [ju_eq]; exact ⟨fun _ => hp, fun _ => rfl⟩⟩
theorem hasW_len {p : Nat} {w : List Nat} (h : hasW t p w) : sk t p + w.length = we t (sk t p) := by
  have h2 := congrArg List.length h.2.2
  unfold wd at h2
  rw [wdN_len] at h2
  have := we_ge (t := t) (sk t p)
  omega
theorem ML.le {a : Nat} (h : ML t ci a) : a ≤ t.1 := h.2.2.2.1
theorem sp6_takes (hn : 4000 ≤ n) (hT : TXok t) {p : Nat} (h : MN t ci p) (hW : WO ci) {w : Nat × List Nat} (hw : w ∈ wtab) : Wp (fX6_takes n w.1 ci cj) (fun q => (hasW t p w.2 → q.1 = nI 1 ∧ ML t q.2.1 (sk t p + w.2.length)) ∧ (¬ hasW t p w.2 → q.1 = nI 0 ∧ ML t q.2.1 (sk t p)) ∧ Fr [] [2, 4] ci q.2.1 ∧ q.2.2 = cj) := by
  have hT1 := hT.1
  obtain ⟨k1, k2, k3, k4, k5⟩ := wtab_k w hw
  unfold fX6_takes
  rw [if_pos k1, wp_bind]
  refine (sp6_isHere hn hT h hW hw).mono ?_
  rintro ⟨x, d, j⟩ ⟨q1, q2, q3, q4⟩
  dsimp only at q1 q2 q3 q4 ⊢
  subst q1 q4
  by_cases hh : hasW t p w.2
  · have e := hasW_len hh
    have hle := we_le (t := t) q2.le
    rw [if_pos hh, if_neg n10, wp_some]
    have e2 : d 1547 2 + nI (mln w.1) = nI (sk t p + w.2.length) := by rw [q2.2.2.2.2.1, k2, nI_add]
    rw [ju_eq, e2]
    exact ⟨fun _ => ⟨rfl, q2.to hT (by omega) (by rw [e]; exact we_pt (by omega))⟩, fun z => absurd hh z, (((q3.le (L' := []) (M' := [2, 4]) (by decide) (by decide)).upf (by decide)).upf (by decide)), rfl⟩
  · rw [if_neg hh, if_pos z00, wp_some]
    exact ⟨fun z => absurd z hh, fun _ => ⟨rfl, q2⟩, q3.le (by decide) (by decide), rfl⟩
/-- what a step of the reading leaves -/
theorem sp6_asks (hn : 4000 ≤ n) (hT : TXok t) {p : Nat} (h : MN t ci p) (hW : WO ci) {w : Nat × List Nat} (hw : w ∈ wtab) : Wp (fX6_asks n w.1 ci cj) (fun q => (hasW t p w.2 → ML t q.1 (sk t p + w.2.length)) ∧ (¬ hasW t p w.2 → BD q.1 1 (sk t p)) ∧ Fr [] [2, 4, 5, 6] ci q.1 ∧ q.2 = cj) := by
  obtain ⟨k1, k2, k3, k4, k5⟩ := wtab_k w hw
  have hb : ci 1547 5 = 0 := by obtain ⟨a, h, -⟩ := h; exact h.2.2.1
  unfold fX6_asks fX6_asks_24
  rw [if_pos k1, if_pos hb, wp_bind]
  refine (sp6_takes hn hT h hW hw).mono ?_
  rintro ⟨x, d, j⟩ ⟨q1, q2, q3, q4⟩
  dsimp only at q1 q2 q3 q4 ⊢
  subst q4
  have q3' : Fr [] [2, 4, 5, 6] ci d := q3.le (by decide) (by decide)
  by_cases hh : hasW t p w.2
  · obtain ⟨rfl, m1⟩ := q1 hh
    rw [if_neg n10, wp_some]
    exact ⟨fun _ => m1, fun z => absurd hh z, q3', rfl⟩
  · obtain ⟨rfl, m1⟩ := q2 hh
    rw [if_pos z00, m1.2.2.2.2.1, wp_bind, e6_fail m1.2.2.1, wp_some, wp_some]
    exact ⟨fun z => absurd z hh, fun _ => BD.mk' (by omega) (by omega), (q3'.upf (by decide)).upf (by decide), rfl⟩
theorem bd_asks {k p : Nat} (h : BD ci k p) {w : Nat × List Nat} (hw : w ∈ wtab) : fX6_asks n w.1 ci cj = some (ci, cj) := by
  unfold fX6_asks fX6_asks_24
  rw [if_pos (wtab_k w hw).1, if_neg h.ne]
/-- behind a sign -/
theorem ML.sg {a : Nat} (h : ML t ci a) (hT : TXok t) (ha : a < t.1) (hl : ¬ isL (t.2 a)) (hg : ¬ isG (t.2 a)) : ML t (ju ci 1547 2 (nI (a + 1))) (a + 1) := by
  have hT1 := hT.1
  obtain ⟨h1, h2, h3, h4, h5, h6, h7⟩ := h
  refine ⟨by rw [ju_ne2 _ _ (by decide)]; exact h1, fun k hk => by rw [ju_row _ _ (by decide)]; exact h2 k hk, by rw [ju_ne2 _ _ (by decide)]; exact h3, ha, ju_eq _ _ _ _, ?_, ?_⟩
  · rw [ju_ne2 _ _ (by decide)]
    rcases h6 with h6 | ⟨k, k1, k2⟩
    · exact Or.inl h6
    · exact Or.inr ⟨k, by omega, k2⟩
  · rw [ju_ne2 _ _ (by decide)]
    refine ⟨fun z => ?_, fun z => ?_⟩
    · rcases h6 with h6 | ⟨k, k1, k2⟩
      · rw [h6] at z; exact absurd z (m1_nnI (by omega))
      · rw [k2, nI_eqN (by omega) (by omega)] at z; omega
    · exfalso
      rcases z with ⟨-, z⟩
      unfold cAt at z
      rw [show a + 1 - 1 = a by omega, if_pos ha] at z
      exact z.elim hl hg
theorem cAt_lt {a c : Nat} (hc : c < 256) (h : cAt t a = c) : a < t.1 ∧ t.2 a = c := by
  unfold cAt at h
  by_cases e : a < t.1
  · rw [if_pos e] at h; exact ⟨e, h⟩
  · rw [if_neg e] at h; omega
theorem sp6_takesSign (hn : 4000 ≤ n) (hT : TXok t) {p c : Nat} (h : MN t ci p) (hc : c < 256) (hl : ¬ isL c) (hg : ¬ isG c) : Wp (fX6_takesSign n (nI c) ci cj) (fun q => (cAt t (sk t p) = c → q.1 = nI 1 ∧ ML t q.2.1 (sk t p + 1)) ∧ (¬ cAt t (sk t p) = c → q.1 = nI 0 ∧ ML t q.2.1 (sk t p)) ∧ Fr [] [2] ci q.2.1 ∧ q.2.2 = cj) := by
  have hb : ci 1547 5 = 0 := by obtain ⟨a, h, -⟩ := h; exact h.2.2.1
  unfold fX6_takesSign fX6_takesSign_15
  rw [if_pos hb, wp_bind]
  refine (sp6_look hn hT h).mono ?_
  rintro ⟨x, d, j⟩ ⟨q1, q2, q3, q4⟩
  dsimp only at q1 q2 q3 q4 ⊢
  subst q1 q4
  by_cases e : cAt t (sk t p) = c
  · obtain ⟨e1, e2⟩ := cAt_lt hc e
    rw [if_pos ((cI_eq (cAt_le hT _) hc).mpr e), wp_some, q2.2.2.2.2.1, nI_add]
    exact ⟨fun _ => ⟨rfl, q2.sg hT e1 (by rw [e2]; exact hl) (by rw [e2]; exact hg)⟩, fun z => absurd e z, q3.upf (by decide), rfl⟩
  · rw [if_neg (fun z => e ((cI_eq (cAt_le hT _) hc).mp z)), wp_some]
    exact ⟨fun z => absurd z e, fun _ => ⟨rfl, q2⟩, q3, rfl⟩
theorem sp6_asksSign (hn : 4000 ≤ n) (hT : TXok t) {p c : Nat} (h : MN t ci p) (hc : c < 256) (hl : ¬ isL c) (hg : ¬ isG c) : Wp (fX6_asksSign n (nI c) ci cj) (fun q => (cAt t (sk t p) = c → ML t q.1 (sk t p + 1)) ∧ (¬ cAt t (sk t p) = c → BD q.1 1 (sk t p)) ∧ Fr [] [2, 5, 6] ci q.1 ∧ q.2 = cj) := by
  have hb : ci 1547 5 = 0 := by obtain ⟨a, h, -⟩ := h; exact h.2.2.1
  unfold fX6_asksSign fX6_asksSign_24
  rw [if_pos hb, wp_bind]
  refine (sp6_takesSign hn hT h hc hl hg).mono ?_
  rintro ⟨x, d, j⟩ ⟨q1, q2, q3, q4⟩
  dsimp only at q1 q2 q3 q4 ⊢
  subst q4
  have q3' : Fr [] [2, 5, 6] ci d := q3.le (by decide) (by decide)
  by_cases e : cAt t (sk t p) = c
  · obtain ⟨rfl, m1⟩ := q1 e
    rw [if_neg n10, wp_some]
    exact ⟨fun _ => m1, fun z => absurd e z, q3', rfl⟩
  · obtain ⟨rfl, m1⟩ := q2 e
    rw [if_pos z00, m1.2.2.2.2.1, wp_bind, e6_fail m1.2.2.1, wp_some, wp_some]
    exact ⟨fun z => absurd z e, fun _ => BD.mk' (by omega) (by omega), (q3'.upf (by decide)).upf (by decide), rfl⟩
theorem bd_asksSign {k p : Nat} {c : Int32} (h : BD ci k p) : fX6_asksSign n c ci cj = some (ci, cj) := by
  unfold fX6_asksSign fX6_asksSign_24
  rw [if_neg h.ne]
theorem bd_number {k p : Nat} {a b : Int32} (h : BD ci k p) : fX6_number n a b ci cj = some (nI 0, ci, cj) := by
  unfold fX6_number
  rw [if_neg h.ne]
end
