/-! WHAT WAITS, AND CODES, IN THE MODEL -/
set_option maxRecDepth 100000
def STK (ci : jI) (W C : List Nat) (o bs : Nat) : Prop := ci 1547 97 = nI C.length ∧ (∀ i, i < C.length → ci 1620 i = nI (C.getD i 0)) ∧ ci 1547 99 = nI W.length ∧ (∀ i, i < W.length → ci 1621 (W.length - 1 - i) = nI (W.getD i 0)) ∧ ci 1547 100 = nI o ∧ ci 1547 101 = nI bs ∧ C.length ≤ 1650 ∧ W.length ≤ 1650 ∧ o ≤ 6
section
variable {n : Nat} {t : jTx} {ci : jI} {cj : jJ} {W C : List Nat} {o bs : Nat}
theorem STK.fr {L M : List Nat} {ci' : jI} (h : STK ci W C o bs) (g : Fr L M ci ci') (h1 : 1620 ∉ L) (h2 : 1621 ∉ L) (h3 : ∀ k ∈ [97, 99, 100, 101], k ∉ M) : STK ci' W C o bs := by
  unfold STK
  rw [g.2 97 (h3 97 (by decide)), g.2 99 (h3 99 (by decide)), g.2 100 (h3 100 (by decide)), g.2 101 (h3 101 (by decide)), g.1 1620 (by decide) h1, g.1 1621 (by decide) h2]
  exact h
theorem ML.fr {L M : List Nat} {ci' : jI} {a : Nat} (h : ML t ci a) (g : Fr L M ci ci') (h1 : 1548 ∉ L) (h3 : ∀ k ∈ [2, 3, 4, 5], k ∉ M) : ML t ci' a := by
  unfold ML
  rw [g.2 2 (h3 2 (by decide)), g.2 3 (h3 3 (by decide)), g.2 4 (h3 4 (by decide)), g.2 5 (h3 5 (by decide)), g.1 1548 (by decide) h1]
  exact h
theorem getD_snc : ∀ (l : List Nat) (x i : Nat), i < l.length + 1 → (l ++ [x]).getD i 0 = if i = l.length then x else l.getD i 0
  | [], x, i, h => by
    have h' : i < 0 + 1 := h
    have : i = 0 := by omega
    subst this
    rfl
  | y :: l, x, 0, _ => by
    rw [if_neg (show ¬ 0 = (y :: l).length from fun z => by cases z)]; rfl
  | y :: l, x, i + 1, h => by
    have h' : i + 1 < l.length + 1 + 1 := h
    show (l ++ [x]).getD i 0 = if i + 1 = l.length + 1 then x else l.getD i 0
    rw [getD_snc l x i (by omega)]
    by_cases e : i = l.length
    · rw [if_pos e, if_pos (by omega)]
    · rw [if_neg e, if_neg (by omega)]
theorem getD_snoc {l : List Nat} {x i : Nat} (h : i < (l ++ [x]).length) : (l ++ [x]).getD i 0 = if i = l.length then x else l.getD i 0 := by
  rw [List.length_append] at h
  exact getD_snc l x i h
theorem len_snoc (l : List Nat) (x : Nat) : (l ++ [x]).length = l.length + 1 := by rw [List.length_append]; rfl
theorem sp6_qCode {c : Nat} (h : STK ci W C o bs) (hC : C.length < 1650) : Wp (fX6_qCode n (nI c) ci cj) (fun q => STK q.1 W (C ++ [c]) o bs ∧ Fr [1620] [97] ci q.1 ∧ q.2 = cj) := by
  obtain ⟨h1, h2, h3, h4, h5, h6, h7, h8, h9⟩ := h
  unfold fX6_qCode
  rw [h1, if_pos (by rw [jok_t (by omega) (by omega)]; trivial), nI_cl (by omega), ju_row (x := 1547) _ _ (by decide), h1, nI_add, wp_some]
  refine ⟨⟨by dsimp only; rw [ju_eq, len_snoc], fun i hi => ?_, by dsimp only; rw [ju_ne2 _ _ (by decide), ju_row _ _ (by decide)]; exact h3, fun i hi => by dsimp only; rw [ju_row _ _ (by decide), ju_row _ _ (by decide)]; exact h4 i hi, by dsimp only; rw [ju_ne2 _ _ (by decide), ju_row _ _ (by decide)]; exact h5, by dsimp only; rw [ju_ne2 _ _ (by decide), ju_row _ _ (by decide)]; exact h6, by rw [len_snoc]; omega, h8, h9⟩, (Fr.rfl'.up (by decide) (by decide)).upf (by decide), rfl⟩
  dsimp only
  rw [ju_row _ _ (by decide), getD_snoc hi]
  by_cases e : i = C.length
  · rw [if_pos e, e, ju_eq]
  · rw [if_neg e, ju_ne2 _ _ e]; exact h2 i (by rw [len_snoc] at hi; omega)
/-- one more waits -/
theorem STK.push {x : Nat} (h : STK ci W C o bs) (hW : W.length < 1650) : STK (ju (ju ci 1621 W.length (nI x)) 1547 99 (nI (W.length + 1))) (x :: W) C o bs := by
  obtain ⟨h1, h2, h3, h4, h5, h6, h7, h8, h9⟩ := h
  refine ⟨by rw [ju_ne2 _ _ (by decide), ju_row _ _ (by decide)]; exact h1, fun i hi => by rw [ju_row _ _ (by decide), ju_row _ _ (by decide)]; exact h2 i hi, by rw [ju_eq]; rfl, fun i hi => ?_, by rw [ju_ne2 _ _ (by decide), ju_row _ _ (by decide)]; exact h5, by rw [ju_ne2 _ _ (by decide), ju_row _ _ (by decide)]; exact h6, h7, by show W.length + 1 ≤ 1650; omega, h9⟩
  rw [ju_row _ _ (by decide)]
  show ju ci 1621 W.length (nI x) 1621 (W.length + 1 - 1 - i) = nI ((x :: W).getD i 0)
  cases i with
  | zero => rw [show W.length + 1 - 1 - 0 = W.length by omega, ju_eq]; rfl
  | succ i =>
    have hi' : i + 1 < W.length + 1 := hi
    rw [ju_ne2 _ _ (by omega), show W.length + 1 - 1 - (i + 1) = W.length - 1 - i by omega, h4 i (by omega)]; rfl
theorem STK.top {x : Nat} (h : STK ci (x :: W) C o bs) : ci 1621 W.length = nI x := by
  have := h.2.2.2.1 0 (Nat.succ_pos _)
  rw [show (x :: W).length - 1 - 0 = W.length from rfl] at this
  exact this
/-- the one on top goes -/
theorem STK.pop {x : Nat} (h : STK ci (x :: W) C o bs) : STK (ju ci 1547 99 (nI W.length)) W C o bs := by
  obtain ⟨h1, h2, h3, h4, h5, h6, h7, h8, h9⟩ := h
  have h8' : W.length + 1 ≤ 1650 := h8
  refine ⟨by rw [ju_ne2 _ _ (by decide)]; exact h1, fun i hi => by rw [ju_row _ _ (by decide)]; exact h2 i hi, ju_eq _ _ _ _, fun i hi => ?_, by rw [ju_ne2 _ _ (by decide)]; exact h5, by rw [ju_ne2 _ _ (by decide)]; exact h6, h7, by omega, h9⟩
  rw [ju_row _ _ (by decide)]
  have := h4 (i + 1) (Nat.succ_lt_succ hi)
  rw [show (x :: W).length - 1 - (i + 1) = W.length - 1 - i by show W.length + 1 - 1 - (i + 1) = _; omega] at this
  exact this
theorem sp6_qDrops {x : Nat} (h : STK ci (x :: W) C o bs) (hC : C.length < 1650) : Wp (fX6_qDrops n ci cj) (fun q => STK q.1 W (C ++ [x]) o bs ∧ Fr [1620] [97, 99] ci q.1 ∧ q.2 = cj) := by
  have h8 : W.length + 1 ≤ 1650 := h.2.2.2.2.2.2.2.1
  have e : ci 1547 99 - nI 1 = nI W.length := by rw [h.2.2.1, show (x :: W).length = W.length + 1 from rfl, nI_subN (by omega)]; rfl
  unfold fX6_qDrops
  rw [ju_eq, e, if_pos (by rw [jok_t (by omega) (by omega)]; trivial), nI_cl (by omega), ju_row (x := 1621) _ _ (by decide), h.top, wp_bind]
  refine (sp6_qCode h.pop hC).mono ?_
  rintro ⟨d, j⟩ ⟨q1, q2, q3⟩
  rw [wp_some]
  exact ⟨q1, (Fr.rfl'.upf (by decide) : Fr [1620] [97, 99] ci _).tr (q2.le (by decide) (by decide)), q3⟩
theorem e6_qIsOn {x : Nat} (hx : x < 2147483648) (h : STK ci W C o bs) (hs : ∀ y ∈ W, y < 2147483648) : fX6_qIsOn n (nI x) ci cj = some (if W.head? = some x then nI 1 else nI 0, ci, cj) := by
  unfold fX6_qIsOn fX6_qIsOn_26 fX6_qIsOn_27
  cases W with
  | nil =>
    rw [if_pos (show ci 1547 99 ≤ 0 by rw [h.2.2.1]; decide), if_pos bt0, if_neg (fun z => by cases z)]
  | cons y W =>
    have h8 : W.length + 1 ≤ 1650 := h.2.2.2.2.2.2.2.1
    have e : ci 1547 99 - nI 1 = nI W.length := by rw [h.2.2.1, show (y :: W).length = W.length + 1 from rfl, nI_subN (by omega)]; rfl
    rw [if_neg (show ¬ ci 1547 99 ≤ 0 by rw [h.2.2.1, show (y :: W).length = W.length + 1 from rfl]; exact nI_nle (by omega) (by omega)), e, if_pos (by rw [jok_t (by omega) (by omega)]; trivial), nI_cl (by omega), h.top, if_pos bt0, if_pos bt1]
    have hy := hs y (List.mem_cons_self ..)
    by_cases e2 : y = x
    · rw [if_pos (by rw [e2]), if_pos (show (y :: W).head? = some x by rw [e2]; rfl)]
    · rw [if_neg (show ¬ nI y = nI x by rw [nI_eqN hy hx]; exact e2), if_neg (show ¬ (y :: W).head? = some x from fun z => e2 (Option.some.inj z))]
theorem sp6_qOpens {x p : Nat} (h : STK ci W C o bs) (h0 : ci 1547 5 = 0) (hW : W.length < 1650) : Wp (fX6_qOpens n (nI x) (nI p) ci cj) (fun q => (o = 6 → BD q.1 4 p ∧ Fr [] [5, 6] ci q.1) ∧ (o ≠ 6 → STK q.1 (x :: W) C (o + 1) bs ∧ Fr [1621] [99, 100] ci q.1) ∧ q.2 = cj) := by
  have h' := h
  obtain ⟨h1, h2, h3, h4, h5, h6, h7, h8, h9⟩ := h
  unfold fX6_qOpens
  rw [if_pos h0, h5]
  by_cases e : o = 6
  · rw [if_pos (by rw [e]), wp_bind, e6_fail h0, wp_some, wp_some]
    exact ⟨fun _ => ⟨BD.mk' (ci := ci) (by omega) (by omega), (Fr.rfl'.upf (by decide)).upf (by decide)⟩, fun z => absurd e z, rfl⟩
  · rw [if_neg (show ¬ nI o = nI 6 by rw [nI_eqN (by omega) (by omega)]; exact e), nI_add, ju_ne2 (j := 99) (i := 100) _ _ (by decide), h3, if_pos (by rw [jok_t (by omega) (by omega)]; trivial), nI_cl (by omega), ju_row (x := 1547) (a := 1621) _ _ (by decide), ju_ne2 (j := 99) (i := 100) _ _ (by decide), h3, nI_add, wp_some]
    have hb : STK (ju ci 1547 100 (nI (o + 1))) W C (o + 1) bs := ⟨by rw [ju_ne2 _ _ (by decide)]; exact h1, fun i hi => by rw [ju_row _ _ (by decide)]; exact h2 i hi, by rw [ju_ne2 _ _ (by decide)]; exact h3, fun i hi => by rw [ju_row _ _ (by decide)]; exact h4 i hi, ju_eq _ _ _ _, by rw [ju_ne2 _ _ (by decide)]; exact h6, h7, h8, by omega⟩
    exact ⟨fun z => absurd z e, fun _ => ⟨hb.push hW, ((Fr.rfl'.upf (by decide)).up (by decide) (by decide)).upf (by decide)⟩, rfl⟩
theorem e6_qIsBracket {x : Nat} (hx : x < 2147483648) : fX6_qIsBracket n (nI x) ci cj = some (if 20 ≤ x ∧ x ≤ 24 then nI 1 else nI 0, ci, cj) := by
  unfold fX6_qIsBracket fX6_qIsBracket_16 fX6_qIsBracket_17
  rw [if_pos bt0, if_pos bt1]
  by_cases h1 : x < 20
  · rw [if_pos (nI_lt h1 (by omega)), if_neg (by omega)]
  · rw [if_neg (nI_nlt (by omega) (by omega))]
    by_cases h2 : 24 < x
    · rw [if_pos (nI_lt h2 hx), if_neg (by omega)]
    · rw [if_neg (nI_nlt (by omega) (by omega)), if_pos (by omega)]
end
