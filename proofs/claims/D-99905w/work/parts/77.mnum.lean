/-! NUMBERS AND NAMES IN THE MODEL -/
set_option maxRecDepth 100000
/-- a fault (kind, place), or where it ends and what it is -/
abbrev jRs (α : Type) : Type := (Nat × Nat) ⊕ (Nat × α)
def RS {α : Type} (r : jRs α) (F : Nat → Nat → Prop) (G : Nat → α → Prop) : Prop := match r with
  | .inl e => F e.1 e.2
  | .inr e => G e.1 e.2
def geN (t : jTx) : Nat → Nat → Nat
  | 0, p => p
  | f + 1, p => if isG (cAt t p) then geN t f (p + 1) else p
def ge (t : jTx) (p : Nat) : Nat := geN t (t.1 - p) p
theorem ge_stop {t : jTx} {p : Nat} (h : ¬ isG (cAt t p)) : ge t p = p := by
  unfold ge
  cases t.1 - p with
  | zero => rfl
  | succ f => unfold geN; rw [if_neg h]
theorem ge_step {t : jTx} {p : Nat} (h : isG (cAt t p)) : ge t p = ge t (p + 1) := by
  have h1 := (isG_lt h).1
  obtain ⟨f, hf⟩ : ∃ f, t.1 - p = f + 1 := ⟨t.1 - p - 1, by omega⟩
  unfold ge
  rw [hf, show t.1 - (p + 1) = f by omega]
  show (if isG (cAt t p) then geN t f (p + 1) else p) = _
  rw [if_pos h]
theorem ge_ind {t : jTx} {P : Nat → Prop} (h0 : ∀ p, ¬ isG (cAt t p) → P p) (h1 : ∀ p, isG (cAt t p) → P (p + 1) → P p) (p : Nat) : P p := by
  have key : ∀ r p, t.1 - p ≤ r → P p := by
    intro r
    induction r with
    | zero => intro p hp; exact h0 p (fun z => by have := (isG_lt z).1; omega)
    | succ r ih =>
      intro p hp
      by_cases hb : isG (cAt t p)
      · exact h1 p hb (ih (p + 1) (by have := (isG_lt hb).1; omega))
      · exact h0 p hb
  exact key _ p (Nat.le_refl _)
theorem ge_ge {t : jTx} (p : Nat) : p ≤ ge t p := ge_ind (P := fun p => p ≤ ge t p) (fun p h => by rw [ge_stop h]; exact Nat.le_refl _) (fun p h ih => by rw [ge_step h]; omega) p
theorem ge_le {t : jTx} {p : Nat} (hp : p ≤ t.1) : ge t p ≤ t.1 := ge_ind (P := fun p => p ≤ t.1 → ge t p ≤ t.1) (fun p h hp => by rw [ge_stop h]; exact hp) (fun p h ih hp => by rw [ge_step h]; exact ih (isG_lt h).1) p hp
theorem ge_nl {t : jTx} (p : Nat) : ¬ isG (cAt t (ge t p)) := ge_ind (P := fun p => ¬ isG (cAt t (ge t p))) (fun p h => by rw [ge_stop h]; exact h) (fun p h ih => by rw [ge_step h]; exact ih) p
theorem ge_l {t : jTx} {p k : Nat} (h1 : p ≤ k) (h2 : k < ge t p) : isG (cAt t k) := by
  refine ge_ind (P := fun p => p ≤ k → k < ge t p → isG (cAt t k)) (fun p h h1 h2 => by rw [ge_stop h] at h2; omega) (fun p h ih h1 h2 => ?_) p h1 h2
  rw [ge_step h] at h2
  by_cases e : k = p
  · rw [e]; exact h
  · exact ih (by omega) h2
theorem ge_pt {t : jTx} {p : Nat} (h : p < ge t p) : pt t (ge t p) := ⟨by omega, Or.inr (ge_l (p := p) (by omega) (by omega))⟩
def nvA (t : jTx) (p : Nat) : Nat → Nat
  | 0 => 0
  | k + 1 => 10 * nvA t p k + (t.2 (p + k) - 48)
theorem nvA_lt (t : jTx) (p : Nat) : ∀ k, (∀ i, i < k → isG (cAt t (p + i))) → nvA t p k < 10 ^ k
  | 0, _ => by show 0 < 1; omega
  | k + 1, h => by
    have ih := nvA_lt t p k (fun i hi => h i (by omega))
    obtain ⟨h1, h2⟩ := isG_lt (h k (by omega))
    have h3 := h k (by omega)
    rw [h2] at h3
    show 10 * nvA t p k + (t.2 (p + k) - 48) < 10 ^ k * 10
    omega
def numS (t : jTx) (lo hi p : Nat) : jRs Nat := if isG (cAt t (sk t p)) ∧ ¬ pt t (sk t p) then (if ge t (sk t p) - sk t p ≤ 4 then (if lo ≤ nvA t (sk t p) (ge t (sk t p) - sk t p) ∧ nvA t (sk t p) (ge t (sk t p) - sk t p) ≤ hi then .inr (ge t (sk t p), nvA t (sk t p) (ge t (sk t p) - sk t p)) else .inl (2, sk t p)) else .inl (1, sk t p + 4)) else .inl (1, sk t p)
section
variable {n : Nat} {t : jTx} {ci : jI} {cj : jJ}
theorem ML.up10 {a : Nat} {v : Int32} (h : ML t ci a) : ML t (ju ci 1547 10 v) a := by
  obtain ⟨h1, h2, h3, h4, h5, h6, h7⟩ := h
  exact ⟨by rw [ju_ne2 _ _ (by decide)]; exact h1, fun k hk => by rw [ju_row _ _ (by decide)]; exact h2 k hk, by rw [ju_ne2 _ _ (by decide)]; exact h3, h4, by rw [ju_ne2 _ _ (by decide)]; exact h5, by rw [ju_ne2 _ _ (by decide)]; exact h6, by rw [ju_ne2 _ _ (by decide)]; exact h7⟩
theorem ML.up38 {a : Nat} {v : Int32} (h : ML t ci a) : ML t (ju ci 1547 38 v) a := by
  obtain ⟨h1, h2, h3, h4, h5, h6, h7⟩ := h
  exact ⟨by rw [ju_ne2 _ _ (by decide)]; exact h1, fun k hk => by rw [ju_row _ _ (by decide)]; exact h2 k hk, by rw [ju_ne2 _ _ (by decide)]; exact h3, h4, by rw [ju_ne2 _ _ (by decide)]; exact h5, by rw [ju_ne2 _ _ (by decide)]; exact h6, by rw [ju_ne2 _ _ (by decide)]; exact h7⟩
/-- while a number or a word is read -/
def MR1 (t : jTx) (ci : jI) (a : Nat) : Prop := ci 1547 3 = nI t.1 ∧ (∀ k, k < t.1 → ci 1548 k = nI (t.2 k)) ∧ ci 1547 5 = 0 ∧ a ≤ t.1 ∧ ci 1547 2 = nI a
theorem ML.mr {a : Nat} (h : ML t ci a) : MR1 t ci a := ⟨h.1, h.2.1, h.2.2.1, h.2.2.2.1, h.2.2.2.2.1⟩
theorem MR1.up {a : Nat} (h : MR1 t ci a) (ha : a < t.1) : MR1 t (ju ci 1547 2 (nI (a + 1))) (a + 1) :=
  ⟨by rw [ju_ne2 _ _ (by decide)]; exact h.1, fun k hk => by rw [ju_row _ _ (by decide)]; exact h.2.1 k hk, by rw [ju_ne2 _ _ (by decide)]; exact h.2.2.1, ha, ju_eq _ _ _ _⟩
theorem MR1.en {a : Nat} (h : MR1 t ci a) (hp : pt t a) : ML t (ju ci 1547 4 (nI a)) a :=
  ⟨by rw [ju_ne2 _ _ (by decide)]; exact h.1, fun k hk => by rw [ju_row _ _ (by decide)]; exact h.2.1 k hk, by rw [ju_ne2 _ _ (by decide)]; exact h.2.2.1, h.2.2.2.1, by rw [ju_ne2 _ _ (by decide)]; exact h.2.2.2.2, Or.inr ⟨a, Nat.le_refl _, ju_eq _ _ _ _⟩, by rw [ju_eq]; exact ⟨fun _ => hp, fun _ => rfl⟩⟩
theorem sp6_number (hn : 4000 ≤ n) (hT : TXok t) {p lo hi : Nat} (h : MN t ci p) (hlo : lo ≤ 100000) (hhi : hi ≤ 100000) : Wp (fX6_number n (nI lo) (nI hi) ci cj) (fun q => RS (numS t lo hi p) (fun k e => BD q.2.1 k e) (fun e v => q.1 = nI v ∧ ML t q.2.1 e ∧ v ≤ 9999 ∧ lo ≤ v ∧ v ≤ hi ∧ sk t p < e ∧ e ≤ t.1) ∧ Fr [] [2, 4, 5, 6, 10] ci q.2.1 ∧ q.2.2 = cj) := by
  have hT1 := hT.1
  have hb : ci 1547 5 = 0 := by obtain ⟨a, h, -⟩ := h; exact h.2.2.1
  unfold fX6_number fX6_number_30
  rw [if_pos hb, wp_bind]
  refine (sp6_look hn hT h).mono ?_
  rintro ⟨x, d, j⟩ ⟨q1, q2, q3, q4⟩
  dsimp only at q1 q2 q3 q4 ⊢
  subst q1 q4
  rw [wp_bind, e6_isDigit (cAt_le hT _), wp_some]
  dsimp only
  have q3' : Fr [] [2, 4, 5, 6, 10] ci d := q3.le (by decide) (by decide)
  have h5 := q2.2.2.2.2.1
  have h7 := q2.2.2.2.2.2.2
  by_cases hl : isG (cAt t (sk t p)) ∧ ¬ pt t (sk t p)
  rotate_left
  · have no : Wp (Option.bind (fX6_fail n (nI 1) (d 1547 2) d j) (fun q1 => some ((nI 0), q1.1, q1.2))) (fun q => RS (numS t lo hi p) (fun k e => BD q.2.1 k e) (fun e v => q.1 = nI v ∧ ML t q.2.1 e ∧ v ≤ 9999 ∧ lo ≤ v ∧ v ≤ hi ∧ sk t p < e ∧ e ≤ t.1) ∧ Fr [] [2, 4, 5, 6, 10] ci q.2.1 ∧ q.2.2 = j) := by
      rw [h5, wp_bind, e6_fail q2.2.2.1, wp_some, wp_some]
      refine ⟨?_, (q3'.upf (by decide)).upf (by decide), rfl⟩
      unfold numS
      rw [if_neg hl]
      exact BD.mk' (ci := d) (by omega) (by omega)
    by_cases hg : isG (cAt t (sk t p))
    · rw [if_pos hg, if_neg n10]
      have hp : pt t (sk t p) := Classical.byContradiction (fun z => hl ⟨hg, z⟩)
      rw [if_pos (show d 1547 2 = d 1547 4 by rw [h5, h7.mpr hp])]
      exact no
    · rw [if_neg hg, if_pos z00]; exact no
  rw [if_pos hl.1, if_neg n10, if_neg (show ¬ d 1547 2 = d 1547 4 from fun z => hl.2 (h7.mp (by rw [← z, h5]))), h5]
  have hge := ge_ge (t := t) (sk t p)
  have hle := ge_le (t := t) q2.le
  have hlt : sk t p < ge t (sk t p) := by rw [ge_step hl.1]; have := ge_ge (t := t) (sk t p + 1); omega
  refine Wp.loop2 (fun k (x : Int32) (y : jI) => fX6_number_49 n k (nI lo) (nI hi) (nI (sk t p)) x y j) (fun r x => ∃ m, m + r = ge t (sk t p) ∧ sk t p ≤ m ∧ m - sk t p ≤ 4 ∧ x.1 = nI (nvA t (sk t p) (m - sk t p)) ∧ MR1 t x.2 m ∧ Fr [] [2, 4, 5, 6, 10] ci x.2) _ ?_ n (ge t (sk t p) - sk t p) (nI 0) d (by omega) ⟨sk t p, by omega, Nat.le_refl _, by omega, by rw [Nat.sub_self]; rfl, q2.mr, q3'⟩
  rintro k r x e ⟨m, g1, g2, g3, g4, g5, g6⟩ ih
  dsimp only at g4 g5 g6
  subst g4
  obtain ⟨f1, f2, f3, f4, f5⟩ := g5
  have hv := nvA_lt t (sk t p) (m - sk t p) (fun i hi => ge_l (p := sk t p) (by omega) (by omega))
  have hv4 : nvA t (sk t p) (m - sk t p) < 10000 := Nat.lt_of_lt_of_le hv (Nat.pow_le_pow_right (by omega) g3)
  rw [fX6_number_49.eq_2]
  have fin : ∀ hm : m = ge t (sk t p), Wp (fX6_number_129 n (nI lo) (nI hi) (nI (sk t p)) (nI (nvA t (sk t p) (m - sk t p))) e j) (fun q => RS (numS t lo hi p) (fun k e => BD q.2.1 k e) (fun e v => q.1 = nI v ∧ ML t q.2.1 e ∧ v ≤ 9999 ∧ lo ≤ v ∧ v ≤ hi ∧ sk t p < e ∧ e ≤ t.1) ∧ Fr [] [2, 4, 5, 6, 10] ci q.2.1 ∧ q.2.2 = j) := by
    intro hm
    subst hm
    unfold fX6_number_129 fX6_number_164
    have mm : MR1 t e (ge t (sk t p)) := ⟨f1, f2, f3, f4, f5⟩
    have ml := (mm.en (ge_pt hlt)).up10 (v := nI (sk t p))
    rw [f5, wp_bind, e6_isIn, wp_some]
    dsimp only
    have ein : (lN lo ≤ lN (nvA t (sk t p) (ge t (sk t p) - sk t p)) ∧ lN (nvA t (sk t p) (ge t (sk t p) - sk t p)) ≤ lN hi) ↔ (lo ≤ nvA t (sk t p) (ge t (sk t p) - sk t p) ∧ nvA t (sk t p) (ge t (sk t p) - sk t p) ≤ hi) := by
      rw [lN_leN (by omega) (by omega), lN_leN (by omega) (by omega)]
    rw [nI_L (by omega), nI_L (by omega), nI_L (by omega)]
    by_cases hin : lo ≤ nvA t (sk t p) (ge t (sk t p) - sk t p) ∧ nvA t (sk t p) (ge t (sk t p) - sk t p) ≤ hi
    · rw [if_pos (ein.mpr hin), if_neg n10, wp_some]
      refine ⟨?_, (g6.upf (by decide)).upf (by decide), rfl⟩
      unfold numS
      rw [if_pos hl, if_pos g3, if_pos hin]
      exact ⟨rfl, ml, by omega, hin.1, hin.2, hlt, f4⟩
    · rw [if_neg (fun z => hin (ein.mp z)), if_pos z00, ju_eq, wp_bind, e6_fail ml.2.2.1, wp_some, wp_some]
      refine ⟨?_, (((g6.upf (by decide)).upf (by decide)).upf (by decide)).upf (by decide), rfl⟩
      unfold numS
      rw [if_pos hl, if_pos g3, if_neg hin]
      exact BD.mk' (ci := ju (ju e 1547 4 (nI (ge t (sk t p)))) 1547 10 (nI (sk t p))) (by omega) (by omega)
  rw [f1]
  by_cases hmT : t.1 ≤ m
  · rw [if_pos (show nI t.1 ≤ e 1547 2 by rw [f5]; exact nI_le hmT (by omega))]; exact fin (by omega)
  have b256 := hT.2 m (by omega)
  have em : e 1548 m = cI (cAt t m) := by rw [f2 m (by omega), cAt_in (show m < t.1 by omega), cI_N b256]
  rw [if_neg (show ¬ nI t.1 ≤ e 1547 2 by rw [f5]; exact nI_ge (by omega) (by omega)), f5, if_pos (by rw [jok_t (by omega) (by omega)]; trivial), nI_cl (by omega), em, wp_bind, e6_isDigit (cAt_le hT _), wp_some]
  dsimp only
  by_cases hm : m = ge t (sk t p)
  · rw [if_neg (show ¬ isG (cAt t m) by rw [hm]; exact ge_nl _), if_pos z00]; exact fin hm
  have hgm : isG (cAt t m) := ge_l g2 (by omega)
  rw [if_pos hgm, if_neg n10]
  by_cases h4 : m - sk t p = 4
  · rw [if_pos (show e 1547 2 - nI (sk t p) = nI 4 by rw [f5, nI_subN g2, h4]), f5, wp_bind, e6_fail f3, wp_some, wp_some]
    refine ⟨?_, (g6.upf (by decide)).upf (by decide), rfl⟩
    unfold numS
    rw [if_pos hl, if_neg (by omega), show sk t p + 4 = m by omega]
    exact BD.mk' (ci := e) (by omega) (by omega)
  · rw [if_neg (show ¬ e 1547 2 - nI (sk t p) = nI 4 by rw [f5, nI_subN g2, nI_eqN (by omega) (by omega)]; exact h4), if_pos (show jok (e 1547 2) 1600 by rw [f5, jok_t (by omega) (by omega)]; trivial), f5, nI_cl (by omega), f2 m (by omega), nI_add, nI_mulN, nI_add, nI_subN (by rw [cAt_in (show m < t.1 by omega)] at hgm; omega)]
    refine ih (r - 1) _ _ (by omega) ⟨m + 1, by omega, by omega, by omega, ?_, MR1.up ⟨f1, f2, f3, f4, f5⟩ (by omega), g6.upf (by decide)⟩
    dsimp only
    rw [show m + 1 - sk t p = (m - sk t p) + 1 by omega]
    show _ = nI (10 * nvA t (sk t p) (m - sk t p) + (t.2 (sk t p + (m - sk t p)) - 48))
    rw [show sk t p + (m - sk t p) = m by omega]
    congr 1
    rw [cAt_in (show m < t.1 by omega)] at hgm
    omega
end
