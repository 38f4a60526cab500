/-! A SUM IN THE MODEL -/
set_option maxRecDepth 100000
/-- the model reads what a reads -/
def AT (n : Nat) (t : jTx) (tk : Nat) (ci0 : jI) (j : jJ) (l1 : Int32) (bs : Nat) (a : jPa) (o : Nat) : Prop := ∀ (p : Nat) (W C : List Nat) (d : jI) (kk k : Nat) (Q : jI × jJ → Prop), SS t tk ci0 d W C o bs p → (∀ y ∈ W, y < 100) → t.1 - sk t p < kk → t.1 - sk t p < k →
  (∀ κ e, a p = .inl (κ, e) → ∀ d', BD d' κ e → FQ ci0 d' → Q (ju d' 1547 101 l1, j)) →
  (∀ p' l, a p = .inr (p', l) → ∀ d', SS t tk ci0 d' W (C ++ l) o bs p' → ∀ kE kk' k', W.length < kE → t.1 - sk t p' < kk' → t.1 - sk t p' < k' → Wp (eG n kE kk' k' l1 d' j) Q) → Wp (pT n kk k l1 d j) Q
def sX (t : jTx) (a : jPa) (p : Nat) (lp acc ap : List Nat) : jRs (List Nat) := thn (chL t 42 47 3 4 a (t.1 + 1 - p) p lp) (fun p1 lp' => chL t 43 45 1 2 (prS t a) (t.1 + 1 - p1) p1 (acc ++ (lp' ++ ap)))
section
variable {n : Nat} {t : jTx} {ci : jI} {j : jJ} {o bs tk : Nat} {l1 : Int32} {a : jPa}
theorem SS.sk' {W C : List Nat} {d : jI} {p : Nat} (h : SS t tk ci d W C o bs p) : SS t tk ci d W C o bs (sk t p) := by
  obtain ⟨⟨b, h1, h1'⟩, h2, h3, h4, h5, h6, h7, h8⟩ := h
  exact ⟨⟨b, h1, by rw [sk_sk]; exact h1'⟩, h2, h3, h4, h5, by rw [sk_sk]; exact h6, sk_le h7, h8⟩
theorem sX_mul (ha : gS t a) {p x : Nat} {lp acc ap : List Nat} (hp : p ≤ t.1) (hc : cAt t (sk t p) = 42 ∧ x = 3 ∨ cAt t (sk t p) = 47 ∧ x = 4) : sX t a p lp acc ap = thn (a (sk t p + 1)) (fun p1 l1 => sX t a p1 (lp ++ (l1 ++ [x])) acc ap) := by
  obtain ⟨f, hf⟩ : ∃ f, t.1 + 1 - p = f + 1 := ⟨t.1 - p, by omega⟩
  have hge := sk_ge (t := t) p
  have hlt : sk t p < t.1 := by rcases hc with ⟨e, -⟩ | ⟨e, -⟩ <;> exact (cAt_lt (by omega) e).1
  have hg := ha (sk t p + 1) hlt
  have hge1 := sk_ge (t := t) (sk t p + 1)
  unfold sX
  rw [hf]
  have e1 : chL t 42 47 3 4 a (f + 1) p lp = thn (a (sk t p + 1)) (fun p1 l1 => chL t 42 47 3 4 a f p1 (lp ++ (l1 ++ [x]))) := by
    rw [chL]
    rcases hc with ⟨e, e2⟩ | ⟨e, e2⟩
    · rw [if_pos e, e2]
    · rw [if_neg (by omega), if_pos e, e2]
  rw [e1]
  cases hq : a (sk t p + 1) with
  | inl e => rfl
  | inr e =>
    rw [hq] at hg
    obtain ⟨z1, z2, z3, z4⟩ := hg
    show thn (chL t 42 47 3 4 a f e.1 (lp ++ (e.2 ++ [x]))) (fun p1 lp' => chL t 43 45 1 2 (prS t a) (t.1 + 1 - p1) p1 (acc ++ (lp' ++ ap))) = thn (chL t 42 47 3 4 a (t.1 + 1 - e.1) e.1 (lp ++ (e.2 ++ [x]))) (fun p1 lp' => chL t 43 45 1 2 (prS t a) (t.1 + 1 - p1) p1 (acc ++ (lp' ++ ap)))
    rw [chL_fuel (by omega) (by omega) ha f (t.1 + 1 - e.1) e.1 _ (by omega) (by omega) z2]
theorem chL_none {c1 c2 o1 o2 f p : Nat} {l : List Nat} (h1 : ¬ cAt t (sk t p) = c1) (h2 : ¬ cAt t (sk t p) = c2) : chL t c1 c2 o1 o2 a (f + 1) p l = .inr (sk t p, l) := by
  rw [chL, if_neg h1, if_neg h2]
theorem sX_add (ha : gS t a) {p x : Nat} {lp acc ap : List Nat} (hp : p ≤ t.1) (hc : cAt t (sk t p) = 43 ∧ x = 1 ∨ cAt t (sk t p) = 45 ∧ x = 2) : sX t a p lp acc ap = thn (a (sk t p + 1)) (fun p1 l1 => sX t a p1 l1 (acc ++ (lp ++ ap)) [x]) := by
  obtain ⟨f, hf⟩ : ∃ f, t.1 + 1 - p = f + 1 := ⟨t.1 - p, by omega⟩
  have hge := sk_ge (t := t) p
  have hsk := sk_le hp
  obtain ⟨f2, hf2⟩ : ∃ f, t.1 + 1 - sk t p = f + 1 := ⟨t.1 - sk t p, by omega⟩
  have hlt : sk t p < t.1 := by rcases hc with ⟨e, -⟩ | ⟨e, -⟩ <;> exact (cAt_lt (by omega) e).1
  have hg := prS_g ha (sk t p + 1) hlt
  have hge1 := sk_ge (t := t) (sk t p + 1)
  unfold sX
  rw [hf, chL_none (by omega) (by omega)]
  show chL t 43 45 1 2 (prS t a) (t.1 + 1 - sk t p) (sk t p) (acc ++ (lp ++ ap)) = _
  rw [hf2]
  have e1 : chL t 43 45 1 2 (prS t a) (f2 + 1) (sk t p) (acc ++ (lp ++ ap)) = thn (prS t a (sk t p + 1)) (fun p1 l1 => chL t 43 45 1 2 (prS t a) f2 p1 ((acc ++ (lp ++ ap)) ++ (l1 ++ [x]))) := by
    rw [chL, sk_sk]
    rcases hc with ⟨e, e2⟩ | ⟨e, e2⟩
    · rw [if_pos e, e2]
    · rw [if_neg (by omega), if_pos e, e2]
  rw [e1]
  have e2 : thn (prS t a (sk t p + 1)) (fun p1 l1 => chL t 43 45 1 2 (prS t a) f2 p1 ((acc ++ (lp ++ ap)) ++ (l1 ++ [x]))) = thn (prS t a (sk t p + 1)) (fun p1 l1 => chL t 43 45 1 2 (prS t a) (t.1 + 1 - p1) p1 ((acc ++ (lp ++ ap)) ++ (l1 ++ [x]))) := by
    cases hq : prS t a (sk t p + 1) with
    | inl e => rfl
    | inr e =>
      rw [hq] at hg
      obtain ⟨z1, z2, z3, z4⟩ := hg
      show chL t 43 45 1 2 (prS t a) f2 e.1 _ = chL t 43 45 1 2 (prS t a) (t.1 + 1 - e.1) e.1 _
      rw [chL_fuel (by omega) (by omega) (prS_g ha) f2 (t.1 + 1 - e.1) e.1 _ (by omega) (by omega) z2]
  rw [e2]
  unfold prS
  cases a (sk t p + 1) with
  | inl e => rfl
  | inr e => rfl
theorem sX_end {p : Nat} {lp acc ap : List Nat} (hp : p ≤ t.1) (h42 : ¬ cAt t (sk t p) = 42) (h47 : ¬ cAt t (sk t p) = 47) (h43 : ¬ cAt t (sk t p) = 43) (h45 : ¬ cAt t (sk t p) = 45) : sX t a p lp acc ap = .inr (sk t p, acc ++ (lp ++ ap)) := by
  obtain ⟨f, hf⟩ : ∃ f, t.1 + 1 - p = f + 1 := ⟨t.1 - p, by omega⟩
  have hsk := sk_le hp
  obtain ⟨f2, hf2⟩ : ∃ f, t.1 + 1 - sk t p = f + 1 := ⟨t.1 - sk t p, by omega⟩
  unfold sX
  rw [hf, chL_none h42 h47]
  show chL t 43 45 1 2 (prS t a) (t.1 + 1 - sk t p) (sk t p) (acc ++ (lp ++ ap)) = _
  rw [hf2, chL_none (by rw [sk_sk]; exact h43) (by rw [sk_sk]; exact h45), sk_sk]
end
