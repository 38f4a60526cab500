/-! A SUM IN THE MODEL: from its first part on -/
set_option maxRecDepth 100000
section
variable {n : Nat} {t : jTx} {ci : jI} {j : jJ} {o bs tk : Nat} {l1 : Int32} {a : jPa}
theorem smS_sX {p : Nat} : smS t a p = thn (a p) (fun p1 l => sX t a p1 l [] []) := by
  unfold smS prS sX
  cases a p with
  | inl e => rfl
  | inr e =>
    show thn (chL t 42 47 3 4 a (t.1 + 1 - e.1) e.1 e.2) (fun p1 l => chL t 43 45 1 2 (prS t a) (t.1 + 1 - p1) p1 l) = thn (chL t 42 47 3 4 a (t.1 + 1 - e.1) e.1 e.2) (fun p1 lp' => chL t 43 45 1 2 (prS t a) (t.1 + 1 - p1) p1 ([] ++ (lp' ++ [])))
    congr 1
    funext p1 l
    rw [List.nil_append, List.append_nil]
theorem sum_all (hn : 4000 ≤ n) (hT : TXok t) (ha : gS t a) (hA : AT n t tk ci j l1 bs a o) {R C : List Nat} (hR : clo R bs) (hx : ∀ c, R.length = bs → R.head? = some c → 5 ≤ c) (hRs : ∀ y ∈ R, y < 100) (hbs : bs ≤ R.length) {Q : jI × jJ → Prop} {p : Nat} {d : jI} {kk k : Nat} (h : SS t tk ci d R C o bs p) (hkk : t.1 - sk t p < kk) (hk : t.1 - sk t p < k)
    (hb : ∀ κ e, smS t a p = .inl (κ, e) → ∀ d', BD d' κ e → FQ ci d' → Q (ju d' 1547 101 l1, j))
    (hq : ∀ p' l, smS t a p = .inr (p', l) → ∀ mp' C', C' ++ mp' = C ++ l → (∀ y ∈ mp', 1 ≤ y ∧ y ≤ 4) → (¬ cAt t (sk t p') = 42 ∧ ¬ cAt t (sk t p') = 47 ∧ ¬ cAt t (sk t p') = 43 ∧ ¬ cAt t (sk t p') = 45) → ∀ d', SS t tk ci d' (mp' ++ R) C' o bs p' → ∀ kE kk' k', (mp' ++ R).length < kE → t.1 - sk t p' < kk' → t.1 - sk t p' < k' → Wp (eG n kE kk' k' l1 d' j) Q) : Wp (pT n kk k l1 d j) Q := by
  refine hA p R C d kk k Q h (fun y hy => by have := hRs y hy; omega) hkk hk (fun κ e he => ?_) (fun p1 l he d1 h1 kE kk' k' e1 e2 e3 => ?_)
  · exact hb κ e (by rw [smS_sX, he]; rfl)
  · have ex : smS t a p = sX t a p1 l [] [] := by rw [smS_sX, he]; rfl
    rw [ex] at hb hq
    exact sum_loop hn hT ha hA hR hx hRs hbs (t.1 - sk t p1) p1 l [] [] [] (C ++ l) d1 kE kk' k' (Nat.le_refl _) h1 (fun y hy => by cases hy) (fun y hy => by cases hy) (by rw [List.append_nil, List.nil_append]) e1 e2 e3 hb hq
end
