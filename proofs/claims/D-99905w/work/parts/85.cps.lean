/-! THE MODEL READS A SUM: what is still to come, as a function -/
set_option maxRecDepth 100000
theorem chL_fuel {t : jTx} {c1 c2 o1 o2 : Nat} {a : jPa} (hc1 : c1 < 256) (hc2 : c2 < 256) (ha : gS t a) : ∀ (f f' p : Nat) (l : List Nat), t.1 - p < f → t.1 - p < f' → p ≤ t.1 → chL t c1 c2 o1 o2 a f p l = chL t c1 c2 o1 o2 a f' p l
  | 0, _, _, _, h, _, _ => absurd h (Nat.not_lt_zero _)
  | _ + 1, 0, _, _, _, h, _ => absurd h (Nat.not_lt_zero _)
  | f + 1, f' + 1, p, l, h1, h2, hp => by
    have hge := sk_ge (t := t) p
    have step : ∀ (c o : Nat), c < 256 → cAt t (sk t p) = c → thn (a (sk t p + 1)) (fun p1 l1 => chL t c1 c2 o1 o2 a f p1 (l ++ (l1 ++ [o]))) = thn (a (sk t p + 1)) (fun p1 l1 => chL t c1 c2 o1 o2 a f' p1 (l ++ (l1 ++ [o]))) := by
      intro c o hc e
      have hlt := (cAt_lt hc e).1
      have hg := ha (sk t p + 1) hlt
      have hge1 := sk_ge (t := t) (sk t p + 1)
      cases hq : a (sk t p + 1) with
      | inl e => rfl
      | inr e =>
        rw [hq] at hg
        obtain ⟨z1, z2, z3, z4⟩ := hg
        show chL t c1 c2 o1 o2 a f e.1 _ = chL t c1 c2 o1 o2 a f' e.1 _
        exact chL_fuel hc1 hc2 ha f f' e.1 _ (by omega) (by omega) z2
    unfold chL
    by_cases e1 : cAt t (sk t p) = c1
    · rw [if_pos e1, if_pos e1]; exact step c1 o1 hc1 e1
    rw [if_neg e1, if_neg e1]
    by_cases e2 : cAt t (sk t p) = c2
    · rw [if_pos e2, if_pos e2]; exact step c2 o2 hc2 e2
    rw [if_neg e2, if_neg e2]
abbrev FQ (ci d : jI) : Prop := Fr [1620, 1621] [2, 4, 5, 6, 10, 97, 99, 100, 101] ci d
def kG (n k : Nat) (l1 : Int32) (q : Int32 × jI × jJ) : Option (jI × jJ) := if q.1 = 0 then fX6_qSums_48 n (fX6_qSums_15 n k) l1 q.2.1 q.2.2 else fX6_qSums_49 n (fX6_qSums_15 n k) l1 (nI 1) q.2.1 q.2.2
def kA (n k : Nat) (l1 : Int32) (q : jI × jJ) : Option (jI × jJ) := if (q.1 1547 5) = 0 then Option.bind (fX6_qGoesOn n q.1 q.2) (kG n k l1) else fX6_qSums_48 n (fX6_qSums_15 n k) l1 q.1 q.2
def eG (n kE kk k : Nat) (l1 : Int32) (d : jI) (j : jJ) : Option (jI × jJ) := Option.bind (fX6_qEndsPart_0 n kE d j) (fun q => Option.bind (fX6_qGoesOn_0 n kk q.1 q.2) (kG n k l1))
def pT (n kk k : Nat) (l1 : Int32) (d : jI) (j : jJ) : Option (jI × jJ) := Option.bind (fX6_qPartTold_2 n kk (nI 1) d j) (kA n k l1)
/-- the model while it reads a sum -/
def SS (t : jTx) (tk : Nat) (ci0 d : jI) (W C : List Nat) (o bs p : Nat) : Prop := MN t d p ∧ WO d ∧ d 1547 49 = nI tk ∧ STK d W C o bs ∧ FQ ci0 d ∧ C.length + W.length ≤ sk t p ∧ p ≤ t.1 ∧ bs ≤ W.length
section
variable {n : Nat} {t : jTx} {ci : jI} {cj : jJ}
theorem qS_step {k : Nat} {l1 : Int32} (h0 : ci 1547 5 = 0) : fX6_qSums_15 n (k + 1) l1 (nI 1) ci cj = pT n n k l1 ci cj := by
  rw [fX6_qSums_15.eq_2, if_neg n10, if_pos h0]
  rfl
theorem bd_end {k κ e : Nat} {l1 : Int32} (hn : 4000 ≤ n) (hk : 0 < k) (h : BD ci κ e) : fX6_qSums_48 n (fX6_qSums_15 n k) l1 ci cj = some (ju ci 1547 101 l1, cj) := by
  obtain ⟨k, rfl⟩ : ∃ k', k = k' + 1 := ⟨k - 1, by omega⟩
  obtain ⟨n', hn'⟩ : ∃ n', n = n' + 1 := ⟨n - 1, by omega⟩
  unfold fX6_qSums_48 fX6_qSums_49
  rw [fX6_qSums_15.eq_2, if_pos z00, show fX6_qSums_53 n n = fX6_qSums_53 n (n' + 1) by rw [← hn'], fX6_qSums_53.eq_2, if_neg h.ne]
  rfl
theorem bd_kA {k κ e : Nat} {l1 : Int32} (hn : 4000 ≤ n) (hk : 0 < k) (h : BD ci κ e) : kA n k l1 (ci, cj) = some (ju ci 1547 101 l1, cj) := by
  unfold kA
  rw [if_neg h.ne]
  exact bd_end hn hk h
theorem bd_kG {k κ e : Nat} {l1 : Int32} (hn : 4000 ≤ n) (hk : 0 < k) (h : BD ci κ e) : kG n k l1 (nI 0, ci, cj) = some (ju ci 1547 101 l1, cj) := by
  unfold kG
  rw [if_pos z00]
  exact bd_end hn hk h
theorem kG_1 {k : Nat} {l1 : Int32} (h0 : ci 1547 5 = 0) : kG n (k + 1) l1 (nI 1, ci, cj) = pT n n k l1 ci cj := by
  unfold kG
  rw [if_neg n10]
  exact qS_step h0
theorem FQ.of {L M : List Nat} {ci0 d d' : jI} (h : FQ ci0 d) (g : Fr L M d d') (hL : ∀ i ∈ L, i ∈ [1620, 1621]) (hM : ∀ i ∈ M, i ∈ [2, 4, 5, 6, 10, 97, 99, 100, 101]) : FQ ci0 d' := h.tr (g.le hL hM)
theorem SS.bad {tk o bs p : Nat} {W C : List Nat} {d : jI} (h : SS t tk ci d W C o bs p) : d 1547 5 = 0 := by
  obtain ⟨⟨a, h, -⟩, -⟩ := h
  exact h.2.2.1
/-- the machine looks, and stands behind blanks -/
theorem SS.look (hn : 4000 ≤ n) (hT : TXok t) {tk o bs p : Nat} {W C : List Nat} {d : jI} {j : jJ} (h : SS t tk ci d W C o bs p) : Wp (fX6_look n d j) (fun q => q.1 = cI (cAt t (sk t p)) ∧ SS t tk ci q.2.1 W C o bs p ∧ ML t q.2.1 (sk t p) ∧ q.2.2 = j) := by
  obtain ⟨h1, h2, h3, h4, h5, h6, h7, h8⟩ := h
  refine (sp6_look hn hT h1).mono ?_
  rintro ⟨x, d1, j1⟩ ⟨q1, q2, q3, q4⟩
  exact ⟨q1, ⟨⟨sk t p, q2, sk_sk p⟩, h2.fr q3 wtab_nil, (q3.2 49 (by decide)).trans h3, h4.fr q3 (by decide) (by decide) (by decide), h5.of q3 (by decide) (by decide), h6, h7, h8⟩, q2, q4⟩
end
