/-! A SUM IN THE MODEL, WHOLE -/
set_option maxRecDepth 100000
section
variable {n : Nat} {t : jTx} {ci : jI} {j : jJ} {o bs tk : Nat} {l1 : Int32} {a : jPa}
theorem clo_hd {R : List Nat} (h : clo R bs) (hx : ∀ c, R.length = bs → R.head? = some c → 5 ≤ c) : ∀ c, R.head? = some c → ¬ (1 ≤ c ∧ c ≤ 4) := by
  intro c hc
  rcases h with e | ⟨x, R', e, x1, x2, x3⟩
  · have := hx c e hc; omega
  · rw [e] at hc
    have := hd_cons.mp hc
    omega
theorem sum_loop (hn : 4000 ≤ n) (hT : TXok t) (ha : gS t a) (hA : AT n t tk ci j l1 bs a o) {R C0 : List Nat} (hR : clo R bs) (hx : ∀ c, R.length = bs → R.head? = some c → 5 ≤ c) (hRs : ∀ y ∈ R, y < 100) (hbs : bs ≤ R.length) {Q : jI × jJ → Prop} :
    ∀ (m p : Nat) (lp acc mp ap C : List Nat) (d : jI) (kE kk k : Nat), t.1 - sk t p ≤ m → SS t tk ci d (mp ++ (ap ++ R)) C o bs p → (∀ y ∈ mp, y = 3 ∨ y = 4) → (∀ y ∈ ap, y = 1 ∨ y = 2) → C ++ mp = C0 ++ (acc ++ lp) → (mp ++ (ap ++ R)).length < kE → t.1 - sk t p < kk → t.1 - sk t p < k →
    (∀ κ e, sX t a p lp acc ap = .inl (κ, e) → ∀ d', BD d' κ e → FQ ci d' → Q (ju d' 1547 101 l1, j)) →
    (∀ p' l, sX t a p lp acc ap = .inr (p', l) → ∀ mp' C', C' ++ mp' = C0 ++ l → (∀ y ∈ mp', 1 ≤ y ∧ y ≤ 4) → (¬ cAt t (sk t p') = 42 ∧ ¬ cAt t (sk t p') = 47 ∧ ¬ cAt t (sk t p') = 43 ∧ ¬ cAt t (sk t p') = 45) → ∀ d', SS t tk ci d' (mp' ++ R) C' o bs p' → ∀ kE kk' k', (mp' ++ R).length < kE → t.1 - sk t p' < kk' → t.1 - sk t p' < k' → Wp (eG n kE kk' k' l1 d' j) Q) →
    Wp (eG n kE kk k l1 d j) Q := by
  intro m
  induction m with
  | zero =>
    intro p lp acc mp ap C d kE kk k hm h hmp hap hC hE hkk hk hb hq
    have hp := h.2.2.2.2.2.2.1
    have hsk := sk_le hp
    have hno : ∀ c, c < 256 → ¬ cAt t (sk t p) = c := fun c hc e => by have := (cAt_lt hc e).1; omega
    refine hq (sk t p) _ (sX_end hp (hno 42 (by omega)) (hno 47 (by omega)) (hno 43 (by omega)) (hno 45 (by omega))) (mp ++ ap) C ?_ ?_ ?_ d ?_ kE kk k ?_ ?_ ?_
    · rw [← List.append_assoc, hC, List.append_assoc, List.append_assoc]
    · intro y hy
      rcases List.mem_append.mp hy with e | e
      · have := hmp y e; omega
      · have := hap y e; omega
    · rw [sk_sk]; exact ⟨hno 42 (by omega), hno 47 (by omega), hno 43 (by omega), hno 45 (by omega)⟩
    · rw [List.append_assoc]; exact h.sk'
    · rw [List.append_assoc]; exact hE
    · rw [sk_sk]; exact hkk
    · rw [sk_sk]; exact hk
  | succ m ih =>
    intro p lp acc mp ap C d kE kk k hm h hmp hap hC hE hkk hk hb hq
    have hp := h.2.2.2.2.2.2.1
    have hsk := sk_le hp
    have hge1 := sk_ge (t := t) (sk t p + 1)
    have hRh := clo_hd hR hx
    have hlow : (mp ++ (ap ++ R)).length = bs ∨ ∃ x R', mp ++ (ap ++ R) = x :: R' ∧ x < 60 ∧ bs ≤ R'.length := by
      cases mp with
      | cons y mp => exact Or.inr ⟨y, mp ++ (ap ++ R), rfl, by have := hmp y (List.mem_cons_self ..); omega, by rw [List.length_append, List.length_append]; omega⟩
      | nil =>
        cases ap with
        | cons y ap => exact Or.inr ⟨y, ap ++ R, rfl, by have := hap y (List.mem_cons_self ..); omega, by rw [List.length_append]; omega⟩
        | nil =>
          rcases hR with e | ⟨x, R', e, x1, x2, x3⟩
          · exact Or.inl e
          · exact Or.inr ⟨x, R', e, by omega, x3⟩
    have sml : ∀ y ∈ ap ++ R, y < 100 := fun y hy => by
      rcases List.mem_append.mp hy with e | e
      · have := hap y e; omega
      · have := hRs y e; omega
    obtain ⟨k, rfl⟩ : ∃ k', k = k' + 1 := ⟨k - 1, by omega⟩
    by_cases cm : cAt t (sk t p) = 42 ∨ cAt t (sk t p) = 47
    · have hlt : sk t p < t.1 := by rcases cm with e | e <;> exact (cAt_lt (by omega) e).1
      have ex := sX_mul (lp := lp) (acc := acc) (ap := ap) (x := if cAt t (sk t p) = 42 then 3 else 4) ha hp (by
        by_cases e : cAt t (sk t p) = 42
        · rw [if_pos e]; exact Or.inl ⟨e, rfl⟩
        · rw [if_neg e]; exact Or.inr ⟨cm.resolve_left e, rfl⟩)
      have hx34 : (if cAt t (sk t p) = 42 then 3 else 4) = 3 ∨ (if cAt t (sk t p) = 42 then 3 else 4) = 4 := by
        by_cases e : cAt t (sk t p) = 42
        · rw [if_pos e]; exact Or.inl rfl
        · rw [if_neg e]; exact Or.inr rfl
      refine eG_look hn hT h hlow (by omega) (by omega) (by omega) (fun d1 h1 _ => ?_)
      clear hlow
      refine go_mul hn hT h1 hmp (fun c hc => ?_) sml (by rw [List.length_append]; omega) cm (fun d2 h2 => ?_)
      · cases ap with
        | cons y ap => exact Or.inr (by have := hap y (List.mem_cons_self ..); have := hd_cons.mp hc; omega)
        | nil => exact Or.inl (hRh c hc)
      generalize (if cAt t (sk t p) = 42 then 3 else 4) = x at ex hx34 h2
      refine hA (sk t p + 1) (x :: (ap ++ R)) (C ++ mp) d2 n k Q h2 (fun y hy => by
        rcases List.mem_cons.mp hy with e | e
        · omega
        · exact sml y e) (by have := hT.1; omega) (by omega) (fun κ e he => ?_) (fun p1 l1' he d3 h3 kE' kk' k' e1 e2 e3 => ?_)
      · exact hb κ e (by rw [ex, he]; rfl)
      · have hg := ha (sk t p + 1) hlt
        rw [he] at hg
        obtain ⟨z1, z2, z3, z4⟩ := hg
        have hg2 := sk_ge (t := t) p1
        have exx : sX t a p lp acc ap = sX t a p1 (lp ++ (l1' ++ [x])) acc ap := by rw [ex, he]; rfl
        rw [exx] at hb hq
        refine ih p1 (lp ++ (l1' ++ [x])) acc [x] ap ((C ++ mp) ++ l1') d3 kE' kk' k' (by omega) h3 (fun y hy => by rw [List.mem_singleton.mp hy]; exact hx34) hap ?_ e1 e2 e3 hb hq
        rw [hC]; simp only [List.append_assoc]
    by_cases ca : cAt t (sk t p) = 43 ∨ cAt t (sk t p) = 45
    · have hlt : sk t p < t.1 := by rcases ca with e | e <;> exact (cAt_lt (by omega) e).1
      have ex := sX_add (lp := lp) (acc := acc) (ap := ap) (x := if cAt t (sk t p) = 43 then 1 else 2) ha hp (by
        by_cases e : cAt t (sk t p) = 43
        · rw [if_pos e]; exact Or.inl ⟨e, rfl⟩
        · rw [if_neg e]; exact Or.inr ⟨ca.resolve_left e, rfl⟩)
      have hx12 : (if cAt t (sk t p) = 43 then 1 else 2) = 1 ∨ (if cAt t (sk t p) = 43 then 1 else 2) = 2 := by
        by_cases e : cAt t (sk t p) = 43
        · rw [if_pos e]; exact Or.inl rfl
        · rw [if_neg e]; exact Or.inr rfl
      refine eG_look hn hT h hlow (by omega) (by omega) (by omega) (fun d1 h1 _ => ?_)
      clear hlow
      rw [← List.append_assoc] at h1
      refine go_add hn hT h1 (fun y hy => ?_) hRh (fun y hy => by have := hRs y hy; omega) hbs ca (fun d2 h2 => ?_)
      · rcases List.mem_append.mp hy with e | e
        · have := hmp y e; omega
        · have := hap y e; omega
      generalize (if cAt t (sk t p) = 43 then 1 else 2) = x at ex hx12 h2
      refine hA (sk t p + 1) (x :: R) (C ++ (mp ++ ap)) d2 n k Q h2 (fun y hy => by
        rcases List.mem_cons.mp hy with e | e
        · omega
        · have := hRs y e; omega) (by have := hT.1; omega) (by omega) (fun κ e he => ?_) (fun p1 l1' he d3 h3 kE' kk' k' e1 e2 e3 => ?_)
      · exact hb κ e (by rw [ex, he]; rfl)
      · have hg := ha (sk t p + 1) hlt
        rw [he] at hg
        obtain ⟨z1, z2, z3, z4⟩ := hg
        have hg2 := sk_ge (t := t) p1
        have exx : sX t a p lp acc ap = sX t a p1 l1' (acc ++ (lp ++ ap)) [x] := by rw [ex, he]; rfl
        rw [exx] at hb hq
        refine ih p1 l1' (acc ++ (lp ++ ap)) [] [x] ((C ++ (mp ++ ap)) ++ l1') d3 kE' kk' k' (by omega) h3 (fun y hy => by cases hy) (fun y hy => by rw [List.mem_singleton.mp hy]; exact hx12) ?_ e1 e2 e3 hb hq
        rw [List.append_nil, ← List.append_assoc C mp ap, hC]; simp only [List.append_assoc]
    have n42 : ¬ cAt t (sk t p) = 42 := fun e => cm (Or.inl e)
    have n47 : ¬ cAt t (sk t p) = 47 := fun e => cm (Or.inr e)
    have n43 : ¬ cAt t (sk t p) = 43 := fun e => ca (Or.inl e)
    have n45 : ¬ cAt t (sk t p) = 45 := fun e => ca (Or.inr e)
    refine hq (sk t p) _ (sX_end hp n42 n47 n43 n45) (mp ++ ap) C ?_ ?_ ?_ d ?_ kE kk (k + 1) ?_ ?_ ?_
    · rw [← List.append_assoc, hC, List.append_assoc, List.append_assoc]
    · intro y hy
      rcases List.mem_append.mp hy with e | e
      · have := hmp y e; omega
      · have := hap y e; omega
    · rw [sk_sk]; exact ⟨n42, n47, n43, n45⟩
    · rw [List.append_assoc]; exact h.sk'
    · rw [List.append_assoc]; exact hE
    · rw [sk_sk]; exact hkk
    · rw [sk_sk]; exact hk
end
