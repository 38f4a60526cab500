/-! BEHIND BOTH CONSTRUCTORS: the layouts stand -/
theorem cfx_ck : ∀ q ∈ cfx, q.1 < 1547 ∧ ckd q.1 = q.2.1 ∧ cln q.1 = q.2.2 := by decide
theorem cfr_R0 : ∀ q ∈ cfr, (q.1, q.2.1, some q.2.2) ∈ ((0, 20, some 1546) :: R0 : List (Nat × Nat × Option Nat)) := by decide
theorem ss_all : ∀ (n k : Nat), k < n → 506 + 52 * k ∈ ss n
  | 0, k, h => absurd h (Nat.not_lt_zero k)
  | n + 1, k, h => by
    by_cases e : k = n
    · subst e; exact List.mem_cons_self
    · exact List.mem_cons_of_mem _ (ss_all n k (by omega))
theorem isSt_ss {t : Nat} (h : isSt t) : t ∈ ss 20 ++ [68, 16] := by
  rcases h with h | h | ⟨h1, h2, h3⟩
  · subst h; exact List.mem_append_right _ (by decide)
  · subst h; exact List.mem_append_right _ (by decide)
  · refine List.mem_append_left _ ?_
    have e : t = 506 + 52 * ((t - 506) / 52) := by omega
    rw [e]
    exact ss_all 20 _ (by omega)
theorem ck_low {t i : Nat} (h : t = 16 ∨ t = 68) (hi : i < 52) : ckd (t + i) = stk i ∧ cln (t + i) = stl i := by
  have e : (t + i - 16) % 52 = i := by omega
  unfold ckd cln
  rw [if_neg (by omega), if_pos (by omega), if_neg (by omega), if_pos (by omega), e]
  exact ⟨rfl, rfl⟩
theorem ck_st {t i : Nat} (h : isSt t) (hi : i < 52) : ckd (t + i) = stk i ∧ cln (t + i) = stl i ∧ t + i < 1546 := by
  rcases h with h | h | ⟨h1, h2, h3⟩
  · obtain ⟨a, b⟩ := ck_low (Or.inl h) hi
    exact ⟨a, b, by omega⟩
  · obtain ⟨a, b⟩ := ck_low (Or.inr h) hi
    exact ⟨a, b, by omega⟩
  · have e : t = 506 + 52 * ((t - 506) / 52) := by omega
    obtain ⟨a, b⟩ := ck_kept (j := (t - 506) / 52) (i := i) (by omega) hi
    rw [← e] at a b
    exact ⟨a, b, by omega⟩
theorem stk_skd : ∀ j, j < 12 → 1 ≤ j → stk j = skd j ∧ stl j = sln j := by decide
theorem CF.jcw {K : jK} {cr : jR} (h : CF K cr) : jCW K cr := by
  obtain ⟨⟨h1, h2, h3, h4⟩, -⟩ := h
  refine ⟨fun q hq => ?_, fun q hq => ?_, fun t ht => ?_⟩
  · obtain ⟨a, b, c⟩ := cfx_ck q hq
    obtain ⟨g1, g2⟩ := h2 q.1 a
    exact ⟨g1.trans b, g2.trans c, by rw [h1]; exact a⟩
  · refine h3 (q.1, q.2.1, some q.2.2) ?_
    rcases List.mem_cons.mp (cfr_R0 q hq) with e | e
    · rw [e]; exact List.mem_cons_self
    · exact List.mem_cons_of_mem _ (List.mem_append_right _ e)
  · obtain ⟨r1, r2, r3⟩ := h4 t (isSt_ss ht)
    obtain ⟨k1, k2, k3⟩ := ck_st ht (i := 0) (by decide)
    refine ⟨((h2 t (by omega)).1).trans k1, by rw [h1]; omega, r1, fun j a b => ?_⟩
    obtain ⟨k1, k2, k3⟩ := ck_st ht (i := j) (by omega)
    obtain ⟨s1, s2⟩ := stk_skd j (by omega) a
    obtain ⟨g1, g2⟩ := h2 (t + j) (by omega)
    exact ⟨g1.trans (k1.trans s1), g2.trans (k2.trans s2), by rw [h1]; omega, r2 j a b⟩
/-- what the model's constructor leaves of the component -/
theorem FM.jcw {K0 K : jK} {cr0 cr : jR} {z : Nat} {rl : List Nat} (h : FM K0 cr0 z rl K cr) (hC : CF K0 cr0) : jCW K cr := by
  obtain ⟨c1, c2, c3⟩ := hC.jcw
  have hz := h.2.2.2.2.2
  refine ⟨fun q hq => ?_, fun q hq => ?_, fun t ht => ?_⟩
  · obtain ⟨a, b, -⟩ := cfx_ck q hq
    obtain ⟨g1, g2, g3⟩ := c1 q hq
    obtain ⟨e1, e2⟩ := h.2.2.2.1 q.1 (Or.inl a)
    exact ⟨e1.trans g1, e2.trans g2, by rw [h.1]; omega⟩
  · have hne : ∀ q ∈ cfr, q.1 ≠ 1547 := by decide
    rw [h.2.2.2.2.1 q.1 (hne q hq)]
    exact c2 q hq
  · obtain ⟨g1, g2, g3, g4⟩ := c3 t ht
    have ht' : t < 1546 := (ck_st ht (i := 0) (by decide)).2.2
    refine ⟨((h.2.2.2.1 t (Or.inl (by omega))).1).trans g1, by rw [h.1]; omega, by rw [h.2.2.2.2.1 t (by omega)]; exact g3, fun j a b => ?_⟩
    obtain ⟨f1, f2, f3, f4⟩ := g4 j a b
    have htj : t + j < 1546 := (ck_st ht (i := j) (by omega)).2.2
    obtain ⟨e1, e2⟩ := h.2.2.2.1 (t + j) (Or.inl (by omega))
    exact ⟨e1.trans f1, e2.trans f2, by rw [h.1]; omega, by rw [h.2.2.2.2.1 t (by omega)]; exact f4⟩
