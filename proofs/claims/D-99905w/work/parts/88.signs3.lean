/-! A SIGN OF A SUM IS TAKEN -/
set_option maxRecDepth 100000
section
variable {n : Nat} {t : jTx} {ci : jI} {cj : jJ} {o bs : Nat}
theorem go_add (hn : 4000 ≤ n) (hT : TXok t) {tk p k : Nat} {l1 : Int32} {mp R C : List Nat} {d : jI} {j : jJ} {Q : jI × jJ → Prop} (h : SS t tk ci d (mp ++ R) C o bs p) (hm : ∀ y ∈ mp, 1 ≤ y ∧ y ≤ 4) (hR : ∀ c, R.head? = some c → ¬ (1 ≤ c ∧ c ≤ 4)) (hRs : ∀ y ∈ R, y < 100) (hbs : bs ≤ R.length) (hc : cAt t (sk t p) = 43 ∨ cAt t (sk t p) = 45)
    (hq : ∀ d', SS t tk ci d' ((if cAt t (sk t p) = 43 then 1 else 2) :: R) (C ++ mp) o bs (sk t p + 1) → Wp (pT n n k l1 d' j) Q) : Wp (Option.bind (fX6_qGoesOn_122 n d j) (kG n (k + 1) l1)) Q := by
  have hT1 := hT.1
  have hlen := h.2.2.2.2.2.1
  have hp := h.2.2.2.2.2.2.1
  have hsk := sk_le hp
  rw [List.length_append] at hlen
  have key : ∀ (x : Nat) (d1 : jI), SS t tk ci d1 (mp ++ R) C o bs (sk t p + 1) → x = (if cAt t (sk t p) = 43 then 1 else 2) → Wp (fX6_qGoesOn_246 n (nI x) d1 j) (fun q => Wp (kG n (k + 1) l1 q) Q) := by
    intro x d1 h1 hx
    unfold fX6_qGoesOn_246
    refine (sp6_247 (x := x) hR hRs (by omega) mp d1 C j n (by omega) hm h1.2.2.2.1 (by omega)).mono ?_
    rintro ⟨z, d2, j2⟩ ⟨q1, q2, q3, q4⟩
    dsimp only at q1 q2 q3 q4
    subst q1 q4
    have hge := sk_ge (t := t) (sk t p + 1)
    obtain ⟨a, m1, m2⟩ := h1.1
    have hmn : MN t d2 (sk t p + 1) := ⟨a, m1.fr q3 (by decide) (by decide), m2⟩
    have h2 : SS t tk ci d2 (x :: R) (C ++ mp) o bs (sk t p + 1) := h1.to hmn q2 q3 (by decide) (by decide) (by rw [List.length_append]; show C.length + mp.length + (R.length + 1) ≤ _; omega) h1.2.2.2.2.2.2.1 (by show bs ≤ R.length + 1; omega)
    rw [kG_1 h2.bad]
    exact hq d2 (hx ▸ h2)
  have fin : ∀ (d1 : jI), SS t tk ci d1 (mp ++ R) C o bs (sk t p + 1) → ML t d1 (sk t p + 1) → Wp (fX6_qGoesOn_225 n d1 j) (fun q => Wp (kG n (k + 1) l1 q) Q) := by
    intro d1 h1 m1
    have hlt : sk t p < t.1 := by rcases hc with e | e <;> exact (cAt_lt (by omega) e).1
    have ea : d1 1547 2 - nI 1 = nI (sk t p) := by rw [m1.2.2.2.2.1, i32_m1]
    have et : d1 1548 (d1 1547 2 - nI 1).toNatClampNeg = nI (t.2 (sk t p)) := by rw [ea, nI_cl (by omega)]; exact m1.2.1 _ hlt
    unfold fX6_qGoesOn_225
    rw [if_pos (show jok (d1 1547 2 - nI 1) 1600 by rw [ea, jok_t (by omega) (by omega)]; trivial), et]
    by_cases e : cAt t (sk t p) = 43
    · have e' := (cAt_lt (by omega) e).2
      rw [if_pos (by rw [e'])]
      exact key 1 d1 h1 (by rw [if_pos e])
    · have e' := (cAt_lt (by omega) (hc.resolve_left e)).2
      rw [if_neg (show ¬ nI (t.2 (sk t p)) = nI 43 by rw [e']; decide)]
      exact key 2 d1 h1 (by rw [if_neg e])
  obtain ⟨l42, g42, l47, g47, l43, g43, l45, g45, -⟩ := nL42
  have n42 : ¬ cAt t (sk t p) = 42 := by omega
  have n47 : ¬ cAt t (sk t p) = 47 := by omega
  unfold fX6_qGoesOn_122
  rw [wp_bind, wp_bind]
  refine (h.sign hn hT (by omega) l42 g42).mono ?_
  rintro ⟨x, d1, j1⟩ ⟨q1, q2, q3⟩
  dsimp only at q1 q2 q3 ⊢
  subst q3
  obtain ⟨rfl, u1, u2⟩ := q2 n42
  rw [if_pos z00, wp_bind]
  refine (u1.sign hn hT (by omega) l47 g47).mono ?_
  rintro ⟨x, d2, j2⟩ ⟨w1, w2, w3⟩
  dsimp only at w1 w2 w3 ⊢
  subst w3
  obtain ⟨rfl, v1, v2⟩ := w2 n47
  rw [if_pos z00, wp_bind]
  refine (v1.sign hn hT (by omega) l43 g43).mono ?_
  rintro ⟨x, d3, j3⟩ ⟨y1, y2, y3⟩
  dsimp only at y1 y2 y3 ⊢
  subst y3
  by_cases e : cAt t (sk t p) = 43
  · obtain ⟨rfl, a1, a2⟩ := y1 e
    rw [if_neg n10]
    exact fin d3 a1 a2
  obtain ⟨rfl, a1, a2⟩ := y2 e
  rw [if_pos z00, wp_bind]
  refine (a1.sign hn hT (by omega) l45 g45).mono ?_
  rintro ⟨x, d4, j4⟩ ⟨b1, b2, b3⟩
  dsimp only at b1 b2 b3 ⊢
  subst b3
  obtain ⟨rfl, c1, c2⟩ := b1 (hc.resolve_left e)
  rw [if_neg n10]
  exact fin d4 c1 c2
/-- no sign of a sum is here: the bracket says what comes -/
theorem go_none (hn : 4000 ≤ n) (hT : TXok t) {tk p k : Nat} {l1 : Int32} {mp R C : List Nat} {d : jI} {j : jJ} {Q : jI × jJ → Prop} (h : SS t tk ci d (mp ++ R) C o bs p) (hm : opl mp) (hR : clo R bs) (h42 : ¬ cAt t (sk t p) = 42) (h47 : ¬ cAt t (sk t p) = 47) (h43 : ¬ cAt t (sk t p) = 43) (h45 : ¬ cAt t (sk t p) = 45)
    (hbase : R.length = bs → ∀ d', SS t tk ci d' (mp ++ R) C o bs p → Wp (kG n k l1 (nI 0, d', j)) Q)
    (htwo : (R.head? = some 21 ∨ R.head? = some 22) → R.length ≠ bs → ∀ d', SS t tk ci d' (mp ++ R) C o bs p → Wp (Option.bind (fX6_qGoesOn_326 n d' j) (kG n k l1)) Q)
    (hbad : R.length ≠ bs → R.head? ≠ some 21 → R.head? ≠ some 22 → ∀ d', BD d' 1 (sk t p) → FQ ci d' → Wp (kG n k l1 (nI 0, d', j)) Q) : Wp (Option.bind (fX6_qGoesOn_122 n d j) (kG n k l1)) Q := by
  obtain ⟨l42, g42, l47, g47, l43, g43, l45, g45, -⟩ := nL42
  unfold fX6_qGoesOn_122
  rw [wp_bind, wp_bind]
  refine (h.sign hn hT (by omega) l42 g42).mono ?_
  rintro ⟨x, d1, j1⟩ ⟨q1, q2, q3⟩
  dsimp only at q1 q2 q3 ⊢
  subst q3
  obtain ⟨rfl, u1, u2⟩ := q2 h42
  rw [if_pos z00, wp_bind]
  refine (u1.sign hn hT (by omega) l47 g47).mono ?_
  rintro ⟨x, d2, j2⟩ ⟨w1, w2, w3⟩
  dsimp only at w1 w2 w3 ⊢
  subst w3
  obtain ⟨rfl, v1, v2⟩ := w2 h47
  rw [if_pos z00, wp_bind]
  refine (v1.sign hn hT (by omega) l43 g43).mono ?_
  rintro ⟨x, d3, j3⟩ ⟨y1, y2, y3⟩
  dsimp only at y1 y2 y3 ⊢
  subst y3
  obtain ⟨rfl, a1, a2⟩ := y2 h43
  rw [if_pos z00, wp_bind]
  refine (a1.sign hn hT (by omega) l45 g45).mono ?_
  rintro ⟨x, d4, j4⟩ ⟨b1, b2, b3⟩
  dsimp only at b1 b2 b3 ⊢
  subst b3
  obtain ⟨rfl, c1, c2⟩ := b2 h45
  have eB := e6_qBracket (n := n) (cj := j4) hn hR hm c1.2.2.2.1
  rw [if_pos z00, wp_bind, eB, wp_some]
  dsimp only
  unfold fX6_qGoesOn_386
  unfold brk
  by_cases e : R.length = bs
  · rw [if_pos e, if_neg (by decide), wp_bind, eB, wp_some]
    dsimp only
    unfold brk
    rw [if_pos e, if_neg (by decide), wp_bind, eB, wp_some]
    dsimp only
    unfold brk
    rw [if_pos e, if_pos rfl, wp_some]
    exact hbase e d4 c1
  obtain ⟨x, R', rfl, x1, x2, x3⟩ := hR.resolve_left e
  rw [if_neg e]
  show Wp (if nI x = nI 21 then _ else _) _
  by_cases e21 : x = 21
  · rw [if_pos (by rw [e21])]
    have := htwo (Or.inl (by rw [e21]; rfl)) e d4 c1
    rw [wp_bind] at this
    exact this
  rw [if_neg (show ¬ nI x = nI 21 by rw [nI_eqN (by omega) (by omega)]; exact e21), wp_bind, eB, wp_some]
  dsimp only
  unfold brk
  rw [if_neg e]
  show Wp (if nI x = nI 22 then _ else _) _
  by_cases e22 : x = 22
  · rw [if_pos (by rw [e22])]
    have := htwo (Or.inr (by rw [e22]; rfl)) e d4 c1
    rw [wp_bind] at this
    exact this
  rw [if_neg (show ¬ nI x = nI 22 by rw [nI_eqN (by omega) (by omega)]; exact e22), wp_bind, eB, wp_some]
  dsimp only
  unfold brk
  rw [if_neg e]
  show Wp (if nI x = -1 then _ else _) _
  rw [if_neg (nI_nm1 (by omega)), if_pos c1.bad, c2.2.2.2.2.1, wp_bind, e6_fail c1.bad, wp_some, wp_some]
  exact hbad e (fun z => e21 (Option.some.inj z)) (fun z => e22 (Option.some.inj z)) _ (BD.mk' (by omega) (by omega)) ((c1.2.2.2.2.1.upf (by decide)).upf (by decide))
end
