/-! A SIGN IS TAKEN -/
set_option maxRecDepth 100000
section
variable {n : Nat} {t : jTx} {ci : jI} {cj : jJ} {o bs : Nat}
theorem SS.to {tk p p' : Nat} {W C W' C' : List Nat} {o' : Nat} {d d' : jI} {L M : List Nat} (h : SS t tk ci d W C o bs p) (hm : MN t d' p') (hs : STK d' W' C' o' bs) (g : Fr L M d d') (hL : ∀ i ∈ L, i ∈ [1620, 1621]) (hM : ∀ i ∈ M, i ∈ [2, 4, 5, 6, 10, 97, 99, 100, 101]) (hl : C'.length + W'.length ≤ sk t p') (hp : p' ≤ t.1) (hb : bs ≤ W'.length) : SS t tk ci d' W' C' o' bs p' := by
  obtain ⟨h1, h2, h3, h4, h5, h6, h7, h8⟩ := h
  refine ⟨hm, h2.fr g (fun q hq z => ?_), (g.2 49 (fun z => absurd (hM 49 z) (by decide))).trans h3, hs, h5.of g hL hM, hl, hp, hb⟩
  have h1 := hL _ z
  have h2 : ∀ q ∈ wtab, q.1 ∉ ([1620, 1621] : List Nat) := by decide
  exact h2 q hq h1
theorem SS.sign (hn : 4000 ≤ n) (hT : TXok t) {tk p c : Nat} {W C : List Nat} {d : jI} {j : jJ} (h : SS t tk ci d W C o bs p) (hc : c < 256) (hl : ¬ isL c) (hg : ¬ isG c) : Wp (fX6_takesSign n (nI c) d j) (fun q => (cAt t (sk t p) = c → q.1 = nI 1 ∧ SS t tk ci q.2.1 W C o bs (sk t p + 1) ∧ ML t q.2.1 (sk t p + 1)) ∧ (¬ cAt t (sk t p) = c → q.1 = nI 0 ∧ SS t tk ci q.2.1 W C o bs p ∧ ML t q.2.1 (sk t p)) ∧ q.2.2 = j) := by
  have h' := h
  obtain ⟨h1, h2, h3, h4, h5, h6, h7, h8⟩ := h
  refine (sp6_takesSign hn hT h1 hc hl hg).mono ?_
  rintro ⟨x, d1, j1⟩ ⟨q1, q2, q3, q4⟩
  dsimp only at q1 q2 q3 q4 ⊢
  have hs : STK d1 W C o bs := h4.fr q3 (by decide) (by decide) (by decide)
  have hge := sk_ge (t := t) (sk t p + 1)
  refine ⟨fun e => ?_, fun e => ?_, q4⟩
  · obtain ⟨u1, u2⟩ := q1 e
    exact ⟨u1, h'.to u2.mp hs q3 (by decide) (by decide) (by omega) u2.le h8, u2⟩
  · obtain ⟨u1, u2⟩ := q2 e
    exact ⟨u1, h'.to ⟨sk t p, u2, sk_sk p⟩ hs q3 (by decide) (by decide) h6 h7 h8, u2⟩
theorem nL42 : ¬ isL 42 ∧ ¬ isG 42 ∧ ¬ isL 47 ∧ ¬ isG 47 ∧ ¬ isL 43 ∧ ¬ isG 43 ∧ ¬ isL 45 ∧ ¬ isG 45 ∧ ¬ isL 44 ∧ ¬ isG 44 ∧ ¬ isL 40 ∧ ¬ isG 40 ∧ ¬ isL 41 ∧ ¬ isG 41 := by decide
/-- a part has ended, nothing waits for it: what the sign behind it is -/
theorem eG_look (hn : 4000 ≤ n) (hT : TXok t) {tk p kE kk k : Nat} {l1 : Int32} {W C : List Nat} {d : jI} {j : jJ} {Q : jI × jJ → Prop} (h : SS t tk ci d W C o bs p) (hs : W.length = bs ∨ ∃ x R, W = x :: R ∧ x < 60 ∧ bs ≤ R.length) (hc : cAt t (sk t p) ≠ 41) (hE : 0 < kE) (hkk : 0 < kk)
    (hq : ∀ d', SS t tk ci d' W C o bs p → ML t d' (sk t p) → Wp (Option.bind (fX6_qGoesOn_122 n d' j) (kG n k l1)) Q) : Wp (eG n kE kk k l1 d j) Q := by
  obtain ⟨kE, rfl⟩ : ∃ k', kE = k' + 1 := ⟨kE - 1, by omega⟩
  obtain ⟨kk, rfl⟩ : ∃ k', kk = k' + 1 := ⟨kk - 1, by omega⟩
  unfold eG
  rw [wp_bind, e6_endsStop h.2.2.2.1 hs, wp_some]
  dsimp only
  rw [wp_bind, fX6_qGoesOn_0.eq_2, if_pos h.bad, wp_bind]
  refine (h.look hn hT).mono ?_
  rintro ⟨x, d1, j1⟩ ⟨q1, q2, q3, q4⟩
  dsimp only at q1 q2 q3 q4 ⊢
  subst q1 q4
  rw [if_neg (fun z => hc ((cI_eq (cAt_le hT _) (by omega)).mp z))]
  have := hq d1 q2 q3
  rw [wp_bind] at this
  exact this
theorem go_mul (hn : 4000 ≤ n) (hT : TXok t) {tk p k : Nat} {l1 : Int32} {mp R C : List Nat} {d : jI} {j : jJ} {Q : jI × jJ → Prop} (h : SS t tk ci d (mp ++ R) C o bs p) (hm : ∀ y ∈ mp, y = 3 ∨ y = 4) (hR : ∀ c, R.head? = some c → ¬ (1 ≤ c ∧ c ≤ 4) ∨ c = 1 ∨ c = 2) (hRs : ∀ y ∈ R, y < 100) (hbs : bs ≤ R.length) (hc : cAt t (sk t p) = 42 ∨ cAt t (sk t p) = 47)
    (hq : ∀ d', SS t tk ci d' ((if cAt t (sk t p) = 42 then 3 else 4) :: R) (C ++ mp) o bs (sk t p + 1) → Wp (pT n n k l1 d' j) Q) : Wp (Option.bind (fX6_qGoesOn_122 n d j) (kG n (k + 1) l1)) Q := by
  have hT1 := hT.1
  have hlen := h.2.2.2.2.2.1
  have hp := h.2.2.2.2.2.2.1
  have hsk := sk_le hp
  rw [List.length_append] at hlen
  have hR3 : R.head? ≠ some 3 := fun e => by rcases hR 3 e with z | z | z <;> omega
  have hR4 : R.head? ≠ some 4 := fun e => by rcases hR 4 e with z | z | z <;> omega
  have key : ∀ (x : Nat) (d1 : jI), SS t tk ci d1 (mp ++ R) C o bs (sk t p + 1) → x = (if cAt t (sk t p) = 42 then 3 else 4) → Wp (fX6_qGoesOn_161 n (nI x) d1 j) (fun q => Wp (kG n (k + 1) l1 q) Q) := by
    intro x d1 h1 hx
    unfold fX6_qGoesOn_161
    refine (sp6_162 (x := x) hR3 hR4 hRs (by omega) mp d1 C j n (by omega) hm h1.2.2.2.1 (by omega)).mono ?_
    rintro ⟨z, d2, j2⟩ ⟨q1, q2, q3, q4⟩
    dsimp only at q1 q2 q3 q4
    subst q1 q4
    have hge := sk_ge (t := t) (sk t p + 1)
    obtain ⟨a, m1, m2⟩ := h1.1
    have hmn : MN t d2 (sk t p + 1) := ⟨a, m1.fr q3 (by decide) (by decide), m2⟩
    have h2 : SS t tk ci d2 (x :: R) (C ++ mp) o bs (sk t p + 1) := h1.to hmn q2 q3 (by decide) (by decide) (by rw [List.length_append]; show C.length + mp.length + (R.length + 1) ≤ _; omega) h1.2.2.2.2.2.2.1 (by show bs ≤ R.length + 1; omega)
    rw [kG_1 h2.bad]
    exact hq d2 (hx ▸ h2)
  have fin : ∀ (d1 : jI), SS t tk ci d1 (mp ++ R) C o bs (sk t p + 1) → ML t d1 (sk t p + 1) → Wp (fX6_qGoesOn_140 n d1 j) (fun q => Wp (kG n (k + 1) l1 q) Q) := by
    intro d1 h1 m1
    have hlt : sk t p < t.1 := by rcases hc with e | e <;> exact (cAt_lt (by omega) e).1
    have ea : d1 1547 2 - nI 1 = nI (sk t p) := by rw [m1.2.2.2.2.1, i32_m1]
    have et : d1 1548 (d1 1547 2 - nI 1).toNatClampNeg = nI (t.2 (sk t p)) := by rw [ea, nI_cl (by omega)]; exact m1.2.1 _ hlt
    have hb := hT.2 _ hlt
    unfold fX6_qGoesOn_140
    rw [if_pos (show jok (d1 1547 2 - nI 1) 1600 by rw [ea, jok_t (by omega) (by omega)]; trivial), et]
    by_cases e : cAt t (sk t p) = 42
    · have e' := (cAt_lt (by omega) e).2
      rw [if_pos (by rw [e'])]
      exact key 3 d1 h1 (by rw [if_pos e])
    · have e' := (cAt_lt (by omega) (hc.resolve_left e)).2
      rw [if_neg (show ¬ nI (t.2 (sk t p)) = nI 42 by rw [e']; decide)]
      exact key 4 d1 h1 (by rw [if_neg e])
  obtain ⟨l42, g42, l47, g47, -⟩ := nL42
  unfold fX6_qGoesOn_122
  rw [wp_bind, wp_bind]
  refine (h.sign hn hT (by omega) l42 g42).mono ?_
  rintro ⟨x, d1, j1⟩ ⟨q1, q2, q3⟩
  dsimp only at q1 q2 q3 ⊢
  subst q3
  by_cases e : cAt t (sk t p) = 42
  · obtain ⟨rfl, u1, u2⟩ := q1 e
    rw [if_neg n10]
    exact fin d1 u1 u2
  obtain ⟨rfl, u1, u2⟩ := q2 e
  rw [if_pos z00, wp_bind]
  refine (u1.sign hn hT (by omega) l47 g47).mono ?_
  rintro ⟨x, d2, j2⟩ ⟨w1, w2, w3⟩
  dsimp only at w1 w2 w3 ⊢
  subst w3
  obtain ⟨rfl, v1, v2⟩ := w1 (hc.resolve_left e)
  rw [if_neg n10]
  exact fin d2 v1 v2
end
