/-! NAMES IN THE MODEL -/
set_option maxRecDepth 100000
/-- the words that are no names -/
def own : List (Nat × List Nat) := wtab.take 27
theorem own_sub : ∀ q ∈ own, q ∈ wtab := fun _ h => List.mem_of_mem_take h
abbrev isOwn (w : List Nat) : Prop := w ∈ own.map Prod.snd
def c27 : List Nat → Nat → Nat
  | [], v => v
  | x :: l, v => c27 l (27 * v + (x - 96))
def nameS (t : jTx) (p : Nat) : jRs (List Nat) := if isL (cAt t (sk t p)) ∧ ¬ pt t (sk t p) ∧ ¬ isOwn (wd t (sk t p)) then (if we t (sk t p) - sk t p ≤ 6 then .inr (we t (sk t p), wd t (sk t p)) else .inl (1, sk t p + 6)) else .inl (1, sk t p)
section
variable {n : Nat} {t : jTx} {ci : jI} {cj : jJ}
theorem own_step {α : Type} (hn : 4000 ≤ n) (hT : TXok t) {p : Nat} {d : jI} {j : jJ} (h : ML t d (sk t p)) (hW : WO d) (w : Nat × List Nat) (hw : w ∈ wtab) {f : Int32 × jI × jJ → Option α} {Q : α → Prop}
    (h1 : hasW t p w.2 → ∀ d', ML t d' (sk t p) → Fr [] [2] d d' → Wp (f (nI 1, d', j)) Q) (h0 : ¬ hasW t p w.2 → ∀ d', ML t d' (sk t p) → Fr [] [2] d d' → Wp (f (nI 0, d', j)) Q) : Wp (Option.bind (fX6_isHere n w.1 d j) f) Q := by
  rw [wp_bind]
  refine (sp6_isHere (p := p) hn hT ⟨sk t p, h, sk_sk p⟩ hW hw).mono ?_
  rintro ⟨x, d', j'⟩ ⟨q1, q2, q3, q4⟩
  dsimp only at q1 q2 q3 q4 ⊢
  subst q4
  by_cases hh : hasW t p w.2
  · rw [if_pos hh] at q1; subst q1; exact h1 hh d' q2 q3
  · rw [if_neg hh] at q1; subst q1; exact h0 hh d' q2 q3
theorem sp6_isOwnHere (hn : 4000 ≤ n) (hT : TXok t) {p : Nat} {d : jI} {j : jJ} (h : ML t d (sk t p)) (hW : WO d) : Wp (fX6_isOwnHere n d j) (fun q => (q.1 = nI 1 ∧ (∃ w ∈ own, hasW t p w.2) ∨ q.1 = nI 0 ∧ ¬ ∃ w ∈ own, hasW t p w.2) ∧ ML t q.2.1 (sk t p) ∧ Fr [] [2] d q.2.1 ∧ q.2.2 = j) := by
  have yes : ∀ e, (∃ w ∈ own, hasW t p w.2) → ML t e (sk t p) → Fr [] [2] d e → Wp (fX6_isOwnHere_342 n (nI 1) e j) (fun q => (q.1 = nI 1 ∧ (∃ w ∈ own, hasW t p w.2) ∨ q.1 = nI 0 ∧ ¬ ∃ w ∈ own, hasW t p w.2) ∧ ML t q.2.1 (sk t p) ∧ Fr [] [2] d q.2.1 ∧ q.2.2 = j) := by
    intro e h1 h2 h3
    unfold fX6_isOwnHere_342
    rw [if_pos bt1, wp_some]
    exact ⟨Or.inl ⟨rfl, h1⟩, h2, h3, rfl⟩
  have y337 : ∀ e, (∃ w ∈ own, hasW t p w.2) → ML t e (sk t p) → Fr [] [2] d e → Wp (fX6_isOwnHere_337 n e j) (fun q => (q.1 = nI 1 ∧ (∃ w ∈ own, hasW t p w.2) ∨ q.1 = nI 0 ∧ ¬ ∃ w ∈ own, hasW t p w.2) ∧ ML t q.2.1 (sk t p) ∧ Fr [] [2] d q.2.1 ∧ q.2.2 = j) := fun e h1 h2 h3 => by unfold fX6_isOwnHere_337; exact yes e h1 h2 h3
  have y294 : ∀ e, (∃ w ∈ own, hasW t p w.2) → ML t e (sk t p) → Fr [] [2] d e → Wp (fX6_isOwnHere_294 n e j) (fun q => (q.1 = nI 1 ∧ (∃ w ∈ own, hasW t p w.2) ∨ q.1 = nI 0 ∧ ¬ ∃ w ∈ own, hasW t p w.2) ∧ ML t q.2.1 (sk t p) ∧ Fr [] [2] d q.2.1 ∧ q.2.2 = j) := fun e h1 h2 h3 => by unfold fX6_isOwnHere_294 fX6_isOwnHere_299; rw [if_neg n10]; exact y337 e h1 h2 h3
  have y218 : ∀ e, (∃ w ∈ own, hasW t p w.2) → ML t e (sk t p) → Fr [] [2] d e → Wp (fX6_isOwnHere_218 n e j) (fun q => (q.1 = nI 1 ∧ (∃ w ∈ own, hasW t p w.2) ∨ q.1 = nI 0 ∧ ¬ ∃ w ∈ own, hasW t p w.2) ∧ ML t q.2.1 (sk t p) ∧ Fr [] [2] d q.2.1 ∧ q.2.2 = j) := fun e h1 h2 h3 => by unfold fX6_isOwnHere_218 fX6_isOwnHere_223; rw [if_neg n10]; exact y294 e h1 h2 h3
  have y142 : ∀ e, (∃ w ∈ own, hasW t p w.2) → ML t e (sk t p) → Fr [] [2] d e → Wp (fX6_isOwnHere_142 n e j) (fun q => (q.1 = nI 1 ∧ (∃ w ∈ own, hasW t p w.2) ∨ q.1 = nI 0 ∧ ¬ ∃ w ∈ own, hasW t p w.2) ∧ ML t q.2.1 (sk t p) ∧ Fr [] [2] d q.2.1 ∧ q.2.2 = j) := fun e h1 h2 h3 => by unfold fX6_isOwnHere_142 fX6_isOwnHere_147; rw [if_neg n10]; exact y218 e h1 h2 h3
  have y66 : ∀ e, (∃ w ∈ own, hasW t p w.2) → ML t e (sk t p) → Fr [] [2] d e → Wp (fX6_isOwnHere_66 n e j) (fun q => (q.1 = nI 1 ∧ (∃ w ∈ own, hasW t p w.2) ∨ q.1 = nI 0 ∧ ¬ ∃ w ∈ own, hasW t p w.2) ∧ ML t q.2.1 (sk t p) ∧ Fr [] [2] d q.2.1 ∧ q.2.2 = j) := fun e h1 h2 h3 => by unfold fX6_isOwnHere_66 fX6_isOwnHere_71; rw [if_neg n10]; exact y142 e h1 h2 h3
  unfold fX6_isOwnHere
  refine own_step hn hT h hW (1550, [98, 97, 121]) (by decide) (fun z d' m' f' => ?_) (fun z0 d0 m0 f0 => ?_)
  · dsimp only; rw [if_neg n10]; exact y66 d' ⟨(1550, [98, 97, 121]), by decide, z⟩ m' ((Fr.rfl' : Fr [] [2] d d).tr f')
  dsimp only
  rw [if_pos z00]
  have g0 : Fr [] [2] d d0 := (Fr.rfl' : Fr [] [2] d d).tr f0
  have w0 : WO d0 := hW.fr g0 wtab_nil
  refine own_step hn hT m0 w0 (1551, [109, 105, 108, 101]) (by decide) (fun z d' m' f' => ?_) (fun z1 d1 m1 f1 => ?_)
  · dsimp only; rw [if_neg n10]; exact y66 d' ⟨(1551, [109, 105, 108, 101]), by decide, z⟩ m' (g0.tr f')
  dsimp only
  rw [if_pos z00]
  have g1 : Fr [] [2] d d1 := g0.tr f1
  have w1 : WO d1 := hW.fr g1 wtab_nil
  refine own_step hn hT m1 w1 (1552, [104, 117, 110, 103, 101, 114]) (by decide) (fun z d' m' f' => ?_) (fun z2 d2 m2 f2 => ?_)
  · dsimp only; rw [if_neg n10]; exact y66 d' ⟨(1552, [104, 117, 110, 103, 101, 114]), by decide, z⟩ m' (g1.tr f')
  dsimp only
  rw [if_pos z00]
  have g2 : Fr [] [2] d d2 := g1.tr f2
  have w2 : WO d2 := hW.fr g2 wtab_nil
  refine own_step hn hT m2 w2 (1553, [112, 97, 105, 114]) (by decide) (fun z d' m' f' => ?_) (fun z3 d3 m3 f3 => ?_)
  · dsimp only; rw [if_neg n10]; exact y66 d' ⟨(1553, [112, 97, 105, 114]), by decide, z⟩ m' (g2.tr f')
  dsimp only
  rw [if_pos z00]
  have g3 : Fr [] [2] d d3 := g2.tr f3
  have w3 : WO d3 := hW.fr g3 wtab_nil
  refine own_step hn hT m3 w3 (1554, [105, 110]) (by decide) (fun z d' m' f' => ?_) (fun z4 d4 m4 f4 => ?_)
  · dsimp only; rw [if_neg n10]; exact y66 d' ⟨(1554, [105, 110]), by decide, z⟩ m' (g3.tr f')
  dsimp only
  rw [if_pos z00]
  have g4 : Fr [] [2] d d4 := g3.tr f4
  have w4 : WO d4 := hW.fr g4 wtab_nil
  refine own_step hn hT m4 w4 (1555, [116, 114, 117, 101]) (by decide) (fun z d' m' f' => ?_) (fun z5 d5 m5 f5 => ?_)
  · dsimp only; rw [if_neg n10]; exact y66 d' ⟨(1555, [116, 114, 117, 101]), by decide, z⟩ m' (g4.tr f')
  dsimp only
  rw [if_pos z00]
  have g5 : Fr [] [2] d d5 := g4.tr f5
  have w5 : WO d5 := hW.fr g5 wtab_nil
  unfold fX6_isOwnHere_71
  rw [if_pos z00]
  refine own_step hn hT m5 w5 (1556, [115, 104, 111, 97, 108]) (by decide) (fun z d' m' f' => ?_) (fun z6 d6 m6 f6 => ?_)
  · dsimp only; rw [if_neg n10]; exact y142 d' ⟨(1556, [115, 104, 111, 97, 108]), by decide, z⟩ m' (g5.tr f')
  dsimp only
  rw [if_pos z00]
  have g6 : Fr [] [2] d d6 := g5.tr f6
  have w6 : WO d6 := hW.fr g6 wtab_nil
  refine own_step hn hT m6 w6 (1557, [115, 105, 122, 101]) (by decide) (fun z d' m' f' => ?_) (fun z7 d7 m7 f7 => ?_)
  · dsimp only; rw [if_neg n10]; exact y142 d' ⟨(1557, [115, 105, 122, 101]), by decide, z⟩ m' (g6.tr f')
  dsimp only
  rw [if_pos z00]
  have g7 : Fr [] [2] d d7 := g6.tr f7
  have w7 : WO d7 := hW.fr g7 wtab_nil
  refine own_step hn hT m7 w7 (1558, [108, 117, 114, 101, 115]) (by decide) (fun z d' m' f' => ?_) (fun z8 d8 m8 f8 => ?_)
  · dsimp only; rw [if_neg n10]; exact y142 d' ⟨(1558, [108, 117, 114, 101, 115]), by decide, z⟩ m' (g7.tr f')
  dsimp only
  rw [if_pos z00]
  have g8 : Fr [] [2] d d8 := g7.tr f8
  have w8 : WO d8 := hW.fr g8 wtab_nil
  refine own_step hn hT m8 w8 (1559, [109, 101, 110, 100, 115]) (by decide) (fun z d' m' f' => ?_) (fun z9 d9 m9 f9 => ?_)
  · dsimp only; rw [if_neg n10]; exact y142 d' ⟨(1559, [109, 101, 110, 100, 115]), by decide, z⟩ m' (g8.tr f')
  dsimp only
  rw [if_pos z00]
  have g9 : Fr [] [2] d d9 := g8.tr f9
  have w9 : WO d9 := hW.fr g9 wtab_nil
  refine own_step hn hT m9 w9 (1560, [115, 116, 97, 114, 118, 101, 115]) (by decide) (fun z d' m' f' => ?_) (fun z10 d10 m10 f10 => ?_)
  · dsimp only; rw [if_neg n10]; exact y142 d' ⟨(1560, [115, 116, 97, 114, 118, 101, 115]), by decide, z⟩ m' (g9.tr f')
  dsimp only
  rw [if_pos z00]
  have g10 : Fr [] [2] d d10 := g9.tr f10
  have w10 : WO d10 := hW.fr g10 wtab_nil
  refine own_step hn hT m10 w10 (1561, [99, 111, 117, 110, 116, 115]) (by decide) (fun z d' m' f' => ?_) (fun z11 d11 m11 f11 => ?_)
  · dsimp only; rw [if_neg n10]; exact y142 d' ⟨(1561, [99, 111, 117, 110, 116, 115]), by decide, z⟩ m' (g10.tr f')
  dsimp only
  rw [if_pos z00]
  have g11 : Fr [] [2] d d11 := g10.tr f11
  have w11 : WO d11 := hW.fr g11 wtab_nil
  unfold fX6_isOwnHere_147
  rw [if_pos z00]
  refine own_step hn hT m11 w11 (1562, [115, 116, 111, 114, 109]) (by decide) (fun z d' m' f' => ?_) (fun z12 d12 m12 f12 => ?_)
  · dsimp only; rw [if_neg n10]; exact y218 d' ⟨(1562, [115, 116, 111, 114, 109]), by decide, z⟩ m' (g11.tr f')
  dsimp only
  rw [if_pos z00]
  have g12 : Fr [] [2] d d12 := g11.tr f12
  have w12 : WO d12 := hW.fr g12 wtab_nil
  refine own_step hn hT m12 w12 (1563, [118, 111, 119, 115]) (by decide) (fun z d' m' f' => ?_) (fun z13 d13 m13 f13 => ?_)
  · dsimp only; rw [if_neg n10]; exact y218 d' ⟨(1563, [118, 111, 119, 115]), by decide, z⟩ m' (g12.tr f')
  dsimp only
  rw [if_pos z00]
  have g13 : Fr [] [2] d d13 := g12.tr f13
  have w13 : WO d13 := hW.fr g13 wtab_nil
  refine own_step hn hT m13 w13 (1564, [102, 97, 114]) (by decide) (fun z d' m' f' => ?_) (fun z14 d14 m14 f14 => ?_)
  · dsimp only; rw [if_neg n10]; exact y218 d' ⟨(1564, [102, 97, 114]), by decide, z⟩ m' (g13.tr f')
  dsimp only
  rw [if_pos z00]
  have g14 : Fr [] [2] d d14 := g13.tr f14
  have w14 : WO d14 := hW.fr g14 wtab_nil
  refine own_step hn hT m14 w14 (1565, [121, 101, 97, 114]) (by decide) (fun z d' m' f' => ?_) (fun z15 d15 m15 f15 => ?_)
  · dsimp only; rw [if_neg n10]; exact y218 d' ⟨(1565, [121, 101, 97, 114]), by decide, z⟩ m' (g14.tr f')
  dsimp only
  rw [if_pos z00]
  have g15 : Fr [] [2] d d15 := g14.tr f15
  have w15 : WO d15 := hW.fr g15 wtab_nil
  refine own_step hn hT m15 w15 (1566, [108, 97, 116, 101]) (by decide) (fun z d' m' f' => ?_) (fun z16 d16 m16 f16 => ?_)
  · dsimp only; rw [if_neg n10]; exact y218 d' ⟨(1566, [108, 97, 116, 101]), by decide, z⟩ m' (g15.tr f')
  dsimp only
  rw [if_pos z00]
  have g16 : Fr [] [2] d d16 := g15.tr f16
  have w16 : WO d16 := hW.fr g16 wtab_nil
  refine own_step hn hT m16 w16 (1567, [99, 97, 117, 103, 104, 116]) (by decide) (fun z d' m' f' => ?_) (fun z17 d17 m17 f17 => ?_)
  · dsimp only; rw [if_neg n10]; exact y218 d' ⟨(1567, [99, 97, 117, 103, 104, 116]), by decide, z⟩ m' (g16.tr f')
  dsimp only
  rw [if_pos z00]
  have g17 : Fr [] [2] d d17 := g16.tr f17
  have w17 : WO d17 := hW.fr g17 wtab_nil
  unfold fX6_isOwnHere_223
  rw [if_pos z00]
  refine own_step hn hT m17 w17 (1568, [115, 105, 110, 99, 101]) (by decide) (fun z d' m' f' => ?_) (fun z18 d18 m18 f18 => ?_)
  · dsimp only; rw [if_neg n10]; exact y294 d' ⟨(1568, [115, 105, 110, 99, 101]), by decide, z⟩ m' (g17.tr f')
  dsimp only
  rw [if_pos z00]
  have g18 : Fr [] [2] d d18 := g17.tr f18
  have w18 : WO d18 := hW.fr g18 wtab_nil
  refine own_step hn hT m18 w18 (1569, [110, 117, 109, 98, 101, 114]) (by decide) (fun z d' m' f' => ?_) (fun z19 d19 m19 f19 => ?_)
  · dsimp only; rw [if_neg n10]; exact y294 d' ⟨(1569, [110, 117, 109, 98, 101, 114]), by decide, z⟩ m' (g18.tr f')
  dsimp only
  rw [if_pos z00]
  have g19 : Fr [] [2] d d19 := g18.tr f19
  have w19 : WO d19 := hW.fr g19 wtab_nil
  refine own_step hn hT m19 w19 (1570, [112, 108, 97, 99, 101]) (by decide) (fun z d' m' f' => ?_) (fun z20 d20 m20 f20 => ?_)
  · dsimp only; rw [if_neg n10]; exact y294 d' ⟨(1570, [112, 108, 97, 99, 101]), by decide, z⟩ m' (g19.tr f')
  dsimp only
  rw [if_pos z00]
  have g20 : Fr [] [2] d d20 := g19.tr f20
  have w20 : WO d20 := hW.fr g20 wtab_nil
  refine own_step hn hT m20 w20 (1571, [111, 114]) (by decide) (fun z d' m' f' => ?_) (fun z21 d21 m21 f21 => ?_)
  · dsimp only; rw [if_neg n10]; exact y294 d' ⟨(1571, [111, 114]), by decide, z⟩ m' (g20.tr f')
  dsimp only
  rw [if_pos z00]
  have g21 : Fr [] [2] d d21 := g20.tr f21
  have w21 : WO d21 := hW.fr g21 wtab_nil
  refine own_step hn hT m21 w21 (1572, [97, 110, 100]) (by decide) (fun z d' m' f' => ?_) (fun z22 d22 m22 f22 => ?_)
  · dsimp only; rw [if_neg n10]; exact y294 d' ⟨(1572, [97, 110, 100]), by decide, z⟩ m' (g21.tr f')
  dsimp only
  rw [if_pos z00]
  have g22 : Fr [] [2] d d22 := g21.tr f22
  have w22 : WO d22 := hW.fr g22 wtab_nil
  refine own_step hn hT m22 w22 (1573, [110, 111, 116]) (by decide) (fun z d' m' f' => ?_) (fun z23 d23 m23 f23 => ?_)
  · dsimp only; rw [if_neg n10]; exact y294 d' ⟨(1573, [110, 111, 116]), by decide, z⟩ m' (g22.tr f')
  dsimp only
  rw [if_pos z00]
  have g23 : Fr [] [2] d d23 := g22.tr f23
  have w23 : WO d23 := hW.fr g23 wtab_nil
  unfold fX6_isOwnHere_299
  rw [if_pos z00]
  refine own_step hn hT m23 w23 (1574, [97, 108, 108]) (by decide) (fun z d' m' f' => ?_) (fun z24 d24 m24 f24 => ?_)
  · dsimp only; rw [if_neg n10]; exact y337 d' ⟨(1574, [97, 108, 108]), by decide, z⟩ m' (g23.tr f')
  dsimp only
  rw [if_pos z00]
  have g24 : Fr [] [2] d d24 := g23.tr f24
  have w24 : WO d24 := hW.fr g24 wtab_nil
  refine own_step hn hT m24 w24 (1575, [109, 105, 110]) (by decide) (fun z d' m' f' => ?_) (fun z25 d25 m25 f25 => ?_)
  · dsimp only; rw [if_neg n10]; exact y337 d' ⟨(1575, [109, 105, 110]), by decide, z⟩ m' (g24.tr f')
  dsimp only
  rw [if_pos z00]
  have g25 : Fr [] [2] d d25 := g24.tr f25
  have w25 : WO d25 := hW.fr g25 wtab_nil
  refine own_step hn hT m25 w25 (1576, [109, 97, 120]) (by decide) (fun z d' m' f' => ?_) (fun z26 d26 m26 f26 => ?_)
  · dsimp only; rw [if_neg n10]; exact y337 d' ⟨(1576, [109, 97, 120]), by decide, z⟩ m' (g25.tr f')
  dsimp only
  rw [if_pos z00]
  have g26 : Fr [] [2] d d26 := g25.tr f26
  have w26 : WO d26 := hW.fr g26 wtab_nil
  unfold fX6_isOwnHere_342
  rw [if_pos bt0, wp_some]
  refine ⟨Or.inr ⟨rfl, ?_⟩, m26, g26, rfl⟩
  rintro ⟨w, hw, hh⟩
  have : own = [(1550, [98, 97, 121]), (1551, [109, 105, 108, 101]), (1552, [104, 117, 110, 103, 101, 114]), (1553, [112, 97, 105, 114]), (1554, [105, 110]), (1555, [116, 114, 117, 101]), (1556, [115, 104, 111, 97, 108]), (1557, [115, 105, 122, 101]), (1558, [108, 117, 114, 101, 115]), (1559, [109, 101, 110, 100, 115]), (1560, [115, 116, 97, 114, 118, 101, 115]), (1561, [99, 111, 117, 110, 116, 115]), (1562, [115, 116, 111, 114, 109]), (1563, [118, 111, 119, 115]), (1564, [102, 97, 114]), (1565, [121, 101, 97, 114]), (1566, [108, 97, 116, 101]), (1567, [99, 97, 117, 103, 104, 116]), (1568, [115, 105, 110, 99, 101]), (1569, [110, 117, 109, 98, 101, 114]), (1570, [112, 108, 97, 99, 101]), (1571, [111, 114]), (1572, [97, 110, 100]), (1573, [110, 111, 116]), (1574, [97, 108, 108]), (1575, [109, 105, 110]), (1576, [109, 97, 120])] := rfl
  rw [this] at hw
  simp only [List.mem_cons, List.not_mem_nil, or_false] at hw
  rcases hw with rfl | rfl | rfl | rfl | rfl | rfl | rfl | rfl | rfl | rfl | rfl | rfl | rfl | rfl | rfl | rfl | rfl | rfl | rfl | rfl | rfl | rfl | rfl | rfl | rfl | rfl | rfl
  · exact z0 hh
  · exact z1 hh
  · exact z2 hh
  · exact z3 hh
  · exact z4 hh
  · exact z5 hh
  · exact z6 hh
  · exact z7 hh
  · exact z8 hh
  · exact z9 hh
  · exact z10 hh
  · exact z11 hh
  · exact z12 hh
  · exact z13 hh
  · exact z14 hh
  · exact z15 hh
  · exact z16 hh
  · exact z17 hh
  · exact z18 hh
  · exact z19 hh
  · exact z20 hh
  · exact z21 hh
  · exact z22 hh
  · exact z23 hh
  · exact z24 hh
  · exact z25 hh
  · exact z26 hh
theorem own_iff {p : Nat} (hl : isL (cAt t (sk t p))) (hp : ¬ pt t (sk t p)) : (∃ w ∈ own, hasW t p w.2) ↔ isOwn (wd t (sk t p)) := by
  constructor
  · rintro ⟨w, h1, h2⟩
    exact List.mem_map.mpr ⟨w, h1, h2.2.2.symm⟩
  · intro h
    obtain ⟨w, h1, h2⟩ := List.mem_map.mp h
    exact ⟨w, h1, hl, hp, h2.symm⟩
end
