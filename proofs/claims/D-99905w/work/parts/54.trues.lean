/-! TRUES -/
set_option maxRecDepth 100000
theorem nI_or (a b : Nat) : nI a ||| nI b = nI (a ||| b) := Int32.toBitVec_inj.mp (BitVec.ofNat_or (w := 32) (x := a) (y := b)).symm
theorem nI_div {a b : Nat} (ha : a < 2147483648) (hb : b < 2147483648) : nI a / nI b = nI (a / b) := by
  apply Int32.toInt_inj.mp
  have h1 : a / b ≤ a := Nat.div_le_self a b
  rw [Int32.toInt_div_of_ne_right _ _ (fun h => by have := nI_m1 hb; rw [h] at this; exact absurd rfl (by rw [this]; exact fun z => z)), nI_toInt ha, nI_toInt hb, nI_toInt (by omega)]
  rfl
theorem ns_add (f g : Nat → Nat) : ∀ n, ns (fun k => f k + g k) n = ns f n + ns g n
  | 0 => rfl
  | n + 1 => by
    show ns (fun k => f k + g k) n + (f n + g n) = (ns f n + f n) + (ns g n + g n)
    rw [ns_add f g n]; omega
theorem ns_full {P : Nat → Prop} [DecidablePred P] : ∀ n, (ns (fun i => if P i then 1 else 0) n = n ↔ ∀ i, i < n → P i)
  | 0 => ⟨fun _ i h => absurd h (Nat.not_lt_zero i), fun _ => rfl⟩
  | n + 1 => by
    have h1 : ns (fun i => if P i then 1 else 0) n ≤ n * 1 := ns_le (fun k => by split <;> omega) n
    have ih := ns_full (P := P) n
    show ns (fun i => if P i then 1 else 0) n + (if P n then 1 else 0) = n + 1 ↔ _
    by_cases h : P n
    · rw [if_pos h]
      constructor
      · intro h2 i hi
        by_cases e : i = n
        · subst e; exact h
        · exact ih.mp (by omega) i (by omega)
      · intro h2
        rw [ih.mpr (fun i hi => h2 i (by omega))]
    · rw [if_neg h]
      constructor
      · intro h2; omega
      · intro h2; exact absurd (h2 n (by omega)) h
/-- rows that were seen: how many; year, shoal, bay of each -/
abbrev jRD : Type := Nat × (Nat → Nat) × (Nat → Nat) × (Nat → Int32)
def RDok (c : jCo) (d : jRD) : Prop := d.1 ≤ 16 ∧ ∀ i, i < d.1 → d.2.1 i ≤ 30 ∧ d.2.2.1 i < coS c
/-- the row number i is met by the years of w -/
abbrev rdM (c : jCo) (d : jRD) (w : jV8) (i : Nat) : Prop := tos c (goN c w (d.2.1 i)) (d.2.2.1 i) = d.2.2.2 i
def rdB (c : jCo) (d : jRD) (w : jV8) (H : Nat) : Bool := decide (ns (fun i => if d.2.1 i < H ∧ rdM c d w i then 1 else 0) d.1 = d.1)
theorem rdB_iff {c : jCo} {d : jRD} {w : jV8} {H : Nat} : rdB c d w H = true ↔ ∀ i, i < d.1 → d.2.1 i < H ∧ rdM c d w i := by
  unfold rdB
  rw [decide_eq_true_iff]
  exact ns_full (P := fun i => d.2.1 i < H ∧ rdM c d w i) d.1
/-- of which numbers a pair may be -/
def tsv (c : jCo) (d : jRD) (v : jV8) (p H : Nat) : Nat → Nat
  | 0 => 0
  | x + 1 => if rdB c d (upv v (25 + 2 * p) (nI x)) H = true then tsv c d v p H x ||| 2 ^ x else tsv c d v p H x
theorem tsv_lt (c : jCo) (d : jRD) (v : jV8) (p H : Nat) : ∀ x, tsv c d v p H x < 2 ^ x
  | 0 => by show 0 < 2 ^ 0; omega
  | x + 1 => by
    have h := tsv_lt c d v p H x
    have e : 2 ^ (x + 1) = 2 ^ x + 2 ^ x := by rw [Nat.pow_succ]; omega
    unfold tsv
    split
    · exact Nat.or_lt_two_pow (by omega) (by omega)
    · omega
def yrsN (y : Nat) : Nat := min 31 (999 - y)
def aTrues (c : jCo) (d : jRD) (v : jV8) (y : Nat) (a0 : Int32) : Int32 := if iv a0 (coP c) then nI (tsv c d v a0.toNatClampNeg (yrsN y) 10) else -1
/-- what was seen, in the model -/
def MR (d : jRD) (ci : jI) : Prop := ci 1547 64 = nI d.1 ∧ ∀ i, i < d.1 → ci 1592 (3 * i) = nI (d.2.1 i) ∧ ci 1592 (3 * i + 1) = nI (d.2.2.1 i) ∧ ∃ x, x ≤ 255 ∧ ci 1592 (3 * i + 2) = nI x ∧ d.2.2.2 i = if x = 255 then -1 else nI x
section
variable {n : Nat} {c : jCo} {d : jRD} {ci : jI} {cj : jJ}
theorem sp6_isAsSeen (hn : 4000 ≤ n) (hd : RDok c d) (hc : CR c) (hR : MR d ci) {Y k : Nat} (hY : ci 1585 0 = nI Y) (hY2 : Y ≤ 3000) (hk : k ≤ 30) {T : Nat → Int32} (hT : ∀ s, s < coS c → ci 1589 s = T s) :
    Wp (fX6_isAsSeen n (nI k) ci cj) (fun q => ((q.1 = nI 1 ∧ ∀ i, i < d.1 → d.2.1 i = k → Y ≤ 999 ∧ T (d.2.2.1 i) = d.2.2.2 i) ∨ (q.1 = nI 0 ∧ ¬ ∀ i, i < d.1 → d.2.1 i = k → Y ≤ 999 ∧ T (d.2.2.1 i) = d.2.2.2 i)) ∧ q.2 = (ci, cj)) := by
  obtain ⟨r1, r2⟩ := hR
  obtain ⟨d1, d2⟩ := hd
  have hS := hc.2.2.1
  unfold fX6_isAsSeen
  refine Wp.loop2 (fun q (a0 : Int32) (_ : Unit) => fX6_isAsSeen_2 n q (nI k) a0 ci cj) (fun r x => ∃ i, i + r = d.1 ∧ x.1 = nI i ∧ ∀ j, j < i → d.2.1 j = k → Y ≤ 999 ∧ T (d.2.2.1 j) = d.2.2.2 j) _ ?_ n d.1 (nI 0) () (by omega) ⟨0, by omega, rfl, fun j hj => absurd hj (Nat.not_lt_zero _)⟩
  rintro q r l ⟨⟩ ⟨i, g1, g2, g3⟩ ih
  dsimp only at g2 g3
  subst g2
  rw [fX6_isAsSeen_2.eq_2, r1]
  by_cases hi : d.1 ≤ i
  · have : i = d.1 := by omega
    subst this
    rw [if_pos (nI_le hi (by omega)), wp_some]
    exact ⟨Or.inl ⟨rfl, g3⟩, rfl⟩
  · rw [if_neg (nI_ge (by omega) (by omega))]
    obtain ⟨e1, e2, x, x1, x2, x3⟩ := r2 i (by omega)
    obtain ⟨f1, f2⟩ := d2 i (by omega)
    rw [nI_mulN, if_pos (by rw [jok_t (by omega) (by omega)]; trivial)]
    have k0 : (nI (3 * i)).toNatClampNeg = 3 * i := nI_cl (by omega)
    unfold fX6_isAsSeen_55 fX6_isAsSeen_87 fX6_isAsSeen_89
    by_cases hyr : d.2.1 i = k
    · rw [if_pos (show ci 1592 (nI (3 * i)).toNatClampNeg = nI k by rw [k0, e1, hyr])]
      have main : ∀ t0, t0 = d.2.2.2 i → Wp (if jok (nI 0) 166 then if (nI 999) < (ci 1585 ((nI 0)).toNatClampNeg) then some ((nI 0), ci, cj) else if jok (nI (3 * i + 1)) 48 then if jok (ci 1592 (nI (3 * i + 1)).toNatClampNeg) 3 then if (ci 1589 ((ci 1592 (nI (3 * i + 1)).toNatClampNeg)).toNatClampNeg) = t0 then fX6_isAsSeen_2 n q (nI k) (nI i + nI 1) ci cj else some ((nI 0), ci, cj) else none else none else none) (fun q => ((q.1 = nI 1 ∧ ∀ i, i < d.1 → d.2.1 i = k → Y ≤ 999 ∧ T (d.2.2.1 i) = d.2.2.2 i) ∨ (q.1 = nI 0 ∧ ¬ ∀ i, i < d.1 → d.2.1 i = k → Y ≤ 999 ∧ T (d.2.2.1 i) = d.2.2.2 i)) ∧ q.2 = (ci, cj)) := by
        intro t0 ht0
        rw [if_pos (by rw [jok_t (by omega) (by omega)]; trivial)]
        have kk : (nI (3 * i + 1)).toNatClampNeg = 3 * i + 1 := nI_cl (by omega)
        have ks : (nI (d.2.2.1 i)).toNatClampNeg = d.2.2.1 i := nI_cl (by omega)
        have ky : ci 1585 (nI 0).toNatClampNeg = nI Y := by rw [nI_cl (by omega)]; exact hY
        by_cases hy : 999 < Y
        · rw [if_pos (show nI 999 < ci 1585 (nI 0).toNatClampNeg by rw [ky]; exact nI_lt hy (by omega)), wp_some]
          exact ⟨Or.inr ⟨rfl, fun z => by have := (z i (by omega) hyr).1; omega⟩, rfl⟩
        · rw [if_neg (show ¬ nI 999 < ci 1585 (nI 0).toNatClampNeg by rw [ky]; exact nI_nlt (by omega) (by omega)), if_pos (by rw [jok_t (by omega) (by omega)]; trivial), kk, e2, if_pos (by rw [jok_t (by omega) (by omega)]; trivial), ks, hT _ f2]
          by_cases e : T (d.2.2.1 i) = t0
          · rw [if_pos e, nI_add]
            refine ih (r - 1) (nI (i + 1)) () (by omega) ⟨i + 1, by omega, rfl, fun j hj hjk => ?_⟩
            by_cases ej : j = i
            · subst ej; exact ⟨by omega, e.trans ht0⟩
            · exact g3 j (by omega) hjk
          · rw [if_neg e, wp_some]
            exact ⟨Or.inr ⟨rfl, fun z => e ((z i (by omega) hyr).2.trans ht0.symm)⟩, rfl⟩
      simp only [nI_mulN, nI_add]
      rw [if_pos (by rw [jok_t (by omega) (by omega)]; trivial)]
      have k2 : (nI (3 * i + 2)).toNatClampNeg = 3 * i + 2 := nI_cl (by omega)
      by_cases hx : x = 255
      · rw [if_pos (show ci 1592 (nI (3 * i + 2)).toNatClampNeg = nI 255 by rw [k2, x2, hx])]
        simp only [nI_add] at main
        exact main (-1) (by rw [x3, if_pos hx])
      · rw [if_neg (show ¬ ci 1592 (nI (3 * i + 2)).toNatClampNeg = nI 255 by rw [k2, x2, nI_eqN (by omega) (by omega)]; exact hx), if_pos (by rw [jok_t (by omega) (by omega)]; trivial)]
        simp only [nI_add] at main
        refine main _ ?_
        rw [k2, x2, x3, if_neg hx]
    · rw [if_neg (show ¬ ci 1592 (nI (3 * i)).toNatClampNeg = nI k by rw [k0, e1, nI_eqN (by omega) (by omega)]; exact hyr), nI_add]
      refine ih (r - 1) (nI (i + 1)) () (by omega) ⟨i + 1, by omega, rfl, fun j hj hjk => ?_⟩
      by_cases ej : j = i
      · subst ej; exact absurd hjk hyr
      · exact g3 j (by omega) hjk
end
