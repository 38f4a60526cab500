/-! A COMMA IN THE MODEL -/
set_option maxRecDepth 100000
section
variable {n : Nat} {t : jTx} {ci : jI} {j : jJ} {o bs tk : Nat} {l1 : Int32}
/-- behind the first sum of two -/
theorem go_comma (hn : 4000 ≤ n) (hT : TXok t) {p k x : Nat} {mp W C : List Nat} {d : jI} {Q : jI × jJ → Prop} (h : SS t tk ci d (mp ++ (x :: W)) C o bs p) (hm : ∀ y ∈ mp, 1 ≤ y ∧ y ≤ 4) (hx : x = 21 ∨ x = 22) (hbs : bs ≤ W.length)
    (hbad : ¬ cAt t (sk t p) = 44 → ∀ d', BD d' 1 (sk t p) → FQ ci d' → Wp (kG n (k + 1) l1 (nI 0, d', j)) Q)
    (hq : cAt t (sk t p) = 44 → ∀ d', SS t tk ci d' ((x + 2) :: W) (C ++ mp) o bs (sk t p + 1) → Wp (pT n n k l1 d' j) Q) : Wp (Option.bind (fX6_qGoesOn_326 n d j) (kG n (k + 1) l1)) Q := by
  have hT1 := hT.1
  have hlen := h.2.2.2.2.2.1
  have hp := h.2.2.2.2.2.2.1
  have hsk := sk_le hp
  have elen : (mp ++ (x :: W)).length = mp.length + (W.length + 1) := by rw [List.length_append]; rfl
  rw [elen] at hlen
  have hop : opl mp := fun y hy => by have := hm y hy; omega
  have hcl : clo (x :: W) bs := Or.inr ⟨x, W, rfl, by omega, by omega, hbs⟩
  unfold fX6_qGoesOn_326
  rw [wp_bind, wp_bind]
  refine (sp6_asksSign hn hT h.1 (c := 44) (by omega) (by decide) (by decide)).mono ?_
  rintro ⟨d1, j1⟩ ⟨q1, q2, q3, q4⟩
  dsimp only at q1 q2 q3 q4 ⊢
  subst q4
  have fq : FQ ci d1 := h.2.2.2.2.1.of q3 (by decide) (by decide)
  by_cases hc : cAt t (sk t p) = 44
  rotate_left
  · have b := q2 hc
    rw [if_neg b.ne, wp_some]
    exact hbad hc d1 b fq
  have m1 := q1 hc
  have s1 : STK d1 (mp ++ (x :: W)) C o bs := h.2.2.2.1.fr q3 (by decide) (by decide) (by decide)
  rw [if_pos m1.2.2.1, wp_bind]
  refine (sp6_qDropsToBracket hn hcl hop s1 (by omega)).mono ?_
  rintro ⟨d2, j2⟩ ⟨u1, u2, u3⟩
  dsimp only at u1 u2 u3 ⊢
  subst u3
  have e99 : d2 1547 99 - nI 1 = nI W.length := by rw [u1.2.2.1]; exact i32_m1 _
  have hge := sk_ge (t := t) (sk t p + 1)
  rw [e99, if_pos (by rw [jok_t (by omega) (by omega)]; trivial), if_pos (by rw [jok_t (by omega) (by omega)]; trivial), nI_cl (by omega), u1.top, nI_add, wp_some]
  have s3 : STK (ju d2 1621 W.length (nI (x + 2))) ((x + 2) :: W) (C ++ mp) o bs := by
    obtain ⟨h1, h2, h3, h4, h5, h6, h7, h8, h9⟩ := u1
    refine ⟨by rw [ju_row _ _ (by decide)]; exact h1, fun i hi => by rw [ju_row _ _ (by decide)]; exact h2 i hi, by rw [ju_row _ _ (by decide)]; exact h3, fun i hi => ?_, by rw [ju_row _ _ (by decide)]; exact h5, by rw [ju_row _ _ (by decide)]; exact h6, h7, h8, h9⟩
    cases i with
    | zero => exact ju_eq _ _ _ _
    | succ i =>
      have hi' : i + 1 < W.length + 1 := hi
      have := h4 (i + 1) hi
      rw [ju_ne2 _ _ (show ((x + 2) :: W).length - 1 - (i + 1) ≠ W.length by show W.length + 1 - 1 - (i + 1) ≠ W.length; omega)]
      exact this
  have f3 : Fr [1620, 1621] [97, 99] d1 (ju d2 1621 W.length (nI (x + 2))) := (u2.le (L' := [1620, 1621]) (M' := [97, 99]) (by decide) (by decide)).up (by decide) (by decide)
  have m3 : ML t (ju d2 1621 W.length (nI (x + 2))) (sk t p + 1) := m1.fr f3 (by decide) (by decide)
  have h3 : SS t tk ci (ju d2 1621 W.length (nI (x + 2))) ((x + 2) :: W) (C ++ mp) o bs (sk t p + 1) := h.to (L := [1620, 1621]) (M := [2, 5, 6, 97, 99]) m3.mp s3 ((q3.le (by decide) (by decide)).tr (f3.le (by decide) (by decide))) (by decide) (by decide) (by rw [List.length_append]; show C.length + mp.length + (W.length + 1) ≤ _; omega) m3.le (by show bs ≤ W.length + 1; omega)
  rw [kG_1 h3.bad]
  exact hq hc _ h3
end
