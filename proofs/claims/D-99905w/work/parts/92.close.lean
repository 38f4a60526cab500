/-! A BRACKET IS CLOSED IN THE MODEL -/
set_option maxRecDepth 100000
def clC (x : Nat) : List Nat := if x = 20 then [] else if x = 23 then [5] else [6]
section
variable {n : Nat} {t : jTx} {ci : jI} {j : jJ} {o bs tk : Nat} {l1 : Int32}
theorem STK.o' {W C : List Nat} {d : jI} {o' : Nat} (h : STK d W C o bs) (ho : o' ≤ 6) : STK (ju d 1547 100 (nI o')) W C o' bs := by
  obtain ⟨h1, h2, h3, h4, h5, h6, h7, h8, h9⟩ := h
  exact ⟨by rw [ju_ne2 _ _ (by decide)]; exact h1, fun i hi => by rw [ju_row _ _ (by decide)]; exact h2 i hi, by rw [ju_ne2 _ _ (by decide)]; exact h3, fun i hi => by rw [ju_row _ _ (by decide)]; exact h4 i hi, ju_eq _ _ _ _, by rw [ju_ne2 _ _ (by decide)]; exact h6, h7, h8, ho⟩
theorem go_close (hn : 4000 ≤ n) (hT : TXok t) {p kE kk k x : Nat} {mp W C : List Nat} {d : jI} {Q : jI × jJ → Prop} (h : SS t tk ci d (mp ++ (x :: W)) C (o + 1) bs p) (hm : ∀ y ∈ mp, 1 ≤ y ∧ y ≤ 4) (hx : x = 20 ∨ x = 23 ∨ x = 24) (hbs : bs ≤ W.length) (hc : cAt t (sk t p) = 41) (hE : 0 < kE)
    (hq : ∀ d', SS t tk ci d' W (C ++ (mp ++ clC x)) o bs (sk t p + 1) → Wp (eG n n kk k l1 d' j) Q) : Wp (eG n kE (kk + 1) k l1 d j) Q := by
  have hT1 := hT.1
  have hlen := h.2.2.2.2.2.1
  have hp := h.2.2.2.2.2.2.1
  have hsk := sk_le hp
  have elen : (mp ++ (x :: W)).length = mp.length + (W.length + 1) := by rw [List.length_append]; rfl
  rw [elen] at hlen
  obtain ⟨hlt, hch⟩ := cAt_lt (by omega) hc
  have hop : opl mp := fun y hy => by have := hm y hy; omega
  have hcl : clo (x :: W) bs := Or.inr ⟨x, W, rfl, by omega, by omega, hbs⟩
  have hlow : (mp ++ (x :: W)).length = bs ∨ ∃ y R', mp ++ (x :: W) = y :: R' ∧ y < 60 ∧ bs ≤ R'.length := by
    cases mp with
    | cons y mp => exact Or.inr ⟨y, mp ++ (x :: W), rfl, by have := hm y (List.mem_cons_self ..); omega, by rw [List.length_append]; show bs ≤ mp.length + (W.length + 1); omega⟩
    | nil => exact Or.inr ⟨x, W, rfl, by omega, hbs⟩
  obtain ⟨kE, rfl⟩ : ∃ k', kE = k' + 1 := ⟨kE - 1, by omega⟩
  unfold eG
  rw [wp_bind, e6_endsStop h.2.2.2.1 hlow, wp_some]
  clear hlow
  dsimp only
  rw [wp_bind, fX6_qGoesOn_0.eq_2, if_pos h.bad, wp_bind]
  refine (h.look hn hT).mono ?_
  rintro ⟨z, d1, j1⟩ ⟨q1, q2, q3, q4⟩
  dsimp only at q1 q2 q3 q4 ⊢
  subst q1 q4
  have eB := e6_qBracket (n := n) (cj := j1) hn hcl hop q2.2.2.2.1
  have ebr : brk (x :: W) bs = nI x := by unfold brk; rw [if_neg (show ¬ (x :: W).length = bs by show ¬ W.length + 1 = bs; omega)]; rfl
  rw [ebr] at eB
  have main : Wp (fX6_qGoesOn_43 n (fX6_qGoesOn_0 n kk) d1 j1) (fun q => Wp (kG n k l1 q) Q) := by
    unfold fX6_qGoesOn_43
    have m1 : ML t (ju d1 1547 2 (nI (sk t p + 1))) (sk t p + 1) := q3.sg hT hlt (by rw [hch]; decide) (by rw [hch]; decide)
    have f1 : Fr [] [2] d1 (ju d1 1547 2 (nI (sk t p + 1))) := Fr.rfl'.upf (by decide)
    have s1 : STK (ju d1 1547 2 (nI (sk t p + 1))) (mp ++ (x :: W)) C (o + 1) bs := q2.2.2.2.1.fr f1 (by decide) (by decide) (by decide)
    have hCl : C.length ≤ 1600 := by omega
    rw [q3.2.2.2.2.1, nI_add, wp_bind]
    refine (sp6_qDropsToBracket hn hcl hop s1 (by omega)).mono ?_
    rintro ⟨d2, j2⟩ ⟨u1, u2, u3⟩
    dsimp only at u1 u2 u3 ⊢
    subst u3
    have e99 : d2 1547 99 - nI 1 = nI W.length := by rw [u1.2.2.1]; exact i32_m1 _
    have h9 := u1.2.2.2.2.2.2.2.2
    have e100 : ju d2 1547 99 (nI W.length) 1547 100 - nI 1 = nI o := by rw [ju_ne2 _ _ (by decide), u1.2.2.2.2.1]; exact i32_m1 _
    rw [e99, e100]
    have e3 : (ju (ju d2 1547 99 (nI W.length)) 1547 100 (nI o)) 1547 99 = nI W.length := by rw [ju_ne2 _ _ (by decide), ju_eq]
    have e4 : (ju (ju d2 1547 99 (nI W.length)) 1547 100 (nI o)) 1621 W.length = nI x := by rw [ju_row _ _ (by decide), ju_row _ _ (by decide)]; exact u1.top
    have s3 : STK (ju (ju d2 1547 99 (nI W.length)) 1547 100 (nI o)) W (C ++ mp) o bs := u1.pop.o' (by omega)
    have f3 : Fr [1620] [2, 97, 99, 100] d1 (ju (ju d2 1547 99 (nI W.length)) 1547 100 (nI o)) := ((((f1.le (L' := [1620]) (M' := [2, 97, 99, 100]) (by decide) (by decide))).tr (u2.le (by decide) (by decide))).upf (by decide)).upf (by decide)
    have m3 : ML t (ju (ju d2 1547 99 (nI W.length)) 1547 100 (nI o)) (sk t p + 1) := m1.fr (((u2.le (L' := [1620]) (M' := [97, 99, 100]) (by decide) (by decide)).upf (by decide)).upf (by decide)) (by decide) (by decide)
    generalize hd : ju (ju d2 1547 99 (nI W.length)) 1547 100 (nI o) = d3 at *
    have hge := sk_ge (t := t) (sk t p + 1)
    have fin : ∀ (d4 : jI), STK d4 W (C ++ (mp ++ clC x)) o bs → Fr [1620] [2, 97, 99, 100] d1 d4 → ML t d4 (sk t p + 1) → Wp (fX6_qGoesOn_115 n (fX6_qGoesOn_0 n kk) d4 j2) (fun q => Wp (kG n k l1 q) Q) := by
      intro d4 s4 f4 m4
      have hlc : (clC x).length ≤ 1 := by unfold clC; rcases hx with e | e | e <;> subst e <;> decide
      have h4 : SS t tk ci d4 W (C ++ (mp ++ clC x)) o bs (sk t p + 1) := q2.to m4.mp s4 f4 (by decide) (by decide) (by rw [List.length_append, List.length_append]; omega) m4.le hbs
      have := hq d4 h4
      unfold eG at this
      unfold fX6_qGoesOn_115 fX6_qEndsPart
      rw [wp_bind] at this ⊢
      refine this.mono (fun q hq' => ?_)
      rw [wp_bind] at hq'
      exact hq'
    have hW : W.length < 1650 := by omega
    rw [if_pos (show jok (d3 1547 99) 1700 by rw [e3, jok_t (by omega) (by omega)]; trivial), e3, show d3 1621 (nI W.length).toNatClampNeg = nI x by rw [nI_cl (by omega)]; exact e4]
    rcases hx with e | e | e
    · subst e
      rw [if_pos rfl]
      exact fin d3 (by show STK d3 W (C ++ (mp ++ [])) o bs; rw [List.append_nil]; exact s3) f3 m3
    · subst e
      rw [if_neg (by decide), if_pos (by rw [jok_t (by omega) (by omega)]; trivial), if_pos rfl]
      unfold fX6_qGoesOn_112
      rw [wp_bind]
      refine (sp6_qCode s3 (by rw [List.length_append]; omega)).mono ?_
      rintro ⟨d4, j4⟩ ⟨v1, v2, v3⟩
      dsimp only at v1 v2 v3 ⊢
      rw [v3]
      exact fin d4 (by show STK d4 W (C ++ (mp ++ [5])) o bs; rw [← List.append_assoc]; exact v1) (f3.tr (v2.le (by decide) (by decide))) (m3.fr v2 (by decide) (by decide))
    · subst e
      rw [if_neg (by decide), if_pos (by rw [jok_t (by omega) (by omega)]; trivial), if_neg (by decide)]
      unfold fX6_qGoesOn_112
      rw [wp_bind]
      refine (sp6_qCode s3 (by rw [List.length_append]; omega)).mono ?_
      rintro ⟨d4, j4⟩ ⟨v1, v2, v3⟩
      dsimp only at v1 v2 v3 ⊢
      rw [v3]
      exact fin d4 (by show STK d4 W (C ++ (mp ++ [6])) o bs; rw [← List.append_assoc]; exact v1) (f3.tr (v2.le (by decide) (by decide))) (m3.fr v2 (by decide) (by decide))
  rw [if_pos (show cI (cAt t (sk t p)) = nI 41 by rw [hc]; rfl), wp_bind, eB, wp_some]
  dsimp only
  by_cases e20 : x = 20
  · rw [if_pos (by rw [e20])]; exact main
  rw [if_neg (show ¬ nI x = nI 20 by rw [nI_eqN (by omega) (by omega)]; exact e20), wp_bind, eB, wp_some]
  dsimp only
  by_cases e23 : x = 23
  · rw [if_pos (by rw [e23])]; exact main
  rw [if_neg (show ¬ nI x = nI 23 by rw [nI_eqN (by omega) (by omega)]; exact e23), wp_bind, eB, wp_some]
  dsimp only
  rw [if_pos (show nI x = nI 24 by rw [nI_eqN (by omega) (by omega)]; omega)]
  exact main
end
