/-! TELLS IN THE COMPONENT -/
set_option maxRecDepth 100000
section
variable {n : Nat} {c : jCo} {d : jRD} {K : jK} {ci ci1 ci2 : jI} {cj cj1 cj2 : jJ} {cr cr1 cr2 : jR} {v w : jV8}
theorem sp0_mostBy (hn : 4000 ≤ n) (hB : CBK K cr) {m k s : Nat} {W : Nat → Nat → Nat → Int32} (hk : k < 31) (hs : s < 3) (hW : ∀ x, x < 10 → ci (186 + x * 32 + k) s = W x k s) : Wp (fX0_mostBy n (nI m) (nI k) (nI s) K ci cj cr) (fun q => q = (nI (moA m W k s 10), ci, cj, cr)) := by
  unfold fX0_mostBy
  refine Wp.loop2 (fun q (a0 a1 : Int32) => fX0_mostBy_6 n q (nI m) (nI k) (nI s) a0 a1 K ci cj cr) (fun r b => ∃ a, a + r = 10 ∧ b.2 = nI a ∧ b.1 = nI (moA m W k s a)) _ ?_ n 10 (nI 0) (nI 0) (by omega) ⟨0, by omega, rfl, rfl⟩
  rintro q r most l ⟨a, g1, g2, g3⟩ ih
  dsimp only at g2 g3
  subst g2
  rw [fX0_mostBy_6.eq_2]
  have hm10 := moA_le m W k s a
  by_cases ha : 10 ≤ a
  · have : a = 10 := by omega
    subst this
    rw [if_pos (nI_le ha (by omega)), wp_some, g3]
  · rw [if_neg (nI_ge (by omega) (by omega))]
    refine Wp.loop2 (fun q' (a0 a1 : Int32) => fX0_mostBy_19 n (fX0_mostBy_6 n q) q' (nI m) (nI k) (nI s) most (nI a) a0 a1 K ci cj cr) (fun r b => ∃ b', b' + r = 10 ∧ b.2 = nI b' ∧ b.1 = nI (cnA m W k s a b')) _ ?_ n 10 (nI 0) (nI 0) (by omega) ⟨0, by omega, rfl, rfl⟩
    rintro q' r' x l ⟨b, w1, w2, w3⟩ ih2
    dsimp only at w2 w3
    subst w2
    rw [fX0_mostBy_19.eq_2]
    have hc10 := cnA_le m W k s a b
    by_cases hb9 : 10 ≤ b
    · have : b = 10 := by omega
      subst this
      rw [if_pos (nI_le hb9 (by omega)), wp_jpb]
      unfold fJ12_max fJ12_max_10
      by_cases hle : moA m W k s a < cnA m W k s a 10
      · rw [if_pos (show most < x by rw [w3, g3]; exact nI_lt hle (by omega)), wp_some]
        dsimp only
        rw [nI_add]
        refine ih (r - 1) x (nI (a + 1)) (by omega) ⟨a + 1, by omega, rfl, ?_⟩
        show x = nI (max _ (cnA m W k s a 10))
        rw [w3]; congr 1; omega
      · rw [if_neg (show ¬ most < x by rw [w3, g3]; exact nI_nlt (by omega) (by omega)), wp_some]
        dsimp only
        rw [nI_add]
        refine ih (r - 1) most (nI (a + 1)) (by omega) ⟨a + 1, by omega, rfl, ?_⟩
        show most = nI (max _ (cnA m W k s a 10))
        rw [g3]; congr 1; omega
    · rw [if_neg (nI_ge (by omega) (by omega)), wp_jpb, e0_has, wp_some]
      dsimp only
      unfold fX0_mostBy_75 fX0_mostBy_76
      have nop : ¬ (hasP m a ∧ hasP m b ∧ W a k s = W b k s) → Wp (fX0_mostBy_19 n (fX0_mostBy_6 n q) q' (nI m) (nI k) (nI s) most (nI a) (x + nI 0) (nI b + nI 1) K ci cj cr) (fun q => q = (nI (moA m W k s 10), ci, cj, cr)) := by
        intro hno
        rw [i32_add0, nI_add]
        refine ih2 (r' - 1) x (nI (b + 1)) (by omega) ⟨b + 1, by omega, rfl, ?_⟩
        show x = nI (cnA m W k s a b + (if hasP m a ∧ hasP m b ∧ W a k s = W b k s then 1 else 0))
        rw [if_neg hno]; exact w3
      by_cases haa : hasP m a
      rotate_left
      · rw [if_neg haa, if_pos z00]; exact nop (fun z => haa z.1)
      rw [if_pos haa, if_neg n10, wp_jpb, e0_has, wp_some]
      dsimp only
      by_cases hbb : hasP m b
      rotate_left
      · rw [if_neg hbb, if_pos z00]; exact nop (fun z => hbb z.2.1)
      rw [if_pos hbb, if_neg n10]
      obtain ⟨a1, a2, a3, a4, a5⟩ := hB.2 a (by omega)
      obtain ⟨a6, a7, a8, a9⟩ := a5 k hk
      obtain ⟨b1, b2, b3, b4, b5⟩ := hB.2 b (by omega)
      obtain ⟨b6, b7, b8, b9⟩ := b5 k hk
      have ea := hW a (by omega)
      have eb := hW b (by omega)
      simp (disch := omega) only [nI_cl, jok_t, if_true, Option.bind_some, and_self, a1, a2, a3, a4, a6, a7, a8, a9, b1, b2, b3, b4, b6, b7, b8, b9, ea, eb]
      by_cases e : W a k s = W b k s
      · rw [if_pos e, w3, nI_add, nI_add]
        refine ih2 (r' - 1) _ (nI (b + 1)) (by omega) ⟨b + 1, by omega, rfl, ?_⟩
        show nI _ = nI (cnA m W k s a b + (if hasP m a ∧ hasP m b ∧ W a k s = W b k s then 1 else 0))
        rw [if_pos ⟨haa, hbb, e⟩]
      · rw [if_neg e]; exact nop (fun z => e z.2.2)
/-- how the component holds the best so far -/
def jRT (q : jT3) (best least : Int32) : Prop := (q.1 = -1 ∧ best = -1 ∧ least = 100000000) ∨ (∃ kk ss, q.1 = nI kk ∧ q.2.1 = nI ss ∧ ss < 3 ∧ kk < 31 ∧ best = nI (3 * kk + ss) ∧ least = q.2.2)
theorem c_tells (hn : 4000 ≤ n) (h : CI n c K ci cj cr v) (hB : CBK K cr) (hd : RDok c d) (hR : KD d ci) {y : Nat} (hy : v 0 = nI y) (hy9 : y ≤ 999) (a0 a1 : Int32) :
    Wp (fX0_tells n a0 a1 K ci cj cr) (fun q => q.1 = aTells c d v y a0 a1 ∧ QK K ci cj cr q.2.1 q.2.2.1 q.2.2.2) := by
  have hc := h.1
  have hP := hc.2.1
  have hS := hc.2.2.1
  have hF : (100000000 : Int32) = nI 100000000 := rfl
  unfold fX0_tells fX0_tells_19 aTells
  rw [wp_jpb]
  by_cases h1 : iv a0 (coP c)
  rotate_left
  · unfold fX0_trues
    rw [wp_jpb, e0_isPair h.2.2.1, wp_some]
    dsimp only
    rw [if_neg h1, if_pos z00, wp_some]
    dsimp only
    rw [if_pos (show (-1 : Int32) ≤ 0 by decide), wp_some, if_neg (fun z => h1 z.1)]
    exact ⟨rfl, h.qk⟩
  obtain ⟨p, p1, p2⟩ := iv_ex h1 (by omega)
  subst p2
  rw [nI_cl (by omega)]
  refine (sp0_trues hn h hB hd hR hy hy9 p1).mono ?_
  rintro ⟨z, ci1, cj1, cr1⟩ ⟨q1, q2, q3⟩
  dsimp only at q1 q2 q3 ⊢
  subst q1
  have hlt := tsv_lt c d v p (yrsN y) 10
  generalize tsv c d v p (yrsN y) 10 = m at hlt ⊢
  have hH : yrsN y ≤ 31 := by unfold yrsN; omega
  by_cases m0 : m = 0
  · rw [if_pos (show nI m ≤ 0 by rw [m0]; decide), wp_some]
    refine ⟨?_, q2⟩
    by_cases h2 : iv (nI p) (coP c) ∧ nI 0 ≤ a1 ∧ a1 ≤ nI 2
    · rw [if_pos h2, if_pos (show m = 0 ∨ (teK m (wy c v p) (coS c) (yrsN y)).1 = -1 from Or.inl m0)]
    · rw [if_neg h2]
  rw [if_neg (nI_nle (by omega) (by omega)), wp_jpb, e0_is, wp_some]
  dsimp only
  by_cases h2 : nI 0 ≤ a1 ∧ a1 ≤ nI 2
  rotate_left
  · rw [if_neg h2, if_pos z00, wp_some, if_neg (show ¬ (iv (nI p) (coP c) ∧ nI 0 ≤ a1 ∧ a1 ≤ nI 2) from fun z => h2 z.2)]
    exact ⟨rfl, q2⟩
  rw [if_pos h2, if_neg n10, if_pos (show iv (nI p) (coP c) ∧ nI 0 ≤ a1 ∧ a1 ≤ nI 2 from ⟨h1, h2⟩)]
  have h' := h.qk' q2
  have hB' := hB.qk q2
  refine Wp.loop3 (fun q (b0 b1 b2 : Int32) => fX0_tells_32 n q a1 (nI m) b0 b1 b2 K ci1 cj1 cr1) (fun r b => ∃ k, k + r = yrsN y ∧ b.2.2 = nI k ∧ jRT (teK m (wy c v p) (coS c) k) b.1 b.2.1) _ ?_ n (yrsN y) (-1) 100000000 (nI 0) (by omega) ⟨0, by omega, rfl, Or.inl ⟨rfl, rfl, rfl⟩⟩
  rintro q r best least l ⟨k, g1, g2, g3⟩ ih
  dsimp only at g2 g3
  subst g2
  rw [fX0_tells_32.eq_2, nI_add, wp_jpb, e0_isAhead, wp_some, h'.y0, hy]
  dsimp only
  by_cases hk : yrsN y ≤ k
  · have : k = yrsN y := by omega
    subst this
    have hne : ¬ iah (nI y) (nI (yrsN y + 1)) 1 31 := by
      rintro ⟨-, x2, x3⟩
      rw [nI_leN (by omega) (by omega)] at x2
      rw [nI_add, nI_leN (by omega) (by omega)] at x3
      unfold yrsN at x2 x3; omega
    rw [if_neg hne, if_pos z00]
    unfold fX0_tells_139
    rcases g3 with ⟨e1, e2, e3⟩ | ⟨kk, ss, e1, e2, e3, e4, e5, e6⟩
    · rw [if_pos e2, wp_some, if_pos (show m = 0 ∨ (teK m (wy c v p) (coS c) (yrsN y)).1 = -1 from Or.inr e1)]
      exact ⟨rfl, q2⟩
    · have hno : ¬ (m = 0 ∨ (teK m (wy c v p) (coS c) (yrsN y)).1 = -1) := fun z => z.elim m0 (fun z => nI_nm1 (by omega) (e1.symm.trans z))
      have hnb : ¬ best = -1 := by rw [e5]; exact nI_nm1 (by omega)
      have ed : best / nI 3 = nI kk := by rw [e5, nI_div (by omega) (by omega)]; congr 1; omega
      by_cases c2 : a1 = 0
      · simp only [if_neg hnb, if_neg hno, if_pos c2, wp_some]
        exact ⟨by rw [ed, e1], q2⟩
      · by_cases c3 : a1 = nI 1
        · simp only [if_neg hnb, if_neg hno, if_neg c2, if_pos c3, wp_some]
          refine ⟨?_, q2⟩
          rw [ed, e5, nI_mulN, nI_subN (by omega), e2]
          congr 1; omega
        · simp only [if_neg hnb, if_neg hno, if_neg c2, if_neg c3, wp_some]
          exact ⟨e6, q2⟩
  · have hky : y + (k + 1) ≤ 999 := by
      have : k < yrsN y := by omega
      unfold yrsN at this; omega
    have hpo : iah (nI y) (nI (k + 1)) 1 31 := ⟨nI_le (by omega) (by omega), nI_le (by omega) (by omega), by rw [nI_add]; exact nI_le hky (by omega)⟩
    rw [if_pos hpo, if_neg n10]
    refine Wp.loop3 (fun q' (b0 b1 b2 : Int32) => fX0_tells_49 n (fX0_tells_32 n q) q' a1 (nI m) b0 b1 (nI k) b2 K ci1 cj1 cr1) (fun r b => ∃ s, s + r = coS c ∧ b.2.2 = nI s ∧ jRT (teS m (wy c v p) (teK m (wy c v p) (coS c) k) k s) b.1 b.2.1) _ ?_ n (coS c) best least (nI 0) (by omega) ⟨0, by omega, rfl, g3⟩
    rintro q' r' best2 least2 l ⟨s, u1, u2, u3⟩ ih2
    dsimp only at u2 u3
    subst u2
    rw [fX0_tells_49.eq_2, wp_jpb, e0_shoals h'.2.2.1, wp_some]
    dsimp only
    by_cases hs : coS c ≤ s
    · have : s = coS c := by omega
      subst this
      rw [if_pos (nI_le hs (by omega)), nI_add]
      exact ih (r - 1) best2 least2 (nI (k + 1)) (by omega) ⟨k + 1, by omega, rfl, u3⟩
    · rw [if_neg (nI_ge (by omega) (by omega)), wp_jpb]
      refine (sp0_mostBy (W := wy c v p) hn hB' (by omega) (by omega) (fun x hx => q3 x k s hx (by omega) (by omega))).mono ?_
      rintro z rfl
      dsimp only
      have hmo := moA_le m (wy c v p) k s 10
      unfold fX0_tells_92
      rw [nI_mulN, nI_add, nI_add]
      rcases u3 with ⟨e1, e2, e3⟩ | ⟨kk, ss, e1, e2, e3, e4, e5, e6⟩
      · rw [if_pos (show nI (moA m (wy c v p) k s 10) < least2 by rw [e3, hF]; exact nI_lt (by omega) (by omega))]
        refine ih2 (r' - 1) _ _ (nI (s + 1)) (by omega) ⟨s + 1, by omega, rfl, Or.inr ⟨k, s, ?_, ?_, by omega, by omega, rfl, ?_⟩⟩
        all_goals (show _ = _; unfold teS; rw [if_pos (Or.inl e1)])
      · by_cases c2 : nI (moA m (wy c v p) k s 10) < least2
        · rw [if_pos c2]
          have hpos : (teS m (wy c v p) (teK m (wy c v p) (coS c) k) k s).1 = -1 ∨ nI (moA m (wy c v p) k s 10) < (teS m (wy c v p) (teK m (wy c v p) (coS c) k) k s).2.2 := Or.inr (by rw [← e6]; exact c2)
          refine ih2 (r' - 1) _ _ (nI (s + 1)) (by omega) ⟨s + 1, by omega, rfl, Or.inr ⟨k, s, ?_, ?_, by omega, by omega, rfl, ?_⟩⟩
          all_goals (show _ = _; unfold teS; rw [if_pos hpos])
        · rw [if_neg c2]
          have hno : ¬ ((teS m (wy c v p) (teK m (wy c v p) (coS c) k) k s).1 = -1 ∨ nI (moA m (wy c v p) k s 10) < (teS m (wy c v p) (teK m (wy c v p) (coS c) k) k s).2.2) := fun z => z.elim (fun a => nI_nm1 (by omega) (e1.symm.trans a)) (fun a => c2 (by rw [e6]; exact a))
          refine ih2 (r' - 1) best2 least2 (nI (s + 1)) (by omega) ⟨s + 1, by omega, rfl, ?_⟩
          show jRT (teS m (wy c v p) (teK m (wy c v p) (coS c) k) k (s + 1)) best2 least2
          have e : teS m (wy c v p) (teK m (wy c v p) (coS c) k) k (s + 1) = teS m (wy c v p) (teK m (wy c v p) (coS c) k) k s := by
            show (if _ then _ else _) = _
            rw [if_neg hno]
          rw [e]
          exact Or.inr ⟨kk, ss, e1, e2, e3, e4, e5, e6⟩
end
