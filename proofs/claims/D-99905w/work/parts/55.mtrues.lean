/-! TRUES IN THE MODEL -/
set_option maxRecDepth 100000
def wy (c : jCo) (v : jV8) (p x k s : Nat) : Int32 := tos c (goN c (upv v (25 + 2 * p) (nI x)) k) s
section
variable {n : Nat} {c : jCo} {d : jRD} {ci : jI} {cj : jJ}
theorem MR.fr {L M : List Nat} {ci' : jI} (h : MR d ci) (g : Fr L M ci ci') (hL : 1592 ∉ L) (hM : 64 ∉ M) : MR d ci' := by
  unfold MR
  rw [g.1 1592 (by decide) hL, g.2 64 hM]
  exact h
theorem sp6_trueSet (hn : 4000 ≤ n) (h : MI c ci) (hd : RDok c d) (hR : MR d ci) {y p : Nat} (hy : ci 1585 0 = nI y) (hy9 : y ≤ 999) (hp : p < coP c) :
    Wp (fX6_trueSet n (nI p) ci cj) (fun q => q.1 = nI (tsv c d (ci 1585) p (yrsN y) 10) ∧ QM ci cj q.2.1 q.2.2 ∧ ∀ x k s, x < 10 → k < 31 → s < coS c → q.2.1 1593 (93 * x + 3 * k + s) = wy c (ci 1585) p x k s) := by
  obtain ⟨hc, hm, hv, hk, h58⟩ := h
  have hP := hc.2.1
  have hS := hc.2.2.1
  unfold fX6_trueSet
  rw [wp_bind]
  refine (sp_putsAside (c := c) hn).mono ?_
  rintro ⟨ci1, cj1⟩ hT
  dsimp only
  refine Wp.loop4 (fun q (a0 a1 : Int32) (a2 : jI) (a3 : jJ) => fX6_trueSet_8 n q (nI p) a0 a1 a2 a3) (fun r b => ∃ x, x + r = 10 ∧ b.2.1 = nI x ∧ b.1 = nI (tsv c d (ci 1585) p (yrsN y) x) ∧ TH c ci cj b.2.2.1 b.2.2.2 (ci 1585) ∧ ∀ x' k s, x' < x → k < 31 → s < coS c → b.2.2.1 1593 (93 * x' + 3 * k + s) = wy c (ci 1585) p x' k s) _ ?_ n 10 (nI 0) (nI 0) ci1 cj1 (by omega) ⟨0, by omega, rfl, rfl, hT, fun x' k s hx => absurd hx (Nat.not_lt_zero _)⟩
  rintro q r set l ci2 cj2 ⟨x, g1, g2, g3, g4, g5⟩ ih
  dsimp only at g2 g3 g4 g5
  subst g2
  rw [fX6_trueSet_8.eq_2]
  by_cases hx : 9 < x
  · have : x = 10 := by omega
    subst this
    rw [if_pos (nI_lt hx (by omega)), wp_bind]
    unfold fX6_takesBack
    rw [wp_bind]
    refine (sp_triesAnew hn g4).mono ?_
    rintro ⟨ci3, cj3⟩ ⟨⟨t1, t2, t3, t4, t5, t6⟩, q2, q3⟩
    dsimp only at t1 t2 t3 t4 t5 t6 q2 q3 ⊢
    rw [wp_some, wp_some]
    refine ⟨g3, ⟨fun k hk => ?_, ?_, Fr.upf t5 (by decide), t6⟩, fun x' k s hx' hk' hs' => ?_⟩
    · simp (disch := omega) only [ju_row]
      by_cases k1 : k < 45
      · exact t3 k k1
      · exact t4 k (by omega) hk
    · show ju ci3 1547 58 (nI 0) 1547 58 = _
      rw [ju_eq, h58]; rfl
    · simp (disch := omega) only [ju_row]
      rw [q2.1 1593 (by decide) (by decide)]
      exact g5 x' k s hx' hk' hs'
  · rw [if_neg (nI_nlt (by omega) (by omega))]
    simp (disch := omega) only [nI_add, nI_mulN, nI_cl, jok_t, if_true]
    generalize hw : upv (ci 1585) (25 + 2 * p) (nI x) = w
    have hwv : VR c w 999 := by rw [← hw]; exact VR_updB hv hc ⟨x, by omega, rfl⟩
    have hw0 : ∀ k, goN c w k 0 = nI (y + k) := by
      intro k
      induction k with
      | zero => show w 0 = _; rw [← hw, upv_ne (by omega)]; exact hy
      | succ k ih => show goV c (goN c w k) 0 = _; rw [goV_0, ih, nI_add]; rfl
    have T3 : TH c ci cj (ju ci2 1585 (25 + 2 * p) (nI x)) cj2 w := by
      obtain ⟨t1, t2, t3, t4, t5, t6⟩ := g4
      refine ⟨by rw [ju_row _ _ (by decide)]; exact t1, fun j hj => by rw [ju_row _ _ (by decide)]; exact t2 j hj, fun j hj => ?_, fun j j1 j2 => by rw [ju_ne2 _ _ (by omega)]; exact t4 j j1 j2, Fr.up t5 (by decide) (by decide), t6⟩
      rw [← hw]
      by_cases e : j = 25 + 2 * p
      · subst e; rw [ju_eq, upv_eq]
      · rw [ju_ne2 _ _ e, upv_ne e]; exact t3 j hj
    have W3 : ∀ x' k s, x' < x → k < 31 → s < coS c → (ju ci2 1585 (25 + 2 * p) (nI x)) 1593 (93 * x' + 3 * k + s) = wy c (ci 1585) p x' k s := fun x' k s a b e => by rw [ju_row _ _ (by decide)]; exact g5 x' k s a b e
    -- the years
    refine Wp.loop4 (fun q' (a0 a1 : Int32) (a2 : jI) (a3 : jJ) => fX6_trueSet_32 n (fX6_trueSet_8 n q) q' (nI p) set (nI x) a0 a1 a2 a3) (fun r b => ∃ k, k + r = 31 ∧ b.2.1 = nI k ∧ ((b.1 = nI 1 ∧ ∀ i, i < d.1 → d.2.1 i < k → y + d.2.1 i + 1 ≤ 999 ∧ rdM c d w i) ∨ (b.1 = nI 0 ∧ ¬ ∀ i, i < d.1 → d.2.1 i < k → y + d.2.1 i + 1 ≤ 999 ∧ rdM c d w i)) ∧ TH c ci cj b.2.2.1 b.2.2.2 (goN c w k) ∧ (∀ x' k s, x' < x → k < 31 → s < coS c → b.2.2.1 1593 (93 * x' + 3 * k + s) = wy c (ci 1585) p x' k s) ∧ ∀ k' s, k' < k → s < coS c → b.2.2.1 1593 (93 * x + 3 * k' + s) = wy c (ci 1585) p x k' s) _ ?_ n 31 (nI 1) (nI 0) _ cj2 (by omega) ⟨0, by omega, rfl, Or.inl ⟨rfl, fun i _ h => absurd h (Nat.not_lt_zero _)⟩, T3, W3, fun k' s h => absurd h (Nat.not_lt_zero _)⟩
    rintro q' r' fl l ci4 cj4 ⟨k, f1, f2, f3, f4, f5, f6⟩ ih2
    dsimp only at f2 f3 f4 f5 f6
    subst f2
    rw [fX6_trueSet_32.eq_2]
    by_cases hk31 : 30 < k
    · have : k = 31 := by omega
      subst this
      rw [if_pos (nI_lt hk31 (by omega)), wp_bind]
      refine (sp_triesAnew hn f4).mono ?_
      rintro ⟨ci5, cj5⟩ ⟨t1, t2, t3⟩
      dsimp only at t1 t2 t3 ⊢
      have G : rdB c d w (yrsN y) = true ↔ ∀ i, i < d.1 → d.2.1 i < 31 → y + d.2.1 i + 1 ≤ 999 ∧ rdM c d w i := by
        rw [rdB_iff]
        unfold yrsN
        constructor
        · intro z i hi _
          obtain ⟨a, b⟩ := z i hi
          exact ⟨by omega, b⟩
        · intro z i hi
          have := (hd.2 i hi).1
          obtain ⟨a, b⟩ := z i hi (by omega)
          exact ⟨by omega, b⟩
      have W5 : ∀ x' k s, x' < x + 1 → k < 31 → s < coS c → ci5 1593 (93 * x' + 3 * k + s) = wy c (ci 1585) p x' k s := fun x' k s a b e => by
        rw [t2.1 1593 (by decide) (by decide)]
        by_cases ex : x' = x
        · subst ex; exact f6 k s b e
        · exact f5 x' k s (by omega) b e
      unfold fX6_trueSet_127
      rcases f3 with ⟨e1, e2⟩ | ⟨e1, e2⟩
      · rw [e1, if_neg n10, nI_add, g3, shl_P x (by omega), nI_or]
        refine ih (r - 1) _ (nI (x + 1)) _ _ (by omega) ⟨x + 1, by omega, rfl, ?_, t1, W5⟩
        show nI _ = nI (if _ then _ else _)
        rw [hw, if_pos (G.mpr e2)]
      · rw [e1, if_pos z00, nI_add]
        refine ih (r - 1) _ (nI (x + 1)) _ _ (by omega) ⟨x + 1, by omega, rfl, ?_, t1, W5⟩
        show set = nI (if _ then _ else _)
        rw [hw, if_neg (fun z => e2 (G.mp z))]; exact g3
    · rw [if_neg (nI_nlt (by omega) (by omega)), wp_bind]
      refine (sp_yearT (Y := 999 + k) hn (by omega) hc hm hk f4 (VR_goN hc hwv k)).mono ?_
      rintro ⟨ci5, cj5⟩ ⟨p1, p2, p3, p4, p5⟩
      dsimp only at p1 p2 p3 p4 p5 ⊢
      have e93 : ci5 1593 = ci4 1593 := p5 1593 (Or.inr rfl)
      -- what is written of ways
      have wr : ∀ t0, ((t0 = nI 1 ∧ ∀ i, i < d.1 → d.2.1 i < k + 1 → y + d.2.1 i + 1 ≤ 999 ∧ rdM c d w i) ∨ (t0 = nI 0 ∧ ¬ ∀ i, i < d.1 → d.2.1 i < k + 1 → y + d.2.1 i + 1 ≤ 999 ∧ rdM c d w i)) → Wp (fX6_trueSet_62 n (fX6_trueSet_8 n q) (fX6_trueSet_32 n (fX6_trueSet_8 n q) q') (nI p) set (nI x) (nI k) t0 ci5 cj5) (fun q => q.1 = nI (tsv c d (ci 1585) p (yrsN y) 10) ∧ QM ci cj q.2.1 q.2.2 ∧ ∀ x k s, x < 10 → k < 31 → s < coS c → q.2.1 1593 (93 * x + 3 * k + s) = wy c (ci 1585) p x k s) := by
        intro t0 ht0
        unfold fX6_trueSet_62
        refine Wp.loop2 (fun q'' (a0 : Int32) (a1 : jI) => fX6_trueSet_67 n (fX6_trueSet_8 n q) (fX6_trueSet_32 n (fX6_trueSet_8 n q) q') q'' (nI p) set (nI x) t0 (nI k) a0 a1 cj5) (fun r b => ∃ s, s + r = coS c ∧ b.1 = nI s ∧ Fr [1593] [] ci5 b.2 ∧ (∀ s', s' < s → b.2 1593 (93 * x + 3 * k + s') = wy c (ci 1585) p x k s') ∧ ∀ j, (j < 93 * x + 3 * k ∨ 93 * x + 3 * k + 3 ≤ j) → b.2 1593 j = ci5 1593 j) _ ?_ n (coS c) (nI 0) ci5 (by omega) ⟨0, by omega, rfl, Fr.rfl', fun s' h => absurd h (Nat.not_lt_zero _), fun _ _ => rfl⟩
        rintro q'' r'' l ci6 ⟨s, u1, u2, u3, u4, u5⟩ ih3
        dsimp only at u2 u3 u4 u5
        subst u2
        have m6 : MC c ci6 := (p1.mc hm).fr' u3 (by decide)
        rw [fX6_trueSet_67.eq_2, wp_bind, e6_shoalMany, wp_some]
        dsimp only
        rw [m6.2.2.1]
        by_cases hs : coS c ≤ s
        · rw [if_pos (nI_le hs (by omega)), nI_add]
          obtain ⟨t1, t2, t3, t4, t5, t6⟩ := p1
          refine ih2 (r' - 1) t0 (nI (k + 1)) _ _ (by omega) ⟨k + 1, by omega, rfl, ht0, ⟨?_, fun j hj => ?_, fun j hj => ?_, fun j j1 j2 => ?_, Fr.tr t5 (u3.le (by decide) (by decide)), t6⟩, fun x' k' s' a b e => ?_, fun k' s' a e => ?_⟩
          · exact (u3.2 58 (by decide)).trans t1
          · exact (congrFun (u3.1 1586 (by decide) (by decide)) j).trans (t2 j hj)
          · exact (congrFun (u3.1 1585 (by decide) (by decide)) j).trans (t3 j hj)
          · exact (congrFun (u3.1 1585 (by decide) (by decide)) j).trans (t4 j j1 j2)
          · show ci6 1593 _ = _
            rw [u5 _ (by omega), e93]; exact f5 x' k' s' a b e
          · show ci6 1593 _ = _
            by_cases ek : k' = k
            · subst ek; exact u4 s' (by omega)
            · rw [u5 _ (by omega), e93]; exact f6 k' s' (by omega) e
        · rw [if_neg (nI_ge (by omega) (by omega))]
          have e89 : ci6 1589 s = wy c (ci 1585) p x k s := by
            rw [u3.1 1589 (by decide) (by decide), p2 s (by omega)]
            unfold wy; rw [hw]
          simp (disch := omega) only [nI_add, nI_mulN, nI_cl, jok_t, if_true, e89]
          refine ih3 (r'' - 1) (nI (s + 1)) _ (by omega) ⟨s + 1, by omega, rfl, u3.up (by decide) (by decide), fun s' hs' => ?_, fun j hj => ?_⟩
          · show ju ci6 1593 (93 * x + 3 * k + s) _ 1593 _ = _
            by_cases e : s' = s
            · subst e; exact ju_eq _ _ _ _
            · rw [ju_ne2 _ _ (by omega)]; exact u4 s' (by omega)
          · show ju ci6 1593 (93 * x + 3 * k + s) _ 1593 _ = _
            rw [ju_ne2 _ _ (by omega)]; exact u5 j hj
      unfold fX6_trueSet_61
      rcases f3 with ⟨e1, e2⟩ | ⟨e1, e2⟩
      · rw [e1, if_neg n10, wp_bind]
        have R5 : MR d ci5 := hR.fr p1.2.2.2.2.1 (by decide) (by decide)
        refine (sp6_isAsSeen (T := fun s => tos c (goN c w k) s) hn hd hc R5 (Y := y + (k + 1)) ((p1.2.2.1 0 (by omega)).trans (hw0 (k + 1))) (by omega) (by omega) p2).mono ?_
        rintro ⟨z, zz⟩ ⟨a1, a2⟩
        dsimp only at a1 a2 ⊢
        subst a2
        have step : (∀ i, i < d.1 → d.2.1 i < k + 1 → y + d.2.1 i + 1 ≤ 999 ∧ rdM c d w i) ↔ ∀ i, i < d.1 → d.2.1 i = k → y + (k + 1) ≤ 999 ∧ tos c (goN c w k) (d.2.2.1 i) = d.2.2.2 i := by
          constructor
          · intro z i hi hik
            obtain ⟨a, b⟩ := z i hi (by omega)
            subst hik
            exact ⟨by omega, b⟩
          · intro z i hi hik
            by_cases e : d.2.1 i = k
            · obtain ⟨a, b⟩ := z i hi e
              refine ⟨by omega, ?_⟩
              show tos c (goN c w (d.2.1 i)) (d.2.2.1 i) = _
              rw [e]; exact b
            · exact e2 i hi (by omega)
        rcases a1 with ⟨b1, b2⟩ | ⟨b1, b2⟩
        · rw [b1, if_neg n10]
          exact wr (nI 1) (Or.inl ⟨rfl, step.mpr b2⟩)
        · rw [b1, if_pos z00]
          exact wr (nI 0) (Or.inr ⟨rfl, fun z => b2 (step.mp z)⟩)
      · rw [e1, if_pos z00]
        exact wr (nI 0) (Or.inr ⟨rfl, fun z => e2 (fun i hi hik => z i hi (by omega))⟩)
theorem m_trues (hn : 4000 ≤ n) (h : MI c ci) (hd : RDok c d) (hR : MR d ci) {y : Nat} (hy : ci 1585 0 = nI y) (hy9 : y ≤ 999) (a0 : Int32) :
    Wp (fX6_trues n a0 ci cj) (fun q => q.1 = aTrues c d (ci 1585) y a0 ∧ QM ci cj q.2.1 q.2.2) := by
  have hc := h.1
  have hP := hc.2.1
  unfold fX6_trues fX6_trues_17 aTrues
  rw [wp_bind, e6_isPair hc h.2.1, wp_some]
  dsimp only
  by_cases h1 : iv a0 (coP c)
  · rw [if_pos h1, if_neg n10, if_pos h1, wp_bind]
    obtain ⟨p, p1, p2⟩ := iv_ex h1 (by omega)
    subst p2
    rw [nI_cl (by omega)]
    refine (sp6_trueSet hn h hd hR hy hy9 p1).mono ?_
    rintro ⟨z, ci1, cj1⟩ ⟨q1, q2, q3⟩
    rw [wp_some]
    exact ⟨q1, q2⟩
  · rw [if_neg h1, if_pos z00, wp_some, if_neg h1]
    exact ⟨rfl, QM.rfl'⟩
end
