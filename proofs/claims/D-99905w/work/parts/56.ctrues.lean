/-! TRUES IN THE COMPONENT -/
set_option maxRecDepth 100000
/-- what was seen, in the component -/
def KD (d : jRD) (ci : jI) : Prop := ci 0 15 = nI d.1 ∧ ∀ i, i < d.1 → ci 181 i = nI (d.2.1 i) ∧ ci 182 i = nI (d.2.2.1 i) ∧ ci 183 i = d.2.2.2 i
section
variable {n : Nat} {c : jCo} {d : jRD} {K : jK} {ci ci1 ci2 : jI} {cj cj1 cj2 : jJ} {cr cr1 cr2 : jR} {v w : jV8}
theorem KD.qk (h : KD d ci) (g : QK K ci cj cr ci1 cj1 cr1) : KD d ci1 := by
  unfold KD
  rw [g.1 0 (by omega) (by omega), g.1 181 (by omega) (by omega), g.1 182 (by omega) (by omega), g.1 183 (by omega) (by omega)]
  exact h
theorem sp0_canBe (hn : 4000 ≤ n) (h : CI n c K ci cj cr v) (hB : CBK K cr) (hd : RDok c d) (hR : KD d ci) (hQ : QK K ci cj cr ci1 cj1 cr1) {y p x : Nat} (hy : v 0 = nI y) (hy9 : y ≤ 999) (hp : p < coP c) (hx : x < 10) :
    Wp (fX0_canBe n (nI p) (nI x) K ci1 cj1 cr1) (fun q => q.1 = (if rdB c d (upv v (25 + 2 * p) (nI x)) (yrsN y) = true then nI 1 else nI 0) ∧ QK K ci cj cr q.2.1 q.2.2.1 q.2.2.2 ∧ (∀ k s, k < yrsN y → s < coS c → q.2.1 (186 + x * 32 + k) s = wy c v p x k s) ∧ ∀ i, 185 ≤ i → i < 505 → (i < 186 + x * 32 ∨ 186 + x * 32 + 31 ≤ i) → q.2.1 i = ci1 i) := by
  have hc := h.1
  have hP := hc.2.1
  have hS := hc.2.2.1
  have hv := h.2.2.2.2.1
  obtain ⟨d1, d2⟩ := hd
  unfold fX0_canBe
  rw [wp_jpb]
  refine (sp_triesQ hn h hQ).mono ?_
  rintro ⟨z, ci2, cj2, cr2⟩ ⟨q1, q2, q2', q3⟩
  dsimp only at q1 q2 q2' q3 ⊢
  subst q1
  have hC2 := h.2.1.qk q3
  rw [if_pos ⟨sk0 hC2 is68, sl0 hC2 is68⟩, wp_bind, sr8 hC2 is68, wp_some, if_pos ⟨sk8 hC2 is68, sl8 hC2 is68⟩, sn8 hC2 is68, if_pos (by rw [jok_t (by omega) (by omega)]; trivial), nI_cl (by omega)]
  have S3 := q2.by8 (p := p) (x := nI x) hc (by omega)
  have Q3 := q3.up (i := 68 + 8) (k := p) (x := nI x) (by omega)
  have F3 : ∀ i, 185 ≤ i → i < 505 → (ju ci2 (68 + 8) p (nI x)) i = ci1 i := fun i i1 i2 => by rw [ju_row _ _ (by omega)]; exact q2'.1 i (by omega)
  unfold wy
  generalize hw : upv v (25 + 2 * p) (nI x) = w at S3 ⊢
  have hwv : VR c w 999 := by rw [← hw]; exact VR_updB hv hc ⟨x, by omega, rfl⟩
  generalize hH : yrsN y = H
  have hH31 : H ≤ 31 := by rw [← hH]; unfold yrsN; omega
  refine Wp.loop5 (fun q (a0 a1 : Int32) (a2 : jI) (a3 : jJ) (a4 : jR) => fX0_canBe_22 n q (nI x) a0 a1 K a2 a3 a4) (fun r b => ∃ k, k + r = H ∧ b.2.1 = nI k ∧ b.1 = nI (ns (fun i => if d.2.1 i < k ∧ rdM c d w i then 1 else 0) d.1) ∧ StR c K b.2.2.1 b.2.2.2.2 68 (goFN c w k) ∧ QK K ci cj cr b.2.2.1 b.2.2.2.1 b.2.2.2.2 ∧ (∀ k' s, k' < k → s < coS c → b.2.2.1 (186 + x * 32 + k') s = tos c (goN c w k') s) ∧ ∀ i, 185 ≤ i → i < 505 → (i < 186 + x * 32 ∨ 186 + x * 32 + 31 ≤ i) → b.2.2.1 i = ci1 i) _ ?_ n H (nI 0) (nI 0) _ _ _ (by omega) ⟨0, by omega, rfl, ?_, S3, Q3, fun k' s hk => absurd hk (Nat.not_lt_zero _), fun i i1 i2 _ => F3 i i1 i2⟩
  rotate_left
  · show nI 0 = _
    rw [ns_congr (g := fun _ => 0) (fun i _ => by rw [if_neg (fun z => absurd z.1 (Nat.not_lt_zero _))]), ns_const]; congr 1
  rintro q r met l ci3 cj3 cr3 ⟨k, g1, g2, g3, g4, g5, g6, g7⟩ ih
  dsimp only at g2 g3 g4 g5 g6 g7
  subst g2
  have h3 := h.qk' g5
  have R3 := hR.qk g5
  rw [fX0_canBe_22.eq_2, nI_add, wp_jpb, e0_isAhead, wp_some, h3.y0, hy]
  dsimp only
  by_cases hk : H ≤ k
  · have hke : k = H := by omega
    subst hke
    have hne : ¬ iah (nI y) (nI (k + 1)) 1 31 := by
      rintro ⟨-, a2, a3⟩
      rw [nI_leN (by omega) (by omega)] at a2
      rw [nI_add, nI_leN (by omega) (by omega)] at a3
      unfold yrsN at hH; omega
    rw [if_neg hne, if_pos z00]
    unfold fX0_canBe_166
    have hns : ns (fun i => if d.2.1 i < k ∧ rdM c d w i then 1 else 0) d.1 ≤ d.1 * 1 := ns_le (fun k => by split <;> omega) d.1
    by_cases e : ns (fun i => if d.2.1 i < k ∧ rdM c d w i then 1 else 0) d.1 = d.1
    · rw [if_pos (show met = ci3 0 15 by rw [g3, R3.1, e]), if_pos bt1, wp_some, if_pos (show rdB c d w k = true by unfold rdB; exact decide_eq_true e)]
      exact ⟨rfl, g5, g6, g7⟩
    · rw [if_neg (show ¬ met = ci3 0 15 by rw [g3, R3.1, nI_eqN (by omega) (by omega)]; exact e), if_pos bt0, wp_some, if_neg (show ¬ rdB c d w k = true by unfold rdB; rw [decide_eq_true_iff]; exact e)]
      exact ⟨rfl, g5, g6, g7⟩
  · have hpo : iah (nI y) (nI (k + 1)) 1 31 := ⟨nI_le (by omega) (by omega), nI_le (by omega) (by omega), by rw [nI_add]; exact nI_le (by unfold yrsN at hH; omega) (by omega)⟩
    rw [if_pos hpo, if_neg n10, wp_jpb]
    refine (sp_goesQ hn h g5 g4 (VR_goFN hc hwv k)).mono ?_
    rintro ⟨z, ci4, cj4, cr4⟩ ⟨p1, p2, p3, p4⟩
    dsimp only at p1 p2 p3 p4 ⊢
    obtain ⟨b1, b2, b3, b4, b5⟩ := (hB.qk p4).2 x hx
    obtain ⟨e1, e2, e3, e4⟩ := b5 k (by omega)
    refine Wp.loop2 (fun q' (a0 : Int32) (a1 : jI) => fX0_canBe_47 n (fX0_canBe_22 n q) q' (nI x) met (nI k) a0 K a1 cj4 cr4) (fun r b => ∃ s, s + r = coS c ∧ b.1 = nI s ∧ (∀ s', s' < s → b.2 (186 + x * 32 + k) s' = tos c (goN c w k) s') ∧ ∀ j, j ≠ 186 + x * 32 + k → b.2 j = ci4 j) _ ?_ n (coS c) (nI 0) ci4 (by omega) ⟨0, by omega, rfl, fun s' h => absurd h (Nat.not_lt_zero _), fun _ _ => rfl⟩
    rintro q' r' l ci5 ⟨s, u1, u2, u3, u4⟩ ih2
    dsimp only at u2 u3 u4
    subst u2
    have Q5 : QK K ci cj cr ci5 cj4 cr4 := ⟨fun j j1 j2 => by rw [u4 j (by omega)]; exact p4.1 j j1 j2, p4.2.1, p4.2.2.1, p4.2.2.2⟩
    have S5 : StR c K ci5 cr4 68 (goFN c w (k + 1)) := by
      obtain ⟨s1, f, s2, s3⟩ := p2
      exact ⟨s1.fr (fun j j1 j2 _ _ _ => u4 j (by omega)), f, s2, s3.fr s2 (by rw [u4 68 (by omega)]) (fun j j1 j2 => u4 j (by omega))⟩
    have A5 : ∀ s', s' < coS c → ci5 (68 + 2) s' = tos c (goN c w k) s' := fun s' hs' => by
      refine ((S5.1.2.1 s' hs').2).trans ((goFN_45 hc w (k + 1) _ (by omega)).trans ?_)
      show goV c (goN c w k) (2 + 2 * s') = _
      rw [goV_a hs' (by omega)]
    rw [fX0_canBe_47.eq_2, wp_jpb, e0_shoals (h.2.2.1.qk Q5), wp_some]
    dsimp only
    by_cases hs : coS c ≤ s
    rotate_left
    · rw [if_neg (nI_ge (by omega) (by omega))]
      have ea := A5 s (by omega)
      simp (disch := omega) only [nI_add, nI_cl, jok_t, if_true, b1, b2, b3, b4, e1, e2, e3, e4, Option.bind_some, and_self, ea]
      refine ih2 (r' - 1) (nI (s + 1)) _ (by omega) ⟨s + 1, by omega, rfl, fun s' hs' => ?_, fun j hj => ?_⟩
      · show ju ci5 (186 + x * 32 + k) s _ (186 + x * 32 + k) _ = _
        by_cases e : s' = s
        · subst e; exact ju_eq _ _ _ _
        · rw [ju_ne2 _ _ e]; exact u3 s' (by omega)
      · show ju ci5 (186 + x * 32 + k) s _ j = _
        rw [ju_row _ _ hj]; exact u4 j hj
    rw [if_pos (nI_le hs (by omega))]
    clear ih2
    have R5 := hR.qk Q5
    refine Wp.loop2 (fun q' (a0 a1 : Int32) => fX0_canBe_87 n (fX0_canBe_22 n q) q' (nI x) a0 (nI k) a1 K ci5 cj4 cr4) (fun r b => ∃ i, i + r = d.1 ∧ b.2 = nI i ∧ b.1 = nI (ns (fun i => if d.2.1 i < k ∧ rdM c d w i then 1 else 0) d.1 + ns (fun i => if d.2.1 i = k ∧ rdM c d w i then 1 else 0) i)) _ ?_ n d.1 met (nI 0) (by omega) ⟨0, by omega, rfl, g3⟩
    rintro q' r' m l ⟨i, f1, f2, f3⟩ ih2
    dsimp only at f2 f3
    subst f2
    rw [fX0_canBe_87.eq_2, R5.1]
    by_cases hi : d.1 ≤ i
    · have : i = d.1 := by omega
      subst this
      rw [if_pos (nI_le hi (by omega)), nI_add]
      refine ih (r - 1) m (nI (k + 1)) _ _ _ (by omega) ⟨k + 1, by omega, rfl, ?_, S5, Q5, fun k' s' hk' hs' => ?_, fun j j1 j2 j3 => ?_⟩
      · show m = _
        rw [f3, ← ns_add]
        congr 1
        refine ns_congr (fun i _ => ?_)
        by_cases hM : rdM c d w i
        · by_cases a : d.2.1 i < k
          · rw [if_pos ⟨a, hM⟩, if_neg (fun z => by have := z.1; omega), if_pos ⟨by omega, hM⟩]
          · by_cases b : d.2.1 i = k
            · rw [if_neg (fun z => a z.1), if_pos ⟨b, hM⟩, if_pos ⟨by omega, hM⟩]
            · rw [if_neg (fun z => a z.1), if_neg (fun z => b z.1), if_neg (fun z => by have := z.1; omega)]
        · rw [if_neg (fun z => hM z.2), if_neg (fun z => hM z.2), if_neg (fun z => hM z.2)]
      · show ci5 _ _ = _
        by_cases e : k' = k
        · subst e; exact u3 s' (by omega)
        · rw [u4 _ (by omega), p3.1 _ (by omega)]; exact g6 k' s' (by omega) hs'
      · show ci5 j = _
        rw [u4 _ (by omega), p3.1 _ (by omega)]; exact g7 j j1 j2 j3
    · obtain ⟨a1, a2, a3⟩ := R5.2 i (by omega)
      obtain ⟨c1, c2⟩ := d2 i (by omega)
      rw [if_neg (nI_ge (by omega) (by omega)), if_pos (by rw [jok_t (by omega) (by omega)]; trivial)]
      have ki : (nI i).toNatClampNeg = i := nI_cl (by omega)
      have ks : (nI (d.2.2.1 i)).toNatClampNeg = d.2.2.1 i := nI_cl (by omega)
      unfold fX0_canBe_138 fX0_canBe_139
      have nop : ¬ (d.2.1 i = k ∧ rdM c d w i) → Wp (fX0_canBe_87 n (fX0_canBe_22 n q) q' (nI x) (m + nI 0) (nI k) (nI i + nI 1) K ci5 cj4 cr4) (fun q => q.1 = (if rdB c d w H = true then nI 1 else nI 0) ∧ QK K ci cj cr q.2.1 q.2.2.1 q.2.2.2 ∧ (∀ k s, k < H → s < coS c → q.2.1 (186 + x * 32 + k) s = tos c (goN c w k) s) ∧ ∀ i, 185 ≤ i → i < 505 → (i < 186 + x * 32 ∨ 186 + x * 32 + 31 ≤ i) → q.2.1 i = ci1 i) := by
        intro hno
        rw [i32_add0, nI_add]
        refine ih2 (r' - 1) m (nI (i + 1)) (by omega) ⟨i + 1, by omega, rfl, ?_⟩
        show m = nI (_ + (ns _ i + (if d.2.1 i = k ∧ rdM c d w i then 1 else 0)))
        rw [if_neg hno]; exact f3
      by_cases hyr : d.2.1 i = k
      · rw [if_pos (show ci5 181 (nI i).toNatClampNeg = nI k by rw [ki, a1, hyr])]
        have eA := A5 _ c2
        simp (disch := omega) only [jok_t, if_true, nI_cl, a2, a3, eA]
        by_cases hM : tos c (goN c w k) (d.2.2.1 i) = d.2.2.2 i
        · have hM' : rdM c d w i := by show tos c (goN c w (d.2.1 i)) _ = _; rw [hyr]; exact hM
          rw [if_pos hM, f3, nI_add, nI_add]
          refine ih2 (r' - 1) _ (nI (i + 1)) (by omega) ⟨i + 1, by omega, rfl, ?_⟩
          show nI _ = nI (_ + (ns _ i + (if d.2.1 i = k ∧ rdM c d w i then 1 else 0)))
          rw [if_pos ⟨hyr, hM'⟩, Nat.add_assoc]
        · rw [if_neg hM]
          refine nop (fun z => hM ?_)
          have := z.2
          unfold rdM at this
          rw [hyr] at this; exact this
      · rw [if_neg (show ¬ ci5 181 (nI i).toNatClampNeg = nI k by rw [ki, a1, nI_eqN (by omega) (by omega)]; exact hyr)]
        exact nop (fun z => hyr z.1)
theorem sp0_trues (hn : 4000 ≤ n) (h : CI n c K ci cj cr v) (hB : CBK K cr) (hd : RDok c d) (hR : KD d ci) {y p : Nat} (hy : v 0 = nI y) (hy9 : y ≤ 999) (hp : p < coP c) :
    Wp (fX0_trues n (nI p) K ci cj cr) (fun q => q.1 = nI (tsv c d v p (yrsN y) 10) ∧ QK K ci cj cr q.2.1 q.2.2.1 q.2.2.2 ∧ ∀ x k s, x < 10 → k < yrsN y → s < coS c → q.2.1 (186 + x * 32 + k) s = wy c v p x k s) := by
  have hc := h.1
  have hP := hc.2.1
  have hH31 : yrsN y ≤ 31 := by unfold yrsN; omega
  unfold fX0_trues
  rw [wp_jpb, e0_isPair h.2.2.1, wp_some]
  dsimp only
  rw [if_pos (iv_nI hp (by omega)), if_neg n10]
  refine Wp.loop5 (fun q (a0 a1 : Int32) (a2 : jI) (a3 : jJ) (a4 : jR) => fX0_trues_14 n q (nI p) a0 a1 K a2 a3 a4) (fun r b => ∃ x, x + r = 10 ∧ b.2.1 = nI x ∧ b.1 = nI (tsv c d v p (yrsN y) x) ∧ QK K ci cj cr b.2.2.1 b.2.2.2.1 b.2.2.2.2 ∧ ∀ x' k s, x' < x → k < yrsN y → s < coS c → b.2.2.1 (186 + x' * 32 + k) s = wy c v p x' k s) _ ?_ n 10 (nI 0) (nI 0) ci cj cr (by omega) ⟨0, by omega, rfl, rfl, h.qk, fun x' k s hx => absurd hx (Nat.not_lt_zero _)⟩
  rintro q r set l ci2 cj2 cr2 ⟨x, g1, g2, g3, g4, g5⟩ ih
  dsimp only at g2 g3 g4 g5
  subst g2
  rw [fX0_trues_14.eq_2]
  by_cases hx : 10 ≤ x
  · have : x = 10 := by omega
    subst this
    rw [if_pos (nI_le hx (by omega)), wp_some]
    exact ⟨g3, g4, g5⟩
  · rw [if_neg (nI_ge (by omega) (by omega)), wp_jpb]
    refine (sp0_canBe hn h hB hd hR g4 hy hy9 hp (show x < 10 by omega)).mono ?_
    rintro ⟨z, ci3, cj3, cr3⟩ ⟨q1, q2, q3, q4⟩
    dsimp only at q1 q2 q3 q4 ⊢
    have W3 : ∀ x' k s, x' < x + 1 → k < yrsN y → s < coS c → ci3 (186 + x' * 32 + k) s = wy c v p x' k s := fun x' k s a b e => by
      by_cases ex : x' = x
      · subst ex; exact q3 k s b e
      · rw [q4 _ (by omega) (by omega) (by omega)]; exact g5 x' k s (by omega) b e
    unfold fX0_trues_37
    subst q1
    by_cases e : rdB c d (upv v (25 + 2 * p) (nI x)) (yrsN y) = true
    · rw [if_pos e, if_neg n10, g3, shl_P x (by omega), nI_or, nI_add]
      refine ih (r - 1) _ (nI (x + 1)) _ _ _ (by omega) ⟨x + 1, by omega, rfl, ?_, q2, W3⟩
      show nI _ = nI (if _ then _ else _)
      rw [if_pos e]
    · rw [if_neg e, if_pos z00, i32_or0, nI_add]
      refine ih (r - 1) _ (nI (x + 1)) _ _ _ (by omega) ⟨x + 1, by omega, rfl, ?_, q2, W3⟩
      show set = nI (if _ then _ else _)
      rw [if_neg e]; exact g3
theorem c_trues (hn : 4000 ≤ n) (h : CI n c K ci cj cr v) (hB : CBK K cr) (hd : RDok c d) (hR : KD d ci) {y : Nat} (hy : v 0 = nI y) (hy9 : y ≤ 999) (a0 : Int32) :
    Wp (fX0_trues n a0 K ci cj cr) (fun q => q.1 = aTrues c d v y a0 ∧ QK K ci cj cr q.2.1 q.2.2.1 q.2.2.2) := by
  have hP := h.1.2.1
  unfold aTrues
  by_cases h1 : iv a0 (coP c)
  · obtain ⟨p, p1, p2⟩ := iv_ex h1 (by omega)
    subst p2
    rw [if_pos h1, nI_cl (by omega)]
    refine (sp0_trues hn h hB hd hR hy hy9 p1).mono ?_
    rintro q ⟨q1, q2, q3⟩
    exact ⟨q1, q2⟩
  · unfold fX0_trues
    rw [wp_jpb, e0_isPair h.2.2.1, wp_some]
    dsimp only
    rw [if_neg h1, if_pos z00, wp_some, if_neg h1]
    exact ⟨rfl, h.qk⟩
end
