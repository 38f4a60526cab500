/-! STEADY IN THE COMPONENT -/
set_option maxRecDepth 100000
section
variable {n : Nat} {c : jCo} {K : jK} {ci ci1 ci2 : jI} {cj cj1 cj2 : jJ} {cr cr1 cr2 : jR} {v w : jV8}
theorem QK.fs (h : QK K ci cj cr ci1 cj1 cr1) (g : FS 68 ci1 cj1 cr1 ci2 cj2 cr2) (r : ∃ f, RW K cr2 68 f) : QK K ci cj cr ci2 cj2 cr2 :=
  ⟨fun i i1 i2 => (g.1 i (by omega)).trans (h.1 i i1 i2), h.2.1.tr g.2.1, fun i hi => (g.2.2 i hi).trans (h.2.2.1 i hi), r⟩
theorem QK.up {i k : Nat} {x : Int32} (h : QK K ci cj cr ci1 cj1 cr1) (hi : (121 ≤ i ∧ i < 181) ∨ (185 ≤ i ∧ i < 505) ∨ (68 ≤ i ∧ i < 120)) : QK K ci cj cr (ju ci1 i k x) cj1 cr1 :=
  ⟨fun j j1 j2 => by rw [ju_row _ _ (by omega)]; exact h.1 j j1 j2, h.2.1, h.2.2.1, h.2.2.2⟩
theorem CC.qk (h : CC n c K ci cj cr) (g : QK K ci cj cr ci1 cj1 cr1) : CC n c K ci1 cj1 cr1 :=
  h.fr (by rw [g.2.2.1 0 (by omega)]) (Nat.le_refl _) (fun i hi _ => ⟨rfl, rfl, g.1 i (by omega) (by omega), g.2.1 i (by omega), g.2.2.1 i (by omega)⟩)
theorem jCW.qk (h : jCW K cr) (g : QK K ci cj cr ci1 cj1 cr1) : jCW K cr1 := by
  refine h.cr' (fun a ha k => ?_)
  rw [g.2.2.1 a (fun e => ?_)]
  have hk : K.1 79 = 106 := sk11 h is68
  rw [e, hk] at ha
  omega
theorem StR.qk (h : StR c K ci cr 16 v) (g : QK K ci cj cr ci1 cj1 cr1) : StR c K ci1 cr1 16 v := by
  obtain ⟨h1, f, h2, h3⟩ := h
  have hr : cr1 (16 + 11) = cr (16 + 11) := g.2.2.1 _ (by decide)
  exact ⟨h1.fr (fun i i1 i2 _ i4 _ => g.1 i (by omega) (by omega)), f, h2.fs hr, h3.fr h2 (by rw [g.1 16 (by omega) (by omega)]) (fun i i1 i2 => g.1 i (by omega) (by omega))⟩
theorem CI.qk' (h : CI n c K ci cj cr v) (g : QK K ci cj cr ci1 cj1 cr1) : CI n c K ci1 cj1 cr1 v :=
  ⟨h.1, h.2.1.qk g, h.2.2.1.qk g, h.2.2.2.1.qk g, h.2.2.2.2.1, g.2.2.2⟩
theorem CBK.qk (h : CBK K cr) (g : QK K ci cj cr ci1 cj1 cr1) : CBK K cr1 := by
  refine ⟨fun j hj => ?_, fun i hi => ?_⟩
  · rw [g.2.2.1 120 (by decide)]; exact h.1 j hj
  · obtain ⟨a1, a2, a3, a4, a5⟩ := h.2 i hi
    rw [g.2.2.1 184 (by decide), g.2.2.1 (185 + i * 32) (by omega)]
    exact ⟨a1, a2, a3, a4, a5⟩
theorem QK.tr (h : QK K ci cj cr ci1 cj1 cr1) (g : QK K ci1 cj1 cr1 ci2 cj2 cr2) : QK K ci cj cr ci2 cj2 cr2 :=
  ⟨fun i i1 i2 => (g.1 i i1 i2).trans (h.1 i i1 i2), h.2.1.tr g.2.1, fun i hi => (g.2.2.1 i hi).trans (h.2.2.1 i hi), g.2.2.2⟩
theorem sp_goesQ {Y : Nat} (hn : 4000 ≤ n) (h : CI n c K ci cj cr v) (hQ : QK K ci cj cr ci1 cj1 cr1) (hT : StR c K ci1 cr1 68 w) (hw : VR c w Y) :
    Wp (fX5_goes n 68 K ci1 cj1 cr1) (fun q => q.1 = cms c w ∧ StR c K q.2.1 q.2.2.2 68 (goF c w) ∧ FS 68 ci1 cj1 cr1 q.2.1 q.2.2.1 q.2.2.2 ∧ QK K ci cj cr q.2.1 q.2.2.1 q.2.2.2) := by
  refine (sp_goes hn h.1 (h.2.1.qk hQ) (h.2.2.1.qk hQ) is68 hT hw).mono ?_
  rintro ⟨x, ci2, cj2, cr2⟩ ⟨q1, q2, q3⟩
  dsimp only at q1 q2 q3
  obtain ⟨s1, f, s2, s3⟩ := q2
  exact ⟨q1, ⟨s1, f, s2, s3⟩, q3, hQ.fs q3 ⟨f, s2⟩⟩
theorem sp_triesQ (hn : 4000 ≤ n) (h : CI n c K ci cj cr v) (hQ : QK K ci cj cr ci1 cj1 cr1) :
    Wp (fX5_copy n 68 16 K ci1 cj1 cr1) (fun q => q.1 = 68 ∧ StR c K q.2.1 q.2.2.2 68 v ∧ FS 68 ci1 cj1 cr1 q.2.1 q.2.2.1 q.2.2.2 ∧ QK K ci cj cr q.2.1 q.2.2.1 q.2.2.2) := by
  have h' := h.qk' hQ
  refine (h'.tries hn).mono ?_
  rintro ⟨x, ci2, cj2, cr2⟩ ⟨q1, q2, q3⟩
  dsimp only at q1 q2 q3
  obtain ⟨s1, f, s2, s3⟩ := q2
  exact ⟨q1, ⟨s1, f, s2, s3⟩, q3, hQ.fs q3 ⟨f, s2⟩⟩
theorem sp0_isSteadyFrom (hn : 4000 ≤ n) (hc : CR c) (h : CC n c K ci cj cr) (hB : CBK K cr) {A : Nat → Nat → Int32} {m H : Nat} (hH : H ≤ 60) (hA : ∀ k s, k < H → s < coS c → ci (121 + k) s = A k s) (hmH : m + 5 ≤ H) :
    Wp (fX0_isSteadyFrom n (nI m) K ci cj cr) (fun q => ((q.1 = nI 1 ∧ stP A (coS c) m) ∨ (q.1 = nI 0 ∧ ¬ stP A (coS c) m)) ∧ q.2 = (ci, cj, cr)) := by
  have hS := hc.2.2.1
  unfold fX0_isSteadyFrom
  rw [nI_add]
  refine Wp.loop2 (fun k (a0 : Int32) (_ : Unit) => fX0_isSteadyFrom_4 n k (nI m) a0 K ci cj cr) (fun r b => ∃ j, j + r = 5 ∧ 1 ≤ j ∧ b.1 = nI (m + j) ∧ ∀ j' s', 1 ≤ j' → j' < j → s' < coS c → A (m + j') s' = A m s') _ ?_ n 4 (nI (m + 1)) () (by omega) ⟨1, by omega, by omega, rfl, fun j' s' _ _ => by omega⟩
  rintro k r l ⟨⟩ ⟨j, g1, g1', g2, g3⟩ ih
  dsimp only at g2 g3
  subst g2
  rw [fX0_isSteadyFrom_4.eq_2, nI_add]
  by_cases hj : 5 ≤ j
  · rw [if_pos (nI_le (by omega) (by omega)), wp_some]
    exact ⟨Or.inl ⟨rfl, fun j' s' j1 j2 j3 => g3 j' s' j1 (by omega) j3⟩, rfl⟩
  · rw [if_neg (nI_ge (by omega) (by omega))]
    refine Wp.loop2 (fun k' (a0 : Int32) (_ : Unit) => fX0_isSteadyFrom_13 n (fX0_isSteadyFrom_4 n k) k' (nI m) (nI (m + j)) a0 K ci cj cr) (fun r b => ∃ s, s + r = coS c ∧ b.1 = nI s ∧ ∀ s', s' < s → A (m + j) s' = A m s') _ ?_ n (coS c) (nI 0) () (by omega) ⟨0, by omega, rfl, fun s' h => absurd h (Nat.not_lt_zero _)⟩
    rintro k' r' l ⟨⟩ ⟨s, w1, w3, w4⟩ ih2
    dsimp only at w3 w4
    subst w3
    rw [fX0_isSteadyFrom_13.eq_2, wp_jpb, e0_shoals h, wp_some]
    dsimp only
    by_cases hs : coS c ≤ s
    · rw [if_pos (nI_le hs (by omega)), nI_add]
      refine ih (r - 1) (nI (m + j + 1)) () (by omega) ⟨j + 1, by omega, by omega, rfl, fun j' s' j1 j2 j3 => ?_⟩
      by_cases e : j' = j
      · subst e; exact w4 s' (by omega)
      · exact g3 j' s' j1 (by omega) j3
    · rw [if_neg (nI_ge (by omega) (by omega))]
      obtain ⟨b1, b2, b3, b4⟩ := hB.1 (m + j) (by omega)
      obtain ⟨d1, d2, d3, d4⟩ := hB.1 m (by omega)
      have x1 := hA (m + j) s (by omega) (by omega)
      have x2 := hA m s (by omega) (by omega)
      simp (disch := omega) only [nI_add, nI_cl, jok_t, if_true, b1, b2, b3, b4, d1, d2, d3, d4, Option.bind_some, and_self, x1, x2]
      by_cases e : A (m + j) s = A m s
      · rw [if_pos e]
        refine ih2 (r' - 1) (nI (s + 1)) () (by omega) ⟨s + 1, by omega, rfl, fun s' h' => ?_⟩
        by_cases e2 : s' = s
        · subst e2; exact e
        · exact w4 s' (by omega)
      · rw [if_neg e, wp_some]
        exact ⟨Or.inr ⟨rfl, fun z => e (z j s (by omega) (by omega) (by omega))⟩, rfl⟩
theorem c_steady (hn : 4000 ≤ n) (h : CI n c K ci cj cr v) (hB : CBK K cr) {y : Nat} (hy : v 0 = nI y) (hy9 : y ≤ 999) : Wp (fX0_steady n K ci cj cr) (fun q => isSy (atY c v) (coS c) (min 60 (999 - y)) q.1 ∧ QK K ci cj cr q.2.1 q.2.2.1 q.2.2.2) := by
  have hc := h.1
  have hS := hc.2.2.1
  have hv := h.2.2.2.2.1
  unfold fX0_steady
  rw [wp_jpb]
  refine (sp_triesQ hn h h.qk).mono ?_
  rintro ⟨x, ci1, cj1, cr1⟩ ⟨q1, q2, -, q3⟩
  dsimp only at q1 q2 q3 ⊢
  generalize hH : min 60 (999 - y) = H
  refine Wp.loop4 (fun k (a0 : Int32) (a1 : jI) (a2 : jJ) (a3 : jR) => fX0_steady_14 n k a0 K a1 a2 a3) (fun r b => ∃ i, i + r = H ∧ b.1 = nI i ∧ StR c K b.2.1 b.2.2.2 68 (goFN c v i) ∧ QK K ci cj cr b.2.1 b.2.2.1 b.2.2.2 ∧ (∀ k s, k < i → s < coS c → b.2.1 (121 + k) s = atY c v k s) ∧ ∀ m, m + 5 ≤ i → ¬ stP (atY c v) (coS c) m) _ ?_ n H (nI 0) ci1 cj1 cr1 (by omega) ⟨0, by omega, rfl, q2, q3, fun k s h => absurd h (Nat.not_lt_zero _), fun m h => by omega⟩
  rintro k r l ci2 cj2 cr2 ⟨i, g1, g2, g3, g4, g5, g6⟩ ih
  dsimp only at g2 g3 g4 g5 g6
  subst g2
  have h2 := h.qk' g4
  rw [fX0_steady_14.eq_2, nI_add, wp_jpb, e0_isAhead, wp_some, h2.y0, hy]
  dsimp only
  by_cases hi : H ≤ i
  · have hne : ¬ iah (nI y) (nI (i + 1)) 1 60 := by
      rintro ⟨-, a2, a3⟩
      rw [nI_leN (by omega) (by omega)] at a2
      rw [nI_add, nI_leN (by omega) (by omega)] at a3
      omega
    rw [if_neg hne, if_pos z00, wp_some]
    exact ⟨Or.inr ⟨rfl, fun m hm => g6 m (by omega)⟩, g4⟩
  · have hpo : iah (nI y) (nI (i + 1)) 1 60 := ⟨nI_le (by omega) (by omega), nI_le (by omega) (by omega), by rw [nI_add]; exact nI_le (by omega) (by omega)⟩
    rw [if_pos hpo, if_neg n10, wp_jpb]
    refine (sp_goesQ hn h g4 g3 (VR_goFN hc hv i)).mono ?_
    rintro ⟨x, ci3, cj3, cr3⟩ ⟨p1, p2, p3, p4⟩
    dsimp only at p1 p2 p3 p4 ⊢
    have hB3 := hB.qk p4
    obtain ⟨b1, b2, b3, b4⟩ := hB3.1 i (by omega)
    refine Wp.loop2 (fun k' (a0 : Int32) (a1 : jI) => fX0_steady_37 n (fX0_steady_14 n k) k' (nI i) a0 K a1 cj3 cr3) (fun r b => ∃ s, s + r = coS c ∧ b.1 = nI s ∧ (∀ s', s' < s → b.2 (121 + i) s' = atY c v i s') ∧ ∀ j, j ≠ 121 + i → b.2 j = ci3 j) _ ?_ n (coS c) (nI 0) ci3 (by omega) ⟨0, by omega, rfl, fun s' h => absurd h (Nat.not_lt_zero _), fun _ _ => rfl⟩
    rintro k' r' l ci4 ⟨s, w1, w2, w3, w4⟩ ih2
    dsimp only at w2 w3 w4
    subst w2
    have Q4 : QK K ci cj cr ci4 cj3 cr3 := ⟨fun j j1 j2 => by rw [w4 j (by omega)]; exact p4.1 j j1 j2, p4.2.1, p4.2.2.1, p4.2.2.2⟩
    have h4 := h.qk' Q4
    have hA : ∀ k s', k < i → s' < coS c → ci4 (121 + k) s' = atY c v k s' := fun k s' hk hs' => by
      rw [w4 _ (by omega), p3.1 _ (by omega)]; exact g5 k s' hk hs'
    have S4 : StR c K ci4 cr3 68 (goFN c v (i + 1)) := by
      obtain ⟨s1, f, s2, s3⟩ := p2
      exact ⟨s1.fr (fun j j1 j2 _ _ _ => w4 j (by omega)), f, s2, s3.fr s2 (by rw [w4 68 (by omega)]) (fun j j1 j2 => w4 j (by omega))⟩
    rw [fX0_steady_37.eq_2, wp_jpb, e0_shoals h4.2.2.1, wp_some]
    dsimp only
    by_cases hs : coS c ≤ s
    · rw [if_pos (nI_le hs (by omega)), nI_add]
      have hA' : ∀ k s', k < i + 1 → s' < coS c → ci4 (121 + k) s' = atY c v k s' := fun k s' hk hs' => by
        by_cases e : k = i
        · subst e; exact w3 s' (by omega)
        · exact hA k s' (by omega) hs'
      unfold fX0_steady_93
      have go : (∀ m, m + 5 ≤ i + 1 → ¬ stP (atY c v) (coS c) m) → Wp (fX0_steady_14 n k (nI i + nI 1) K ci4 cj3 cr3) (fun q => isSy (atY c v) (coS c) H q.1 ∧ QK K ci cj cr q.2.1 q.2.2.1 q.2.2.2) := by
        intro hm
        rw [nI_add]
        exact ih (r - 1) (nI (i + 1)) _ _ _ (by omega) ⟨i + 1, by omega, rfl, S4, Q4, hA', hm⟩
      by_cases h5 : i + 1 < 5
      · rw [if_pos (nI_lt h5 (by omega))]
        exact go (fun m hm => by omega)
      · rw [if_neg (nI_nlt (by omega) (by omega)), nI_subN (by omega), wp_jpb]
        refine (sp0_isSteadyFrom (H := i + 1) (m := i + 1 - 5) hn hc h4.2.2.1 (hB.qk Q4) (by omega) hA' (by omega)).mono ?_
        rintro ⟨x, y2⟩ ⟨e1, e2⟩
        dsimp only at e1 e2 ⊢
        subst e2
        rcases e1 with ⟨e, p⟩ | ⟨e, p⟩
        · rw [e, if_neg n10, wp_some]
          exact ⟨Or.inl ⟨i + 1 - 5, rfl, by omega, p, fun m' hm' => g6 m' (by omega)⟩, Q4⟩
        · rw [e, if_pos z00]
          refine go (fun m hm => ?_)
          by_cases e3 : m = i + 1 - 5
          · subst e3; exact p
          · exact g6 m (by omega)
    · rw [if_neg (nI_ge (by omega) (by omega))]
      have e70 : ci4 (68 + 2) s = atY c v i s := by
        refine ((S4.1.2.1 s (by omega)).2).trans ?_
        exact goFN_45 hc v (i + 1) _ (by omega)
      simp (disch := omega) only [nI_add, nI_cl, jok_t, if_true, b1, b2, b3, b4, Option.bind_some, and_self, e70]
      refine ih2 (r' - 1) (nI (s + 1)) _ (by omega) ⟨s + 1, by omega, rfl, fun s' hs' => ?_, fun j hj => ?_⟩
      · show ju ci4 (121 + i) s _ (121 + i) _ = _
        by_cases e : s' = s
        · subst e; exact ju_eq _ _ _ _
        · rw [ju_ne2 _ _ e]; exact w3 s' (by omega)
      · show ju ci4 (121 + i) s _ j = _
        rw [ju_row _ _ hj]; exact w4 j hj
end
