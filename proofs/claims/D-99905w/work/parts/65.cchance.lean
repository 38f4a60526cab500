/-! CHANCE IN THE COMPONENT -/
set_option maxRecDepth 100000
section
variable {n : Nat} {c : jCo} {K : jK} {ci ci1 ci2 : jI} {cj cj1 cj2 : jJ} {cr cr1 cr2 : jR} {v w : jV8} {u : Nat} {U : Nat → jV8}
theorem CC.j0 (h : CC n c K ci cj cr) {k : Nat} {x : Int64} : CC n c K ci (ju cj 0 k x) cr :=
  h.fr rfl (Nat.le_refl _) (fun i i1 _ => ⟨rfl, rfl, rfl, ju_row _ _ (by unfold jRg at i1; omega), rfl⟩)
theorem StR_dr (hc : CR c) {s : Nat} {x : Int32} (hs : s < coS c) (h : StR c K ci cr 16 v) : StR c K (ju (ju ci (16 + 1) s x) (16 + 2) s (-1)) cr 16 (drV v s x) := by
  have hS := hc.2.2.1
  obtain ⟨⟨t1, t2, t3, t4⟩, f, h2, h3⟩ := h
  have e : ∀ k, k ≠ 2 + 2 * s → k ≠ 1 + 2 * s → drV v s x k = v k := fun k k1 k2 => by unfold drV; rw [if_neg k1, if_neg k2]
  refine ⟨⟨?_, fun q hq => ?_, fun b hb => ?_, fun q hq => ?_⟩, f, h2, ?_⟩
  · rw [ju_row _ _ (by decide), ju_row _ _ (by decide), e 0 (by omega) (by omega)]; exact t1
  · by_cases hq' : q = s
    · subst hq'
      rw [ju_row (x := 16 + 1) _ _ (by decide), ju_eq, ju_eq]; unfold drV
      exact ⟨by rw [if_neg (by omega), if_pos rfl], by rw [if_pos rfl]⟩
    · rw [ju_ne2 _ _ hq', ju_ne2 _ _ hq', ju_ne2 _ _ hq', ju_ne2 _ _ hq', e _ (by omega) (by omega), e _ (by omega) (by omega)]; exact t2 q hq
  · rw [ju_row _ _ (by decide), ju_row _ _ (by decide), ju_row _ _ (by decide), ju_row _ _ (by decide), ju_row _ _ (by decide), ju_row _ _ (by decide), e _ (by omega) (by omega), e _ (by omega) (by omega), e _ (by omega) (by omega)]; exact t3 b hb
  · rw [ju_row _ _ (by decide), ju_row _ _ (by decide), ju_row _ _ (by decide), ju_row _ _ (by decide), e _ (by omega) (by omega), e _ (by omega) (by omega)]; exact t4 q hq
  · obtain ⟨m, m1, m2, m3, m4⟩ := h3
    refine ⟨m, m1, by rw [e 45 (by omega) (by omega)]; exact m2, by rw [ju_row _ _ (by decide), ju_row _ _ (by decide)]; exact m3, fun k i hk' hi' => ?_⟩
    obtain ⟨-, -, -, -, r5, r6⟩ := h2.1 k (by omega)
    rw [ju_row _ _ (by omega), ju_row _ _ (by omega), e _ (by omega) (by omega)]
    exact m4 k i hk' hi'
theorem c_chance {dS : Int64 → Int64} {dA : Int64 → Int32 → Int32} (hD : DR dS dA) (hn : 4000 ≤ n) (h : CI n c K ci cj cr v) (hk : CK c K ci cr u U) (hk4 : rg (v 45) 40) (hx : sdR (cj 0 19)) (a0 : Int32) : Wp (fX0_chance n a0 K ci cj cr) (fun q => (¬ iah (v 0) a0 1 100 → q = (-1, ju ci 15 3 (ci 15 3 + nI 1), cj, cr)) ∧
    (iah (v 0) a0 1 100 → q.1 = (chN dS dA c v (cj 0 19) a0.toNatClampNeg).2.2 ∧ CI n c K q.2.1 q.2.2.1 q.2.2.2 (chN dS dA c v (cj 0 19) a0.toNatClampNeg).1 ∧ q.2.2.1 0 19 = (chN dS dA c v (cj 0 19) a0.toNatClampNeg).2.1 ∧ CK c K q.2.1 q.2.2.2 (pU u) (pV u U v) ∧ FB ci cj cr q.2.1 q.2.2.1 q.2.2.2)) := by
  have hv := h.2.2.2.2.1
  have hc := h.1
  have hS := hc.2.2.1
  have hW := hc.2.2.2.1
  unfold fX0_chance
  rw [wp_jpb, e0_isAhead, wp_some, h.y0]
  dsimp only
  by_cases h1 : iah (v 0) a0 1 100
  rotate_left
  · rw [if_neg h1, if_pos z00, wp_jpb, e0_refuses (by omega), wp_some, wp_some]
    exact ⟨fun _ => rfl, fun z => absurd z h1⟩
  rw [if_pos h1, if_neg n10]
  obtain ⟨m, m1, m2, m3, z, z1, z2⟩ := iah_ex hv.1 (by omega) (by omega) (by omega) h1
  subst m3
  rw [nI_cl (by omega), wp_jpb]
  have hvz : VR c v z := ⟨⟨z, Nat.le_refl _, z2⟩, hv.2⟩
  refine (sp0_remembers hn h hk).mono ?_
  rintro ⟨x, ci1, cj1, cr1⟩ ⟨q1, q2⟩
  dsimp only at q1 q2 ⊢
  have h' := FA.ciI h q2
  have e3 : cj1 = cj := q2.2.2.1
  subst e3
  obtain ⟨x0, hx0⟩ : ∃ x0, x0 = cj1 0 19 := ⟨_, rfl⟩
  rw [← hx0] at hx ⊢
  refine Wp.loop5 (fun k (a0 a1 : Int32) (a2 : jI) (a3 : jJ) (a4 : jR) => fX0_chance_25 n k (nI m) a0 a1 K a2 a3 a4) (fun r x => ∃ i, i + r = m ∧ x.2.1 = nI i ∧ x.1 = (chN dS dA c v x0 i).2.2 ∧ StR c K x.2.2.1 x.2.2.2.2 16 (chN dS dA c v x0 i).1 ∧ x.2.2.2.1 0 19 = (chN dS dA c v x0 i).2.1 ∧ jCW K x.2.2.2.2 ∧ CC n c K x.2.2.1 x.2.2.2.1 x.2.2.2.2 ∧ (∃ f, RW K x.2.2.2.2 68 f) ∧ CK c K x.2.2.1 x.2.2.2.2 (pU u) (pV u U v) ∧ FB ci cj1 cr x.2.2.1 x.2.2.2.1 x.2.2.2.2) _ ?_ n m (nI 0) (nI 0) ci1 cj1 cr1 (by omega) ⟨0, by omega, rfl, rfl, h'.2.2.2.1, hx0.symm, h'.2.1, h'.2.2.1, h'.2.2.2.2.2, q1, q2.fb⟩
  rintro k r y l ci2 cj2 cr2 ⟨i, g1, g2, g3, g4, g5, g6, g7, g8, g9, g10⟩ ih
  dsimp only at g2 g3 g4 g5 g6 g7 g8 g9 g10
  subst g2
  rw [fX0_chance_25.eq_2]
  obtain ⟨o1, o2, o3⟩ := chN_ok hD hc hvz hk4 hx i
  by_cases hi : m ≤ i
  · have : i = m := by omega
    subst this
    rw [if_pos (nI_le hi (by omega)), wp_some]
    exact ⟨fun z => absurd h1 z, fun _ => ⟨g3, ⟨hc, g6, g7, g4, o1.le (by omega), g8⟩, g5, g9, g10⟩⟩
  rw [if_neg (nI_ge (by omega) (by omega)), wp_jpb, hD.2.2.2 _ _ _ _ _ _ (by omega) (by omega), wp_some]
  dsimp only
  have st : chN dS dA c v x0 (i + 1) = chS dS dA c (chN dS dA c v x0 i) := rfl
  generalize chN dS dA c v x0 i = s at g3 g4 g5 o1 o2 o3 st
  have jf : ∀ {a : jI} {b : jJ} {d : jR} (y : Int64), FB ci cj1 cr a b d → FB ci cj1 cr a (ju b 0 19 y) d := fun y hb => ⟨hb.1, hb.2.1, fun i i1 i2 => by rw [ju_row _ _ i2]; exact hb.2.2.1 i i1 i2, hb.2.2.2⟩
  have go : ∀ (y' : Int32) (ci3 : jI) (cj3 : jJ) (w : jV8), (goF c w, cj3 0 19, y') = chS dS dA c s → StR c K ci3 cr2 16 w → VR c w (z + i) → CC n c K ci3 cj3 cr2 → CK c K ci3 cr2 (pU u) (pV u U v) → FB ci cj1 cr ci3 cj3 cr2 → Wp (fX0_chance_82 n (fX0_chance_25 n k) (nI m) y' (nI i) K ci3 cj3 cr2) (fun q => (¬ iah (v 0) (nI m) 1 100 → q = (-1, ju ci 15 3 (ci 15 3 + nI 1), cj1, cr)) ∧
    (iah (v 0) (nI m) 1 100 → q.1 = (chN dS dA c v x0 m).2.2 ∧ CI n c K q.2.1 q.2.2.1 q.2.2.2 (chN dS dA c v x0 m).1 ∧ q.2.2.1 0 19 = (chN dS dA c v x0 m).2.1 ∧ CK c K q.2.1 q.2.2.2 (pU u) (pV u U v) ∧ FB ci cj1 cr q.2.1 q.2.2.1 q.2.2.2)) := by
    intro y' ci3 cj3 w e1 e2 e3 e4 e5 e6
    unfold fX0_chance_82
    rw [wp_jpb]
    refine (sp0_yearN (Y := z + i) hn hc g6 e4 e2 e3 g8 e5).mono ?_
    rintro ⟨_, ci4, cj4, cr4⟩ ⟨y1, y2, y3, y4, y5, y6, y7⟩
    dsimp only at y1 y2 y3 y4 y5 y6 y7 ⊢
    rw [nI_add]
    refine ih (r - 1) y' (nI (i + 1)) _ _ _ (by omega) ⟨i + 1, by omega, rfl, ?_, ?_, ?_, y3, y4, y5, y6, e6.tr y7.fb⟩
    · dsimp only; rw [st, ← e1]
    · dsimp only; rw [st, ← e1]; exact y2
    · dsimp only; rw [st, ← e1, y7.2.1 0 (by decide)]
  have g7' := g7
  obtain ⟨r0, lb, lp, ls, fb, fp, fs, w1, w2, w3, w4, w5, w6⟩ := g7'
  rw [wp_bind, w1, wp_some]
  rw [if_pos ⟨w2, w3⟩]
  simp only [w5, g5]
  by_cases hst : nI (coW c) ≤ dA s.2.1 (nI 100)
  · rw [if_pos hst]
    refine go y ci2 _ s.1 ?_ g4 o1 g7.j0 g9 (jf _ g10)
    unfold chS
    rw [if_pos (Or.inl hst), ju_eq, g3]
  rw [if_neg hst, wp_jpb, e0_shoals g7.j0, wp_some]
  dsimp only
  by_cases hS0 : coS c = 0
  · rw [if_pos (show nI (coS c) ≤ 0 by rw [hS0]; decide)]
    refine go y ci2 _ s.1 ?_ g4 o1 g7.j0 g9 (jf _ g10)
    unfold chS
    rw [if_pos (Or.inr hS0), ju_eq, g3]
  rw [if_neg (nI_nle (by omega) (by omega)), wp_jpb, e0_shoals g7.j0, wp_some]
  dsimp only
  rw [wp_jpb, hD.2.2.2 _ _ _ _ _ _ (by omega) (by omega), wp_some]
  dsimp only
  rw [wp_jpb, hD.2.2.2 _ _ _ _ _ _ (by omega) (by omega), wp_some]
  dsimp only
  simp only [ju_eq]
  obtain ⟨j, j1, j2⟩ := hD.2.1 _ _ (hD.1 _ o3) (Nat.pos_of_ne_zero hS0) (by omega)
  obtain ⟨t, t1, t2⟩ := hD.2.1 _ 100 (hD.1 _ (hD.1 _ o3)) (by omega) (by omega)
  rw [j2, t2]
  unfold fX0_drives
  rw [wp_jpb, if_pos is16, if_pos (by rw [jok_t (by omega) (by omega)]; trivial), if_pos (by rw [jok_t (by omega) (by omega)]; trivial), nI_cl (by omega), wp_some]
  dsimp only
  refine go (y + nI 1) _ _ (drV s.1 j (nI t)) ?_ (StR_dr hc j1 g4) (VR_dr hc o1 ⟨t, by omega, rfl⟩ j1) ?_ (g9.fr (by rw [ju_row _ _ (by decide), ju_row _ _ (by decide)]) (fun i i1 i2 => by rw [ju_row _ _ (by omega), ju_row _ _ (by omega)]) (fun _ _ _ => rfl)) (((jf _ (jf _ (jf _ g10))).up (by omega) (by omega)).up (by omega) (by omega))
  · unfold chS
    rw [if_neg (show ¬ (nI (coW c) ≤ dA s.2.1 (nI 100) ∨ coS c = 0) from fun z => z.elim hst hS0), ju_eq, j2, t2, nI_cl (by omega), g3]
  · exact (CC.j0 (CC.j0 (CC.j0 g7))).fr rfl (Nat.le_refl _) (fun i i1 _ => ⟨rfl, rfl, by rw [ju_row _ _ (by unfold jRg at i1; omega), ju_row _ _ (by unfold jRg at i1; omega)], rfl, rfl⟩)
end
