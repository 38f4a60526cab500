/-! SIT, GIVE, YEARS, SEED IN THE COMPONENT -/
set_option maxRecDepth 100000
section
variable {n : Nat} {c : jCo} {K : jK} {ci ci1 ci2 : jI} {cj cj1 cj2 : jJ} {cr cr1 cr2 : jR} {v w : jV8} {u : Nat} {U : Nat → jV8}
/-- what an act of the component may write, in all -/
def FB (ci : jI) (cj : jJ) (cr : jR) (ci' : jI) (cj' : jJ) (cr' : jR) : Prop := (∀ i, i ≠ 0 → i < 16 ∨ (68 ≤ i ∧ i < 506) ∨ 1546 ≤ i → ci' i = ci i) ∧ (∀ k, k ≠ 18 → ci' 0 k = ci 0 k) ∧ (∀ i, i ≠ 12 → i ≠ 0 → cj' i = cj i) ∧ ∀ i, i ≠ 27 → i ≠ 505 → cr' i = cr i
theorem FA.fb (h : FA ci cj cr ci1 cj1 cr1) : FB ci cj cr ci1 cj1 cr1 := ⟨fun i i1 i2 => h.1 i i1 (by omega), h.2.1, fun i _ _ => by rw [h.2.2.1], fun i _ i2 => h.2.2.2 i i2⟩
theorem FB.up {i k : Nat} {x : Int32} (h : FB ci cj cr ci1 cj1 cr1) (h1 : 16 ≤ i) (h2 : i < 68) : FB ci cj cr (ju ci1 i k x) cj1 cr1 :=
  ⟨fun j j1 j2 => by rw [ju_row _ _ (by omega)]; exact h.1 j j1 j2, fun k hk => by rw [ju_row _ _ (by omega)]; exact h.2.1 k hk, h.2.2⟩
theorem FB.tr (h : FB ci cj cr ci1 cj1 cr1) (g : FB ci1 cj1 cr1 ci2 cj2 cr2) : FB ci cj cr ci2 cj2 cr2 :=
  ⟨fun i i1 i2 => (g.1 i i1 i2).trans (h.1 i i1 i2), fun k hk => (g.2.1 k hk).trans (h.2.1 k hk), fun i i1 i2 => (g.2.2.1 i i1 i2).trans (h.2.2.1 i i1 i2), fun i i1 i2 => (g.2.2.2 i i1 i2).trans (h.2.2.2 i i1 i2)⟩
theorem FS.fb (g : FS 16 ci1 cj1 cr1 ci2 cj2 cr2) : FB ci1 cj1 cr1 ci2 cj2 cr2 :=
  ⟨fun i i1 i2 => g.1 i (by omega), fun k _ => by rw [g.1 0 (by omega)], fun i i1 _ => g.2.1 i i1, fun i i1 _ => g.2.2 i i1⟩
theorem CK.fr (h : CK c K ci cr u U) (h0 : ci1 0 18 = ci 0 18) (hi : ∀ i, 506 ≤ i → i < 1546 → ci1 i = ci i) (hr : ∀ i, 505 ≤ i → i < 1546 → cr1 i = cr i) : CK c K ci1 cr1 u U := by
  obtain ⟨u20, h1, g, k1, k2, k3⟩ := h
  refine ⟨u20, h0.trans h1, g, fun k hk => ?_, k2, fun k hk => ?_⟩
  · obtain ⟨e1, e2, e3, f, e4⟩ := k1 k hk
    have := st_rg e2
    exact ⟨by rw [hr 505 (by omega) (by omega)]; exact e1, e2, e3, f, e4.fs (hr _ (by omega) (by omega))⟩
  · obtain ⟨e1, e2, e3, -⟩ := k1 k (by omega)
    have := st_rg e2
    obtain ⟨z1, f', z2, z3⟩ := k3 k hk
    exact ⟨z1.fr (fun i i1 i2 _ _ _ => hi i (by omega) (by omega)), f', z2.fs (hr _ (by omega) (by omega)), z3.fr z2 (by rw [hi _ (by omega) (by omega)]) (fun i i1 i2 => hi i (by omega) (by omega))⟩
theorem FA.ciI (h : CI n c K ci cj cr v) (g : FA ci cj cr ci1 cj1 cr1) : CI n c K ci1 cj1 cr1 v :=
  h.fr (fun i hi => g.1 i (by unfold jRg at hi; omega) (by unfold jRg at hi; omega)) (fun i _ => by rw [g.2.2.1]) (fun i hi => g.2.2.2 i hi)
/-- the state at 16 is written by hand -/
theorem CI.st (h : CI n c K ci cj cr v) (hi : ∀ i, i < 16 ∨ 68 ≤ i → ci1 i = ci i) (hs : SR c ci1 16 w) (hk : ∀ i, 28 ≤ i → i < 68 → ci1 i = ci i) (h1 : ci1 16 1 = ci 16 1) (hw : ∀ k, 45 ≤ k → w k = v k) (hv : VR c w 999) : CI n c K ci1 cj cr w := by
  obtain ⟨h1', h2, h3, ⟨s1, f, s2, s3⟩, h5, h6⟩ := h
  refine ⟨h1', h2, h3.fr rfl (Nat.le_refl _) (fun i i1 _ => ⟨rfl, rfl, hi i (by unfold jRg at i1; omega), rfl, rfl⟩), ⟨hs, f, s2, ?_⟩, hv, h6⟩
  obtain ⟨m, m1, m2, m3, m4⟩ := s3
  refine ⟨m, m1, by rw [hw 45 (by omega)]; exact m2, h1.trans m3, fun k i hk' hi' => ?_⟩
  obtain ⟨-, -, -, -, r5, r6⟩ := s2.1 k (by omega)
  rw [hw _ (by omega), hk _ (by omega) (by omega)]
  exact m4 k i hk' hi'
theorem e0_refuses {k : Nat} (hk : k < 6) : fX0_refuses n (nI k) K ci cj cr = some (-1, ju ci 15 k (ci 15 k + nI 1), cj, cr) := by
  unfold fX0_refuses
  rw [if_pos (by rw [jok_t (by omega) (by omega)]; trivial), if_pos (by rw [jok_t (by omega) (by omega)]; trivial), nI_cl (by omega)]
theorem m1_neg : (-1 : Int32) < 0 := by decide
theorem c_sit (hn : 4000 ≤ n) (h : CI n c K ci cj cr v) (hk : CK c K ci cr u U) (a0 a1 : Int32) : Wp (fX0_sit n a0 a1 K ci cj cr) (fun q => (¬ okSit c v a0 a1 → q = (nI 0, ju ci 15 2 (ci 15 2 + nI 1), cj, cr)) ∧
    (okSit c v a0 a1 → q.1 = nI 1 ∧ CI n c K q.2.1 q.2.2.1 q.2.2.2 (sitV v a0.toNatClampNeg a1) ∧ CK c K q.2.1 q.2.2.2 (pU u) (pV u U v) ∧ FB ci cj cr q.2.1 q.2.2.1 q.2.2.2 ∧ q.2.2.1 = cj)) := by
  have hc := h.1
  have hP := hc.2.1
  have hs := h.2.2.2.1.1
  have hcc := h.2.2.1
  have no : ∀ (hh : ¬ okSit c v a0 a1), Wp (fX0_sit_47 n K ci cj cr) (fun q => (¬ okSit c v a0 a1 → q = (nI 0, ju ci 15 2 (ci 15 2 + nI 1), cj, cr)) ∧
    (okSit c v a0 a1 → q.1 = nI 1 ∧ CI n c K q.2.1 q.2.2.1 q.2.2.2 (sitV v a0.toNatClampNeg a1) ∧ CK c K q.2.1 q.2.2.2 (pU u) (pV u U v) ∧ FB ci cj cr q.2.1 q.2.2.1 q.2.2.2 ∧ q.2.2.1 = cj)) := by
    intro hh
    unfold fX0_sit_47 fX0_sit_60
    rw [wp_jpb, e0_refuses (by omega), wp_some]
    dsimp only
    rw [if_pos m1_neg, if_pos bt0, wp_some]
    exact ⟨fun _ => rfl, fun z => absurd z hh⟩
  unfold fX0_sit
  rw [wp_jpb, e0_isPair hcc, wp_some]
  dsimp only
  by_cases h1 : iv a0 (coP c)
  rotate_left
  · rw [if_neg h1, if_pos z00]; exact no (fun z => h1 z.1)
  rw [if_pos h1, if_neg n10, wp_jpb, e0_is, wp_some]
  dsimp only
  by_cases h2 : nI 0 ≤ a1 ∧ a1 ≤ nI 9
  rotate_left
  · rw [if_neg h2, if_pos z00]; exact no (fun z => h2 z.2.1)
  rw [if_pos h2, if_neg n10]
  obtain ⟨p, p1, p2⟩ := iv_ex h1 (by omega)
  subst p2
  have cp : (nI p).toNatClampNeg = p := nI_cl (by omega)
  obtain ⟨s1, s2⟩ := hs.2.2.2 p p1
  have s1' : ci 24 p = v (25 + 2 * p) := s1
  have s2' : ci 26 p = v (26 + 2 * p) := s2
  simp (disch := omega) only [jok_t, if_true, nI_cl, s1', s2']
  have yes : ∀ (hh : okSit c v (nI p) a1), Wp (fX0_sit_61 n (nI p) a1 K ci cj cr) (fun q => (¬ okSit c v (nI p) a1 → q = (nI 0, ju ci 15 2 (ci 15 2 + nI 1), cj, cr)) ∧
    (okSit c v (nI p) a1 → q.1 = nI 1 ∧ CI n c K q.2.1 q.2.2.1 q.2.2.2 (sitV v p a1) ∧ CK c K q.2.1 q.2.2.2 (pU u) (pV u U v) ∧ FB ci cj cr q.2.1 q.2.2.1 q.2.2.2 ∧ q.2.2.1 = cj)) := by
    intro hh
    unfold fX0_sit_61 fX0_sit_89
    rw [wp_jpb]
    refine (sp0_remembers hn h hk).mono ?_
    rintro ⟨x, ci1, cj1, cr1⟩ ⟨q1, q2⟩
    dsimp only at q1 q2 ⊢
    have h' := FA.ciI h q2
    have e3 : cj1 = cj := q2.2.2.1
    have vr := VR_sit hc h.2.2.2.2.1 (rg9 h2 (by omega)) p1
    obtain ⟨t1, t2, t3, t4⟩ := h'.2.2.2.1.1
    simp (disch := omega) only [jok_t, if_true, nI_cl]
    by_cases h0 : a1 ≤ 0
    · rw [if_pos h0, wp_some]
      refine ⟨fun z => absurd hh z, fun _ => ⟨rfl, ?_, q1.fr (by dsimp only; rw [ju_row _ _ (by decide)]) (fun i i1 i2 => ju_row _ _ (by omega)) (fun _ _ _ => rfl), q2.fb.up (by omega) (by omega), e3⟩⟩
      refine h'.st (fun i hi => ju_row _ _ (by omega)) ?_ (fun i i1 i2 => ju_row _ _ (by omega)) (by dsimp only; rw [ju_row _ _ (by decide)]) (fun k hk => ?_) vr
      · have e : ∀ k, k ≠ 25 + 2 * p → sitV v p a1 k = v k := fun k k1 => by unfold sitV; rw [if_neg (fun z => z.2 h0), if_neg k1]
        refine ⟨by dsimp only; rw [ju_row _ _ (by decide), e 0 (by omega)]; exact t1, fun s hs => ?_, fun b hb => ?_, fun q hq => ?_⟩
        · have := hc.2.2.1
          rw [e _ (by omega), e _ (by omega)]; dsimp only; rw [ju_row _ _ (by decide), ju_row _ _ (by decide)]; exact t2 s hs
        · have := hc.1
          rw [e _ (by omega), e _ (by omega), e _ (by omega)]; dsimp only; rw [ju_row _ _ (by decide), ju_row _ _ (by decide), ju_row _ _ (by decide)]; exact t3 b hb
        · dsimp only
          rw [e (26 + 2 * q) (by omega), ju_row (x := 16 + 10) _ _ (by decide)]
          refine ⟨?_, (t4 q hq).2⟩
          by_cases hq' : q = p
          · subst hq'
            rw [ju_eq]; unfold sitV; rw [if_neg (fun z => z.2 h0), if_pos rfl]
          · rw [ju_ne2 _ _ hq', e _ (by omega)]; exact (t4 q hq).1
      · unfold sitV
        rw [if_neg (fun z => z.2 h0), if_neg (by omega)]
    · rw [if_neg h0, wp_some]
      refine ⟨fun z => absurd hh z, fun _ => ⟨rfl, ?_, q1.fr (by dsimp only; rw [ju_row _ _ (by decide), ju_row _ _ (by decide)]) (fun i i1 i2 => by dsimp only; rw [ju_row _ _ (by omega), ju_row _ _ (by omega)]) (fun _ _ _ => rfl), (q2.fb.up (by omega) (by omega)).up (by omega) (by omega), e3⟩⟩
      refine h'.st (fun i hi => by dsimp only; rw [ju_row _ _ (by omega), ju_row _ _ (by omega)]) ?_ (fun i i1 i2 => by dsimp only; rw [ju_row _ _ (by omega), ju_row _ _ (by omega)]) (by dsimp only; rw [ju_row _ _ (by decide), ju_row _ _ (by decide)]) (fun k hk => ?_) vr
      · have e : ∀ k, k ≠ 26 + 2 * p → k ≠ 25 + 2 * p → sitV v p a1 k = v k := fun k k1 k2 => by unfold sitV; rw [if_neg (fun z => k1 z.1), if_neg k2]
        refine ⟨by dsimp only; rw [ju_row _ _ (by decide), ju_row _ _ (by decide), e 0 (by omega) (by omega)]; exact t1, fun s hs => ?_, fun b hb => ?_, fun q hq => ?_⟩
        · have := hc.2.2.1
          rw [e _ (by omega) (by omega), e _ (by omega) (by omega)]; dsimp only; rw [ju_row _ _ (by decide), ju_row _ _ (by decide), ju_row _ _ (by decide), ju_row _ _ (by decide)]; exact t2 s hs
        · have := hc.1
          rw [e _ (by omega) (by omega), e _ (by omega) (by omega), e _ (by omega) (by omega)]; dsimp only; rw [ju_row _ _ (by decide), ju_row _ _ (by decide), ju_row _ _ (by decide), ju_row _ _ (by decide), ju_row _ _ (by decide), ju_row _ _ (by decide)]; exact t3 b hb
        · dsimp only
          by_cases hq' : q = p
          · subst hq'
            rw [ju_row (x := 16 + 8) _ _ (by decide), ju_eq, ju_eq]; unfold sitV
            exact ⟨by rw [if_neg (fun z => by omega), if_pos rfl], by rw [if_pos ⟨rfl, h0⟩]⟩
          · rw [ju_ne2 _ _ hq', ju_ne2 _ _ hq', ju_ne2 _ _ hq', ju_ne2 _ _ hq', e _ (by omega) (by omega), e _ (by omega) (by omega)]; exact t4 q hq
      · unfold sitV
        rw [if_neg (fun z => by omega), if_neg (by omega)]
  by_cases h3 : v (25 + 2 * p) = a1
  · rw [if_pos h3]
    by_cases h4 : a1 = 0
    · rw [if_pos h4]; have := no (fun z => z.2.2 ⟨by rw [cp]; exact h3, Or.inl h4⟩); rw [cp] at this; exact this
    · rw [if_neg h4]
      by_cases h5 : v (26 + 2 * p) = 0
      · rw [if_pos h5]; have := no (fun z => z.2.2 ⟨by rw [cp]; exact h3, Or.inr (by rw [cp]; exact h5)⟩); rw [cp] at this; exact this
      · rw [if_neg h5]; exact yes ⟨h1, h2, fun z => z.2.elim h4 (fun z => h5 (by rw [cp] at z; exact z))⟩
  · rw [if_neg h3]; exact yes ⟨h1, h2, fun z => h3 (by have := z.1; rw [cp] at this; exact this)⟩
theorem c_give (hn : 4000 ≤ n) (h : CI n c K ci cj cr v) (hk : CK c K ci cr u U) (a0 a1 : Int32) : Wp (fX0_give n a0 a1 K ci cj cr) (fun q => (¬ okGive c v a0 a1 → q = (nI 0, ju ci 15 2 (ci 15 2 + nI 1), cj, cr)) ∧
    (okGive c v a0 a1 → q.1 = nI 1 ∧ CI n c K q.2.1 q.2.2.1 q.2.2.2 (giveV v a0.toNatClampNeg a1) ∧ CK c K q.2.1 q.2.2.2 (pU u) (pV u U v) ∧ FB ci cj cr q.2.1 q.2.2.1 q.2.2.2 ∧ q.2.2.1 = cj)) := by
  have hc := h.1
  have hB := hc.1
  have hs := h.2.2.2.1.1
  have hcc := h.2.2.1
  have no : ∀ (hh : ¬ okGive c v a0 a1), Wp (fX0_give_31 n K ci cj cr) (fun q => (¬ okGive c v a0 a1 → q = (nI 0, ju ci 15 2 (ci 15 2 + nI 1), cj, cr)) ∧
    (okGive c v a0 a1 → q.1 = nI 1 ∧ CI n c K q.2.1 q.2.2.1 q.2.2.2 (giveV v a0.toNatClampNeg a1) ∧ CK c K q.2.1 q.2.2.2 (pU u) (pV u U v) ∧ FB ci cj cr q.2.1 q.2.2.1 q.2.2.2 ∧ q.2.2.1 = cj)) := by
    intro hh
    unfold fX0_give_31 fX0_give_44
    rw [wp_jpb, e0_refuses (by omega), wp_some]
    dsimp only
    rw [if_pos m1_neg, if_pos bt0, wp_some]
    exact ⟨fun _ => rfl, fun z => absurd z hh⟩
  unfold fX0_give
  rw [wp_jpb, e0_isBay hcc, wp_some]
  dsimp only
  by_cases h1 : iv a0 (coB c)
  rotate_left
  · rw [if_neg h1, if_pos z00]; exact no (fun z => h1 z.1)
  rw [if_pos h1, if_neg n10, wp_jpb, e0_is, wp_some]
  dsimp only
  by_cases h2 : nI 0 ≤ a1 ∧ a1 ≤ nI 99
  rotate_left
  · rw [if_neg h2, if_pos z00]; exact no (fun z => h2 z.2.1)
  rw [if_pos h2, if_neg n10]
  obtain ⟨p, p1, p2⟩ := iv_ex h1 (by omega)
  subst p2
  have cp : (nI p).toNatClampNeg = p := nI_cl (by omega)
  obtain ⟨s1, s2⟩ := hs.2.2.1 p p1
  have s1' : ci 20 p = v (7 + 3 * p) := s1
  simp (disch := omega) only [jok_t, if_true, nI_cl, s1']
  by_cases h3 : v (7 + 3 * p) = a1
  · rw [if_pos h3]; have := no (fun z => z.2.2 (by rw [cp]; exact h3)); rw [cp] at this; exact this
  rw [if_neg h3]
  have hh : okGive c v (nI p) a1 := ⟨h1, h2, by rw [cp]; exact h3⟩
  rw [wp_jpb]
  refine (sp0_remembers hn h hk).mono ?_
  rintro ⟨x, ci1, cj1, cr1⟩ ⟨q1, q2⟩
  dsimp only at q1 q2 ⊢
  have h' := FA.ciI h q2
  have e3 : cj1 = cj := q2.2.2.1
  have vr := VR_give hc h.2.2.2.2.1 (rg9 h2 (by omega)) p1
  obtain ⟨t1, t2, t3, t4⟩ := h'.2.2.2.1.1
  rw [wp_some]
  refine ⟨fun z => absurd hh z, fun _ => ⟨rfl, ?_, q1.fr (by dsimp only; rw [ju_row _ _ (by decide)]) (fun i i1 i2 => ju_row _ _ (by omega)) (fun _ _ _ => rfl), q2.fb.up (by omega) (by omega), e3⟩⟩
  refine h'.st (fun i hi => ju_row _ _ (by omega)) ?_ (fun i i1 i2 => ju_row _ _ (by omega)) (by dsimp only; rw [ju_row _ _ (by decide)]) (fun k hk => ?_) vr
  · have e : ∀ k, k ≠ 7 + 3 * p → giveV v p a1 k = v k := fun k k1 => by unfold giveV; rw [if_neg k1]
    refine ⟨by dsimp only; rw [ju_row _ _ (by decide), e 0 (by omega)]; exact t1, fun s hs => ?_, fun b hb => ?_, fun q hq => ?_⟩
    · have := hc.2.2.1
      rw [e _ (by omega), e _ (by omega)]; dsimp only; rw [ju_row _ _ (by decide), ju_row _ _ (by decide)]; exact t2 s hs
    · dsimp only
      rw [e (8 + 3 * b) (by omega), e (9 + 3 * b) (by omega), ju_row (x := 16 + 5) _ _ (by decide), ju_row (x := 16 + 6) _ _ (by decide)]
      refine ⟨?_, (t3 b hb).2⟩
      by_cases hq' : b = p
      · subst hq'
        rw [ju_eq]; unfold giveV; rw [if_pos rfl]
      · rw [ju_ne2 _ _ hq', e _ (by omega)]; exact (t3 b hb).1
    · rw [e _ (by omega), e _ (by omega)]; dsimp only; rw [ju_row _ _ (by decide), ju_row _ _ (by decide)]; exact t4 q hq
  · unfold giveV
    rw [if_neg (by omega)]
/-- the component lives a year -/
theorem sp0_yearN {Y : Nat} (hn : 4000 ≤ n) (hc : CR c) (hC : jCW K cr) (h : CC n c K ci cj cr) (hst : StR c K ci cr 16 v) (hv : VR c v Y) (h6 : ∃ f, RW K cr 68 f) (hk : CK c K ci cr u U) : Wp (fX5_goes n 16 K ci cj cr) (fun q => q.1 = cms c v ∧ StR c K q.2.1 q.2.2.2 16 (goF c v) ∧ jCW K q.2.2.2 ∧ CC n c K q.2.1 q.2.2.1 q.2.2.2 ∧ (∃ f, RW K q.2.2.2 68 f) ∧ CK c K q.2.1 q.2.2.2 u U ∧ FS 16 ci cj cr q.2.1 q.2.2.1 q.2.2.2) := by
  refine (sp_goes hn hc hC h is16 hst hv).mono ?_
  rintro ⟨x, ci1, cj1, cr1⟩ ⟨q1, q2, q3⟩
  dsimp only at q1 q2 q3 ⊢
  obtain ⟨f, hf⟩ := h6
  exact ⟨q1, q2, hC.fs is16 q3, h.fs is16 q3, ⟨f, hf.fs (q3.2.2 _ (by omega))⟩, hk.fr (by rw [q3.1 0 (by omega)]) (fun i i1 i2 => q3.1 i (by omega)) (fun i i1 i2 => q3.2.2 i (by omega)), q3⟩
theorem c_years (hn : 4000 ≤ n) (h : CI n c K ci cj cr v) (hk : CK c K ci cr u U) (a0 : Int32) : Wp (fX0_years n a0 K ci cj cr) (fun q => (¬ iah (v 0) a0 1 100 → q = (-1, ju ci 15 3 (ci 15 3 + nI 1), cj, cr)) ∧
    (iah (v 0) a0 1 100 → q.1 = yrsA c v a0.toNatClampNeg ∧ CI n c K q.2.1 q.2.2.1 q.2.2.2 (goFN c v a0.toNatClampNeg) ∧ CK c K q.2.1 q.2.2.2 (pU u) (pV u U v) ∧ FB ci cj cr q.2.1 q.2.2.1 q.2.2.2 ∧ q.2.2.1 0 = cj 0)) := by
  have hv := h.2.2.2.2.1
  unfold fX0_years
  rw [wp_jpb, e0_isAhead, wp_some, h.y0]
  dsimp only
  by_cases h1 : iah (v 0) a0 1 100
  rotate_left
  · rw [if_neg h1, if_pos z00, wp_jpb, e0_refuses (by omega), wp_some, wp_some]
    exact ⟨fun _ => rfl, fun z => absurd z h1⟩
  rw [if_pos h1, if_neg n10]
  obtain ⟨m, m1, m2, m3, z, z1, z2⟩ := iah_ex hv.1 (by omega) (by omega) (by omega) h1
  subst m3
  rw [nI_cl (by omega), wp_jpb]
  have hvz : VR c v z := ⟨⟨z, Nat.le_refl _, z2⟩, hv.2⟩
  refine (sp0_remembers hn h hk).mono ?_
  rintro ⟨x, ci1, cj1, cr1⟩ ⟨q1, q2⟩
  dsimp only at q1 q2 ⊢
  have h' := FA.ciI h q2
  refine Wp.loop5 (fun k (a0 a1 : Int32) (a2 : jI) (a3 : jJ) (a4 : jR) => fX0_years_25 n k (nI m) a0 a1 K a2 a3 a4) (fun r x => ∃ i, i + r = m ∧ x.2.1 = nI i ∧ x.1 = yrsA c v i ∧ StR c K x.2.2.1 x.2.2.2.2 16 (goFN c v i) ∧ jCW K x.2.2.2.2 ∧ CC n c K x.2.2.1 x.2.2.2.1 x.2.2.2.2 ∧ (∃ f, RW K x.2.2.2.2 68 f) ∧ CK c K x.2.2.1 x.2.2.2.2 (pU u) (pV u U v) ∧ FB ci cj cr x.2.2.1 x.2.2.2.1 x.2.2.2.2 ∧ x.2.2.2.1 0 = cj 0) _ ?_ n m (nI 0) (nI 0) ci1 cj1 cr1 (by omega) ⟨0, by omega, rfl, rfl, h'.2.2.2.1, h'.2.1, h'.2.2.1, h'.2.2.2.2.2, q1, q2.fb, by dsimp only; rw [q2.2.2.1]⟩
  rintro k r x l ci2 cj2 cr2 ⟨i, g1, g2, g3, g4, g5, g6, g7, g8, g9, g10⟩ ih
  dsimp only at g2 g3 g4 g5 g6 g7 g8 g9 g10
  subst g2
  rw [fX0_years_25.eq_2]
  by_cases hi : m ≤ i
  · have : i = m := by omega
    subst this
    rw [if_pos (nI_le hi (by omega)), wp_some]
    exact ⟨fun z => absurd h1 z, fun _ => ⟨g3, ⟨h.1, g5, g6, g4, (VR_goFN h.1 hvz i).le (by omega), g7⟩, g8, g9, g10⟩⟩
  · rw [if_neg (nI_ge (by omega) (by omega)), wp_jpb]
    refine (sp0_yearN (Y := z + i) hn h.1 g5 g6 g4 (VR_goFN h.1 hvz i) g7 g8).mono ?_
    rintro ⟨y, ci3, cj3, cr3⟩ ⟨y1, y2, y3, y4, y5, y6, y7⟩
    dsimp only at y1 y2 y3 y4 y5 y6 y7 ⊢
    rw [nI_add]
    exact ih (r - 1) _ (nI (i + 1)) _ _ _ (by omega) ⟨i + 1, by omega, rfl, by dsimp only; rw [g3, y1]; rfl, y2, y3, y4, y5, y6, g9.tr y7.fb, (y7.2.1 0 (by decide)).trans g10⟩
theorem c_seed (a0 : Int32) : Wp (fX0_seed n a0 K ci cj cr) (fun q => (0 ≤ a0 → q = (nI 1, ci, ju cj 0 19 a0.toInt64, cr)) ∧ (¬ 0 ≤ a0 → q = (nI 0, ju ci 15 5 (ci 15 5 + nI 1), cj, cr))) := by
  unfold fX0_seed fX0_seed_17
  by_cases h : 0 ≤ a0
  · rw [if_pos h, wp_some]; exact ⟨fun _ => rfl, fun z => absurd h z⟩
  · rw [if_neg h, wp_jpb, e0_refuses (by omega), wp_some]
    dsimp only
    rw [if_pos m1_neg, if_pos bt0, wp_some]
    exact ⟨fun z => absurd z h, fun _ => rfl⟩
end
