/-! RECONCILE IN THE COMPONENT -/
set_option maxRecDepth 100000
section
variable {n : Nat} {c : jCo} {K : jK} {ci ci1 ci2 : jI} {cj cj1 cj2 : jJ} {cr cr1 cr2 : jR} {v w : jV8}
theorem e0_has {m p : Nat} : fX0_has n (nI m) (nI p) K ci cj cr = some (if hasP m p then nI 1 else nI 0, ci, cj, cr) := by
  unfold fX0_has fX0_has_14
  by_cases h : hasP m p
  · rw [if_pos h, if_pos bt1, if_pos h]
  · rw [if_neg h, if_pos bt0, if_neg h]
theorem SR.e45 (hc : CR c) {t : Nat} (h : SR c ci t v) (e : e45 v w) : SR c ci t w := by
  obtain ⟨h1, h2, h3, h4⟩ := h
  have hB := hc.1
  have hP := hc.2.1
  have hS := hc.2.2.1
  refine ⟨h1.trans (e 0 (by omega)), fun s hs => ⟨(h2 s hs).1.trans (e _ (by omega)), (h2 s hs).2.trans (e _ (by omega))⟩, fun b hb => ⟨(h3 b hb).1.trans (e _ (by omega)), (h3 b hb).2.1.trans (e _ (by omega)), (h3 b hb).2.2.trans (e _ (by omega))⟩, fun p hp => ⟨(h4 p hp).1.trans (e _ (by omega)), (h4 p hp).2.trans (e _ (by omega))⟩⟩
theorem setP_hi {m : Nat} {k p : Nat} (h : 25 + 2 * p ≤ k) : setP c m v p k = v k := by
  induction p with
  | zero => rfl
  | succ p ih =>
    show (if _ ∧ k = 25 + 2 * p then _ else if _ ∧ k = 26 + 2 * p then _ else _) = _
    rw [if_neg (fun z => by have := z.2; omega), if_neg (fun z => by have := z.2; omega)]
    exact ih (by omega)
theorem sp0_comesBy (hn : 4000 ≤ n) (h : CI n c K ci cj cr v) (hQ : QK K ci cj cr ci1 cj1 cr1) {m b s k : Nat} (hs : s < coS c) (hk : k ≤ 20) :
    Wp (fX0_comesBy n (nI m) (nI b) (nI s) (nI k) K ci1 cj1 cr1) (fun q => q.1 = (if cmB c (setP c m v (coP c)) s (nI b) k = true then nI 1 else nI 0) ∧ QK K ci cj cr q.2.1 q.2.2.1 q.2.2.2) := by
  have hc := h.1
  have hS := hc.2.2.1
  have hP := hc.2.1
  have hv := h.2.2.2.2.1
  unfold fX0_comesBy
  rw [wp_jpb]
  refine (sp_triesQ hn h hQ).mono ?_
  rintro ⟨x, ci2, cj2, cr2⟩ ⟨q1, q2, -, q3⟩
  dsimp only at q1 q2 q3 ⊢
  refine Wp.loop2 (fun k' (a0 : Int32) (a1 : jI) => fX0_comesBy_15 n k' (nI m) (nI b) (nI s) (nI k) a0 K a1 cj2 cr2) (fun r x => ∃ p, p + r = coP c ∧ x.1 = nI p ∧ StR c K x.2 cr2 68 (setP c m v p) ∧ QK K ci cj cr x.2 cj2 cr2) _ ?_ n (coP c) (nI 0) ci2 (by omega) ⟨0, by omega, rfl, q2, q3⟩
  rintro k' r l ci3 ⟨p, g1, g2, g3, g4⟩ ih
  dsimp only at g2 g3 g4
  subst g2
  have h3 := h.qk' g4
  rw [fX0_comesBy_15.eq_2, wp_jpb, e0_pairs h3.2.2.1, wp_some]
  dsimp only
  by_cases hp : coP c ≤ p
  · have : p = coP c := by omega
    subst this
    rw [if_pos (nI_le hp (by omega))]
    clear ih
    generalize hw : setP c m v (coP c) = w at *
    have hwv : VR c w 999 := by rw [← hw]; exact setP_VR hc hv _ (Nat.le_refl _)
    refine Wp.loop4 (fun q (a0 : Int32) (a1 : jI) (a2 : jJ) (a3 : jR) => fX0_comesBy_68 n q (nI b) (nI s) (nI k) a0 K a1 a2 a3) (fun r x => ∃ i, i + r = k ∧ x.1 = nI i ∧ StR c K x.2.1 x.2.2.2 68 (goFN c w i) ∧ QK K ci cj cr x.2.1 x.2.2.1 x.2.2.2 ∧ cmB c w s (nI b) i = false) _ ?_ n k (nI 0) ci3 cj2 cr2 (by omega) ⟨0, by omega, rfl, g3, g4, rfl⟩
    rintro q r l ci4 cj4 cr4 ⟨i, f1, f2, f3, f4, f5⟩ ih
    dsimp only at f2 f3 f4 f5
    subst f2
    rw [fX0_comesBy_68.eq_2]
    by_cases hi : k ≤ i
    · have : i = k := by omega
      subst this
      rw [if_pos (nI_le hi (by omega)), wp_some, f5]
      exact ⟨rfl, f4⟩
    · rw [if_neg (nI_ge (by omega) (by omega)), wp_jpb]
      refine (sp_goesQ hn h f4 f3 (VR_goFN hc hwv i)).mono ?_
      rintro ⟨x, ci5, cj5, cr5⟩ ⟨p1, p2, p3, p4⟩
      dsimp only at p1 p2 p3 p4 ⊢
      have e70 : ci5 (68 + 2) s = tos c (goN c w i) s := by
        refine ((p2.1.2.1 s hs).2).trans ((goFN_45 hc w (i + 1) _ (by omega)).trans ?_)
        show goV c (goN c w i) (2 + 2 * s) = _
        rw [goV_a hs (by omega)]
      rw [if_pos (by rw [jok_t (by omega) (by omega)]; trivial), nI_cl (by omega)]
      by_cases e : tos c (goN c w i) s = nI b
      · rw [if_pos (show ci5 (68 + 2) s = nI b by rw [e70]; exact e), wp_some, if_pos (cmB_up e k (by omega))]
        exact ⟨rfl, p4⟩
      · rw [if_neg (show ¬ ci5 (68 + 2) s = nI b by rw [e70]; exact e), nI_add]
        refine ih (r - 1) (nI (i + 1)) _ _ _ (by omega) ⟨i + 1, by omega, rfl, p2, p4, ?_⟩
        show (_ || decide _) = false
        rw [f5, decide_eq_false e]; rfl
  · rw [if_neg (nI_ge (by omega) (by omega)), wp_jpb, e0_has, wp_some]
    dsimp only
    unfold fX0_comesBy_59
    obtain ⟨⟨s1, s2, s3, s4⟩, f, s5, s6⟩ := g3
    by_cases hb : hasP m p
    · rw [if_pos hb, if_neg n10]
      simp (disch := omega) only [nI_add, nI_cl, jok_t, if_true]
      have lo : ∀ j, j < 25 ∨ 45 ≤ j → setP c m v (p + 1) j = setP c m v p j := fun j hj => by
        rw [setP_lo hj _ (by omega), setP_lo hj _ (by omega)]
      have b8 : ∀ q, setP c m v (p + 1) (25 + 2 * q) = if q = p then nI 9 else setP c m v p (25 + 2 * q) := fun q => by
        show (if _ ∧ 25 + 2 * q = 25 + 2 * p then _ else if _ ∧ 25 + 2 * q = 26 + 2 * p then _ else _) = _
        by_cases e : q = p
        · rw [if_pos ⟨hb, by omega⟩, if_pos e]
        · rw [if_neg (fun z => by have := z.2; omega), if_neg (fun z => by have := z.2; omega), if_neg e]
      have b10 : ∀ q, setP c m v (p + 1) (26 + 2 * q) = if q = p then nI 0 else setP c m v p (26 + 2 * q) := fun q => by
        show (if _ ∧ 26 + 2 * q = 25 + 2 * p then _ else if _ ∧ 26 + 2 * q = 26 + 2 * p then _ else _) = _
        by_cases e : q = p
        · rw [if_neg (fun z => by have := z.2; omega), if_pos ⟨hb, by omega⟩, if_pos e]
        · rw [if_neg (fun z => by have := z.2; omega), if_neg (fun z => by have := z.2; omega), if_neg e]
      refine ih (r - 1) (nI (p + 1)) _ (by omega) ⟨p + 1, by omega, rfl, ⟨⟨?_, fun s' hs' => ⟨?_, ?_⟩, fun b' hb' => ⟨?_, ?_, ?_⟩, fun q hq => ⟨?_, ?_⟩⟩, f, s5, ?_⟩, (g4.up (by omega)).up (by omega)⟩
      · rw [lo 0 (by omega)]; simp (disch := omega) only [ju_row]; exact s1
      · rw [lo _ (by omega)]; simp (disch := omega) only [ju_row]; exact (s2 s' hs').1
      · rw [lo _ (by omega)]; simp (disch := omega) only [ju_row]; exact (s2 s' hs').2
      · rw [lo _ (by have := hc.1; omega)]; simp (disch := omega) only [ju_row]; exact (s3 b' hb').1
      · rw [lo _ (by have := hc.1; omega)]; simp (disch := omega) only [ju_row]; exact (s3 b' hb').2.1
      · rw [lo _ (by have := hc.1; omega)]; simp (disch := omega) only [ju_row]; exact (s3 b' hb').2.2
      · rw [b8 q]
        show ju (ju ci3 (68 + 8) p (nI 9)) (68 + 10) p (nI 0) (68 + 8) q = _
        rw [ju_row _ _ (by omega)]
        by_cases e : q = p
        · subst e; rw [ju_eq, if_pos rfl]
        · rw [ju_ne2 _ _ e, if_neg e]; exact (s4 q hq).1
      · rw [b10 q]
        show ju (ju ci3 (68 + 8) p (nI 9)) (68 + 10) p (nI 0) (68 + 10) q = _
        by_cases e : q = p
        · subst e; rw [ju_eq, if_pos rfl]
        · rw [ju_ne2 _ _ e, ju_row _ _ (by omega), if_neg e]; exact (s4 q hq).2
      · obtain ⟨m', m1, m2, m3, m4⟩ := s6
        refine ⟨m', m1, by rw [lo 45 (by omega)]; exact m2, ?_, fun k i hk hi => ?_⟩
        · simp (disch := omega) only [ju_row]; exact m3
        · obtain ⟨-, -, -, -, r1, r2⟩ := s5.1 k (by omega)
          rw [lo _ (by omega)]
          simp (disch := omega) only [ju_row]; exact m4 k i hk hi
    · rw [if_neg hb, if_pos z00, nI_add]
      have e : setP c m v (p + 1) = setP c m v p := by
        funext j
        show (if hasP m p ∧ j = 25 + 2 * p then nI 9 else if hasP m p ∧ j = 26 + 2 * p then nI 0 else setP c m v p j) = _
        rw [if_neg (fun z => hb z.1), if_neg (fun z => hb z.1)]
      exact ih (r - 1) (nI (p + 1)) _ (by omega) ⟨p + 1, by omega, rfl, by rw [e]; exact ⟨⟨s1, s2, s3, s4⟩, f, s5, s6⟩, g4⟩
theorem i32_or0 (x : Int32) : x ||| nI 0 = x := Int32.toBitVec_inj.mp (BitVec.or_zero)
theorem c_recon (hn : 4000 ≤ n) (h : CI n c K ci cj cr v) (a0 a1 a2 : Int32) : Wp (fX0_reconcile n a0 a1 a2 K ci cj cr) (fun q => q.1 = aRecon c v a0 a1 a2 ∧ QK K ci cj cr q.2.1 q.2.2.1 q.2.2.2) := by
  have hc := h.1
  have hS := hc.2.2.1
  have hB := hc.1
  have hP := hc.2.1
  have hv := h.2.2.2.2.1
  unfold fX0_reconcile fX0_reconcile_27 aRecon
  rw [wp_jpb, e0_isBay h.2.2.1, wp_some]
  dsimp only
  by_cases h1 : iv a0 (coB c)
  rotate_left
  · rw [if_neg h1, if_pos z00, wp_some, if_neg (fun z => h1 z.1)]
    exact ⟨rfl, h.qk⟩
  rw [if_pos h1, if_neg n10, wp_jpb, e0_isShoal h.2.2.1, wp_some]
  dsimp only
  by_cases h2 : iv a1 (coS c)
  rotate_left
  · rw [if_neg h2, if_pos z00, wp_some, if_neg (fun z => h2 z.2.1)]
    exact ⟨rfl, h.qk⟩
  rw [if_pos h2, if_neg n10, wp_jpb, e0_isAhead, wp_some, h.y0]
  dsimp only
  by_cases h3 : iah (v 0) a2 1 20
  rotate_left
  · rw [if_neg h3, if_pos z00, wp_some, if_neg (fun z => h3 z.2.2)]
    exact ⟨rfl, h.qk⟩
  rw [if_pos h3, if_neg n10, if_pos ⟨h1, h2, h3⟩]
  obtain ⟨b, b1, b2⟩ := iv_ex h1 (by omega)
  obtain ⟨s, s1, s2⟩ := iv_ex h2 (by omega)
  obtain ⟨y, k0, k1, k2, -⟩ := iah_ex hv.1 (by omega) (by omega) (by omega) h3
  subst b2 s2 k2
  rw [nI_cl (by omega), nI_cl (by omega), nI_cl (by omega)]
  refine Wp.loop2 (fun k (a0 a1 : Int32) => fX0_reconcile_35 n k (nI b) (nI s) (nI y) a0 a1 K ci cj cr) (fun r x => ∃ p, p + r = coP c ∧ x.2 = nI p ∧ x.1 = ownP c b p) _ ?_ n (coP c) (nI 0) (nI 0) (by omega) ⟨0, by omega, rfl, rfl⟩
  rintro k r x l ⟨p, g1, g2, g3⟩ ih
  dsimp only at g2 g3
  subst g2
  rw [fX0_reconcile_35.eq_2, wp_jpb, e0_pairs h.2.2.1, wp_some]
  dsimp only
  by_cases hp : coP c ≤ p
  rotate_left
  · rw [if_neg (nI_ge (by omega) (by omega))]
    obtain ⟨rp, p1, p2, p3, p4, p5⟩ := e0_pairOf h.2.2.1 (show p < coP c by omega)
    have hbp := hc.2.2.2.2.2.1 p (by omega)
    rw [wp_jpb, p1, wp_some]
    dsimp only
    rw [if_pos ⟨p2, p3⟩]
    unfold fX0_reconcile_67
    by_cases e : coN c p = b
    · rw [if_pos (show ci rp 1 = nI b by rw [p5, e]), nI_add]
      exact ih (r - 1) _ (nI (p + 1)) (by omega) ⟨p + 1, by omega, rfl, by show _ = if _ then _ else _; rw [if_pos e, g3]⟩
    · rw [if_neg (show ¬ ci rp 1 = nI b by rw [p5, nI_eqN (by omega) (by omega)]; exact e), nI_add, i32_or0]
      exact ih (r - 1) _ (nI (p + 1)) (by omega) ⟨p + 1, by omega, rfl, by show _ = if _ then _ else _; rw [if_neg e, g3]⟩
  have : p = coP c := by omega
  subst this
  clear ih
  rw [if_pos (nI_le hp (by omega)), g3]
  have h1024 : 2 ^ coP c ≤ 1024 := Nat.pow_le_pow_right (by omega) hP (n := 2)
  refine Wp.loop5 (fun k (a0 a1 : Int32) (a2 : jI) (a3 : jJ) (a4 : jR) => fX0_reconcile_82 n k (nI b) (nI s) (nI y) (ownP c b (coP c)) a0 a1 K a2 a3 a4) (fun r x => ∃ m, m + r = 2 ^ coP c ∧ x.2.1 = nI m ∧ x.1 = rcl c v b s y m ∧ QK K ci cj cr x.2.2.1 x.2.2.2.1 x.2.2.2.2) _ ?_ n (2 ^ coP c) (-1) (nI 0) ci cj cr (by omega) ⟨0, by omega, rfl, rfl, h.qk⟩
  clear g1 g3 hp x
  rintro k r best l ci2 cj2 cr2 ⟨m, g1, g2, g3, g4⟩ ih
  dsimp only at g2 g3 g4
  subst g2
  have h2' := h.qk' g4
  rw [fX0_reconcile_82.eq_2, wp_jpb, e0_pairs h2'.2.2.1, wp_some]
  dsimp only
  rw [shl_P _ hP]
  by_cases hmP : 2 ^ coP c ≤ m
  · have : m = 2 ^ coP c := by omega
    subst this
    rw [if_pos (nI_le hmP (by omega)), wp_some]
    exact ⟨g3, g4⟩
  · rw [if_neg (nI_ge (by omega) (by omega))]
    have skip : ¬ ((nI m &&& (ownP c b (coP c) ^^^ (-1))) = 0 ∧ (best = -1 ∨ bcF (nI m) < bcF best)) → Wp (fX0_reconcile_141 n (fX0_reconcile_82 n k) (nI b) (nI s) (nI y) (ownP c b (coP c)) best (nI m) K ci2 cj2 cr2) (fun q => q.1 = rcl c v b s y (2 ^ coP c) ∧ QK K ci cj cr q.2.1 q.2.2.1 q.2.2.2) := by
      intro hne
      unfold fX0_reconcile_141
      rw [nI_add]
      refine ih (r - 1) best (nI (m + 1)) _ _ _ (by omega) ⟨m + 1, by omega, rfl, ?_, g4⟩
      show best = if _ then _ else _
      rw [if_neg (fun z => hne ⟨z.1, by rw [g3]; exact z.2.1⟩), g3]
    have try1 : (nI m &&& (ownP c b (coP c) ^^^ (-1))) = 0 ∧ (best = -1 ∨ bcF (nI m) < bcF best) → Wp (fX0_reconcile_125 n (fX0_reconcile_82 n k) (nI b) (nI s) (nI y) (ownP c b (coP c)) best (nI m) K ci2 cj2 cr2) (fun q => q.1 = rcl c v b s y (2 ^ coP c) ∧ QK K ci cj cr q.2.1 q.2.2.1 q.2.2.2) := by
      intro hlk
      unfold fX0_reconcile_125 fX0_reconcile_141
      rw [wp_jpb]
      refine (sp0_comesBy hn h g4 s1 (by omega)).mono ?_
      rintro ⟨x, ci3, cj3, cr3⟩ ⟨q1, q2⟩
      dsimp only at q1 q2 ⊢
      subst q1
      by_cases hcm : cmB c (setP c m v (coP c)) s (nI b) y = true
      · rw [if_pos hcm, if_neg n10, nI_add]
        refine ih (r - 1) (nI m) (nI (m + 1)) _ _ _ (by omega) ⟨m + 1, by omega, rfl, ?_, q2⟩
        show _ = if _ then _ else _
        rw [if_pos ⟨hlk.1, by rw [← g3]; exact hlk.2, hcm⟩]
      · rw [if_neg hcm, if_pos z00, nI_add]
        refine ih (r - 1) best (nI (m + 1)) _ _ _ (by omega) ⟨m + 1, by omega, rfl, ?_, q2⟩
        show _ = if _ then _ else _
        rw [if_neg (fun z => hcm z.2.2), g3]
    by_cases c1 : (nI m &&& (ownP c b (coP c) ^^^ (-1))) = 0
    · rw [if_pos c1]
      by_cases c2 : best = -1
      · rw [if_pos c2]; exact try1 ⟨c1, Or.inl c2⟩
      · rw [if_neg c2, wp_jpb, eJ_bc, wp_some, wp_jpb]
        dsimp only
        rw [eJ_bc, wp_some]
        dsimp only
        by_cases c3 : bcF (nI m) < bcF best
        · rw [if_pos c3]; exact try1 ⟨c1, Or.inr c3⟩
        · rw [if_neg c3]; exact skip (fun z => z.2.elim c2 c3)
    · rw [if_neg c1]; exact skip (fun z => c1 z.1)
end
