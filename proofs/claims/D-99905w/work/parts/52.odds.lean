/-! ODDS -/
set_option maxRecDepth 100000
/-- where a shoal comes: by its own mile, by bays and pairs -/
theorem tos_dep {c : jCo} {v w : jV8} {s : Nat} (hc : CR c) (h0 : v 0 = w 0) (h1 : v (1 + 2 * s) = w (1 + 2 * s)) (h : ∀ k, 7 ≤ k → k < 45 → v k = w k) : tos c v s = tos c w s := by
  have hB := hc.1
  have hP := hc.2.1
  have e : vw c v = vw c w := by
    funext b
    refine sg_congr (fun p hp => ?_)
    have hb := hc.2.2.2.2.2.1 p hp
    have ec : cnt c v p = cnt c w p := by
      unfold cnt vC
      rw [h0, h (25 + 2 * p) (by omega) (by omega), h (26 + 2 * p) (by omega) (by omega), h (7 + 3 * coN c p) (by omega) (by omega)]
    rw [ec, h (25 + 2 * p) (by omega) (by omega)]
  unfold tos
  rw [e, chs_congr h0 h1 (fun b hb => ⟨h _ (by omega) (by omega), h _ (by omega) (by omega), rfl⟩)]
theorem vw_dep {c : jCo} {v w : jV8} (hc : CR c) (h0 : v 0 = w 0) (h : ∀ k, 7 ≤ k → k < 45 → v k = w k) : vw c v = vw c w := by
  have hB := hc.1
  have hP := hc.2.1
  funext b
  refine sg_congr (fun p hp => ?_)
  have hb := hc.2.2.2.2.2.1 p hp
  have ec : cnt c v p = cnt c w p := by
    unfold cnt vC
    rw [h0, h (25 + 2 * p) (by omega) (by omega), h (26 + 2 * p) (by omega) (by omega), h (7 + 3 * coN c p) (by omega) (by omega)]
  rw [ec, h (25 + 2 * p) (by omega) (by omega)]
def ns (f : Nat → Nat) : Nat → Nat
  | 0 => 0
  | k + 1 => ns f k + f k
theorem ns_le {f : Nat → Nat} {m : Nat} (h : ∀ k, f k ≤ m) : ∀ n, ns f n ≤ n * m
  | 0 => by show 0 ≤ 0 * m; omega
  | n + 1 => by
    have h1 := ns_le h n
    have h2 := h n
    have h3 : (n + 1) * m = n * m + m := Nat.succ_mul n m
    show ns f n + f n ≤ _
    omega
theorem ns_const (w : Nat) : ∀ n, ns (fun _ => w) n = n * w
  | 0 => by show 0 = 0 * w; omega
  | n + 1 => by
    have h1 := ns_const w n
    have h3 : (n + 1) * w = n * w + w := Nat.succ_mul n w
    show ns _ n + w = _
    omega
theorem ns_pick {A B s0 : Nat} : ∀ n, ns (fun s => if s = s0 then A else B) n = if s0 < n then A + (n - 1) * B else n * B
  | 0 => by rw [if_neg (by omega)]; show 0 = 0 * B; omega
  | n + 1 => by
    show ns _ n + (if n = s0 then A else B) = _
    rw [ns_pick n]
    by_cases h1 : s0 < n
    · rw [if_pos h1, if_neg (by omega), if_pos (by omega)]
      obtain ⟨k, rfl⟩ : ∃ k, n = k + 1 := ⟨n - 1, by omega⟩
      have h3 : (k + 1) * B = k * B + B := Nat.succ_mul k B
      show A + k * B + B = A + (k + 1) * B
      omega
    · rw [if_neg h1]
      by_cases h2 : n = s0
      · rw [if_pos h2, if_pos (by omega)]
        show n * B + A = A + n * B
        omega
      · rw [if_neg h2, if_neg (by omega)]
        have h3 : (n + 1) * B = n * B + B := Nat.succ_mul n B
        omega
def odY (c : jCo) (v : jV8) (s b m : Nat) : Nat := if tos c (upv v (1 + 2 * s) (nI m)) s = nI b then coW c else 0
def od0 (c : jCo) (v : jV8) (s b : Nat) : Nat := if tos c v s = nI b then 100 * (100 - coW c) * coS c + 100 * coW c * (coS c - 1) else 0
def aOdds (c : jCo) (v : jV8) (a0 a1 : Int32) : Int32 := if coS c = 0 ∨ ¬ iah (v 0) (nI 1) 1 1 then -1 else if a0 = -1 ∧ a1 = -1 then nI 10000 * nI (coS c) else if iv a0 (coS c) ∧ iv a1 (coB c) then nI (od0 c v a0.toNatClampNeg a1.toNatClampNeg + ns (odY c v a0.toNatClampNeg a1.toNatClampNeg) 100) else -1
theorem VR_updM {c : jCo} {v : jV8} {Y s : Nat} {x : Int32} (h : VR c v Y) (hc : CR c) (hs : s < 3) (hx : rg x 99) : VR c (upv v (1 + 2 * s) x) Y := by
  obtain ⟨v1, v2, v3, v4⟩ := h
  refine ⟨by rw [upv_ne (by omega)]; exact v1, fun q hq => ⟨?_, ?_⟩, fun b hb => ?_, fun q hq => ?_⟩
  · by_cases e : q = s
    · subst e; rw [upv_eq]; exact hx
    · rw [upv_ne (by omega)]; exact (v2 q hq).1
  · rw [upv_ne (by omega)]; exact (v2 q hq).2
  · rw [upv_ne (by omega), upv_ne (by omega), upv_ne (by omega)]; exact v3 b hb
  · rw [upv_ne (by omega), upv_ne (by omega)]; exact v4 q hq
section
variable {n : Nat} {c : jCo} {ci : jI} {cj : jJ}
theorem sp6_odds (hn : 4000 ≤ n) (h : MI c ci) {s b : Nat} (hs : s < coS c) (hb : b < coB c) (hah : iah (ci 1585 0) (nI 1) 1 1) : Wp (fX6_odds_37 n (nI s) (nI b) (nI 0) ci cj) (fun q => q.1 = nI (od0 c (ci 1585) s b + ns (odY c (ci 1585) s b) 100) ∧ QM ci cj q.2.1 q.2.2) := by
  obtain ⟨hc, hm, hv, hk, h58⟩ := h
  have hS := hc.2.2.1
  have hB := hc.1
  have hW := hc.2.2.2.1
  unfold fX6_odds_37
  rw [wp_bind, e6_shoalMany, wp_some]
  dsimp only
  rw [if_neg (show ¬ ci 1577 6 = 0 by rw [hm.2.2.1]; exact nI_ne0 (by omega) (by omega)), wp_bind, e6_isAhead, wp_some]
  dsimp only
  rw [if_pos hah, if_neg n10, if_pos z00, wp_bind]
  refine (sp_laysVows (Y := 999) hn (by omega) hc hm hv).mono ?_
  rintro ⟨ci1, cj1⟩ ⟨l1, l2, l3⟩
  dsimp only at l1 l2 l3 ⊢
  have hm1 := hm.fr' l2 (by decide)
  have e85 : ci1 1585 = ci 1585 := l2.1 1585 (by decide) (by decide)
  rw [nI_mulN, nI_add, if_pos (by rw [jok_t (by omega) (by omega)]; trivial), nI_cl (k := 1 + 2 * s) (by omega), wp_bind]
  have hw : ∀ b, b < coB c → rg (ci1 1587 b) 90 := fun b hb => by rw [l1 b (by omega)]; exact vw_rg hc hv
  -- the loop over miles
  have loop : ∀ (ci2 : jI) (cj2 : jJ) (x0 : Nat), Fr [1587] [49, 52, 53, 54, 55, 103] ci ci2 → sJ cj cj2 → (∀ b, b < 6 → ci2 1587 b = vw c (ci 1585) b) → x0 ≤ 60000 → Wp (fX6_odds_134 n (nI s) (nI b) (ci1 1585 (1 + 2 * s)) (nI x0) ci2 cj2) (fun q => q.1 = nI (x0 + ns (odY c (ci 1585) s b) 100) ∧ QM ci cj q.2.1 q.2.2) := by
    intro ci2 cj2 x0 F2 J2 V2 hx
    unfold fX6_odds_134
    refine Wp.loop4 (fun k (a0 a1 : Int32) (a2 : jI) (a3 : jJ) => fX6_odds_139 n k (nI s) (nI b) (ci1 1585 (1 + 2 * s)) a0 a1 a2 a3) (fun r x => ∃ m, m + r = 100 ∧ x.2.1 = nI m ∧ x.1 = nI (x0 + ns (odY c (ci 1585) s b) m) ∧ (∀ k, k ≠ 1 + 2 * s → x.2.2.1 1585 k = ci 1585 k) ∧ (∀ b, b < 6 → x.2.2.1 1587 b = vw c (ci 1585) b) ∧ Fr [1585, 1587] [49, 52, 53, 54, 55, 103] ci x.2.2.1 ∧ sJ cj x.2.2.2) _ ?_ n 100 (nI x0) (nI 0) ci2 cj2 (by omega) ⟨0, by omega, rfl, rfl, fun k _ => congrFun (F2.1 1585 (by decide) (by decide)) k, V2, F2.le (by decide) (by decide), J2⟩
    rintro k r x l ci3 cj3 ⟨m, g1, g2, g3, g4, g5, g6, g7⟩ ih
    dsimp only at g2 g3 g4 g5 g6 g7
    subst g2
    rw [fX6_odds_139.eq_2]
    have hns : ns (odY c (ci 1585) s b) m ≤ m * 100 := ns_le (fun k => by unfold odY; split <;> omega) m
    by_cases hi : 100 ≤ m
    · have : m = 100 := by omega
      subst this
      rw [if_pos (nI_le hi (by omega)), nI_mulN, nI_add, if_pos (by rw [jok_t (by omega) (by omega)]; trivial), nI_cl (by omega), wp_some]
      refine ⟨g3, fun k hk => ?_, ?_, (g6.up (by decide) (by decide)).le (by decide) (by decide), g7⟩
      · show ju ci3 1585 (1 + 2 * s) _ 1585 k = _
        by_cases e : k = 1 + 2 * s
        · subst e; rw [ju_eq, e85]
        · rw [ju_ne2 _ _ e]; exact g4 k e
      · simp (disch := omega) only [ju_row]
        exact g6.2 58 (by decide)
    · rw [if_neg (nI_ge (by omega) (by omega)), nI_mulN, nI_add, if_pos (by rw [jok_t (by omega) (by omega)]; trivial), nI_cl (by omega), wp_bind]
      have F4 : Fr [1585, 1587] [49, 52, 53, 54, 55, 103] ci (ju ci3 1585 (1 + 2 * s) (nI m)) := g6.up (by decide) (by decide)
      have m4 := hm.fr' F4 (by decide)
      have r85 : e45 (upv (ci 1585) (1 + 2 * s) (nI m)) ((ju ci3 1585 (1 + 2 * s) (nI m)) 1585) := by
        intro k _
        by_cases e : k = 1 + 2 * s
        · subst e; rw [ju_eq, upv_eq]
        · rw [ju_ne2 _ _ e, upv_ne e]; exact (g4 k e).symm
      have r87 : (ju ci3 1585 (1 + 2 * s) (nI m)) 1587 = ci3 1587 := ju_row _ _ (by decide)
      refine (sp_comesTo (Y := 999) hn (by omega) hc m4 ((VR_updM hv hc (by omega) ⟨m, by omega, rfl⟩).e45 hc r85) (fun b hb => by rw [r87, g5 b (by omega)]; exact vw_rg hc hv) hs).mono ?_
      rintro ⟨z, ci4, cj4⟩ ⟨q1, q2, q3⟩
      dsimp only at q1 q2 q3 ⊢
      have ez : z = tos c (upv (ci 1585) (1 + 2 * s) (nI m)) s := by
        rw [q1]
        unfold tos
        rw [vw_dep (w := ci 1585) hc (upv_ne (by omega)) (fun k k1 _ => upv_ne (by omega))]
        rw [chs_congr (v' := upv (ci 1585) (1 + 2 * s) (nI m)) (w' := vw c (ci 1585)) (r85 0 (by omega)).symm (r85 (1 + 2 * s) (by omega)).symm (fun b hb => ⟨(r85 _ (by omega)).symm, (r85 _ (by omega)).symm, by rw [r87]; exact g5 b (by omega)⟩)]
      have F5 : Fr [1585, 1587] [49, 52, 53, 54, 55, 103] ci ci4 := F4.tr (q2.le (by decide) (by decide))
      have r85' : ∀ k, k ≠ 1 + 2 * s → ci4 1585 k = ci 1585 k := fun k hk => by
        rw [q2.1 1585 (by decide) (by decide), ju_ne2 _ _ hk]; exact g4 k hk
      have r87' : ∀ b, b < 6 → ci4 1587 b = vw c (ci 1585) b := fun b hb => by
        rw [q2.1 1587 (by decide) (by decide), r87]; exact g5 b hb
      have e7 : ci4 1577 7 = nI (coW c) := (m4.fr' q2 (by decide)).2.2.2.1
      unfold fX6_odds_179
      by_cases e : tos c (upv (ci 1585) (1 + 2 * s) (nI m)) s = nI b
      · rw [if_pos (ez.trans e), if_pos (by rw [jok_t (by omega) (by omega)]; trivial), nI_cl (by omega), e7, g3, nI_add, nI_add]
        refine ih (r - 1) _ (nI (m + 1)) _ _ (by omega) ⟨m + 1, by omega, rfl, ?_, r85', r87', F5, g7.tr q3⟩
        show nI _ = nI (x0 + (ns _ m + odY c (ci 1585) s b m))
        unfold odY
        rw [if_pos e, Nat.add_assoc]
      · rw [if_neg (fun z => e (ez.symm.trans z)), g3, nI_add]
        refine ih (r - 1) _ (nI (m + 1)) _ _ (by omega) ⟨m + 1, by omega, rfl, ?_, r85', r87', F5, g7.tr q3⟩
        show nI _ = nI (x0 + (ns _ m + odY c (ci 1585) s b m))
        unfold odY
        rw [if_neg e]; rfl
  refine (sp_comesTo (Y := 999) hn (by omega) hc hm1 (by rw [e85]; exact hv) hw hs).mono ?_
  rintro ⟨z, ci2, cj2⟩ ⟨q1, q2, q3⟩
  dsimp only at q1 q2 q3 ⊢
  have ez : z = tos c (ci 1585) s := by
    rw [q1, e85]
    unfold tos
    rw [chs_congr rfl rfl (fun b hb => ⟨rfl, rfl, l1 b (by omega)⟩)]
  have F2 : Fr [1587] [49, 52, 53, 54, 55, 103] ci ci2 := (l2.le (by decide) (by decide)).tr (q2.le (by decide) (by decide))
  have V2 : ∀ b, b < 6 → ci2 1587 b = vw c (ci 1585) b := fun b hb => by rw [q2.1 1587 (by decide) (by decide)]; exact l1 b hb
  have m2 := hm.fr' F2 (by decide)
  have hSp : 1 ≤ coS c := by omega
  unfold od0
  by_cases e : tos c (ci 1585) s = nI b
  · rw [if_pos (ez.trans e), if_pos (by rw [jok_t (by omega) (by omega)]; trivial), wp_bind, e6_shoalMany, wp_some]
    dsimp only
    rw [if_pos (by rw [jok_t (by omega) (by omega)]; trivial), wp_bind, e6_shoalMany, wp_some]
    dsimp only
    rw [nI_cl (by omega), m2.2.2.2.1, m2.2.2.1, nI_subN (by omega), nI_subN (by omega), nI_mulN, nI_mulN, nI_mulN, nI_mulN, nI_add, if_pos e]
    refine loop ci2 cj2 _ F2 (l3.tr q3) V2 ?_
    have a1 : 100 * (100 - coW c) * coS c ≤ 10000 * 3 := Nat.mul_le_mul (by omega) hS
    have a2 : 100 * coW c * (coS c - 1) ≤ 10000 * 2 := Nat.mul_le_mul (by omega) (by omega)
    omega
  · rw [if_neg (fun z => e (ez.symm.trans z)), if_neg e]
    exact loop ci2 cj2 0 F2 (l3.tr q3) V2 (by omega)
theorem m_odds (hn : 4000 ≤ n) (h : MI c ci) (a0 a1 : Int32) : Wp (fX6_odds n a0 a1 ci cj) (fun q => q.1 = aOdds c (ci 1585) a0 a1 ∧ QM ci cj q.2.1 q.2.2) := by
  have hh := h
  obtain ⟨hc, hm, hv, hk, h58⟩ := h
  have hS := hc.2.2.1
  have hB := hc.1
  have bad : coS c = 0 ∨ ¬ iah (ci 1585 0) (nI 1) 1 1 → ∀ x0 x1 x2, Wp (fX6_odds_37 n x0 x1 x2 ci cj) (fun q => q.1 = -1 ∧ QM ci cj q.2.1 q.2.2) := by
    intro hb x0 x1 x2
    unfold fX6_odds_37 fX6_odds_54
    rw [wp_bind, e6_shoalMany, wp_some]
    dsimp only
    by_cases h0 : coS c = 0
    · rw [if_pos (show ci 1577 6 = 0 by rw [hm.2.2.1, h0]; rfl), wp_some]
      exact ⟨rfl, QM.rfl'⟩
    · rw [if_neg (show ¬ ci 1577 6 = 0 by rw [hm.2.2.1]; exact nI_ne0 (by omega) (by omega)), wp_bind, e6_isAhead, wp_some]
      dsimp only
      rw [if_neg (hb.resolve_left h0), if_pos z00, wp_some]
      exact ⟨rfl, QM.rfl'⟩
  unfold fX6_odds fX6_odds_14 aOdds
  have notall : ¬ (a0 = -1 ∧ a1 = -1) → Wp (fX6_odds_15 n a0 a1 (nI 0) ci cj) (fun q => q.1 = (if coS c = 0 ∨ ¬ iah (ci 1585 0) (nI 1) 1 1 then -1 else if a0 = -1 ∧ a1 = -1 then nI 10000 * nI (coS c) else if iv a0 (coS c) ∧ iv a1 (coB c) then nI (od0 c (ci 1585) a0.toNatClampNeg a1.toNatClampNeg + ns (odY c (ci 1585) a0.toNatClampNeg a1.toNatClampNeg) 100) else -1) ∧ QM ci cj q.2.1 q.2.2) := by
    intro hna
    unfold fX6_odds_15
    rw [if_pos z00, wp_bind, e6_isShoal hc hm, wp_some]
    dsimp only
    by_cases h1 : iv a0 (coS c)
    rotate_left
    · unfold fX6_odds_54
      rw [if_neg h1, if_pos z00, wp_some, if_neg hna, if_neg (show ¬ (iv a0 (coS c) ∧ iv a1 (coB c)) from fun z => h1 z.1)]
      exact ⟨by split <;> rfl, QM.rfl'⟩
    rw [if_pos h1, if_neg n10, wp_bind, e6_isBay hc hm, wp_some]
    dsimp only
    by_cases h2 : iv a1 (coB c)
    rotate_left
    · unfold fX6_odds_54
      rw [if_neg h2, if_pos z00, wp_some, if_neg hna, if_neg (show ¬ (iv a0 (coS c) ∧ iv a1 (coB c)) from fun z => h2 z.2)]
      exact ⟨by split <;> rfl, QM.rfl'⟩
    rw [if_pos h2, if_neg n10, if_neg hna, if_pos (show iv a0 (coS c) ∧ iv a1 (coB c) from ⟨h1, h2⟩)]
    by_cases hb : coS c = 0 ∨ ¬ iah (ci 1585 0) (nI 1) 1 1
    · rw [if_pos hb]; exact bad hb _ _ _
    · rw [if_neg hb]
      obtain ⟨s, s1, s2⟩ := iv_ex h1 (by omega)
      obtain ⟨b, b1, b2⟩ := iv_ex h2 (by omega)
      subst s2 b2
      rw [nI_cl (by omega), nI_cl (by omega)]
      exact sp6_odds hn hh s1 b1 (Decidable.of_not_not (fun z => hb (Or.inr z)))
  by_cases c0 : a0 = -1
  · rw [if_pos c0]
    by_cases c1 : a1 = -1
    · rw [if_pos c1]
      unfold fX6_odds_15
      rw [if_neg n10]
      by_cases hb : coS c = 0 ∨ ¬ iah (ci 1585 0) (nI 1) 1 1
      · rw [if_pos hb]; exact bad hb _ _ _
      · rw [if_neg hb, if_pos ⟨c0, c1⟩]
        have hS0 : ¬ coS c = 0 := fun z => hb (Or.inl z)
        unfold fX6_odds_37
        rw [wp_bind, e6_shoalMany, wp_some]
        dsimp only
        rw [if_neg (show ¬ ci 1577 6 = 0 by rw [hm.2.2.1]; exact nI_ne0 (by omega) (by omega)), wp_bind, e6_isAhead, wp_some]
        dsimp only
        rw [if_pos (Decidable.of_not_not (fun z => hb (Or.inr z))), if_neg n10, if_neg n10, wp_bind, e6_shoalMany, wp_some, wp_some]
        exact ⟨by rw [hm.2.2.1], QM.rfl'⟩
    · rw [if_neg c1]; exact notall (fun z => c1 z.2)
  · rw [if_neg c0]; exact notall (fun z => c0 z.1)
end
