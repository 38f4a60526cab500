/-! SIT, GIVE, YEARS, SEED -/
set_option maxRecDepth 100000
def okSit (c : jCo) (v : jV8) (a0 a1 : Int32) : Prop := iv a0 (coP c) ∧ (nI 0 ≤ a1 ∧ a1 ≤ nI 9) ∧ ¬ (v (25 + 2 * a0.toNatClampNeg) = a1 ∧ (a1 = 0 ∨ v (26 + 2 * a0.toNatClampNeg) = 0))
def sitV (v : jV8) (p : Nat) (x : Int32) : jV8 := fun k => if k = 26 + 2 * p ∧ ¬ x ≤ 0 then nI 0 else if k = 25 + 2 * p then x else v k
def okGive (c : jCo) (v : jV8) (a0 a1 : Int32) : Prop := iv a0 (coB c) ∧ (nI 0 ≤ a1 ∧ a1 ≤ nI 99) ∧ ¬ v (7 + 3 * a0.toNatClampNeg) = a1
def giveV (v : jV8) (b : Nat) (x : Int32) : jV8 := fun k => if k = 7 + 3 * b then x else v k
theorem VR.le {c : jCo} {v : jV8} {Y Y' : Nat} (h : VR c v Y) (hY : Y ≤ Y') : VR c v Y' := ⟨h.1.le hY, h.2⟩
theorem rg9 {x : Int32} {m : Nat} (h : nI 0 ≤ x ∧ x ≤ nI m) (hm : m < 2147483648) : rg x m := by
  obtain ⟨k, k1, k2⟩ := nI_ex (show (0 : Int32) ≤ x from h.1)
  have h2 := h.2
  rw [k2, nI_leN k1 hm] at h2
  exact ⟨k, h2, k2⟩
theorem VR_sit {c : jCo} {v : jV8} {Y p : Nat} {x : Int32} (hc : CR c) (h : VR c v Y) (hx : rg x 9) (hp : p < coP c) : VR c (sitV v p x) Y := by
  obtain ⟨c1, c2, c3, -⟩ := hc
  obtain ⟨h1, h2, h3, h4⟩ := h
  have e : ∀ k, k ≠ 26 + 2 * p → k ≠ 25 + 2 * p → sitV v p x k = v k := fun k k1 k2 => by unfold sitV; rw [if_neg (fun z => k1 z.1), if_neg k2]
  refine ⟨by rw [e 0 (by omega) (by omega)]; exact h1, fun s hs => by rw [e _ (by omega) (by omega), e _ (by omega) (by omega)]; exact h2 s hs, fun b hb => by rw [e _ (by omega) (by omega), e _ (by omega) (by omega), e _ (by omega) (by omega)]; exact h3 b hb, fun q hq => ?_⟩
  by_cases hpq : q = p
  · subst hpq
    refine ⟨by unfold sitV; rw [if_neg (fun z => by omega), if_pos rfl]; exact hx, ?_⟩
    unfold sitV
    by_cases h0 : x ≤ 0
    · rw [if_neg (fun z => z.2 h0), if_neg (by omega)]; exact (h4 q hq).2
    · rw [if_pos ⟨rfl, h0⟩]; exact ⟨0, by omega, rfl⟩
  · rw [e _ (by omega) (by omega), e _ (by omega) (by omega)]; exact h4 q hq
theorem VR_give {c : jCo} {v : jV8} {Y b : Nat} {x : Int32} (hc : CR c) (h : VR c v Y) (hx : rg x 99) (hb : b < coB c) : VR c (giveV v b x) Y := by
  obtain ⟨c1, c2, c3, -⟩ := hc
  obtain ⟨h1, h2, h3, h4⟩ := h
  have e : ∀ k, k ≠ 7 + 3 * b → giveV v b x k = v k := fun k k1 => by unfold giveV; rw [if_neg k1]
  refine ⟨by rw [e 0 (by omega)]; exact h1, fun s hs => by rw [e _ (by omega), e _ (by omega)]; exact h2 s hs, fun q hq => ?_, fun q hq => by rw [e _ (by omega), e _ (by omega)]; exact h4 q hq⟩
  by_cases hpq : q = b
  · subst hpq
    refine ⟨by unfold giveV; rw [if_pos rfl]; exact hx, ?_⟩
    rw [e _ (by omega), e _ (by omega)]
    exact (h3 q hq).2
  · rw [e _ (by omega), e _ (by omega), e _ (by omega)]; exact h3 q hq
/-- the same below 166 -/
def e166 (v w : jV8) : Prop := ∀ k, k < 166 → v k = w k
theorem kps_congr {c : jCo} {v w : jV8} (hc : CR c) (h : e166 v w) (hk : rg (v 45) 40) : ∀ s, s ≤ coS c → e166 (kps c v s) (kps c w s)
  | 0, _ => h
  | s + 1, hs => by
    have ih := kps_congr hc h hk s (by omega)
    have et : tos c v s = tos c w s := tos_congr hc (fun k hk => h k (by omega)) (by omega)
    have hr := kps_rg (c := c) hk s
    intro k hk
    show (if tos c v s = -1 then kps c v s else psh (kps c v s) (v 0) (nI s) (tos c v s)) k = (if tos c w s = -1 then kps c w s else psh (kps c w s) (w 0) (nI s) (tos c w s)) k
    rw [← et, ← h 0 (by omega)]
    by_cases e : tos c v s = -1
    · rw [if_pos e, if_pos e]; exact ih k hk
    · rw [if_neg e, if_neg e]
      unfold psh
      rw [← ih 45 (by omega)]
      by_cases e4 : kps c v s 45 = nI 40
      · rw [if_pos e4, if_pos e4]
        by_cases k1 : k = 163
        · rw [if_pos k1, if_pos k1]
        rw [if_neg k1, if_neg k1]
        by_cases k2 : k = 164
        · rw [if_pos k2, if_pos k2]
        rw [if_neg k2, if_neg k2]
        by_cases k3 : k = 165
        · rw [if_pos k3, if_pos k3]
        rw [if_neg k3, if_neg k3]
        by_cases k4 : 46 ≤ k ∧ k < 163
        · rw [if_pos k4, if_pos k4]; exact ih _ (by omega)
        · rw [if_neg k4, if_neg k4]; exact ih _ hk
      · rw [if_neg e4, if_neg e4]
        rw [ih k hk]
theorem goF_congr {c : jCo} {v w : jV8} (hc : CR c) (h : e166 v w) (hk : rg (v 45) 40) : e166 (goF c v) (goF c w) := by
  intro k hk'
  unfold goF
  by_cases h45 : k < 45
  · rw [if_pos h45, if_pos h45]; exact goV_congr hc (fun k hk => h k (by omega)) k h45
  · rw [if_neg h45, if_neg h45]; exact kps_congr hc h hk _ (Nat.le_refl _) k hk'
theorem goF_rg {c : jCo} {v : jV8} (hk : rg (v 45) 40) : rg (goF c v 45) 40 := by
  unfold goF
  rw [if_neg (by omega)]
  exact kps_rg hk _
section
variable {n : Nat} {c : jCo} {ci : jI} {cj : jJ} {u : Nat} {U : Nat → jV8}
theorem e6_isRefused : fX6_isRefused n ci cj = some (nI 0, ju ci 1549 2 (ci 1549 2 + nI 1), cj) := by
  unfold fX6_isRefused
  rw [if_pos (by rw [jok_t (by omega) (by omega)]; trivial), if_pos (by rw [jok_t (by omega) (by omega)]; trivial), nI_cl (by omega)]
theorem e6_refuses {k : Nat} (hk : k < 6) : fX6_refuses n (nI k) ci cj = some (-1, ju ci 1549 k (ci 1549 k + nI 1), cj) := by
  unfold fX6_refuses
  rw [if_pos (by rw [jok_t (by omega) (by omega)]; trivial), if_pos (by rw [jok_t (by omega) (by omega)]; trivial), nI_cl (by omega)]
theorem l32_in {a : Int32} {m : Nat} {x : Int64} (hx : x = (nI m).toInt64) : (lN 0 ≤ a.toInt64 ∧ a.toInt64 ≤ x) ↔ (nI 0 ≤ a ∧ a ≤ nI m) := by
  rw [hx, show lN 0 = (nI 0).toInt64 from rfl, Int32.toInt64_le, Int32.toInt64_le]
theorem m_sit (hn : 4000 ≤ n) (h : MI c ci) (hk : MK ci u U) (a0 a1 : Int32) : Wp (fX6_sit n a0 a1 ci cj) (fun q => q.2.2 = cj ∧ (¬ okSit c (ci 1585) a0 a1 → q.1 = nI 0 ∧ q.2.1 = ju ci 1549 2 (ci 1549 2 + nI 1)) ∧
    (okSit c (ci 1585) a0 a1 → q.1 = nI 1 ∧ MK q.2.1 (pU u) (pV u U (ci 1585)) ∧ Fr [1585, 1594] [68, 69] ci q.2.1 ∧ q.2.1 1585 = sitV (ci 1585) a0.toNatClampNeg a1)) := by
  obtain ⟨hc, hm, hv, hk4, h58⟩ := h
  have hP := hc.2.1
  have no : ∀ (hh : ¬ okSit c (ci 1585) a0 a1), Wp (fX6_sit_41 n ci cj) (fun q => q.2.2 = cj ∧ (¬ okSit c (ci 1585) a0 a1 → q.1 = nI 0 ∧ q.2.1 = ju ci 1549 2 (ci 1549 2 + nI 1)) ∧ (okSit c (ci 1585) a0 a1 → q.1 = nI 1 ∧ MK q.2.1 (pU u) (pV u U (ci 1585)) ∧ Fr [1585, 1594] [68, 69] ci q.2.1 ∧ q.2.1 1585 = sitV (ci 1585) a0.toNatClampNeg a1)) := by
    intro hh
    unfold fX6_sit_41
    rw [wp_bind, e6_isRefused, wp_some]
    dsimp only
    rw [if_pos bt0, wp_some]
    exact ⟨rfl, fun _ => ⟨rfl, rfl⟩, fun z => absurd z hh⟩
  unfold fX6_sit
  rw [wp_bind, e6_isPair hc hm, wp_some]
  dsimp only
  by_cases h1 : iv a0 (coP c)
  rotate_left
  · rw [if_neg h1, if_pos z00]; exact no (fun z => h1 z.1)
  rw [if_pos h1, if_neg n10, wp_bind, e6_isIn, wp_some]
  dsimp only
  by_cases h2 : nI 0 ≤ a1 ∧ a1 ≤ nI 9
  rotate_left
  · rw [if_neg (fun z => h2 ((l32_in (m := 9) (x := (9 : Int64)) rfl).mp z)), if_pos z00]; exact no (fun z => h2 z.2.1)
  rw [if_pos ((l32_in (m := 9) (x := (9 : Int64)) rfl).mpr h2), if_neg n10]
  obtain ⟨p, p1, p2⟩ := iv_ex h1 (by omega)
  subst p2
  rw [wp_bind, e6_trueOf (by omega), wp_some]
  dsimp only
  have cp : (nI p).toNatClampNeg = p := nI_cl (by omega)
  have yes : ∀ (hh : okSit c (ci 1585) (nI p) a1), Wp (fX6_sit_46 n (nI p) a1 ci cj) (fun q => q.2.2 = cj ∧ (¬ okSit c (ci 1585) (nI p) a1 → q.1 = nI 0 ∧ q.2.1 = ju ci 1549 2 (ci 1549 2 + nI 1)) ∧ (okSit c (ci 1585) (nI p) a1 → q.1 = nI 1 ∧ MK q.2.1 (pU u) (pV u U (ci 1585)) ∧ Fr [1585, 1594] [68, 69] ci q.2.1 ∧ q.2.1 1585 = sitV (ci 1585) (nI p).toNatClampNeg a1)) := by
    intro hh
    unfold fX6_sit_46 fX6_sit_78
    rw [wp_bind]
    refine (sp6_keeps hn hk).mono ?_
    rintro ⟨ci1, cj1⟩ ⟨k1, k2, k3⟩
    dsimp only at k1 k2 k3 ⊢
    have e85 : ci1 1585 = ci 1585 := k2.1 1585 (by decide) (by decide)
    have k2' : Fr [1585, 1594] [68, 69] ci ci1 := k2.le (by decide) (by decide)
    have mk : ∀ {ci2 : jI}, ci2 1547 = ci1 1547 → ci2 1594 = ci1 1594 → MK ci2 (pU u) (pV u U (ci 1585)) := by
      intro ci2 x1 x2
      unfold MK
      rw [x1, x2]; exact k1
    simp (disch := omega) only [nI_mulN, nI_add, jok_t, if_true, nI_cl]
    by_cases h0 : a1 ≤ 0
    · rw [if_pos h0, wp_some]
      refine ⟨k3, fun z => absurd hh z, fun _ => ⟨rfl, mk (by dsimp only; rw [ju_row _ _ (by decide)]) (by dsimp only; rw [ju_row _ _ (by decide)]), k2'.up (by decide) (by decide), funext (fun k => ?_)⟩⟩
      dsimp only
      unfold sitV
      rw [if_neg (fun z => z.2 h0), ju_ap, if_pos rfl, e85]
    · rw [if_neg h0, wp_some]
      refine ⟨k3, fun z => absurd hh z, fun _ => ⟨rfl, mk (by dsimp only; rw [ju_row _ _ (by decide), ju_row _ _ (by decide)]) (by dsimp only; rw [ju_row _ _ (by decide), ju_row _ _ (by decide)]), (k2'.up (by decide) (by decide)).up (by decide) (by decide), funext (fun k => ?_)⟩⟩
      dsimp only
      unfold sitV
      rw [ju_ap, if_pos rfl, ju_ap, if_pos rfl, e85]
      by_cases e : k = 26 + 2 * p
      · rw [if_pos e, if_pos ⟨e, h0⟩]
      · rw [if_neg e, if_neg (show ¬ (k = 26 + 2 * p ∧ ¬ a1 ≤ 0) from fun z => e z.1)]
  by_cases h3 : ci 1585 (25 + 2 * p) = a1
  · rw [if_pos h3]
    by_cases h4 : a1 = 0
    · rw [if_pos h4]; exact no (fun z => z.2.2 ⟨by rw [cp]; exact h3, Or.inl h4⟩)
    · rw [if_neg h4, wp_bind, e6_sinceOf (by omega), wp_some]
      dsimp only
      by_cases h5 : ci 1585 (26 + 2 * p) = 0
      · rw [if_pos h5]; exact no (fun z => z.2.2 ⟨by rw [cp]; exact h3, Or.inr (by rw [cp]; exact h5)⟩)
      · rw [if_neg h5]; exact yes ⟨h1, h2, fun z => z.2.elim h4 (fun z => h5 (by rw [cp] at z; exact z))⟩
  · rw [if_neg h3]; exact yes ⟨h1, h2, fun z => h3 (by have := z.1; rw [cp] at this; exact this)⟩
theorem m_give (hn : 4000 ≤ n) (h : MI c ci) (hk : MK ci u U) (a0 a1 : Int32) : Wp (fX6_give n a0 a1 ci cj) (fun q => q.2.2 = cj ∧ (¬ okGive c (ci 1585) a0 a1 → q.1 = nI 0 ∧ q.2.1 = ju ci 1549 2 (ci 1549 2 + nI 1)) ∧
    (okGive c (ci 1585) a0 a1 → q.1 = nI 1 ∧ MK q.2.1 (pU u) (pV u U (ci 1585)) ∧ Fr [1585, 1594] [68, 69] ci q.2.1 ∧ q.2.1 1585 = giveV (ci 1585) a0.toNatClampNeg a1)) := by
  obtain ⟨hc, hm, hv, hk4, h58⟩ := h
  have hB := hc.1
  have no : ∀ (hh : ¬ okGive c (ci 1585) a0 a1), Wp (fX6_give_30 n ci cj) (fun q => q.2.2 = cj ∧ (¬ okGive c (ci 1585) a0 a1 → q.1 = nI 0 ∧ q.2.1 = ju ci 1549 2 (ci 1549 2 + nI 1)) ∧ (okGive c (ci 1585) a0 a1 → q.1 = nI 1 ∧ MK q.2.1 (pU u) (pV u U (ci 1585)) ∧ Fr [1585, 1594] [68, 69] ci q.2.1 ∧ q.2.1 1585 = giveV (ci 1585) a0.toNatClampNeg a1)) := by
    intro hh
    unfold fX6_give_30
    rw [wp_bind, e6_isRefused, wp_some]
    dsimp only
    rw [if_pos bt0, wp_some]
    exact ⟨rfl, fun _ => ⟨rfl, rfl⟩, fun z => absurd z hh⟩
  unfold fX6_give
  rw [wp_bind, e6_isBay hc hm, wp_some]
  dsimp only
  by_cases h1 : iv a0 (coB c)
  rotate_left
  · rw [if_neg h1, if_pos z00]; exact no (fun z => h1 z.1)
  rw [if_pos h1, if_neg n10, wp_bind, e6_isIn, wp_some]
  dsimp only
  by_cases h2 : nI 0 ≤ a1 ∧ a1 ≤ nI 99
  rotate_left
  · rw [if_neg (fun z => h2 ((l32_in (m := 99) (x := (99 : Int64)) rfl).mp z)), if_pos z00]; exact no (fun z => h2 z.2.1)
  rw [if_pos ((l32_in (m := 99) (x := (99 : Int64)) rfl).mpr h2), if_neg n10]
  obtain ⟨p, p1, p2⟩ := iv_ex h1 (by omega)
  subst p2
  rw [wp_bind, e6_hungerOf (by omega), wp_some]
  dsimp only
  have cp : (nI p).toNatClampNeg = p := nI_cl (by omega)
  by_cases h3 : ci 1585 (7 + 3 * p) = a1
  · rw [if_pos h3]; exact no (fun z => z.2.2 (by rw [cp]; exact h3))
  rw [if_neg h3, wp_bind]
  have hh : okGive c (ci 1585) (nI p) a1 := ⟨h1, h2, by rw [cp]; exact h3⟩
  refine (sp6_keeps hn hk).mono ?_
  rintro ⟨ci1, cj1⟩ ⟨k1, k2, k3⟩
  dsimp only at k1 k2 k3 ⊢
  have e85 : ci1 1585 = ci 1585 := k2.1 1585 (by decide) (by decide)
  have k2' : Fr [1585, 1594] [68, 69] ci ci1 := k2.le (by decide) (by decide)
  simp (disch := omega) only [nI_mulN, nI_add, jok_t, if_true, nI_cl]
  rw [wp_some]
  refine ⟨k3, fun z => absurd hh z, fun _ => ⟨rfl, ?_, k2'.up (by decide) (by decide), funext (fun k => ?_)⟩⟩
  · unfold MK
    dsimp only
    rw [ju_row _ _ (by decide), ju_row _ _ (by decide)]; exact k1
  · dsimp only
    unfold giveV
    rw [ju_ap, if_pos rfl, e85]
/-- the model lives a year -/
theorem sp6_yearN {Y : Nat} (hn : 4000 ≤ n) (hY : Y ≤ 2000) (hc : CR c) (hm : MC c ci) {w : jV8} (hw : e166 (ci 1585) w) (hv : VR c w Y) (hk : rg (w 45) 40) (h58 : ci 1547 58 = 0) : Wp (fX6_yearGoes n ci cj) (fun q => e166 (q.1 1585) (goF c w) ∧ q.1 1547 59 = ci 1547 59 + cms c w ∧ Fr [1585, 1587, 1588, 1589, 1590] [49, 52, 53, 54, 55, 103, 59, 60] ci q.1 ∧ sJ cj q.2) := by
  have e45' : e45 w (ci 1585) := fun k hk => (hw k (by omega)).symm
  have hk' : rg (ci 1585 45) 40 := by rw [hw 45 (by omega)]; exact hk
  refine (sp_yearGoes hn hY hc hm (hv.e45 hc e45') hk').mono ?_
  rintro ⟨ci1, cj1⟩ ⟨⟨y1, y2, y3, y4, y5, y6, y7, y8⟩, y9⟩
  dsimp only at y1 y2 y3 y4 y5 y6 y7 y8 y9 ⊢
  refine ⟨fun k hk => ?_, by rw [y6, cms_congr hc e45'], y8, y9⟩
  rw [← goF_congr hc hw hk' k hk]
  unfold goF
  by_cases h45 : k < 45
  · rw [if_pos h45]; exact y1 k h45
  · rw [if_neg h45]; exact y2 h58 k (by omega) hk
def yrsA (c : jCo) (v : jV8) (m : Nat) : Int32 := sg (fun i => cms c (goFN c v i)) m
theorem goFN_rg {v : jV8} (hk : rg (v 45) 40) : ∀ i, rg (goFN c v i 45) 40
  | 0 => hk
  | i + 1 => goF_rg (goFN_rg hk i)
theorem m_years (hn : 4000 ≤ n) (h : MI c ci) (hk : MK ci u U) (a0 : Int32) : Wp (fX6_years n a0 ci cj) (fun q => (¬ iah (ci 1585 0) a0 1 100 → q.1 = -1 ∧ q.2.1 = ju ci 1549 3 (ci 1549 3 + nI 1) ∧ q.2.2 = cj) ∧
    (iah (ci 1585 0) a0 1 100 → q.1 = yrsA c (ci 1585) a0.toNatClampNeg ∧ MK q.2.1 (pU u) (pV u U (ci 1585)) ∧ e166 (q.2.1 1585) (goFN c (ci 1585) a0.toNatClampNeg) ∧ Fr [1585, 1587, 1588, 1589, 1590, 1594] [49, 52, 53, 54, 55, 103, 59, 60, 68, 69] ci q.2.1 ∧ sJ cj q.2.2)) := by
  obtain ⟨hc, hm, hv, hk4, h58⟩ := h
  unfold fX6_years
  rw [wp_bind, e6_isAhead, wp_some]
  dsimp only
  by_cases h1 : iah (ci 1585 0) a0 1 100
  rotate_left
  · rw [if_neg h1, if_pos z00, wp_bind, e6_refuses (by omega), wp_some, wp_some]
    exact ⟨fun _ => ⟨rfl, rfl, rfl⟩, fun z => absurd z h1⟩
  rw [if_pos h1, if_neg n10]
  obtain ⟨m, m1, m2, m3, z, z1, z2⟩ := iah_ex hv.1 (by omega) (by omega) (by omega) h1
  subst m3
  rw [nI_cl (by omega), wp_bind]
  refine (sp6_keeps hn hk).mono ?_
  rintro ⟨ci1, cj1⟩ ⟨k1, k2, k3⟩
  dsimp only at k1 k2 k3 ⊢
  rw [k3]
  have e85 : ci1 1585 = ci 1585 := k2.1 1585 (by decide) (by decide)
  unfold fX6_yearsGo
  rw [wp_bind]
  have k4 : Fr [1585, 1587, 1588, 1589, 1590, 1594] [49, 52, 53, 54, 55, 103, 59, 60, 68, 69] ci (ju (ju ci1 1547 59 (nI 0)) 1547 60 (nI 0)) := ((k2.le (by decide) (by decide)).upf (by decide)).upf (by decide)
  refine Wp.loop3 (fun k (a0 : Int32) (a1 : jI) (a2 : jJ) => fX6_yearsGo_12 n k (nI m) a0 a1 a2) (fun r x => ∃ i, i + r = m ∧ x.1 = nI i ∧ x.2.1 1547 59 = yrsA c (ci 1585) i ∧ e166 (x.2.1 1585) (goFN c (ci 1585) i) ∧ Fr [1585, 1587, 1588, 1589, 1590, 1594] [49, 52, 53, 54, 55, 103, 59, 60, 68, 69] ci x.2.1 ∧ sJ cj x.2.2 ∧ x.2.1 1594 = ci1 1594 ∧ x.2.1 1547 68 = ci1 1547 68 ∧ x.2.1 1547 69 = ci1 1547 69) _ ?_ n m (nI 0) _ _ (by omega) ⟨0, by omega, rfl, by dsimp only; rw [ju_ne2 _ _ (by decide), ju_eq]; rfl, fun k _ => by dsimp only; rw [ju_row _ _ (by decide), ju_row _ _ (by decide), e85]; rfl, k4, sJ.rfl', by dsimp only; rw [ju_row _ _ (by decide), ju_row _ _ (by decide)], by dsimp only; rw [ju_ne2 _ _ (by decide), ju_ne2 _ _ (by decide)], by dsimp only; rw [ju_ne2 _ _ (by decide), ju_ne2 _ _ (by decide)]⟩
  rintro k r l ci2 cj2 ⟨i, g1, g2, g3, g4, g5, g6, g7, g8, g9⟩ ih
  dsimp only at g2 g3 g4 g5 g6 g7 g8 g9
  subst g2
  rw [fX6_yearsGo_12.eq_2]
  by_cases hi : m ≤ i
  · have : i = m := by omega
    subst this
    rw [if_pos (nI_le hi (by omega)), wp_some, wp_some]
    refine ⟨fun z => absurd h1 z, fun _ => ⟨g3, ?_, g4, g5, g6⟩⟩
    unfold MK
    dsimp only
    rw [g7, g8, g9]; exact k1
  · rw [if_neg (nI_ge (by omega) (by omega)), wp_bind]
    have m2' : MC c ci2 := hm.fr' g5 (by decide)
    refine (sp6_yearN (Y := 999 + i) hn (by omega) hc m2' g4 (VR_goFN hc hv i) (goFN_rg hk4 i) ((g5.2 58 (by decide)).trans h58)).mono ?_
    rintro ⟨ci3, cj3⟩ ⟨y1, y2, y3, y4⟩
    dsimp only at y1 y2 y3 y4 ⊢
    rw [nI_add]
    refine ih (r - 1) (nI (i + 1)) _ _ (by omega) ⟨i + 1, by omega, rfl, ?_, y1, g5.tr (y3.le (by decide) (by decide)), g6.tr y4, (y3.1 1594 (by decide) (by decide)).trans g7, (y3.2 68 (by decide)).trans g8, (y3.2 69 (by decide)).trans g9⟩
    dsimp only
    rw [y2, g3]; rfl
theorem m_seed (a0 : Int32) : Wp (fX6_seed n a0 ci cj) (fun q => (0 ≤ a0 → q = (nI 1, ci, ju cj 1547 70 a0.toInt64)) ∧ (¬ 0 ≤ a0 → q = (nI 0, ju ci 1549 5 (ci 1549 5 + nI 1), cj))) := by
  unfold fX6_seed
  by_cases h : 0 ≤ a0
  · rw [if_pos h, wp_some]; exact ⟨fun _ => rfl, fun z => absurd h z⟩
  · rw [if_neg h, if_pos (by rw [jok_t (by omega) (by omega)]; trivial), if_pos (by rw [jok_t (by omega) (by omega)]; trivial), nI_cl (by omega), wp_some]
    exact ⟨fun z => absurd z h, fun _ => rfl⟩
end
