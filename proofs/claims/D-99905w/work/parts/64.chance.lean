/-! CHANCE -/
set_option maxRecDepth 100000
def drS (x : Int64) : Int64 := (((1103515245 : Int64) * x) + (12345 : Int64)) - (((1103515245 : Int64) * x) + (12345 : Int64)) / (2147483648 : Int64) * (2147483648 : Int64)
def drA (x : Int64) (a : Int32) : Int32 := ((drS x / (64 : Int64)) - (drS x / (64 : Int64)) / a.toInt64 * a.toInt64).toInt32
def sdR (x : Int64) : Prop := ∃ k, k < 2147483648 ∧ x = lN k
theorem lN_toI {k : Nat} (h : k < 9223372036854775808) : (lN k).toInt = (k : Int) := Int64.toInt_ofNat_of_lt h
theorem lN_divN {a b : Nat} (ha : a < 9223372036854775808) (hb : b < 9223372036854775808) : lN a / lN b = lN (a / b) := by
  apply Int64.toInt_inj.mp
  have h1 : a / b ≤ a := Nat.div_le_self a b
  rw [Int64.toInt_div_of_ne_right _ _ (fun h => by have := congrArg Int64.toInt h; rw [lN_toI hb] at this; have h2 : (-1 : Int64).toInt = -1 := by decide
                                                   omega), lN_toI ha, lN_toI hb, lN_toI (by omega)]
  rfl
theorem lN_mulN (a b : Nat) : lN a * lN b = lN (a * b) := (Int64.ofNat_mul a b).symm
theorem lN_addN (a b : Nat) : lN a + lN b = lN (a + b) := (Int64.ofNat_add a b).symm
theorem lN_subN {a b : Nat} (h : b ≤ a) : lN a - lN b = lN (a - b) := (Int64.ofNat_sub a b h).symm
theorem lN_modE {a b : Nat} (ha : a < 9223372036854775808) (hb : b < 9223372036854775808) : lN a - lN a / lN b * lN b = lN (a % b) := by
  rw [lN_divN ha hb, lN_mulN, lN_subN (Nat.div_mul_le_self a b)]
  congr 1
  have := Nat.div_add_mod a b
  rw [Nat.mul_comm] at this
  omega
theorem drS_N {k : Nat} (h : k < 2147483648) : drS (lN k) = lN ((1103515245 * k + 12345) % 2147483648) := by
  unfold drS
  rw [show (1103515245 : Int64) = lN 1103515245 from rfl, show (12345 : Int64) = lN 12345 from rfl, show (2147483648 : Int64) = lN 2147483648 from rfl, lN_mulN, lN_addN, lN_modE (by omega) (by omega)]
theorem sdR_S {x : Int64} (h : sdR x) : sdR (drS x) := by
  obtain ⟨k, k1, k2⟩ := h
  rw [k2, drS_N k1]
  exact ⟨_, by omega, rfl⟩
theorem lN_32 {k : Nat} (h : k < 2147483648) : (lN k).toInt32 = nI k := by
  rw [← nI_L h]
  exact Int32.toInt32_toInt64 _
theorem drA_N {x : Int64} {m : Nat} (h : sdR x) (h0 : 0 < m) (hm : m < 2147483648) : ∃ j, j < m ∧ drA x (nI m) = nI j := by
  obtain ⟨k, k1, k2⟩ := sdR_S h
  unfold drA
  rw [k2, nI_L hm, show (64 : Int64) = lN 64 from rfl, lN_divN (by omega) (by omega), lN_modE (by omega) (by omega)]
  have := Nat.mod_lt (k / 64) h0
  exact ⟨_, this, lN_32 (by omega)⟩
section
variable {n : Nat} {ci : jI} {cj : jJ}
theorem e6_draw {m : Nat} (h0 : 0 < m) (hm : m < 2147483648) : fX6_drawOf n (nI m) ci cj = some (drA (cj 1547 70) (nI m), ci, ju cj 1547 70 (drS (cj 1547 70))) := by
  unfold fX6_drawOf
  rw [if_neg (show ¬ (nI m).toInt64 = 0 by rw [nI_L hm, show (0 : Int64) = lN 0 from rfl, lN_eqN hm (by omega)]; omega), ju_eq]
  rfl
theorem e0_draw {K : jK} {cr : jR} {m : Nat} (h0 : 0 < m) (hm : m < 2147483648) : fX0_draw n (nI m) K ci cj cr = some (drA (cj 0 19) (nI m), ci, ju cj 0 19 (drS (cj 0 19)), cr) := by
  unfold fX0_draw
  rw [if_pos (show ¬ (nI m).toInt64 = 0 by rw [nI_L hm, show (0 : Int64) = lN 0 from rfl, lN_eqN hm (by omega)]; omega), ju_eq]
  rfl
end
/-- what the draws are, and no more -/
def DR (dS : Int64 → Int64) (dA : Int64 → Int32 → Int32) : Prop := (∀ x, sdR x → sdR (dS x)) ∧ (∀ x m, sdR x → 0 < m → m < 2147483648 → ∃ j, j < m ∧ dA x (nI m) = nI j) ∧
  (∀ n m (ci : jI) (cj : jJ), 0 < m → m < 2147483648 → fX6_drawOf n (nI m) ci cj = some (dA (cj 1547 70) (nI m), ci, ju cj 1547 70 (dS (cj 1547 70)))) ∧
  ∀ n m (K : jK) (ci : jI) (cj : jJ) (cr : jR), 0 < m → m < 2147483648 → fX0_draw n (nI m) K ci cj cr = some (dA (cj 0 19) (nI m), ci, ju cj 0 19 (dS (cj 0 19)), cr)
theorem dr_ex : ∃ dS dA, DR dS dA := ⟨drS, drA, fun _ h => sdR_S h, fun _ _ h h0 hm => drA_N h h0 hm, fun _ _ _ _ h0 hm => e6_draw h0 hm, fun _ _ _ _ _ _ h0 hm => e0_draw h0 hm⟩
def drV (v : jV8) (s : Nat) (x : Int32) : jV8 := fun k => if k = 2 + 2 * s then -1 else if k = 1 + 2 * s then x else v k
abbrev jCh : Type := jV8 × Int64 × Int32
def chS (dS : Int64 → Int64) (dA : Int64 → Int32 → Int32) (c : jCo) (s : jCh) : jCh := if nI (coW c) ≤ dA s.2.1 (nI 100) ∨ coS c = 0 then (goF c s.1, dS s.2.1, s.2.2)
  else (goF c (drV s.1 (dA (dS s.2.1) (nI (coS c))).toNatClampNeg (dA (dS (dS s.2.1)) (nI 100))), dS (dS (dS s.2.1)), s.2.2 + nI 1)
def chN (dS : Int64 → Int64) (dA : Int64 → Int32 → Int32) (c : jCo) (v : jV8) (x : Int64) : Nat → jCh
  | 0 => (v, x, nI 0)
  | i + 1 => chS dS dA c (chN dS dA c v x i)
theorem VR_dr {c : jCo} {v : jV8} {Y s : Nat} {x : Int32} (hc : CR c) (h : VR c v Y) (hx : rg x 99) (hs : s < coS c) : VR c (drV v s x) Y := by
  obtain ⟨c1, c2, c3, -⟩ := hc
  obtain ⟨h1, h2, h3, h4⟩ := h
  have e : ∀ k, k ≠ 2 + 2 * s → k ≠ 1 + 2 * s → drV v s x k = v k := fun k k1 k2 => by unfold drV; rw [if_neg k1, if_neg k2]
  refine ⟨by rw [e 0 (by omega) (by omega)]; exact h1, fun q hq => ?_, fun b hb => by rw [e _ (by omega) (by omega), e _ (by omega) (by omega), e _ (by omega) (by omega)]; exact h3 b hb, fun q hq => by rw [e _ (by omega) (by omega), e _ (by omega) (by omega)]; exact h4 q hq⟩
  by_cases hpq : q = s
  · subst hpq
    unfold drV
    exact ⟨by rw [if_neg (by omega), if_pos rfl]; exact hx, by rw [if_pos rfl]; exact Or.inl rfl⟩
  · rw [e _ (by omega) (by omega), e _ (by omega) (by omega)]; exact h2 q hq
theorem VR_goF {c : jCo} (hc : CR c) {v : jV8} {Y : Nat} (hv : VR c v Y) : VR c (goF c v) (Y + 1) := VR_goFN hc hv 1
theorem chS_ok {dS : Int64 → Int64} {dA : Int64 → Int32 → Int32} (hD : DR dS dA) {c : jCo} (hc : CR c) {s : jCh} {Y : Nat} (h1 : VR c s.1 Y) (h2 : rg (s.1 45) 40) (h3 : sdR s.2.1) : VR c (chS dS dA c s).1 (Y + 1) ∧ rg ((chS dS dA c s).1 45) 40 ∧ sdR (chS dS dA c s).2.1 := by
  obtain ⟨d1, d2, -⟩ := hD
  unfold chS
  by_cases e : nI (coW c) ≤ dA s.2.1 (nI 100) ∨ coS c = 0
  · rw [if_pos e]
    exact ⟨VR_goF hc h1, goF_rg h2, d1 _ h3⟩
  · rw [if_neg e]
    have e0 : 0 < coS c := Nat.pos_of_ne_zero (fun z => e (Or.inr z))
    have hS := hc.2.2.1
    obtain ⟨j, j1, j2⟩ := d2 _ _ (d1 _ h3) e0 (by omega)
    obtain ⟨y, y1, y2⟩ := d2 _ 100 (d1 _ (d1 _ h3)) (by omega) (by omega)
    dsimp only
    rw [j2, y2, nI_cl (by omega)]
    refine ⟨VR_goF hc (VR_dr hc h1 ⟨y, by omega, rfl⟩ j1), goF_rg ?_, d1 _ (d1 _ (d1 _ h3))⟩
    unfold drV
    rw [if_neg (by omega), if_neg (by omega)]; exact h2
theorem chN_ok {dS : Int64 → Int64} {dA : Int64 → Int32 → Int32} (hD : DR dS dA) {c : jCo} (hc : CR c) {v : jV8} {x : Int64} {Y : Nat} (hv : VR c v Y) (hk : rg (v 45) 40) (hx : sdR x) (i : Nat) : VR c (chN dS dA c v x i).1 (Y + i) ∧ rg ((chN dS dA c v x i).1 45) 40 ∧ sdR (chN dS dA c v x i).2.1 := by
  induction i with
  | zero => exact ⟨hv, hk, hx⟩
  | succ i ih => exact chS_ok hD hc ih.1 ih.2.1 ih.2.2
section
variable {n : Nat} {c : jCo} {ci : jI} {cj : jJ} {u : Nat} {U : Nat → jV8}
theorem m_chance {dS : Int64 → Int64} {dA : Int64 → Int32 → Int32} (hD : DR dS dA) (hn : 4000 ≤ n) (h : MI c ci) (hk : MK ci u U) (hx : sdR (cj 1547 70)) (a0 : Int32) : Wp (fX6_chance n a0 ci cj) (fun q => (¬ iah (ci 1585 0) a0 1 100 → q.1 = -1 ∧ q.2.1 = ju ci 1549 3 (ci 1549 3 + nI 1) ∧ q.2.2 = cj) ∧
    (iah (ci 1585 0) a0 1 100 → q.1 = (chN dS dA c (ci 1585) (cj 1547 70) a0.toNatClampNeg).2.2 ∧ MK q.2.1 (pU u) (pV u U (ci 1585)) ∧ e166 (q.2.1 1585) (chN dS dA c (ci 1585) (cj 1547 70) a0.toNatClampNeg).1 ∧ q.2.2 1547 70 = (chN dS dA c (ci 1585) (cj 1547 70) a0.toNatClampNeg).2.1 ∧ Fr [1585, 1587, 1588, 1589, 1590, 1594] [49, 52, 53, 54, 55, 103, 59, 60, 68, 69] ci q.2.1 ∧ ∀ i, i ≠ 1622 → i ≠ 1547 → q.2.2 i = cj i)) := by
  obtain ⟨hc, hm, hv, hk4, h58⟩ := h
  have hS := hc.2.2.1
  have hW := hc.2.2.2.1
  unfold fX6_chance
  rw [wp_bind, e6_isAhead, wp_some]
  dsimp only
  by_cases h1 : iah (ci 1585 0) a0 1 100
  rotate_left
  · rw [if_neg h1, if_pos z00, wp_bind, e6_refuses (by omega), wp_some, wp_some]
    exact ⟨fun _ => ⟨rfl, rfl, rfl⟩, fun z => absurd z h1⟩
  rw [if_pos h1, if_neg n10]
  obtain ⟨m, m1, m2, m3, z, z1, z2⟩ := iah_ex hv.1 (by omega) (by omega) (by omega) h1
  subst m3
  rw [nI_cl (by omega), wp_bind]
  refine (sp6_keeps hn hk).mono ?_
  rintro ⟨ci1, cj1⟩ ⟨k1, k2, k3⟩
  dsimp only at k1 k2 k3 ⊢
  rw [k3]
  have e85 : ci1 1585 = ci 1585 := k2.1 1585 (by decide) (by decide)
  obtain ⟨x0, hx0⟩ : ∃ x0, x0 = cj 1547 70 := ⟨_, rfl⟩
  rw [← hx0] at hx ⊢
  refine Wp.loop4 (fun k (a0 a1 : Int32) (a2 : jI) (a3 : jJ) => fX6_chance_25 n k (nI m) a0 a1 a2 a3) (fun r x => ∃ i, i + r = m ∧ x.2.1 = nI i ∧ x.1 = (chN dS dA c (ci 1585) x0 i).2.2 ∧ e166 (x.2.2.1 1585) (chN dS dA c (ci 1585) x0 i).1 ∧ x.2.2.2 1547 70 = (chN dS dA c (ci 1585) x0 i).2.1 ∧ Fr [1585, 1587, 1588, 1589, 1590, 1594] [49, 52, 53, 54, 55, 103, 59, 60, 68, 69] ci x.2.2.1 ∧ (∀ i, i ≠ 1622 → i ≠ 1547 → x.2.2.2 i = cj i) ∧ x.2.2.1 1594 = ci1 1594 ∧ x.2.2.1 1547 68 = ci1 1547 68 ∧ x.2.2.1 1547 69 = ci1 1547 69) _ ?_ n m (nI 0) (nI 0) _ _ (by omega) ⟨0, by omega, rfl, rfl, fun k _ => by dsimp only; rw [e85]; rfl, hx0.symm, k2.le (by decide) (by decide), fun _ _ _ => rfl, rfl, rfl, rfl⟩
  rintro k r y l ci2 cj2 ⟨i, g1, g2, g3, g4, g5, g6, g7, g8, g9, g10⟩ ih
  dsimp only at g2 g3 g4 g5 g6 g7 g8 g9 g10
  subst g2
  rw [fX6_chance_25.eq_2]
  by_cases hi : m ≤ i
  · have : i = m := by omega
    subst this
    rw [if_pos (nI_le hi (by omega)), wp_some]
    refine ⟨fun z => absurd h1 z, fun _ => ⟨g3, ?_, g4, g5, g6, g7⟩⟩
    unfold MK
    dsimp only
    rw [g8, g9, g10]; exact k1
  rw [if_neg (nI_ge (by omega) (by omega)), wp_bind, hD.2.2.1 _ _ _ _ (by omega) (by omega), wp_some]
  dsimp only
  obtain ⟨o1, o2, o3⟩ := chN_ok hD hc hv hk4 hx i
  have st : chN dS dA c (ci 1585) x0 (i + 1) = chS dS dA c (chN dS dA c (ci 1585) x0 i) := rfl
  generalize chN dS dA c (ci 1585) x0 i = s at g3 g4 g5 o1 o2 o3 st
  have m2' : MC c ci2 := hm.fr' g6 (by decide)
  have e7 := m2'.2.2.2.1
  rw [if_pos (by rw [jok_t (by omega) (by omega)]; trivial)]
  simp (disch := omega) only [nI_cl (k := 7), e7, g5]
  /- the year behind the storm -/
  have go : ∀ (y' : Int32) (ci3 : jI) (cj3 : jJ) (w : jV8), (goF c w, cj3 1547 70, y') = chS dS dA c s → e166 (ci3 1585) w → VR c w (999 + i) → rg (w 45) 40 → Fr [1585, 1587, 1588, 1589, 1590, 1594] [49, 52, 53, 54, 55, 103, 59, 60, 68, 69] ci ci3 → (∀ i, i ≠ 1622 → i ≠ 1547 → cj3 i = cj i) → ci3 1594 = ci1 1594 → ci3 1547 68 = ci1 1547 68 → ci3 1547 69 = ci1 1547 69 → Wp (fX6_chance_95 n (fX6_chance_25 n k) (nI m) y' (nI i) ci3 cj3) (fun q => (¬ iah (ci 1585 0) (nI m) 1 100 → q.1 = -1 ∧ q.2.1 = ju ci 1549 3 (ci 1549 3 + nI 1) ∧ q.2.2 = cj) ∧
    (iah (ci 1585 0) (nI m) 1 100 → q.1 = (chN dS dA c (ci 1585) x0 m).2.2 ∧ MK q.2.1 (pU u) (pV u U (ci 1585)) ∧ e166 (q.2.1 1585) (chN dS dA c (ci 1585) x0 m).1 ∧ q.2.2 1547 70 = (chN dS dA c (ci 1585) x0 m).2.1 ∧ Fr [1585, 1587, 1588, 1589, 1590, 1594] [49, 52, 53, 54, 55, 103, 59, 60, 68, 69] ci q.2.1 ∧ ∀ i, i ≠ 1622 → i ≠ 1547 → q.2.2 i = cj i)) := by
    intro y' ci3 cj3 w e1 e2 e3 e4 e5 e6 e7 e8 e9
    unfold fX6_chance_95
    rw [wp_bind]
    refine (sp6_yearN (Y := 999 + i) hn (by omega) hc (hm.fr' e5 (by decide)) e2 e3 e4 ((e5.2 58 (by decide)).trans h58)).mono ?_
    rintro ⟨ci4, cj4⟩ ⟨y1, y2, y3, y4⟩
    dsimp only at y1 y2 y3 y4 ⊢
    rw [nI_add]
    refine ih (r - 1) y' (nI (i + 1)) _ _ (by omega) ⟨i + 1, by omega, rfl, ?_, ?_, ?_, e5.tr (y3.le (by decide) (by decide)), fun i i1 i2 => (y4 i i1).trans (e6 i i1 i2), (y3.1 1594 (by decide) (by decide)).trans e7, (y3.2 68 (by decide)).trans e8, (y3.2 69 (by decide)).trans e9⟩
    · dsimp only; rw [st, ← e1]
    · dsimp only; rw [st, ← e1]; exact y1
    · dsimp only; rw [st, ← e1, y4 1547 (by decide)]
  have jn : ∀ (i : Nat) (x : Int64) (d : jJ), (∀ i, i ≠ 1622 → i ≠ 1547 → d i = cj i) → (∀ i, i ≠ 1622 → i ≠ 1547 → ju d 1547 70 x i = cj i) := fun _ x d hd i i1 i2 => by rw [ju_row _ _ i2]; exact hd i i1 i2
  by_cases hst : nI (coW c) ≤ dA s.2.1 (nI 100)
  · rw [if_pos hst]
    refine go y ci2 _ s.1 ?_ g4 o1 o2 g6 (jn 0 _ _ g7) g8 g9 g10
    unfold chS
    rw [if_pos (Or.inl hst), ju_eq, g3]
  rw [if_neg hst, wp_bind, e6_shoalMany, wp_some]
  dsimp only
  rw [m2'.2.2.1]
  by_cases hS0 : coS c = 0
  · rw [if_pos (show nI (coS c) ≤ 0 by rw [hS0]; decide)]
    refine go y ci2 _ s.1 ?_ g4 o1 o2 g6 (jn 0 _ _ g7) g8 g9 g10
    unfold chS
    rw [if_pos (Or.inr hS0), ju_eq, g3]
  rw [if_neg (nI_nle (by omega) (by omega)), wp_bind, e6_shoalMany, wp_some]
  dsimp only
  rw [m2'.2.2.1, wp_bind, hD.2.2.1 _ _ _ _ (by omega) (by omega), wp_some]
  dsimp only
  rw [wp_bind, hD.2.2.1 _ _ _ _ (by omega) (by omega), wp_some]
  dsimp only
  simp only [ju_eq]
  obtain ⟨j, j1, j2⟩ := hD.2.1 _ _ (hD.1 _ o3) (Nat.pos_of_ne_zero hS0) (by omega)
  obtain ⟨t, t1, t2⟩ := hD.2.1 _ 100 (hD.1 _ (hD.1 _ o3)) (by omega) (by omega)
  rw [j2, t2]
  simp (disch := omega) only [nI_mulN, nI_add, jok_t, if_true, nI_cl]
  refine go (y + nI 1) _ _ (drV s.1 j (nI t)) ?_ ?_ (VR_dr hc o1 ⟨t, by omega, rfl⟩ j1) ?_ ((g6.up (by decide) (by decide)).up (by decide) (by decide)) (jn 0 _ _ (jn 0 _ _ (jn 0 _ _ g7))) ?_ ?_ ?_
  · unfold chS
    rw [if_neg (show ¬ (nI (coW c) ≤ dA s.2.1 (nI 100) ∨ coS c = 0) from fun z => z.elim hst hS0), ju_eq, j2, t2, nI_cl (by omega), g3]
  · intro k hk
    unfold drV
    rw [ju_ap, if_pos rfl, ju_ap, if_pos rfl, g4 k hk]
  · unfold drV
    rw [if_neg (by omega), if_neg (by omega)]; exact o2
  · rw [ju_row _ _ (by decide), ju_row _ _ (by decide)]; exact g8
  · rw [ju_row _ _ (by decide), ju_row _ _ (by decide)]; exact g9
  · rw [ju_row _ _ (by decide), ju_row _ _ (by decide)]; exact g10
end
