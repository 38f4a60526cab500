/-! THE PLAIN LAW: a year keeps the ranges -/
set_option maxRecDepth 100000
theorem cut_rg {x : Int64} {m : Nat} (hm : m < 100) : rg (cut x m) m := by
  unfold cut
  by_cases h1 : x < 0
  · rw [if_pos h1]; exact ⟨0, by omega, rfl⟩
  · rw [if_neg h1]
    by_cases h2 : lN m < x
    · rw [if_pos h2]; exact ⟨m, Nat.le_refl _, rfl⟩
    · rw [if_neg h2]
      have a : ¬ x.toInt < (0 : Int64).toInt := fun z => h1 (Int64.lt_iff_toInt_lt.mpr z)
      have b : ¬ (lN m).toInt < x.toInt := fun z => h2 (Int64.lt_iff_toInt_lt.mpr z)
      rw [lN_toInt (by omega)] at b
      have e0 : (0 : Int64).toInt = 0 := by decide
      refine ⟨x.toInt.toNat, by omega, ?_⟩
      have e : x = lN x.toInt.toNat := Int64.toInt_inj.mp (by rw [lN_toInt (by omega)]; omega)
      exact (congrArg Int64.toInt32 e).trans (lN_i _)
theorem snc_rg {x : Int32} (h : rg x 99) : rg (snc x) 99 := by
  obtain ⟨k, h1, h2⟩ := h
  unfold snc
  rw [h2]
  simp (disch := omega) only [nI_leN]
  by_cases hk : 99 ≤ k
  · rw [if_pos hk]; exact ⟨k, h1, rfl⟩
  · rw [if_neg hk, nI_add]; exact ⟨k + 1, by omega, rfl⟩
theorem VR_go {c : jCo} {v : jV8} {Y : Nat} (hc : CR c) (hv : VR c v Y) : VR c (goV c v) (Y + 1) := by
  obtain ⟨c1, c2, c3, c4, c5, c6, c7⟩ := hc
  have hc : CR c := ⟨c1, c2, c3, c4, c5, c6, c7⟩
  have hv0 := hv
  obtain ⟨v1, v2, v3, v4⟩ := hv
  refine ⟨?_, fun s hs => ⟨?_, ?_⟩, fun b hb => ⟨?_, ?_, ?_⟩, fun p hp => ⟨?_, ?_⟩⟩
  · obtain ⟨k, h1, h2⟩ := v1
    rw [goV_0, h2, nI_add]; exact ⟨k + 1, by omega, rfl⟩
  · rw [goV_m hs (by omega)]
    rcases tos_rg c v s with h | ⟨b, h1, h2⟩
    · rw [if_pos h]; exact (v2 s hs).1
    · rw [if_neg (by rw [h2, nI_m1 (by omega)]; exact fun z => z), h2, nI_cl (by omega)]; exact c5 b h1
  · rw [goV_a hs (by omega)]; exact tos_rg c v s
  · rw [goV_h hb (by omega)]
    unfold stv
    split <;> exact cut_rg (by omega)
  · rw [goV_t hb (by omega)]; exact tks_rg hc
  · rw [goV_l hb (by omega)]; exact (vw_rg hc hv0).le (by omega)
  · rw [goV_b hp (by omega)]
    unfold mnd
    split
    · exact (v4 p hp).1
    · exact cut_rg (by omega)
  · rw [goV_s hp (by omega)]; exact snc_rg (v4 p hp).2
/-- equal below 45 -/
def e45 (v w : jV8) : Prop := ∀ k, k < 45 → v k = w k
theorem VR.e45 {c : jCo} {v w : jV8} {Y : Nat} (hc : CR c) (h : VR c v Y) (e : e45 v w) : VR c w Y := by
  obtain ⟨c1, c2, c3, c4, c5, c6, c7⟩ := hc
  obtain ⟨v1, v2, v3, v4⟩ := h
  refine ⟨by rw [← e 0 (by omega)]; exact v1, fun s hs => ?_, fun b hb => ?_, fun p hp => ?_⟩
  · rw [← e (1 + 2 * s) (by omega), ← e (2 + 2 * s) (by omega)]; exact v2 s hs
  · rw [← e (7 + 3 * b) (by omega), ← e (8 + 3 * b) (by omega), ← e (9 + 3 * b) (by omega)]; exact v3 b hb
  · rw [← e (25 + 2 * p) (by omega), ← e (26 + 2 * p) (by omega)]; exact v4 p hp
theorem cnt_congr {c : jCo} {v w : jV8} {p : Nat} (hc : CR c) (e : e45 v w) (hp : p < coP c) : cnt c v p = cnt c w p := by
  obtain ⟨c1, c2, c3, c4, c5, c6, c7⟩ := hc
  have hb := c6 p hp
  unfold cnt vC
  rw [e (25 + 2 * p) (by omega), e (26 + 2 * p) (by omega), e 0 (by omega), e (7 + 3 * coN c p) (by omega)]
theorem vw_congr {c : jCo} {v w : jV8} (hc : CR c) (e : e45 v w) : vw c v = vw c w := by
  funext b
  refine sg_congr (fun p hp => ?_)
  rw [cnt_congr hc e hp, e (25 + 2 * p) (by have := hc.2.1; omega)]
theorem tos_congr {c : jCo} {v w : jV8} (hc : CR c) (e : e45 v w) {s : Nat} (hs : s < coS c) : tos c v s = tos c w s := by
  unfold tos
  rw [vw_congr hc e, chs_congr (e 0 (by omega)) (e (1 + 2 * s) (by have := hc.2.2.1; omega)) (fun b hb => ⟨e _ (by have := hc.1; omega), e _ (by have := hc.1; omega), rfl⟩)]
theorem tks_congr {c : jCo} {v w : jV8} (hc : CR c) (e : e45 v w) (b : Nat) : tks c v b = tks c w b :=
  sg_congr (fun s hs => by rw [tos_congr hc e hs])
theorem cms_congr {c : jCo} {v w : jV8} (hc : CR c) (e : e45 v w) : cms c v = cms c w :=
  sg_congr (fun s hs => by rw [tos_congr hc e hs])
theorem mnd_congr {c : jCo} {v w : jV8} (hc : CR c) (e : e45 v w) {p : Nat} (hp : p < coP c) : mnd c v p = mnd c w p := by
  obtain ⟨c1, c2, c3, c4, c5, c6, c7⟩ := hc
  have hc : CR c := ⟨c1, c2, c3, c4, c5, c6, c7⟩
  have hb := c6 p hp
  unfold mnd vM
  rw [vw_congr hc e, tks_congr hc e, e (25 + 2 * p) (by omega), e (26 + 2 * p) (by omega), e 0 (by omega), e (7 + 3 * coN c p) (by omega)]
theorem stv_congr {c : jCo} {v w : jV8} (hc : CR c) (e : e45 v w) {b : Nat} (hb : b < coB c) : stv c v b = stv c w b := by
  obtain ⟨c1, c2, c3, c4, c5, c6, c7⟩ := hc
  have hc : CR c := ⟨c1, c2, c3, c4, c5, c6, c7⟩
  unfold stv vS
  rw [vw_congr hc e, tks_congr hc e, e 0 (by omega), e (7 + 3 * b) (by omega)]
theorem goV_congr {c : jCo} {v w : jV8} (hc : CR c) (e : e45 v w) : e45 (goV c v) (goV c w) := by
  intro k hk
  unfold goV
  by_cases k0 : k = 0
  · subst k0; rw [if_pos rfl, if_pos rfl, e 0 (by omega)]
  · rw [if_neg k0, if_neg k0]
    by_cases k1 : k < 7
    · rw [if_pos k1, if_pos k1]
      by_cases h : (k - 1) / 2 < coS c
      · rw [if_pos h, if_pos h, tos_congr hc e h, e k hk]
      · rw [if_neg h, if_neg h, e k hk]
    · rw [if_neg k1, if_neg k1]
      by_cases k2 : k < 25
      · rw [if_pos k2, if_pos k2]
        by_cases h : (k - 7) / 3 < coB c
        · rw [if_pos h, if_pos h, stv_congr hc e h, tks_congr hc e, vw_congr hc e]
        · rw [if_neg h, if_neg h, e k hk]
      · rw [if_neg k2, if_neg k2, if_pos hk, if_pos hk]
        by_cases h : (k - 25) / 2 < coP c
        · rw [if_pos h, if_pos h, mnd_congr hc e h, e k hk]
        · rw [if_neg h, if_neg h, e k hk]
theorem e45.rfl' {v : jV8} : e45 v v := fun _ _ => rfl
theorem e45.tr {u v w : jV8} (h : e45 u v) (h' : e45 v w) : e45 u w := fun k hk => (h k hk).trans (h' k hk)
theorem e45.sy {u v : jV8} (h : e45 u v) : e45 v u := fun k hk => (h k hk).symm
theorem goF_45 (c : jCo) (v : jV8) : e45 (goF c v) (goV c v) := fun k hk => by unfold goF; rw [if_pos hk]
theorem goFN_45 {c : jCo} (hc : CR c) (v : jV8) : ∀ n, e45 (goFN c v n) (goN c v n)
  | 0 => e45.rfl'
  | n + 1 => (goF_45 c _).tr (goV_congr hc (goFN_45 hc v n))
theorem goN_congr {c : jCo} (hc : CR c) {v w : jV8} (e : e45 v w) : ∀ n, e45 (goN c v n) (goN c w n)
  | 0 => e
  | n + 1 => goV_congr hc (goN_congr hc e n)
theorem VR_goN {c : jCo} (hc : CR c) {v : jV8} {Y : Nat} (hv : VR c v Y) : ∀ n, VR c (goN c v n) (Y + n)
  | 0 => hv
  | n + 1 => VR_go hc (VR_goN hc hv n)
theorem VR_goFN {c : jCo} (hc : CR c) {v : jV8} {Y : Nat} (hv : VR c v Y) (n : Nat) : VR c (goFN c v n) (Y + n) := (VR_goN hc hv n).e45 hc (goFN_45 hc v n).sy
