/-! THE MODEL'S YEAR -/
set_option maxRecDepth 100000
def rg (x : Int32) (m : Nat) : Prop := ∃ k, k ≤ m ∧ x = nI k
theorem rg.le {x : Int32} {m m' : Nat} (h : rg x m) (hm : m ≤ m') : rg x m' := by
  obtain ⟨k, h1, h2⟩ := h
  exact ⟨k, by omega, h2⟩
theorem rg.bd {x : Int32} {m : Nat} (h : rg x m) (hm : m ≤ 1000000) : bd x.toInt64 := by
  obtain ⟨k, h1, h2⟩ := h
  rw [h2]; exact bd_nI (by omega)
/-- a coast's numbers are as they must be -/
def CR (c : jCo) : Prop := coB c ≤ 6 ∧ coP c ≤ 10 ∧ coS c ≤ 3 ∧ coW c ≤ 100 ∧ (∀ b, b < coB c → rg (coM c b) 99) ∧ (∀ p, p < coP c → coN c p < coB c) ∧ ∀ s, s < coS c → rg (coZ c s) 99
/-- a state's numbers are as they must be -/
def VR (c : jCo) (v : jV8) (Y : Nat) : Prop := rg (v 0) Y ∧ (∀ s, s < coS c → rg (v (1 + 2 * s)) 99 ∧ (v (2 + 2 * s) = -1 ∨ ∃ b, b < coB c ∧ v (2 + 2 * s) = nI b)) ∧ (∀ b, b < coB c → rg (v (7 + 3 * b)) 99 ∧ rg (v (8 + 3 * b)) 297 ∧ rg (v (9 + 3 * b)) 99) ∧ ∀ p, p < coP c → rg (v (25 + 2 * p)) 9 ∧ rg (v (26 + 2 * p)) 99
def alL (k : Nat) : Bool := decide (k < 6)
def alE (k : Nat) : Bool := decide (k < 3 ∨ 6 ≤ k ∧ k ≤ 8)
def alT (k : Nat) : Bool := decide (k < 3 ∨ k = 6)
def alC (k : Nat) : Bool := decide (k < 2 ∨ k = 7 ∨ k = 8)
def tE (t : jTT) : jEE := fun en => if t en = true then lN 1 else lN 0
/-- the coast that stands in the model -/
def MC (c : jCo) (ci : jI) : Prop := ci 1577 4 = nI (coB c) ∧ ci 1577 5 = nI (coP c) ∧ ci 1577 6 = nI (coS c) ∧ ci 1577 7 = nI (coW c) ∧
  (∀ b, b < coB c → ci 1579 (12 + 2 * b) = coM c b) ∧ (∀ p, p < coP c → ci 1580 (20 + 2 * p) = nI (coN c p)) ∧ (∀ s, s < coS c → ci 1581 (7 + 2 * s) = coZ c s) ∧
  mX ci alL 0 (coL c) ∧ mX ci alE 1 (coE c) ∧ mX ci alT 2 (coT c) ∧ mX ci alC 3 ((coC c).map tE)
theorem mX.fr {ci ci' : jI} {al : Nat → Bool} {w : Nat} {o : Option jEE} (h : mX ci al w o) (h1 : ci' 1582 = ci 1582) (h2 : ci' 1583 = ci 1583) (h3 : ci' 1584 = ci 1584) : mX ci' al w o := by
  unfold mX at h ⊢
  rw [h1, h2, h3]; exact h
theorem MC.fr {c : jCo} {ci ci' : jI} (h : MC c ci) (g : ∀ i, 1577 ≤ i → i ≤ 1584 → ci' i = ci i) : MC c ci' := by
  obtain ⟨h1, h2, h3, h4, h5, h6, h7, h8, h9, h10, h11⟩ := h
  have g2 := g 1582 (by decide) (by decide)
  have g3 := g 1583 (by decide) (by decide)
  have g4 := g 1584 (by decide) (by decide)
  unfold MC
  rw [g 1577 (by decide) (by decide), g 1579 (by decide) (by decide), g 1580 (by decide) (by decide), g 1581 (by decide) (by decide)]
  exact ⟨h1, h2, h3, h4, h5, h6, h7, h8.fr g2 g3 g4, h9.fr g2 g3 g4, h10.fr g2 g3 g4, h11.fr g2 g3 g4⟩
/-- what may be written: rows L, fields M of the model's object -/
def Fr (L M : List Nat) (ci ci' : jI) : Prop := (∀ i, i ≠ 1547 → i ∉ L → ci' i = ci i) ∧ ∀ k, k ∉ M → ci' 1547 k = ci 1547 k
theorem Fr.rfl' {L M : List Nat} {ci : jI} : Fr L M ci ci := ⟨fun _ _ _ => rfl, fun _ _ => rfl⟩
theorem Fr.le {L M L' M' : List Nat} {ci ci' : jI} (h : Fr L M ci ci') (hL : ∀ i ∈ L, i ∈ L') (hM : ∀ i ∈ M, i ∈ M') : Fr L' M' ci ci' :=
  ⟨fun i h1 h2 => h.1 i h1 (fun h3 => h2 (hL i h3)), fun k h2 => h.2 k (fun h3 => h2 (hM k h3))⟩
theorem Fr.tr {L M : List Nat} {a b d : jI} (h : Fr L M a b) (h' : Fr L M b d) : Fr L M a d :=
  ⟨fun i h1 h2 => (h'.1 i h1 h2).trans (h.1 i h1 h2), fun k h2 => (h'.2 k h2).trans (h.2 k h2)⟩
theorem Fr.up {L M : List Nat} {a b : jI} {i j : Nat} {v : Int32} (h : Fr L M a b) (hi : i ≠ 1547) (hL : i ∈ L) : Fr L M a (ju b i j v) :=
  ⟨fun x h1 h2 => by rw [← h.1 x h1 h2]; exact funext (fun y => ju_ne _ _ (fun e => h2 (e ▸ hL))), fun k h2 => by rw [ju_ne _ _ (fun e => hi e.symm)]; exact h.2 k h2⟩
theorem Fr.upf {L M : List Nat} {a b : jI} {j : Nat} {v : Int32} (h : Fr L M a b) (hM : j ∈ M) : Fr L M a (ju b 1547 j v) :=
  ⟨fun x h1 h2 => by rw [← h.1 x h1 h2]; exact funext (fun y => ju_ne _ _ h1), fun k h2 => by rw [ju_ne2 _ _ (show k ≠ j from fun e => h2 (by rw [e]; exact hM))]; exact h.2 k h2⟩
def sJ (cj cj' : jJ) : Prop := ∀ i, i ≠ 1622 → cj' i = cj i
theorem sJ.rfl' {cj : jJ} : sJ cj cj := fun _ _ => rfl
theorem sJ.tr {a b d : jJ} (h : sJ a b) (h' : sJ b d) : sJ a d := fun i hi => (h' i hi).trans (h i hi)
theorem MC.fr' {c : jCo} {L M : List Nat} {ci ci' : jI} (h : MC c ci) (g : Fr L M ci ci') (hL : ∀ i ∈ L, ¬ (1577 ≤ i ∧ i ≤ 1584)) : MC c ci' :=
  h.fr (fun i h1 h2 => g.1 i (by omega) (fun h3 => hL i h3 ⟨h1, h2⟩))
theorem e6_bayMany (n : Nat) (ci : jI) (cj : jJ) : fX6_bayMany n ci cj = some (ci 1577 4, ci, cj) := by
  unfold fX6_bayMany; simp (disch := omega) only [nI_cl, jok_t, if_true]
theorem e6_pairMany (n : Nat) (ci : jI) (cj : jJ) : fX6_pairMany n ci cj = some (ci 1577 5, ci, cj) := by
  unfold fX6_pairMany; simp (disch := omega) only [nI_cl, jok_t, if_true]
theorem e6_shoalMany (n : Nat) (ci : jI) (cj : jJ) : fX6_shoalMany n ci cj = some (ci 1577 6, ci, cj) := by
  unfold fX6_shoalMany; simp (disch := omega) only [nI_cl, jok_t, if_true]
theorem e6_bayOf {n p : Nat} {ci : jI} {cj : jJ} (h : p < 10) : fX6_bayOf n (nI p) ci cj = some (ci 1580 (20 + 2 * p), ci, cj) := by
  unfold fX6_bayOf; simp (disch := omega) only [nI_add, nI_mulN, nI_cl, jok_t, if_true]
theorem e6_sizeOf {n s : Nat} {ci : jI} {cj : jJ} (h : s < 3) : fX6_sizeOf n (nI s) ci cj = some (ci 1581 (7 + 2 * s), ci, cj) := by
  unfold fX6_sizeOf; simp (disch := omega) only [nI_add, nI_mulN, nI_cl, jok_t, if_true]
theorem e6_trueOf {n p : Nat} {ci : jI} {cj : jJ} (h : p < 10) : fX6_trueOf n (nI p) ci cj = some (ci 1585 (25 + 2 * p), ci, cj) := by
  unfold fX6_trueOf; simp (disch := omega) only [nI_add, nI_mulN, nI_cl, jok_t, if_true]
theorem e6_sinceOf {n p : Nat} {ci : jI} {cj : jJ} (h : p < 10) : fX6_sinceOf n (nI p) ci cj = some (ci 1585 (26 + 2 * p), ci, cj) := by
  unfold fX6_sinceOf; simp (disch := omega) only [nI_add, nI_mulN, nI_cl, jok_t, if_true]
theorem e6_hungerOf {n b : Nat} {ci : jI} {cj : jJ} (h : b < 6) : fX6_hungerOf n (nI b) ci cj = some (ci 1585 (7 + 3 * b), ci, cj) := by
  unfold fX6_hungerOf; simp (disch := omega) only [nI_add, nI_mulN, nI_cl, jok_t, if_true]
theorem e6_lateOf {n b : Nat} {ci : jI} {cj : jJ} (h : b < 6) : fX6_lateOf n (nI b) ci cj = some (ci 1585 (9 + 3 * b), ci, cj) := by
  unfold fX6_lateOf; simp (disch := omega) only [nI_add, nI_mulN, nI_cl, jok_t, if_true]
theorem e6_isTold {n w : Nat} {ci : jI} {cj : jJ} {al : Nat → Bool} {o : Option jEE} (hw : w < 4) (h : mX ci al w o) : fX6_isTold n (nI w) ci cj = some (if o.isSome = true then nI 1 else nI 0, ci, cj) := by
  unfold fX6_isTold fX6_isTold_17
  simp (disch := omega) only [nI_add, nI_cl, jok_t, if_true]
  cases o with
  | none =>
    rw [if_pos (show ci 1582 (4 + w) = -1 from h)]; rfl
  | some e =>
    obtain ⟨a, l, h1, h2, h3, -⟩ := h
    rw [h1, if_neg (nI_nm1 (by omega))]; rfl
theorem e6_cut (n : Nat) (x : Int64) (m : Nat) (hm : m < 100) (ci : jI) (cj : jJ) : fX6_cut n x (nI m) ci cj = some (cut x m, ci, cj) := by
  unfold fX6_cut fX6_cut_23 cut
  rw [nI_L (by omega)]
  by_cases h1 : lN 0 ≤ x
  · rw [if_pos h1, if_neg (show ¬ x < 0 from i64_nlt.mpr h1)]
    by_cases h2 : x ≤ lN m
    · rw [if_pos h2, if_neg (i64_nlt.mpr h2)]
    · rw [if_neg h2, if_pos (i64_nle.mp h2)]
  · rw [if_neg h1, if_pos (show x < 0 from i64_nle.mp h1)]
/-! vows -/
theorem sp_doesCount {n : Nat} (hn : 4000 ≤ n) {c : jCo} {ci : jI} {cj : jJ} {Y p : Nat} (hY : Y ≤ 2000) (hc : CR c) (hm : MC c ci) (hv : VR c (ci 1585) Y) (hp : p < coP c) :
    Wp (fX6_doesCount n (nI p) ci cj) (fun q => q.1 = (if cnt c (ci 1585) p = true then nI 1 else nI 0) ∧ Fr [] [49, 52, 53, 103] ci q.2.1 ∧ sJ cj q.2.2) := by
  obtain ⟨c1, c2, c3, c4, c5, c6, c7⟩ := hc
  obtain ⟨m1, m2, m3, m4, m5, m6, m7, m8, m9, m10, m11⟩ := hm
  obtain ⟨v1, v2, v3, v4⟩ := hv
  unfold fX6_doesCount fX6_doesCount_51 fX6_doesCount_21
  rw [wp_bind, e6_isTold (by omega) m11, wp_some]
  have hb := c6 p hp
  unfold cnt
  cases ht : coC c with
  | none =>
    rw [ht] at m11
    simp only [Option.map_none, Option.isSome_none, Bool.false_eq_true, if_false]
    rw [if_pos z00, wp_bind, e6_trueOf (by omega), wp_some]
    by_cases h0 : ci 1585 (25 + 2 * p) ≤ 0
    · rw [if_pos h0, if_pos bt0, wp_some]
      exact ⟨by rw [if_neg (by simpa using h0)], Fr.rfl', sJ.rfl'⟩
    · rw [if_neg h0, if_pos bt1, wp_some]
      exact ⟨by rw [if_pos (by simpa using i32_nle.mp h0)], Fr.rfl', sJ.rfl'⟩
  | some t =>
    rw [ht] at m11
    simp only [Option.map_some, Option.isSome_some, if_true]
    rw [if_neg n10, wp_bind, e6_bayOf (by omega), wp_some, wp_bind]
    have hbv : ju ci 1547 53 (nI p) 1580 (20 + 2 * p) = nI (coN c p) := by rw [ju_ne _ _ (by decide)]; exact m6 p hp
    rw [hbv]
    have F : Fr [] [49, 52, 53, 103] ci (ju (ju ci 1547 53 (nI p)) 1547 52 (nI (coN c p))) := (Fr.rfl'.upf (by decide)).upf (by decide)
    have e52 : (ju (ju ci 1547 53 (nI p)) 1547 52 (nI (coN c p))) 1547 52 = nI (coN c p) := ju_eq _ _ _ _
    have e53 : (ju (ju ci 1547 53 (nI p)) 1547 52 (nI (coN c p))) 1547 53 = nI p := by rw [ju_ne2 _ _ (by decide)]; exact ju_eq _ _ _ _
    have e85 := F.1 1585 (by decide) (by decide)
    refine (sp_codesTell hn (by omega) (en := vC (ci 1585) p (coN c p)) (m11.fr (F.1 1582 (by decide) (by decide)) (F.1 1583 (by decide) (by decide)) (F.1 1584 (by decide) (by decide))) ?_ ?_).mono ?_
    · intro k hk
      unfold vC
      simp only [alC, decide_eq_true_eq] at hk
      have hk' : k = 0 ∨ k = 1 ∨ k = 7 ∨ k = 8 := by omega
      rcases hk' with z | z | z | z <;> subst z
      · exact (v3 _ hb).1.bd (by omega)
      · exact v1.bd (by omega)
      · exact (v4 _ hp).1.bd (by omega)
      · exact (v4 _ hp).2.bd (by omega)
    · intro k hk
      unfold vC mPt
      simp only [alC, decide_eq_true_eq] at hk
      have hk' : k = 0 ∨ k = 1 ∨ k = 7 ∨ k = 8 := by omega
      rw [e85]
      rcases hk' with z | z | z | z <;> subst z
      · exact ⟨_, by omega, e52, rfl⟩
      · rfl
      · exact ⟨_, by omega, e53, rfl⟩
      · exact ⟨_, by omega, e53, rfl⟩
    · rintro ⟨x, ci', cj'⟩ ⟨q1, q2, q3, q4⟩
      simp only at q1 q2 q3 q4
      have G : Fr [] [49, 52, 53, 103] ci ci' := F.tr ⟨fun i hi _ => q2 i hi, fun k hk => q3 k (by simp at hk; omega) (by simp at hk; omega)⟩
      subst q1
      simp only [tE]
      by_cases h0 : t (vC (ci 1585) p (coN c p)) = true
      · rw [if_pos h0, if_pos rfl, if_pos bt1, wp_some, if_pos h0]
        exact ⟨rfl, G, q4⟩
      · rw [if_neg h0, if_neg (show ¬ lN 0 = lN 1 by decide), if_pos bt0, wp_some, if_neg h0]
        exact ⟨rfl, G, q4⟩
theorem sg_bd {f : Nat → Int32} {m : Nat} : ∀ {n : Nat}, n * m < 2147483648 → (∀ k, k < n → rg (f k) m) → rg (sg f n) (n * m)
  | 0, _, _ => ⟨0, by omega, rfl⟩
  | n + 1, hm, h => by
    have e : (n + 1) * m = n * m + m := Nat.succ_mul n m
    obtain ⟨a, h1, h2⟩ := sg_bd (n := n) (by omega) (fun k hk => h k (by omega))
    obtain ⟨b, h3, h4⟩ := h n (by omega)
    exact ⟨a + b, by omega, by show sg f n + f n = _; rw [h2, h4, nI_add]⟩
theorem vw_rg {c : jCo} {v : jV8} {Y b : Nat} (hc : CR c) (hv : VR c v Y) : rg (vw c v b) 90 := by
  have h1 : rg (vw c v b) (coP c * 9) := by
    refine sg_bd (by have := hc.2.1; omega) (fun p hp => ?_)
    by_cases h : coN c p = b ∧ cnt c v p = true
    · simp only [if_pos h]; exact (hv.2.2.2 p hp).1
    · simp only [if_neg h]; exact ⟨0, by omega, rfl⟩
  exact h1.le (by have := hc.2.1; omega)
theorem sp_laysVows {n : Nat} (hn : 4000 ≤ n) {c : jCo} {ci : jI} {cj : jJ} {Y : Nat} (hY : Y ≤ 2000) (hc : CR c) (hm : MC c ci) (hv : VR c (ci 1585) Y) :
    Wp (fX6_laysVows n ci cj) (fun q => (∀ b, b < 6 → q.1 1587 b = vw c (ci 1585) b) ∧ Fr [1587] [49, 52, 53, 103] ci q.1 ∧ sJ cj q.2) := by
  have hP := hc.2.1
  unfold fX6_laysVows
  refine Wp.loop (fun k (b : Int32 × jI × jJ) => fX6_laysVows_2 n k b.1 b.2.1 b.2.2) (fun r b => ∃ i, i + r = 6 ∧ b.1 = nI i ∧ (∀ j, j < i → b.2.1 1587 j = nI 0) ∧ Fr [1587] [49, 52, 53, 103] ci b.2.1 ∧ sJ cj b.2.2) _ ?_ n 6 (nI 0, ci, cj) (by omega) ⟨0, by omega, rfl, fun j hj => absurd hj (Nat.not_lt_zero j), Fr.rfl', sJ.rfl'⟩
  rintro k r ⟨l, ci1, cj1⟩ ⟨i, h1, h2, h3, h4, h5⟩ ih
  simp only at h2 h3 h4 h5 ⊢
  subst h2
  rw [fX6_laysVows_2.eq_2]
  by_cases hi : 6 ≤ i
  · rw [if_pos (by rw [nI_leN (by omega) (by omega)]; exact hi)]
    have hi6 : i = 6 := by omega
    subst hi6
    -- the second loop
    refine Wp.loop (fun k (b : Int32 × jI × jJ) => fX6_laysVows_23 n k b.1 b.2.1 b.2.2) (fun r b => ∃ p, p + r = coP c ∧ b.1 = nI p ∧ (∀ j, j < 6 → b.2.1 1587 j = sg (fun p => if coN c p = j ∧ cnt c (ci 1585) p = true then ci 1585 (25 + 2 * p) else nI 0) p) ∧ Fr [1587] [49, 52, 53, 103] ci b.2.1 ∧ sJ cj b.2.2) _ ?_ n (coP c) (nI 0, ci1, cj1) (by omega) ⟨0, by omega, rfl, h3, h4, h5⟩
    rintro k r ⟨l, ci2, cj2⟩ ⟨p, g1, g2, g3, g4, g5⟩ ih2
    simp only at g2 g3 g4 g5 ⊢
    subst g2
    have hm2 : MC c ci2 := hm.fr' g4 (by decide)
    have e85 : ci2 1585 = ci 1585 := g4.1 1585 (by decide) (by decide)
    rw [fX6_laysVows_23.eq_2, wp_bind, e6_pairMany, wp_some]
    rw [hm2.2.1]
    simp (disch := omega) only [nI_leN]
    by_cases hp : coP c ≤ p
    · have : p = coP c := by omega
      subst this
      rw [if_pos hp, wp_some]
      exact ⟨g3, g4, g5⟩
    · have hp' : p < coP c := by omega
      rw [if_neg hp, wp_bind]
      refine (sp_doesCount hn hY hc hm2 (by rw [e85]; exact hv) hp').mono ?_
      rintro ⟨x, ci3, cj3⟩ ⟨q1, q2, q3⟩
      simp only at q1 q2 q3 ⊢
      subst q1
      rw [e85]
      have g4' : Fr [1587] [49, 52, 53, 103] ci ci3 := g4.tr (q2.le (by decide) (by decide))
      have e87 : ci3 1587 = ci2 1587 := q2.1 1587 (by decide) (by decide)
      have e80 : ci3 1580 (20 + 2 * p) = nI (coN c p) := by rw [q2.1 1580 (by decide) (by decide)]; exact hm2.2.2.2.2.2.1 p hp'
      have e85' : ci3 1585 = ci 1585 := (q2.1 1585 (by decide) (by decide)).trans e85
      have hb : coN c p < 6 := by have := hc.1; have := hc.2.2.2.2.2.1 p hp'; omega
      by_cases hcn : cnt c (ci 1585) p = true
      · rw [if_pos hcn, if_neg n10, wp_bind, e6_bayOf (by omega), wp_some]
        simp only [e80]
        rw [if_pos (by rw [jok_t hb (by omega)]; trivial), wp_bind, e6_trueOf (by omega), wp_some, if_pos (by rw [jok_t hb (by omega)]; trivial), nI_cl (by omega)]
        unfold fX6_laysVows_57
        rw [nI_add]
        refine ih2 (r - 1) (nI (p + 1), _, _) (by omega) ⟨p + 1, by omega, rfl, fun j hj => ?_, g4'.up (by decide) (by decide), g5.tr q3⟩
        show ju ci3 1587 _ _ 1587 j = sg _ p + _
        rw [← g3 j hj, e87, e85']
        by_cases hj2 : coN c p = j
        · subst hj2
          rw [ju_eq]
          simp [hcn]
        · rw [ju_ne2 _ _ (fun e => hj2 e.symm), e87]
          simp [hj2, nI_z.symm]
      · rw [if_neg hcn, if_pos z00]
        unfold fX6_laysVows_57
        rw [nI_add]
        refine ih2 (r - 1) (nI (p + 1), _, _) (by omega) ⟨p + 1, by omega, rfl, fun j hj => ?_, g4', g5.tr q3⟩
        show ci3 1587 j = sg _ p + _
        rw [← g3 j hj, e87]
        simp [hcn, nI_z.symm]
  · rw [if_neg (by rw [nI_leN (by omega) (by omega)]; exact hi), if_pos (by rw [jok_t (by omega) (by omega)]; trivial), nI_cl (by omega), nI_add]
    refine ih (r - 1) (nI (i + 1), _, _) (by omega) ⟨i + 1, by omega, rfl, fun j hj => ?_, h4.up (by decide) (by decide), h5⟩
    show ju ci1 1587 _ _ 1587 j = _
    by_cases hj2 : j = i
    · subst hj2; exact ju_eq _ _ _ _
    · rw [ju_ne2 _ _ hj2]; exact h3 j (by omega)
