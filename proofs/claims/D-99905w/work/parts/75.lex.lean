/-! THE TEXT: a row of T bytes; blanks, words, numbers -/
set_option maxRecDepth 100000
abbrev jTx : Type := Nat × (Nat → Nat)
def TXok (t : jTx) : Prop := t.1 ≤ 1600 ∧ ∀ k, k < t.1 → t.2 k < 256
abbrev isL (x : Nat) : Prop := 97 ≤ x ∧ x ≤ 122
abbrev isG (x : Nat) : Prop := 48 ≤ x ∧ x ≤ 57
/-- the byte at p; 256 behind the end -/
def cAt (t : jTx) (p : Nat) : Nat := if p < t.1 then t.2 p else 256
abbrev blk (t : jTx) (p : Nat) : Prop := p < t.1 ∧ (t.2 p = 10 ∨ t.2 p = 32)
def skN (t : jTx) : Nat → Nat → Nat
  | 0, p => p
  | f + 1, p => if blk t p then skN t f (p + 1) else p
def sk (t : jTx) (p : Nat) : Nat := skN t (t.1 - p) p
theorem sk_stop {t : jTx} {p : Nat} (h : ¬ blk t p) : sk t p = p := by
  unfold sk
  cases t.1 - p with
  | zero => rfl
  | succ f => unfold skN; rw [if_neg h]
theorem sk_step {t : jTx} {p : Nat} (h : blk t p) : sk t p = sk t (p + 1) := by
  have h1 := h.1
  obtain ⟨f, hf⟩ : ∃ f, t.1 - p = f + 1 := ⟨t.1 - p - 1, by omega⟩
  unfold sk
  rw [hf, show t.1 - (p + 1) = f by omega]
  show (if blk t p then skN t f (p + 1) else p) = _
  rw [if_pos h]
/-- by what is left -/
theorem sk_ind {t : jTx} {P : Nat → Prop} (h0 : ∀ p, ¬ blk t p → P p) (h1 : ∀ p, blk t p → P (p + 1) → P p) (p : Nat) : P p := by
  have key : ∀ r p, t.1 - p ≤ r → P p := by
    intro r
    induction r with
    | zero => intro p hp; exact h0 p (fun z => by have := z.1; omega)
    | succ r ih =>
      intro p hp
      by_cases hb : blk t p
      · exact h1 p hb (ih (p + 1) (by have := hb.1; omega))
      · exact h0 p hb
  exact key _ p (Nat.le_refl _)
theorem sk_nb {t : jTx} (p : Nat) : ¬ blk t (sk t p) := by
  refine sk_ind (P := fun p => ¬ blk t (sk t p)) (fun p h => by rw [sk_stop h]; exact h) (fun p h ih => by rw [sk_step h]; exact ih) p
theorem sk_sk {t : jTx} (p : Nat) : sk t (sk t p) = sk t p := sk_stop (sk_nb p)
theorem sk_ge {t : jTx} (p : Nat) : p ≤ sk t p := by
  refine sk_ind (P := fun p => p ≤ sk t p) (fun p h => by rw [sk_stop h]; exact Nat.le_refl _) (fun p h ih => by rw [sk_step h]; omega) p
theorem sk_le {t : jTx} {p : Nat} (hp : p ≤ t.1) : sk t p ≤ t.1 := by
  refine sk_ind (P := fun p => p ≤ t.1 → sk t p ≤ t.1) (fun p h hp => by rw [sk_stop h]; exact hp) (fun p h ih hp => by rw [sk_step h]; exact ih h.1) p hp
/-- a letter or a digit stands ahead -/
abbrev pt (t : jTx) (p : Nat) : Prop := 0 < p ∧ (isL (cAt t (p - 1)) ∨ isG (cAt t (p - 1)))
theorem sk_pt {t : jTx} {p : Nat} (h : p < sk t p) : ¬ pt t (sk t p) := by
  refine sk_ind (P := fun p => p < sk t p → ¬ pt t (sk t p)) (fun p h hp => by rw [sk_stop h] at hp; omega) (fun p h ih hp => ?_) p h
  rw [sk_step h] at hp ⊢
  by_cases e : p + 1 < sk t (p + 1)
  · exact ih e
  · have := sk_ge (t := t) (p + 1)
    rw [show sk t (p + 1) = p + 1 by omega]
    rintro ⟨-, z⟩
    unfold cAt at z
    rw [show p + 1 - 1 = p by omega, if_pos h.1] at z
    obtain ⟨-, h2 | h2⟩ := h <;> rw [h2] at z <;> exact z.elim (fun z => by omega) (fun z => by omega)
/-- where letters end -/
def weN (t : jTx) : Nat → Nat → Nat
  | 0, p => p
  | f + 1, p => if isL (cAt t p) then weN t f (p + 1) else p
def we (t : jTx) (p : Nat) : Nat := weN t (t.1 - p) p
theorem isL_lt {t : jTx} {p : Nat} (h : isL (cAt t p)) : p < t.1 ∧ cAt t p = t.2 p := by
  unfold cAt at h ⊢
  by_cases e : p < t.1
  · rw [if_pos e]; exact ⟨e, rfl⟩
  · rw [if_neg e] at h; omega
theorem isG_lt {t : jTx} {p : Nat} (h : isG (cAt t p)) : p < t.1 ∧ cAt t p = t.2 p := by
  unfold cAt at h ⊢
  by_cases e : p < t.1
  · rw [if_pos e]; exact ⟨e, rfl⟩
  · rw [if_neg e] at h; omega
theorem we_stop {t : jTx} {p : Nat} (h : ¬ isL (cAt t p)) : we t p = p := by
  unfold we
  cases t.1 - p with
  | zero => rfl
  | succ f => unfold weN; rw [if_neg h]
theorem we_step {t : jTx} {p : Nat} (h : isL (cAt t p)) : we t p = we t (p + 1) := by
  have h1 := (isL_lt h).1
  obtain ⟨f, hf⟩ : ∃ f, t.1 - p = f + 1 := ⟨t.1 - p - 1, by omega⟩
  unfold we
  rw [hf, show t.1 - (p + 1) = f by omega]
  show (if isL (cAt t p) then weN t f (p + 1) else p) = _
  rw [if_pos h]
theorem we_ind {t : jTx} {P : Nat → Prop} (h0 : ∀ p, ¬ isL (cAt t p) → P p) (h1 : ∀ p, isL (cAt t p) → P (p + 1) → P p) (p : Nat) : P p := by
  have key : ∀ r p, t.1 - p ≤ r → P p := by
    intro r
    induction r with
    | zero => intro p hp; exact h0 p (fun z => by have := (isL_lt z).1; omega)
    | succ r ih =>
      intro p hp
      by_cases hb : isL (cAt t p)
      · exact h1 p hb (ih (p + 1) (by have := (isL_lt hb).1; omega))
      · exact h0 p hb
  exact key _ p (Nat.le_refl _)
theorem we_ge {t : jTx} (p : Nat) : p ≤ we t p := we_ind (P := fun p => p ≤ we t p) (fun p h => by rw [we_stop h]; exact Nat.le_refl _) (fun p h ih => by rw [we_step h]; omega) p
theorem we_le {t : jTx} {p : Nat} (hp : p ≤ t.1) : we t p ≤ t.1 := we_ind (P := fun p => p ≤ t.1 → we t p ≤ t.1) (fun p h hp => by rw [we_stop h]; exact hp) (fun p h ih hp => by rw [we_step h]; exact ih (isL_lt h).1) p hp
theorem we_nl {t : jTx} (p : Nat) : ¬ isL (cAt t (we t p)) := we_ind (P := fun p => ¬ isL (cAt t (we t p))) (fun p h => by rw [we_stop h]; exact h) (fun p h ih => by rw [we_step h]; exact ih) p
theorem we_l {t : jTx} {p k : Nat} (h1 : p ≤ k) (h2 : k < we t p) : isL (cAt t k) := by
  refine we_ind (P := fun p => p ≤ k → k < we t p → isL (cAt t k)) (fun p h h1 h2 => by rw [we_stop h] at h2; omega) (fun p h ih h1 h2 => ?_) p h1 h2
  rw [we_step h] at h2
  by_cases e : k = p
  · rw [e]; exact h
  · exact ih (by omega) h2
theorem we_pt {t : jTx} {p : Nat} (h : p < we t p) : pt t (we t p) := ⟨by omega, Or.inl (we_l (p := p) (by omega) (by omega))⟩
/-- a word -/
def wdN (t : jTx) : Nat → Nat → List Nat
  | _, 0 => []
  | p, k + 1 => t.2 p :: wdN t (p + 1) k
def wd (t : jTx) (p : Nat) : List Nat := wdN t p (we t p - p)
theorem wdN_len (t : jTx) : ∀ k p, (wdN t p k).length = k
  | 0, _ => rfl
  | k + 1, p => by show (wdN t (p + 1) k).length + 1 = k + 1; rw [wdN_len t k]
theorem wdN_eq (t : jTx) : ∀ k p (l : List Nat), l.length = k → ((∀ i, i < k → t.2 (p + i) = l.getD i 0) ↔ wdN t p k = l)
  | 0, p, l, h => by
    have : l = [] := List.length_eq_zero_iff.mp h
    subst this
    exact ⟨fun _ => rfl, fun _ i hi => absurd hi (Nat.not_lt_zero i)⟩
  | k + 1, p, [], h => by cases h
  | k + 1, p, y :: l, h => by
    have ih := wdN_eq t k (p + 1) l (by simpa using h)
    show _ ↔ t.2 p :: wdN t (p + 1) k = y :: l
    rw [List.cons.injEq, ← ih]
    constructor
    · intro z
      exact ⟨z 0 (by omega), fun i hi => by have := z (i + 1) (by omega); rw [show p + 1 + i = p + (i + 1) by omega]; exact this⟩
    · rintro ⟨z1, z2⟩ i hi
      cases i with
      | zero => exact z1
      | succ i => have := z2 i (by omega); rw [show p + (i + 1) = p + 1 + i by omega]; exact this
/-- the word w stands here -/
abbrev hasW (t : jTx) (p : Nat) (w : List Nat) : Prop := isL (cAt t (sk t p)) ∧ ¬ pt t (sk t p) ∧ wd t (sk t p) = w
def cI (c : Nat) : Int32 := if c = 256 then -1 else nI c
theorem cAt_le {t : jTx} (h : TXok t) (p : Nat) : cAt t p ≤ 256 := by
  unfold cAt
  by_cases e : p < t.1
  · rw [if_pos e]; have := h.2 p e; omega
  · rw [if_neg e]; omega
theorem cI_eq {c d : Nat} (hc : c ≤ 256) (hd : d < 256) : cI c = nI d ↔ c = d := by
  unfold cI
  by_cases e : c = 256
  · rw [if_pos e]; exact ⟨fun z => absurd z (m1_nnI (by omega)), fun z => by omega⟩
  · rw [if_neg e, nI_eqN (by omega) (by omega)]
theorem cAt_in {t : jTx} {p : Nat} (h : p < t.1) : cAt t p = t.2 p := by unfold cAt; rw [if_pos h]
theorem cAt_out {t : jTx} {p : Nat} (h : t.1 ≤ p) : cAt t p = 256 := by unfold cAt; rw [if_neg (by omega)]
theorem cI_N {c : Nat} (h : c < 256) : cI c = nI c := by unfold cI; rw [if_neg (by omega)]
/-! the model's place in the text -/
def ML (t : jTx) (ci : jI) (a : Nat) : Prop := ci 1547 3 = nI t.1 ∧ (∀ k, k < t.1 → ci 1548 k = nI (t.2 k)) ∧ ci 1547 5 = 0 ∧ a ≤ t.1 ∧ ci 1547 2 = nI a ∧ (ci 1547 4 = -1 ∨ ∃ k, k ≤ a ∧ ci 1547 4 = nI k) ∧ (ci 1547 4 = nI a ↔ pt t a)
def MN (t : jTx) (ci : jI) (p : Nat) : Prop := ∃ a, ML t ci a ∧ sk t a = sk t p
theorem ML.mp {t : jTx} {ci : jI} {p : Nat} (h : ML t ci p) : MN t ci p := ⟨p, h, rfl⟩
theorem ML.sk1 {t : jTx} {ci : jI} {a b : Nat} {cj : jJ} (h : ML t ci a) (hT : TXok t) (hb : blk t a) (e : b = a + 1) : ML t (ju ci 1547 2 (nI b)) b := by
  subst e
  obtain ⟨h1, h2, h3, h4, h5, h6, h7⟩ := h
  have := hT.1
  refine ⟨by rw [ju_ne2 _ _ (by decide)]; exact h1, fun k hk => by rw [ju_row _ _ (by decide)]; exact h2 k hk, by rw [ju_ne2 _ _ (by decide)]; exact h3, hb.1, ju_eq _ _ _ _, ?_, ?_⟩
  · rw [ju_ne2 _ _ (by decide)]
    rcases h6 with h6 | ⟨k, k1, k2⟩
    · exact Or.inl h6
    · exact Or.inr ⟨k, by omega, k2⟩
  · rw [ju_ne2 _ _ (by decide)]
    refine ⟨fun z => ?_, fun z => ?_⟩
    · rcases h6 with h6 | ⟨k, k1, k2⟩
      · rw [h6] at z; exact absurd z (m1_nnI (by omega))
      · rw [k2, nI_eqN (by omega) (by omega)] at z; omega
    · exfalso
      have e1 : sk t a = sk t (a + 1) := sk_step hb
      rcases z with ⟨-, z⟩
      unfold cAt at z
      rw [show a + 1 - 1 = a by omega, if_pos hb.1] at z
      obtain ⟨-, h2 | h2⟩ := hb <;> rw [h2] at z <;> exact z.elim (fun z => by omega) (fun z => by omega)
section
variable {n : Nat} {t : jTx} {ci : jI} {cj : jJ}
theorem sp6_look (hn : 4000 ≤ n) (hT : TXok t) {p : Nat} (h : MN t ci p) : Wp (fX6_look n ci cj) (fun q => q.1 = cI (cAt t (sk t p)) ∧ ML t q.2.1 (sk t p) ∧ Fr [] [2] ci q.2.1 ∧ q.2.2 = cj) := by
  have hT1 := hT.1
  obtain ⟨a, h, e⟩ := h
  rw [← e]
  unfold fX6_look
  refine Wp.loop (fun k (d : jI) => fX6_look_0 n k d cj) (fun r d => ∃ b, b + r = t.1 ∧ ML t d b ∧ sk t b = sk t a ∧ Fr [] [2] ci d) _ ?_ n (t.1 - a) ci (by omega) ⟨a, by have := h.2.2.2.1; omega, h, rfl, Fr.rfl'⟩
  rintro k r d ⟨b, g1, g2, g3, g4⟩ ih
  have g2' := g2
  obtain ⟨h1, h2, h3, h4, h5, h6, h7⟩ := g2
  rw [fX6_look_0.eq_2, h1, h5]
  have fin : ∀ hb : ¬ blk t b, Wp (fX6_look_52 n d cj) (fun q => q.1 = cI (cAt t (sk t a)) ∧ ML t q.2.1 (sk t a) ∧ Fr [] [2] ci q.2.1 ∧ q.2.2 = cj) := by
    intro hb
    have eb : sk t a = b := by rw [← g3, sk_stop hb]
    unfold fX6_look_52 fX6_look_76
    rw [h1, h5]
    by_cases hbT : t.1 ≤ b
    · rw [if_pos (nI_le hbT (by omega)), wp_some, eb]
      exact ⟨by rw [cAt_out hbT]; rfl, g2', g4, rfl⟩
    · rw [if_neg (nI_ge (by omega) (by omega)), if_pos (by rw [jok_t (by omega) (by omega)]; trivial), nI_cl (by omega), wp_some, h2 b (by omega), eb]
      have := hT.2 b (by omega)
      exact ⟨by rw [cAt_in (show b < t.1 by omega), cI_N this], g2', g4, rfl⟩
  by_cases hbT : t.1 ≤ b
  · rw [if_pos (nI_le hbT (by omega))]; exact fin (fun z => by have := z.1; omega)
  rw [if_neg (nI_ge (by omega) (by omega))]
  have b256 := hT.2 b (by omega)
  have tb := h2 b (by omega)
  have go : ∀ hb : blk t b, Wp (fX6_look_39 n (fX6_look_0 n k) d cj) (fun q => q.1 = cI (cAt t (sk t a)) ∧ ML t q.2.1 (sk t a) ∧ Fr [] [2] ci q.2.1 ∧ q.2.2 = cj) := by
    intro hb
    unfold fX6_look_39
    rw [h5, nI_add]
    exact ih (r - 1) _ (by omega) ⟨b + 1, by omega, g2'.sk1 (cj := cj) hT hb rfl, by rw [← sk_step hb]; exact g3, g4.upf (by decide)⟩
  simp (disch := omega) only [jok_t, if_true, nI_cl, tb, nI_eqN]
  by_cases e10 : t.2 b = 10
  · rw [if_pos e10]; exact go ⟨by omega, Or.inl e10⟩
  rw [if_neg e10]
  by_cases e32 : t.2 b = 32
  · rw [if_pos e32]; exact go ⟨by omega, Or.inr e32⟩
  rw [if_neg e32]; exact fin (fun z => z.2.elim e10 e32)
theorem e6_isLetter {c : Nat} (hc : c ≤ 256) : fX6_isLetter n (cI c) ci cj = some (if isL c then nI 1 else nI 0, ci, cj) := by
  unfold fX6_isLetter fX6_isLetter_16 fX6_isLetter_17 cI
  by_cases e : c = 256
  · rw [if_pos e, if_pos (show (-1 : Int32) < nI 97 by decide), if_pos bt0, if_neg (by omega)]
  · rw [if_neg e, if_pos bt0, if_pos bt1]
    by_cases h1 : c < 97
    · rw [if_pos (nI_lt h1 (by omega)), if_neg (by omega)]
    · rw [if_neg (nI_nlt (by omega) (by omega))]
      by_cases h2 : 122 < c
      · rw [if_pos (nI_lt h2 (by omega)), if_neg (by omega)]
      · rw [if_neg (nI_nlt (by omega) (by omega)), if_pos (by omega)]
theorem e6_isDigit {c : Nat} (hc : c ≤ 256) : fX6_isDigit n (cI c) ci cj = some (if isG c then nI 1 else nI 0, ci, cj) := by
  unfold fX6_isDigit fX6_isDigit_16 fX6_isDigit_17 cI
  by_cases e : c = 256
  · rw [if_pos e, if_pos (show (-1 : Int32) < nI 48 by decide), if_pos bt0, if_neg (by omega)]
  · rw [if_neg e, if_pos bt0, if_pos bt1]
    by_cases h1 : c < 48
    · rw [if_pos (nI_lt h1 (by omega)), if_neg (by omega)]
    · rw [if_neg (nI_nlt (by omega) (by omega))]
      by_cases h2 : 57 < c
      · rw [if_pos (nI_lt h2 (by omega)), if_neg (by omega)]
      · rw [if_neg (nI_nlt (by omega) (by omega)), if_pos (by omega)]
end
