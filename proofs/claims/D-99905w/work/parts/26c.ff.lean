/-! THE COMPONENT AS IT IS BUILT: kinds and lengths by the id, references told so far, States that stand -/
def stk (r : Nat) : Nat := if r = 0 then 5 else if r = 11 then 106 else 100
def stl (r : Nat) : Nat := if r = 0 then 0 else if r ≤ 3 then 3 else if r ≤ 7 then 6 else if r ≤ 10 then 10 else if r = 11 then 40 else 3
def ckd (i : Nat) : Nat := if i < 16 then ([0, 1, 20, 104, 20, 104, 20, 104, 101, 2, 3, 4, 103, 4, 103, 100] : List Nat).getD i 0 else if i < 120 then stk ((i - 16) % 52) else if i = 120 then 106 else if i < 184 then 100 else if i = 184 then 107 else if i < 505 then (if (i - 185) % 32 = 0 then 106 else 100) else if i = 505 then 108 else if i < 1546 then stk ((i - 506) % 52) else 101
def cln (i : Nat) : Nat := if i < 16 then ([0, 0, 0, 4, 0, 4, 0, 2, 1600, 0, 0, 0, 11, 0, 11, 6] : List Nat).getD i 0 else if i < 120 then stl ((i - 16) % 52) else if i = 120 then 60 else if i < 181 then 3 else if i < 184 then 16 else if i = 184 then 10 else if i < 505 then (if (i - 185) % 32 = 0 then 31 else 3) else if i = 505 then 20 else if i < 1546 then stl ((i - 506) % 52) else 53
def stR (t : Nat) (cr : jR) : Prop := cr t 13 = some 0 ∧ (∀ i, 1 ≤ i → i ≤ 11 → cr t (i + 1) = some (t + i)) ∧ ∀ i, i < 40 → cr (t + 11) i = some (t + 12 + i)
def FF (z : Nat) (rl : List (Nat × Nat × Option Nat)) (sts : List Nat) (K : jK) (cr : jR) : Prop := K.2.2 = z ∧ (∀ i, i < z → K.1 i = ckd i ∧ K.2.1 i = cln i) ∧ (∀ q ∈ rl, cr q.1 q.2.1 = q.2.2) ∧ ∀ t ∈ sts, stR t cr
theorem FF.k {z : Nat} {rl : List (Nat × Nat × Option Nat)} {sts : List Nat} {K : jK} {cr : jR} (h : FF z rl sts K cr) {i : Nat} (hi : i < z) {kd : Nat} (e : ckd i = kd) : K.1 i = kd := ((h.2.1 i hi).1).trans e
theorem FF.new {z : Nat} {rl : List (Nat × Nat × Option Nat)} {sts : List Nat} {K : jK} {cr : jR} (h : FF z rl sts K cr) {kd n : Nat} (hk : ckd z = kd) (hn : cln z = n) : FF (z + 1) rl sts (jnK K kd n) cr := by
  obtain ⟨h1, h2, h3, h4⟩ := h
  refine ⟨by show K.2.2 + 1 = _; omega, fun i hi => ?_, h3, h4⟩
  by_cases e : i = z
  · rw [e]
    subst h1
    exact ⟨(va_up_self _ _ _).trans hk.symm, (va_up_self _ _ _).trans hn.symm⟩
  · obtain ⟨g1, g2⟩ := h2 i (by omega)
    exact ⟨(va_up_ne _ _ (by omega)).trans g1, (va_up_ne _ _ (by omega)).trans g2⟩
theorem FF.cr' {z : Nat} {rl : List (Nat × Nat × Option Nat)} {sts : List Nat} {K : jK} {cr cr' : jR} (h : FF z rl sts K cr) (hr : ∀ q ∈ rl, cr' q.1 q.2.1 = cr q.1 q.2.1) (hs : ∀ t ∈ sts, ∀ a, a = t ∨ a = t + 11 → ∀ k, cr' a k = cr a k) : FF z rl sts K cr' := by
  obtain ⟨h1, h2, h3, h4⟩ := h
  refine ⟨h1, h2, fun q hq => (hr q hq).trans (h3 q hq), fun t ht => ?_⟩
  obtain ⟨g1, g2, g3⟩ := h4 t ht
  exact ⟨(hs t ht t (Or.inl rfl) 13).trans g1, fun i a b => (hs t ht t (Or.inl rfl) _).trans (g2 i a b), fun i hi => (hs t ht (t + 11) (Or.inr rfl) i).trans (g3 i hi)⟩
theorem FF.add {z : Nat} {rl : List (Nat × Nat × Option Nat)} {sts : List Nat} {K : jK} {cr : jR} (h : FF z rl sts K cr) {a k : Nat} {v : Option Nat} (e : cr a k = v) : FF z ((a, k, v) :: rl) sts K cr := by
  refine ⟨h.1, h.2.1, fun q hq => ?_, h.2.2.2⟩
  rcases List.mem_cons.mp hq with z | z
  · rw [z]; exact e
  · exact h.2.2.1 q z
theorem FF.put {z : Nat} {rl : List (Nat × Nat × Option Nat)} {sts : List Nat} {K : jK} {cr : jR} (h : FF z rl sts K cr) {a k v : Nat} (hr : ∀ q ∈ rl, q.1 ≠ a ∨ q.2.1 ≠ k) (hs : ∀ t ∈ sts, a ≠ t ∧ a ≠ t + 11) : FF z ((a, k, some v) :: rl) sts K (ju cr a k (some v)) := by
  refine FF.add (h.cr' (fun q hq => ?_) (fun t ht b hb j => ?_)) (ju_eq cr a k (some v))
  · rcases hr q hq with g | g
    · exact ju_ne cr _ g
    · exact ju_ne2 cr _ g
  · obtain ⟨g1, g2⟩ := hs t ht
    exact ju_ne cr _ (by rcases hb with e | e <;> omega)
theorem FF.s5 {z : Nat} {rl : List (Nat × Nat × Option Nat)} {sts : List Nat} {K K' : jK} {cr cr' : jR} (h : FF (z + 1) rl sts K cr) (h5 : jS5 z K cr K' cr') (hr : ∀ q ∈ rl, q.1 < z) (hs : ∀ t ∈ sts, t + 11 < z) (hk : ∀ j, j < 52 → ckd (z + j) = stk j ∧ cln (z + j) = stl j) : FF (z + 52) rl (z :: sts) K' cr' := by
  obtain ⟨s1, s2, s3, s4, s5, s6, s7⟩ := h5
  have h' : FF (z + 1) rl sts K cr' := h.cr' (fun q hq => s7 _ (by have := hr q hq; omega) (by have := hr q hq; omega) _) (fun t ht a ha k => s7 _ (by have := hs t ht; omega) (by have := hs t ht; omega) k)
  obtain ⟨h1, h2, h3, h4⟩ := h'
  refine ⟨s1, fun i hi => ?_, h3, fun t ht => ?_⟩
  · by_cases hz : i < z + 1
    · obtain ⟨g1, g2⟩ := s6 i (Or.inl hz)
      rw [g1, g2]; exact h2 i hz
    · obtain ⟨j, hj⟩ : ∃ j, i = z + j := ⟨i - z, by omega⟩
      subst hj
      obtain ⟨e1, e2⟩ := hk j (by omega)
      rw [e1, e2]
      by_cases h12 : j ≤ 11
      · obtain ⟨g1, g2, -⟩ := s3 j (by omega) h12
        rw [g1, g2]
        unfold skd sln stk stl
        refine ⟨?_, ?_⟩
        · by_cases e : j = 11
          · simp [e]
          · simp [e, show ¬ j = 0 by omega]
        · rw [if_neg (show ¬ j = 0 by omega)]
          by_cases a1 : j ≤ 3
          · simp [a1]
          · by_cases a2 : j ≤ 7
            · simp [a1, a2]
            · by_cases a3 : j ≤ 10
              · simp [a1, a2, a3]
              · simp [a1, a2, a3]; omega
      · obtain ⟨g1, g2, -⟩ := s5 (j - 12) (by omega)
        rw [show z + 12 + (j - 12) = z + j by omega] at g1 g2
        rw [g1, g2]
        unfold stk stl
        refine ⟨?_, ?_⟩
        · rw [if_neg (by omega), if_neg (by omega)]
        · rw [if_neg (by omega), if_neg (by omega), if_neg (by omega), if_neg (by omega), if_neg (by omega)]
  · rcases List.mem_cons.mp ht with e | e
    · subst e
      exact ⟨s4, fun i a b => (s3 i a b).2.2, fun i hi => (s5 i hi).2.2⟩
    · exact h4 t e
theorem FF.m2 {z : Nat} {rl : List (Nat × Nat × Option Nat)} {sts : List Nat} {K : jK} {cr : jR} (h : FF z rl sts K cr) {a b : Nat} (hk0 : ckd z = 106 ∧ cln z = a) (hk : ∀ j, j < a → ckd (z + 1 + j) = 100 ∧ cln (z + 1 + j) = b) (hr : ∀ q ∈ rl, q.1 ≠ z) (hs : ∀ t ∈ sts, z ≠ t ∧ z ≠ t + 11) : FF (z + 1 + a) rl sts (jK2 K a b) (jR2 cr K.2.2 a) ∧ ∀ j, j < a → jR2 cr K.2.2 a z j = some (z + 1 + j) := by
  have hz := h.1
  have h' : FF z rl sts K (jR2 cr K.2.2 a) := h.cr' (fun q hq => if_neg (by have := hr q hq; omega)) (fun t ht b hb k => if_neg (by have := hs t ht; omega))
  obtain ⟨h1, h2, h3, h4⟩ := h'
  refine ⟨⟨by show K.2.2 + 1 + a = _; omega, fun i hi => ?_, h3, h4⟩, fun j hj => ?_⟩
  · show (if i < K.2.2 then K.1 i else if i = K.2.2 then 106 else if i < K.2.2 + 1 + a then 100 else K.1 i) = _ ∧ (if i < K.2.2 then K.2.1 i else if i = K.2.2 then a else if i < K.2.2 + 1 + a then b else K.2.1 i) = _
    by_cases e1 : i < K.2.2
    · rw [if_pos e1, if_pos e1]; exact h2 i (by omega)
    · by_cases e2 : i = K.2.2
      · rw [if_neg e1, if_neg e1, if_pos e2, if_pos e2, e2, hz]; exact ⟨hk0.1.symm, hk0.2.symm⟩
      · rw [if_neg e1, if_neg e1, if_neg e2, if_neg e2, if_pos (by omega), if_pos (by omega)]
        have h9 := hk (i - z - 1) (by omega)
        rw [show z + 1 + (i - z - 1) = i by omega] at h9
        exact ⟨h9.1.symm, h9.2.symm⟩
  · show (if z = K.2.2 then (if j < a then some (K.2.2 + 1 + j) else none) else _) = _
    rw [if_pos hz.symm, if_pos hj, hz]
theorem FF.m3 {z : Nat} {rl : List (Nat × Nat × Option Nat)} {sts : List Nat} {K : jK} {cr : jR} (h : FF z rl sts K cr) {a b f : Nat} (hk0 : ckd z = 107 ∧ cln z = a) (hk : ∀ j, j < a * (1 + b) → ckd (z + 1 + j) = (if j % (1 + b) = 0 then 106 else 100) ∧ cln (z + 1 + j) = (if j % (1 + b) = 0 then b else f)) (hr : ∀ q ∈ rl, q.1 < z) (hs : ∀ t ∈ sts, t + 11 < z) : FF (z + 1 + a * (1 + b)) rl sts (jK3 K a b f) (jR3 cr K.2.2 a b) ∧ (∀ j, j < a → jR3 cr K.2.2 a b z j = some (z + 1 + j * (1 + b))) ∧ (∀ i, i < a → ∀ j, j < b → jR3 cr K.2.2 a b (z + 1 + i * (1 + b)) j = some (z + 1 + i * (1 + b) + 1 + j)) ∧ ∀ x, x < z → ∀ k, jR3 cr K.2.2 a b x k = cr x k := by
  have hz := h.1
  have hold : ∀ x, x < z → ∀ k, jR3 cr K.2.2 a b x k = cr x k := fun x hx k => by
    show (if x = K.2.2 then _ else if K.2.2 < x ∧ _ then _ else cr x k) = _
    rw [if_neg (by omega), if_neg (fun q => by omega)]
  have h' : FF z rl sts K (jR3 cr K.2.2 a b) := h.cr' (fun q hq => hold _ (hr q hq) _) (fun t ht b hb k => hold _ (by have := hs t ht; omega) _)
  obtain ⟨h1, h2, h3, h4⟩ := h'
  refine ⟨⟨by show K.2.2 + 1 + a * (1 + b) = _; omega, fun i hi => ?_, h3, h4⟩, fun j hj => ?_, fun i hi j hj => ?_, hold⟩
  · show (if i < K.2.2 then K.1 i else if i = K.2.2 then 107 else if i < K.2.2 + 1 + a * (1 + b) then (if (i - K.2.2 - 1) % (1 + b) = 0 then 106 else 100) else K.1 i) = _ ∧ (if i < K.2.2 then K.2.1 i else if i = K.2.2 then a else if i < K.2.2 + 1 + a * (1 + b) then (if (i - K.2.2 - 1) % (1 + b) = 0 then b else f) else K.2.1 i) = _
    by_cases e1 : i < K.2.2
    · rw [if_pos e1, if_pos e1]; exact h2 i (by omega)
    · by_cases e2 : i = K.2.2
      · rw [if_neg e1, if_neg e1, if_pos e2, if_pos e2, e2, hz]; exact ⟨hk0.1.symm, hk0.2.symm⟩
      · rw [if_neg e1, if_neg e1, if_neg e2, if_neg e2, if_pos (show i < K.2.2 + 1 + a * (1 + b) by omega), if_pos (show i < K.2.2 + 1 + a * (1 + b) by omega)]
        have h9 := hk (i - z - 1) (by omega)
        rw [show z + 1 + (i - z - 1) = i by omega] at h9
        rw [hz]
        exact ⟨h9.1.symm, h9.2.symm⟩
  · show (if z = K.2.2 then (if j < a then some (K.2.2 + 1 + j * (1 + b)) else none) else _) = _
    rw [if_pos hz.symm, if_pos hj, hz]
  · show (if z + 1 + i * (1 + b) = K.2.2 then _ else if K.2.2 < z + 1 + i * (1 + b) ∧ z + 1 + i * (1 + b) < K.2.2 + 1 + a * (1 + b) ∧ (z + 1 + i * (1 + b) - K.2.2 - 1) % (1 + b) = 0 then (if j < b then some (z + 1 + i * (1 + b) + 1 + j) else none) else _) = _
    have hm : (i + 1) * (1 + b) ≤ a * (1 + b) := Nat.mul_le_mul_right _ hi
    rw [Nat.succ_mul] at hm
    rw [if_neg (by omega), if_pos ⟨by omega, by omega, by rw [hz, show z + 1 + i * (1 + b) - z - 1 = i * (1 + b) by omega]; exact Nat.mul_mod_left i (1 + b)⟩, if_pos hj]
