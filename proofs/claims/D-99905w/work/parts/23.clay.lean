/-! THE COMPONENT'S LAYOUT (printed by gen/comp_layout.py): fixed objects, the States, what is made in a call and what it costs -/
def cfx : List (Nat × Nat × Nat) := [(0, 0, 0), (8, 101, 1600), (9, 2, 0), (10, 3, 0), (11, 4, 0), (12, 103, 11), (13, 4, 0), (14, 103, 11), (15, 100, 6), (120, 106, 60), (181, 100, 16), (182, 100, 16), (183, 100, 16), (184, 107, 10), (505, 108, 20), (1546, 101, 53)]
def cfr : List (Nat × Nat × Nat) := [(0, 1, 8), (0, 5, 9), (0, 6, 11), (0, 7, 13), (0, 8, 15), (0, 9, 16), (0, 10, 68), (0, 11, 120), (0, 12, 181), (0, 13, 182), (0, 14, 183), (0, 16, 184), (0, 17, 505), (0, 20, 1546), (9, 0, 10), (9, 7, 0), (11, 0, 12), (13, 0, 14)]
/-- the id of a State -/
abbrev isSt (t : Nat) : Prop := t = 16 ∨ t = 68 ∨ (506 ≤ t ∧ t < 1546 ∧ (t - 506) % 52 = 0)
def skd (j : Nat) : Nat := if j = 11 then 106 else 100
def sln (j : Nat) : Nat := if j ≤ 3 then 3 else if j ≤ 7 then 6 else if j ≤ 10 then 10 else 40
/-- the component lies where it was made -/
def jCW (K : jK) (cr : jR) : Prop := (∀ q ∈ cfx, K.1 q.1 = q.2.1 ∧ K.2.1 q.1 = q.2.2 ∧ q.1 < K.2.2) ∧ (∀ q ∈ cfr, cr q.1 q.2.1 = some q.2.2) ∧
  ∀ t, isSt t → K.1 t = 5 ∧ t < K.2.2 ∧ cr t 13 = some 0 ∧ ∀ j, 1 ≤ j → j ≤ 11 → K.1 (t + j) = skd j ∧ K.2.1 (t + j) = sln j ∧ t + j < K.2.2 ∧ cr t (j + 1) = some (t + j)
theorem cfr_kind : ∀ q ∈ cfr, ∃ w ∈ cfx, w.1 = q.1 ∧ (w.2.1 = 0 ∨ w.2.1 = 2 ∨ w.2.1 = 4) := by decide
theorem jCW.base {K : jK} {cr : jR} (hC : jCW K cr) {q : Nat × Nat × Nat} (h : q ∈ cfr) : K.1 q.1 = 0 ∨ K.1 q.1 = 2 ∨ K.1 q.1 = 4 := by
  obtain ⟨w, hw, e, hk⟩ := cfr_kind q h
  have := (hC.1 w hw).1
  rw [e] at this
  rw [this]; exact hk
theorem jCW.cr' {K : jK} {cr cr' : jR} (hC : jCW K cr) (h : ∀ a, (K.1 a = 0 ∨ K.1 a = 2 ∨ K.1 a = 4 ∨ K.1 a = 5) → ∀ k, cr' a k = cr a k) : jCW K cr' :=
  ⟨hC.1, fun q hq => by rw [h q.1 (by rcases hC.base hq with z | z | z <;> simp [z])]; exact hC.2.1 q hq, fun t ht => by
    obtain ⟨h1, h2, h3, h4⟩ := hC.2.2 t ht
    refine ⟨h1, h2, by rw [h t (by simp [h1])]; exact h3, fun j a b => ?_⟩
    obtain ⟨g1, g2, g3, g4⟩ := h4 j a b
    exact ⟨g1, g2, g3, by rw [h t (by simp [h1])]; exact g4⟩⟩
theorem jCW.upd {K : jK} {cr : jR} (hC : jCW K cr) {a c k : Nat} {v : Option Nat} (hk : K.1 a = c) (hc : c ≠ 0 ∧ c ≠ 2 ∧ c ≠ 4 ∧ c ≠ 5) : jCW K (ju cr a k v) :=
  hC.cr' (fun x hx j => ju_ne cr v (fun e => by subst e; rw [hk] at hx; omega))
theorem jCW.cpy {K : jK} {cr : jR} (hC : jCW K cr) {a0 a sp dp n c : Nat} (hk : K.1 a = c) (hc : c ≠ 0 ∧ c ≠ 2 ∧ c ≠ 4 ∧ c ≠ 5) : jCW K (jcpy cr a0 a sp dp n) :=
  hC.cr' (fun x hx j => jcpy_ne cr (fun e => by subst e; rw [hk] at hx; omega) j)
theorem cfr_free : ∀ q ∈ cfr, ¬ (q.1 = 0 ∧ q.2.1 = 0) ∧ ¬ (q.1 = 9 ∧ q.2.1 = 6) := by decide
theorem jCW.upd0 {K : jK} {cr : jR} (hC : jCW K cr) {v : Option Nat} : jCW K (ju cr 0 0 v) := by
  refine ⟨hC.1, fun q hq => ?_, fun t ht => ?_⟩
  · by_cases h1 : q.1 = 0
    · rw [ju_ne2 cr v (fun e => (cfr_free q hq).1 ⟨h1, e⟩)]; exact hC.2.1 q hq
    · rw [ju_ne cr v h1]; exact hC.2.1 q hq
  · have h1 : t ≠ 0 := by have : isSt t := ht; unfold isSt at this; omega
    obtain ⟨h1', h2, h3, h4⟩ := hC.2.2 t ht
    refine ⟨h1', h2, by rw [ju_ne cr v h1]; exact h3, fun j a b => ?_⟩
    obtain ⟨g1, g2, g3, g4⟩ := h4 j a b
    exact ⟨g1, g2, g3, by rw [ju_ne cr v h1]; exact g4⟩
theorem jCW.upd9 {K : jK} {cr : jR} (hC : jCW K cr) {v : Option Nat} : jCW K (ju cr 9 6 v) := by
  refine ⟨hC.1, fun q hq => ?_, fun t ht => ?_⟩
  · by_cases h1 : q.1 = 9
    · rw [ju_ne2 cr v (fun e => (cfr_free q hq).2 ⟨h1, e⟩)]; exact hC.2.1 q hq
    · rw [ju_ne cr v h1]; exact hC.2.1 q hq
  · have h1 : t ≠ 9 := by have : isSt t := ht; unfold isSt at this; omega
    obtain ⟨h1', h2, h3, h4⟩ := hC.2.2 t ht
    refine ⟨h1', h2, by rw [ju_ne cr v h1]; exact h3, fun j a b => ?_⟩
    obtain ⟨g1, g2, g3, g4⟩ := h4 j a b
    exact ⟨g1, g2, g3, by rw [ju_ne cr v h1]; exact g4⟩
/-- one thing more -/
abbrev jnK (K : jK) (kd n : Nat) : jK := (va_up K.1 K.2.2 kd, va_up K.2.1 K.2.2 n, K.2.2 + 1)
theorem jCW.new {K : jK} {cr : jR} (hC : jCW K cr) (kd n : Nat) : jCW (jnK K kd n) cr := by
  refine ⟨fun q hq => ?_, hC.2.1, fun t ht => ?_⟩
  · obtain ⟨h1, h2, h3⟩ := hC.1 q hq
    exact ⟨(va_up_ne _ _ (by omega)).trans h1, (va_up_ne _ _ (by omega)).trans h2, Nat.lt_succ_of_lt h3⟩
  · obtain ⟨h1, h2, h3, h4⟩ := hC.2.2 t ht
    refine ⟨(va_up_ne _ _ (by omega)).trans h1, Nat.lt_succ_of_lt h2, h3, fun j a b => ?_⟩
    obtain ⟨g1, g2, g3, g4⟩ := h4 j a b
    exact ⟨(va_up_ne _ _ (by omega)).trans g1, (va_up_ne _ _ (by omega)).trans g2, Nat.lt_succ_of_lt g3, g4⟩
theorem jnK_k (K : jK) (kd n : Nat) : (jnK K kd n).1 K.2.2 = kd := va_up_self _ _ _
theorem jnK_n (K : jK) (kd n : Nat) : (jnK K kd n).2.1 K.2.2 = n := va_up_self _ _ _
theorem jnK_l (K : jK) (kd n : Nat) : K.2.2 < (jnK K kd n).2.2 := Nat.lt_succ_self _
theorem sk1 {K : jK} {cr : jR} (hC : jCW K cr) {t : Nat} (h : isSt t) : K.1 (t + 1) = 100 := ((hC.2.2 t h).2.2.2 1 (by decide) (by decide)).1
theorem sl1 {K : jK} {cr : jR} (hC : jCW K cr) {t : Nat} (h : isSt t) : t + 1 < K.2.2 := ((hC.2.2 t h).2.2.2 1 (by decide) (by decide)).2.2.1
theorem sn1 {K : jK} {cr : jR} (hC : jCW K cr) {t : Nat} (h : isSt t) : K.2.1 (t + 1) = 3 := ((hC.2.2 t h).2.2.2 1 (by decide) (by decide)).2.1
theorem sr1 {K : jK} {cr : jR} (hC : jCW K cr) {t : Nat} (h : isSt t) : cr t 2 = some (t + 1) := ((hC.2.2 t h).2.2.2 1 (by decide) (by decide)).2.2.2
theorem sk2 {K : jK} {cr : jR} (hC : jCW K cr) {t : Nat} (h : isSt t) : K.1 (t + 2) = 100 := ((hC.2.2 t h).2.2.2 2 (by decide) (by decide)).1
theorem sl2 {K : jK} {cr : jR} (hC : jCW K cr) {t : Nat} (h : isSt t) : t + 2 < K.2.2 := ((hC.2.2 t h).2.2.2 2 (by decide) (by decide)).2.2.1
theorem sn2 {K : jK} {cr : jR} (hC : jCW K cr) {t : Nat} (h : isSt t) : K.2.1 (t + 2) = 3 := ((hC.2.2 t h).2.2.2 2 (by decide) (by decide)).2.1
theorem sr2 {K : jK} {cr : jR} (hC : jCW K cr) {t : Nat} (h : isSt t) : cr t 3 = some (t + 2) := ((hC.2.2 t h).2.2.2 2 (by decide) (by decide)).2.2.2
theorem sk3 {K : jK} {cr : jR} (hC : jCW K cr) {t : Nat} (h : isSt t) : K.1 (t + 3) = 100 := ((hC.2.2 t h).2.2.2 3 (by decide) (by decide)).1
theorem sl3 {K : jK} {cr : jR} (hC : jCW K cr) {t : Nat} (h : isSt t) : t + 3 < K.2.2 := ((hC.2.2 t h).2.2.2 3 (by decide) (by decide)).2.2.1
theorem sn3 {K : jK} {cr : jR} (hC : jCW K cr) {t : Nat} (h : isSt t) : K.2.1 (t + 3) = 3 := ((hC.2.2 t h).2.2.2 3 (by decide) (by decide)).2.1
theorem sr3 {K : jK} {cr : jR} (hC : jCW K cr) {t : Nat} (h : isSt t) : cr t 4 = some (t + 3) := ((hC.2.2 t h).2.2.2 3 (by decide) (by decide)).2.2.2
theorem sk4 {K : jK} {cr : jR} (hC : jCW K cr) {t : Nat} (h : isSt t) : K.1 (t + 4) = 100 := ((hC.2.2 t h).2.2.2 4 (by decide) (by decide)).1
theorem sl4 {K : jK} {cr : jR} (hC : jCW K cr) {t : Nat} (h : isSt t) : t + 4 < K.2.2 := ((hC.2.2 t h).2.2.2 4 (by decide) (by decide)).2.2.1
theorem sn4 {K : jK} {cr : jR} (hC : jCW K cr) {t : Nat} (h : isSt t) : K.2.1 (t + 4) = 6 := ((hC.2.2 t h).2.2.2 4 (by decide) (by decide)).2.1
theorem sr4 {K : jK} {cr : jR} (hC : jCW K cr) {t : Nat} (h : isSt t) : cr t 5 = some (t + 4) := ((hC.2.2 t h).2.2.2 4 (by decide) (by decide)).2.2.2
theorem sk5 {K : jK} {cr : jR} (hC : jCW K cr) {t : Nat} (h : isSt t) : K.1 (t + 5) = 100 := ((hC.2.2 t h).2.2.2 5 (by decide) (by decide)).1
theorem sl5 {K : jK} {cr : jR} (hC : jCW K cr) {t : Nat} (h : isSt t) : t + 5 < K.2.2 := ((hC.2.2 t h).2.2.2 5 (by decide) (by decide)).2.2.1
theorem sn5 {K : jK} {cr : jR} (hC : jCW K cr) {t : Nat} (h : isSt t) : K.2.1 (t + 5) = 6 := ((hC.2.2 t h).2.2.2 5 (by decide) (by decide)).2.1
theorem sr5 {K : jK} {cr : jR} (hC : jCW K cr) {t : Nat} (h : isSt t) : cr t 6 = some (t + 5) := ((hC.2.2 t h).2.2.2 5 (by decide) (by decide)).2.2.2
theorem sk6 {K : jK} {cr : jR} (hC : jCW K cr) {t : Nat} (h : isSt t) : K.1 (t + 6) = 100 := ((hC.2.2 t h).2.2.2 6 (by decide) (by decide)).1
theorem sl6 {K : jK} {cr : jR} (hC : jCW K cr) {t : Nat} (h : isSt t) : t + 6 < K.2.2 := ((hC.2.2 t h).2.2.2 6 (by decide) (by decide)).2.2.1
theorem sn6 {K : jK} {cr : jR} (hC : jCW K cr) {t : Nat} (h : isSt t) : K.2.1 (t + 6) = 6 := ((hC.2.2 t h).2.2.2 6 (by decide) (by decide)).2.1
theorem sr6 {K : jK} {cr : jR} (hC : jCW K cr) {t : Nat} (h : isSt t) : cr t 7 = some (t + 6) := ((hC.2.2 t h).2.2.2 6 (by decide) (by decide)).2.2.2
theorem sk7 {K : jK} {cr : jR} (hC : jCW K cr) {t : Nat} (h : isSt t) : K.1 (t + 7) = 100 := ((hC.2.2 t h).2.2.2 7 (by decide) (by decide)).1
theorem sl7 {K : jK} {cr : jR} (hC : jCW K cr) {t : Nat} (h : isSt t) : t + 7 < K.2.2 := ((hC.2.2 t h).2.2.2 7 (by decide) (by decide)).2.2.1
theorem sn7 {K : jK} {cr : jR} (hC : jCW K cr) {t : Nat} (h : isSt t) : K.2.1 (t + 7) = 6 := ((hC.2.2 t h).2.2.2 7 (by decide) (by decide)).2.1
theorem sr7 {K : jK} {cr : jR} (hC : jCW K cr) {t : Nat} (h : isSt t) : cr t 8 = some (t + 7) := ((hC.2.2 t h).2.2.2 7 (by decide) (by decide)).2.2.2
theorem sk8 {K : jK} {cr : jR} (hC : jCW K cr) {t : Nat} (h : isSt t) : K.1 (t + 8) = 100 := ((hC.2.2 t h).2.2.2 8 (by decide) (by decide)).1
theorem sl8 {K : jK} {cr : jR} (hC : jCW K cr) {t : Nat} (h : isSt t) : t + 8 < K.2.2 := ((hC.2.2 t h).2.2.2 8 (by decide) (by decide)).2.2.1
theorem sn8 {K : jK} {cr : jR} (hC : jCW K cr) {t : Nat} (h : isSt t) : K.2.1 (t + 8) = 10 := ((hC.2.2 t h).2.2.2 8 (by decide) (by decide)).2.1
theorem sr8 {K : jK} {cr : jR} (hC : jCW K cr) {t : Nat} (h : isSt t) : cr t 9 = some (t + 8) := ((hC.2.2 t h).2.2.2 8 (by decide) (by decide)).2.2.2
theorem sk9 {K : jK} {cr : jR} (hC : jCW K cr) {t : Nat} (h : isSt t) : K.1 (t + 9) = 100 := ((hC.2.2 t h).2.2.2 9 (by decide) (by decide)).1
theorem sl9 {K : jK} {cr : jR} (hC : jCW K cr) {t : Nat} (h : isSt t) : t + 9 < K.2.2 := ((hC.2.2 t h).2.2.2 9 (by decide) (by decide)).2.2.1
theorem sn9 {K : jK} {cr : jR} (hC : jCW K cr) {t : Nat} (h : isSt t) : K.2.1 (t + 9) = 10 := ((hC.2.2 t h).2.2.2 9 (by decide) (by decide)).2.1
theorem sr9 {K : jK} {cr : jR} (hC : jCW K cr) {t : Nat} (h : isSt t) : cr t 10 = some (t + 9) := ((hC.2.2 t h).2.2.2 9 (by decide) (by decide)).2.2.2
theorem sk10 {K : jK} {cr : jR} (hC : jCW K cr) {t : Nat} (h : isSt t) : K.1 (t + 10) = 100 := ((hC.2.2 t h).2.2.2 10 (by decide) (by decide)).1
theorem sl10 {K : jK} {cr : jR} (hC : jCW K cr) {t : Nat} (h : isSt t) : t + 10 < K.2.2 := ((hC.2.2 t h).2.2.2 10 (by decide) (by decide)).2.2.1
theorem sn10 {K : jK} {cr : jR} (hC : jCW K cr) {t : Nat} (h : isSt t) : K.2.1 (t + 10) = 10 := ((hC.2.2 t h).2.2.2 10 (by decide) (by decide)).2.1
theorem sr10 {K : jK} {cr : jR} (hC : jCW K cr) {t : Nat} (h : isSt t) : cr t 11 = some (t + 10) := ((hC.2.2 t h).2.2.2 10 (by decide) (by decide)).2.2.2
theorem sk11 {K : jK} {cr : jR} (hC : jCW K cr) {t : Nat} (h : isSt t) : K.1 (t + 11) = 106 := ((hC.2.2 t h).2.2.2 11 (by decide) (by decide)).1
theorem sl11 {K : jK} {cr : jR} (hC : jCW K cr) {t : Nat} (h : isSt t) : t + 11 < K.2.2 := ((hC.2.2 t h).2.2.2 11 (by decide) (by decide)).2.2.1
theorem sn11 {K : jK} {cr : jR} (hC : jCW K cr) {t : Nat} (h : isSt t) : K.2.1 (t + 11) = 40 := ((hC.2.2 t h).2.2.2 11 (by decide) (by decide)).2.1
theorem sr11 {K : jK} {cr : jR} (hC : jCW K cr) {t : Nat} (h : isSt t) : cr t 12 = some (t + 11) := ((hC.2.2 t h).2.2.2 11 (by decide) (by decide)).2.2.2
theorem sk0 {K : jK} {cr : jR} (hC : jCW K cr) {t : Nat} (h : isSt t) : K.1 t = 5 := (hC.2.2 t h).1
theorem sl0 {K : jK} {cr : jR} (hC : jCW K cr) {t : Nat} (h : isSt t) : t < K.2.2 := (hC.2.2 t h).2.1
theorem sr12 {K : jK} {cr : jR} (hC : jCW K cr) {t : Nat} (h : isSt t) : cr t 13 = some 0 := (hC.2.2 t h).2.2.1
theorem ck0 {K : jK} {cr : jR} (hC : jCW K cr) : K.1 0 = 0 := (hC.1 (0, 0, 0) (by decide)).1
theorem cn0 {K : jK} {cr : jR} (hC : jCW K cr) : K.2.1 0 = 0 := (hC.1 (0, 0, 0) (by decide)).2.1
theorem cl0 {K : jK} {cr : jR} (hC : jCW K cr) : 0 < K.2.2 := (hC.1 (0, 0, 0) (by decide)).2.2
theorem ck8 {K : jK} {cr : jR} (hC : jCW K cr) : K.1 8 = 101 := (hC.1 (8, 101, 1600) (by decide)).1
theorem cn8 {K : jK} {cr : jR} (hC : jCW K cr) : K.2.1 8 = 1600 := (hC.1 (8, 101, 1600) (by decide)).2.1
theorem cl8 {K : jK} {cr : jR} (hC : jCW K cr) : 8 < K.2.2 := (hC.1 (8, 101, 1600) (by decide)).2.2
theorem ck9 {K : jK} {cr : jR} (hC : jCW K cr) : K.1 9 = 2 := (hC.1 (9, 2, 0) (by decide)).1
theorem cn9 {K : jK} {cr : jR} (hC : jCW K cr) : K.2.1 9 = 0 := (hC.1 (9, 2, 0) (by decide)).2.1
theorem cl9 {K : jK} {cr : jR} (hC : jCW K cr) : 9 < K.2.2 := (hC.1 (9, 2, 0) (by decide)).2.2
theorem ck10 {K : jK} {cr : jR} (hC : jCW K cr) : K.1 10 = 3 := (hC.1 (10, 3, 0) (by decide)).1
theorem cn10 {K : jK} {cr : jR} (hC : jCW K cr) : K.2.1 10 = 0 := (hC.1 (10, 3, 0) (by decide)).2.1
theorem cl10 {K : jK} {cr : jR} (hC : jCW K cr) : 10 < K.2.2 := (hC.1 (10, 3, 0) (by decide)).2.2
theorem ck11 {K : jK} {cr : jR} (hC : jCW K cr) : K.1 11 = 4 := (hC.1 (11, 4, 0) (by decide)).1
theorem cn11 {K : jK} {cr : jR} (hC : jCW K cr) : K.2.1 11 = 0 := (hC.1 (11, 4, 0) (by decide)).2.1
theorem cl11 {K : jK} {cr : jR} (hC : jCW K cr) : 11 < K.2.2 := (hC.1 (11, 4, 0) (by decide)).2.2
theorem ck12 {K : jK} {cr : jR} (hC : jCW K cr) : K.1 12 = 103 := (hC.1 (12, 103, 11) (by decide)).1
theorem cn12 {K : jK} {cr : jR} (hC : jCW K cr) : K.2.1 12 = 11 := (hC.1 (12, 103, 11) (by decide)).2.1
theorem cl12 {K : jK} {cr : jR} (hC : jCW K cr) : 12 < K.2.2 := (hC.1 (12, 103, 11) (by decide)).2.2
theorem ck13 {K : jK} {cr : jR} (hC : jCW K cr) : K.1 13 = 4 := (hC.1 (13, 4, 0) (by decide)).1
theorem cn13 {K : jK} {cr : jR} (hC : jCW K cr) : K.2.1 13 = 0 := (hC.1 (13, 4, 0) (by decide)).2.1
theorem cl13 {K : jK} {cr : jR} (hC : jCW K cr) : 13 < K.2.2 := (hC.1 (13, 4, 0) (by decide)).2.2
theorem ck14 {K : jK} {cr : jR} (hC : jCW K cr) : K.1 14 = 103 := (hC.1 (14, 103, 11) (by decide)).1
theorem cn14 {K : jK} {cr : jR} (hC : jCW K cr) : K.2.1 14 = 11 := (hC.1 (14, 103, 11) (by decide)).2.1
theorem cl14 {K : jK} {cr : jR} (hC : jCW K cr) : 14 < K.2.2 := (hC.1 (14, 103, 11) (by decide)).2.2
theorem ck15 {K : jK} {cr : jR} (hC : jCW K cr) : K.1 15 = 100 := (hC.1 (15, 100, 6) (by decide)).1
theorem cn15 {K : jK} {cr : jR} (hC : jCW K cr) : K.2.1 15 = 6 := (hC.1 (15, 100, 6) (by decide)).2.1
theorem cl15 {K : jK} {cr : jR} (hC : jCW K cr) : 15 < K.2.2 := (hC.1 (15, 100, 6) (by decide)).2.2
theorem ck120 {K : jK} {cr : jR} (hC : jCW K cr) : K.1 120 = 106 := (hC.1 (120, 106, 60) (by decide)).1
theorem cn120 {K : jK} {cr : jR} (hC : jCW K cr) : K.2.1 120 = 60 := (hC.1 (120, 106, 60) (by decide)).2.1
theorem cl120 {K : jK} {cr : jR} (hC : jCW K cr) : 120 < K.2.2 := (hC.1 (120, 106, 60) (by decide)).2.2
theorem ck181 {K : jK} {cr : jR} (hC : jCW K cr) : K.1 181 = 100 := (hC.1 (181, 100, 16) (by decide)).1
theorem cn181 {K : jK} {cr : jR} (hC : jCW K cr) : K.2.1 181 = 16 := (hC.1 (181, 100, 16) (by decide)).2.1
theorem cl181 {K : jK} {cr : jR} (hC : jCW K cr) : 181 < K.2.2 := (hC.1 (181, 100, 16) (by decide)).2.2
theorem ck182 {K : jK} {cr : jR} (hC : jCW K cr) : K.1 182 = 100 := (hC.1 (182, 100, 16) (by decide)).1
theorem cn182 {K : jK} {cr : jR} (hC : jCW K cr) : K.2.1 182 = 16 := (hC.1 (182, 100, 16) (by decide)).2.1
theorem cl182 {K : jK} {cr : jR} (hC : jCW K cr) : 182 < K.2.2 := (hC.1 (182, 100, 16) (by decide)).2.2
theorem ck183 {K : jK} {cr : jR} (hC : jCW K cr) : K.1 183 = 100 := (hC.1 (183, 100, 16) (by decide)).1
theorem cn183 {K : jK} {cr : jR} (hC : jCW K cr) : K.2.1 183 = 16 := (hC.1 (183, 100, 16) (by decide)).2.1
theorem cl183 {K : jK} {cr : jR} (hC : jCW K cr) : 183 < K.2.2 := (hC.1 (183, 100, 16) (by decide)).2.2
theorem ck184 {K : jK} {cr : jR} (hC : jCW K cr) : K.1 184 = 107 := (hC.1 (184, 107, 10) (by decide)).1
theorem cn184 {K : jK} {cr : jR} (hC : jCW K cr) : K.2.1 184 = 10 := (hC.1 (184, 107, 10) (by decide)).2.1
theorem cl184 {K : jK} {cr : jR} (hC : jCW K cr) : 184 < K.2.2 := (hC.1 (184, 107, 10) (by decide)).2.2
theorem ck505 {K : jK} {cr : jR} (hC : jCW K cr) : K.1 505 = 108 := (hC.1 (505, 108, 20) (by decide)).1
theorem cn505 {K : jK} {cr : jR} (hC : jCW K cr) : K.2.1 505 = 20 := (hC.1 (505, 108, 20) (by decide)).2.1
theorem cl505 {K : jK} {cr : jR} (hC : jCW K cr) : 505 < K.2.2 := (hC.1 (505, 108, 20) (by decide)).2.2
theorem ck1546 {K : jK} {cr : jR} (hC : jCW K cr) : K.1 1546 = 101 := (hC.1 (1546, 101, 53) (by decide)).1
theorem cn1546 {K : jK} {cr : jR} (hC : jCW K cr) : K.2.1 1546 = 53 := (hC.1 (1546, 101, 53) (by decide)).2.1
theorem cl1546 {K : jK} {cr : jR} (hC : jCW K cr) : 1546 < K.2.2 := (hC.1 (1546, 101, 53) (by decide)).2.2
theorem is16 : isSt 16 := by decide
theorem ck16 {K : jK} {cr : jR} (hC : jCW K cr) : K.1 16 = 5 := sk0 hC is16
theorem cl16 {K : jK} {cr : jR} (hC : jCW K cr) : 16 < K.2.2 := sl0 hC is16
theorem is68 : isSt 68 := by decide
theorem ck68 {K : jK} {cr : jR} (hC : jCW K cr) : K.1 68 = 5 := sk0 hC is68
theorem cl68 {K : jK} {cr : jR} (hC : jCW K cr) : 68 < K.2.2 := sl0 hC is68
theorem cq0_1 {K : jK} {cr : jR} (hC : jCW K cr) : cr 0 1 = some 8 := hC.2.1 (0, 1, 8) (by decide)
theorem cq0_5 {K : jK} {cr : jR} (hC : jCW K cr) : cr 0 5 = some 9 := hC.2.1 (0, 5, 9) (by decide)
theorem cq0_6 {K : jK} {cr : jR} (hC : jCW K cr) : cr 0 6 = some 11 := hC.2.1 (0, 6, 11) (by decide)
theorem cq0_7 {K : jK} {cr : jR} (hC : jCW K cr) : cr 0 7 = some 13 := hC.2.1 (0, 7, 13) (by decide)
theorem cq0_8 {K : jK} {cr : jR} (hC : jCW K cr) : cr 0 8 = some 15 := hC.2.1 (0, 8, 15) (by decide)
theorem cq0_9 {K : jK} {cr : jR} (hC : jCW K cr) : cr 0 9 = some 16 := hC.2.1 (0, 9, 16) (by decide)
theorem cq0_10 {K : jK} {cr : jR} (hC : jCW K cr) : cr 0 10 = some 68 := hC.2.1 (0, 10, 68) (by decide)
theorem cq0_11 {K : jK} {cr : jR} (hC : jCW K cr) : cr 0 11 = some 120 := hC.2.1 (0, 11, 120) (by decide)
theorem cq0_12 {K : jK} {cr : jR} (hC : jCW K cr) : cr 0 12 = some 181 := hC.2.1 (0, 12, 181) (by decide)
theorem cq0_13 {K : jK} {cr : jR} (hC : jCW K cr) : cr 0 13 = some 182 := hC.2.1 (0, 13, 182) (by decide)
theorem cq0_14 {K : jK} {cr : jR} (hC : jCW K cr) : cr 0 14 = some 183 := hC.2.1 (0, 14, 183) (by decide)
theorem cq0_16 {K : jK} {cr : jR} (hC : jCW K cr) : cr 0 16 = some 184 := hC.2.1 (0, 16, 184) (by decide)
theorem cq0_17 {K : jK} {cr : jR} (hC : jCW K cr) : cr 0 17 = some 505 := hC.2.1 (0, 17, 505) (by decide)
theorem cq0_20 {K : jK} {cr : jR} (hC : jCW K cr) : cr 0 20 = some 1546 := hC.2.1 (0, 20, 1546) (by decide)
theorem cq9_0 {K : jK} {cr : jR} (hC : jCW K cr) : cr 9 0 = some 10 := hC.2.1 (9, 0, 10) (by decide)
theorem cq9_7 {K : jK} {cr : jR} (hC : jCW K cr) : cr 9 7 = some 0 := hC.2.1 (9, 7, 0) (by decide)
theorem cq11_0 {K : jK} {cr : jR} (hC : jCW K cr) : cr 11 0 = some 12 := hC.2.1 (11, 0, 12) (by decide)
theorem cq13_0 {K : jK} {cr : jR} (hC : jCW K cr) : cr 13 0 = some 14 := hC.2.1 (13, 0, 14) (by decide)
/-! methods that make things or throw: what they answer (none: the Fault thrown), the state behind them, cells and slots made -/
abbrev jT (α : Type) : Type := Option α × jK × jI × jJ × jR × Nat × Nat
/-- the end of such a method -/
def jqx {α : Type} (wf : α → Option Value) (q : jT α) (Qr : jQ) (Qx : jX) : Prop := jCW q.2.1 q.2.2.2.2.1 → match q.1 with
  | none => Qx 10 q.2.1 q.2.2.1 q.2.2.2.1 q.2.2.2.2.1
  | some r => Qr (wf r) q.2.1 q.2.2.1 q.2.2.2.1 q.2.2.2.2.1
def wI : Int32 → Option Value := fun r => some (.int r)
def wJ : Int64 → Option Value := fun r => some (.long r)
def wR : Nat → Option Value := fun r => some (.ref r)
def wV : Unit → Option Value := fun _ => none
/-- first x, then k -/
def jxb {α β : Type} (x : Option (jT α)) (k : α → jK → jI → jJ → jR → Option (jT β)) : Option (jT β) := x.bind (fun q => match q.1 with
  | none => some (none, q.2)
  | some r => (k r q.2.1 q.2.2.1 q.2.2.2.1 q.2.2.2.2.1).map (fun w => (w.1, w.2.1, w.2.2.1, w.2.2.2.1, w.2.2.2.2.1, q.2.2.2.2.2.1 + w.2.2.2.2.2.1, q.2.2.2.2.2.2 + w.2.2.2.2.2.2)))
/-- a thing of n slots is made -/
def jal {β : Type} (n : Nat) (x : Option (jT β)) : Option (jT β) := x.map (fun w => (w.1, w.2.1, w.2.2.1, w.2.2.2.1, w.2.2.2.2.1, w.2.2.2.2.2.1 + 1, w.2.2.2.2.2.2 + n))
theorem jx_new {g : jG} {d : Nat} {M : jM} {pc pc' : Nat} {L st st' : List Value} {K K' : jK} {ci : jI} {cj : jJ} {cr : jR} {β : Type} {wf : β → Option Value} {w : jT β} {X : Option (jT β)} {n : Nat} {Qr : jQ} {Qx : jX} (hrow : ∀ c sl, Ev g d M pc' L st' K' ci cj cr c sl Qr Qx → Ev g d M pc L st K ci cj cr (c + 1) (sl + n) Qr Qx) (h : jal n X = some w) (hq : jqx wf w Qr Qx)
    (hk : ∀ w' : jT β, X = some w' → jqx wf w' Qr Qx → Ev g d M pc' L st' K' ci cj cr w'.2.2.2.2.2.1 w'.2.2.2.2.2.2 Qr Qx) : Ev g d M pc L st K ci cj cr w.2.2.2.2.2.1 w.2.2.2.2.2.2 Qr Qx := by
  obtain ⟨w', h1, h2⟩ := Option.map_eq_some_iff.mp h
  subst h2
  exact hrow _ _ (hk w' h1 hq)
theorem jx_inv {g : jG} {d d2 : Nat} {M M' : jM} {pc pc' : Nat} {L st stk As : List Value} {K : jK} {ci : jI} {cj : jJ} {cr : jR} {α β : Type} {wf : α → Option Value} {wf2 : β → Option Value} {x : Option (jT α)} {k : α → jK → jI → jJ → jR → Option (jT β)} {w : jT β} {Qr : jQ} {Qx : jX}
    (hinv : ∀ c1 s1 c sl, EvM g d M' As K ci cj cr c1 s1 (fun v K ci cj cr => Ev g d2 M pc' L (v.toList ++ st) K ci cj cr c sl Qr Qx) Qx → Ev g d2 M pc L stk K ci cj cr (c1 + c) (s1 + sl) Qr Qx) (h : jxb x k = some w) (hq : jqx wf2 w Qr Qx)
    (hcal : ∀ (q : jT α) (Qr' : jQ), x = some q → jqx wf q Qr' Qx → EvM g d M' As K ci cj cr q.2.2.2.2.2.1 q.2.2.2.2.2.2 Qr' Qx)
    (hk : ∀ (r : α) (K' : jK) (ci' : jI) (cj' : jJ) (cr' : jR) (w' : jT β), k r K' ci' cj' cr' = some w' → jCW K' cr' → jqx wf2 w' Qr Qx → Ev g d2 M pc' L ((wf r).toList ++ st) K' ci' cj' cr' w'.2.2.2.2.2.1 w'.2.2.2.2.2.2 Qr Qx) : Ev g d2 M pc L stk K ci cj cr w.2.2.2.2.2.1 w.2.2.2.2.2.2 Qr Qx := by
  obtain ⟨q, h1, h2⟩ := Option.bind_eq_some_iff.mp h
  cases hr : q.1 with
  | none =>
    rw [hr] at h2
    cases h2
    have h9 := hinv q.2.2.2.2.2.1 q.2.2.2.2.2.2 0 0 (hcal q _ h1 (fun hC => by
      rw [hr]
      exact hq hC))
    exact h9
  | some r =>
    rw [hr] at h2
    obtain ⟨w', h3, h4⟩ := Option.map_eq_some_iff.mp h2
    subst h4
    exact hinv q.2.2.2.2.2.1 q.2.2.2.2.2.2 w'.2.2.2.2.2.1 w'.2.2.2.2.2.2 (hcal q _ h1 (fun hC => by
      rw [hr]
      exact hk r _ _ _ _ w' h3 hC hq))
theorem jboolf {x : Int32} (h : x = 0 ∨ x = 1) : fits .boolean (.int x) = true := by
  rcases h with h | h <;> subst h <;> decide
theorem jbyt1 {x : Int32} (h : x.toInt8.toInt32 = x) : narrow .byte (.int x) = .int x := by
  show Value.int x.toInt8.toInt32 = .int x
  rw [h]
theorem jchr1 {x : Int32} (h : x.toUInt32.toUInt16.toUInt32.toInt32 = x) : narrow .char (.int x) = .int x := by
  show Value.int x.toUInt32.toUInt16.toUInt32.toInt32 = .int x
  rw [h]
section
variable {g : jG} {d : Nat} {M M' : jM} {pc : Nat} {L st : List Value} {K : jK} {ci : jI} {cj : jJ} {cr : jR} {c c1 sl s1 : Nat} {Qr : jQ} {Qx : jX}
theorem ev_zI0 {index b : Nat} (hd : decode M.2.1 pc = .ok (.invokespecial index, 3)) (hs : jI1 M.1.cls index 0 M') (hlen : (jent (.ref b :: [])).length ≤ M'.2.2.1) (hst : (st.map fun v => v.category).sum ≤ 8) (hh : M.2.2.2.2 = []) (hcal : EvM g d M' (.ref b :: []) K ci cj cr 0 0 (fun w K ci cj cr => Ev g (d + 1) M (pc + 3) L (w.toList ++ st) K ci cj cr c sl Qr Qx) Qx) : Ev g (d + 1) M pc L (.ref b :: st) K ci cj cr c sl Qr Qx := by
  have h9 := ev_invI0 (c1 := 0) (s1 := 0) hd hs hlen hst hh hcal
  rw [Nat.zero_add, Nat.zero_add] at h9
  exact h9
theorem ev_zI1 {index b : Nat} {x0 : Value} (hd : decode M.2.1 pc = .ok (.invokespecial index, 3)) (hs : jI1 M.1.cls index 1 M') (hlen : (jent (.ref b :: [x0])).length ≤ M'.2.2.1) (hst : (st.map fun v => v.category).sum ≤ 8) (hh : M.2.2.2.2 = []) (hcal : EvM g d M' (.ref b :: [x0]) K ci cj cr 0 0 (fun w K ci cj cr => Ev g (d + 1) M (pc + 3) L (w.toList ++ st) K ci cj cr c sl Qr Qx) Qx) : Ev g (d + 1) M pc L (x0 :: .ref b :: st) K ci cj cr c sl Qr Qx := by
  have h9 := ev_invI1 (c1 := 0) (s1 := 0) hd hs hlen hst hh hcal
  rw [Nat.zero_add, Nat.zero_add] at h9
  exact h9
theorem ev_zI2 {index b : Nat} {x0 x1 : Value} (hd : decode M.2.1 pc = .ok (.invokespecial index, 3)) (hs : jI1 M.1.cls index 2 M') (hlen : (jent (.ref b :: [x0, x1])).length ≤ M'.2.2.1) (hst : (st.map fun v => v.category).sum ≤ 8) (hh : M.2.2.2.2 = []) (hcal : EvM g d M' (.ref b :: [x0, x1]) K ci cj cr 0 0 (fun w K ci cj cr => Ev g (d + 1) M (pc + 3) L (w.toList ++ st) K ci cj cr c sl Qr Qx) Qx) : Ev g (d + 1) M pc L (x1 :: x0 :: .ref b :: st) K ci cj cr c sl Qr Qx := by
  have h9 := ev_invI2 (c1 := 0) (s1 := 0) hd hs hlen hst hh hcal
  rw [Nat.zero_add, Nat.zero_add] at h9
  exact h9
theorem ev_zI3 {index b : Nat} {x0 x1 x2 : Value} (hd : decode M.2.1 pc = .ok (.invokespecial index, 3)) (hs : jI1 M.1.cls index 3 M') (hlen : (jent (.ref b :: [x0, x1, x2])).length ≤ M'.2.2.1) (hst : (st.map fun v => v.category).sum ≤ 8) (hh : M.2.2.2.2 = []) (hcal : EvM g d M' (.ref b :: [x0, x1, x2]) K ci cj cr 0 0 (fun w K ci cj cr => Ev g (d + 1) M (pc + 3) L (w.toList ++ st) K ci cj cr c sl Qr Qx) Qx) : Ev g (d + 1) M pc L (x2 :: x1 :: x0 :: .ref b :: st) K ci cj cr c sl Qr Qx := by
  have h9 := ev_invI3 (c1 := 0) (s1 := 0) hd hs hlen hst hh hcal
  rw [Nat.zero_add, Nat.zero_add] at h9
  exact h9
theorem ev_zI4 {index b : Nat} {x0 x1 x2 x3 : Value} (hd : decode M.2.1 pc = .ok (.invokespecial index, 3)) (hs : jI1 M.1.cls index 4 M') (hlen : (jent (.ref b :: [x0, x1, x2, x3])).length ≤ M'.2.2.1) (hst : (st.map fun v => v.category).sum ≤ 8) (hh : M.2.2.2.2 = []) (hcal : EvM g d M' (.ref b :: [x0, x1, x2, x3]) K ci cj cr 0 0 (fun w K ci cj cr => Ev g (d + 1) M (pc + 3) L (w.toList ++ st) K ci cj cr c sl Qr Qx) Qx) : Ev g (d + 1) M pc L (x3 :: x2 :: x1 :: x0 :: .ref b :: st) K ci cj cr c sl Qr Qx := by
  have h9 := ev_invI4 (c1 := 0) (s1 := 0) hd hs hlen hst hh hcal
  rw [Nat.zero_add, Nat.zero_add] at h9
  exact h9
end
