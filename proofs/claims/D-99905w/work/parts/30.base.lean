/-! STAGE B: what the plain functions answer -/
def Wp {α : Type} (x : Option α) (Q : α → Prop) : Prop := ∃ q, x = some q ∧ Q q
theorem wp_some {α : Type} {a : α} {Q : α → Prop} : Wp (some a) Q ↔ Q a := ⟨fun ⟨_, h, hq⟩ => by cases h; exact hq, fun h => ⟨a, rfl, h⟩⟩
theorem wp_bind {α β : Type} {x : Option α} {k : α → Option β} {Q : β → Prop} : Wp (Option.bind x k) Q ↔ Wp x (fun q => Wp (k q) Q) := by
  constructor
  · rintro ⟨q, h, hq⟩
    obtain ⟨a, h1, h2⟩ := Option.bind_eq_some_iff.mp h
    exact ⟨a, h1, q, h2, hq⟩
  · rintro ⟨a, h1, q, h2, hq⟩
    exact ⟨q, by rw [h1]; exact h2, hq⟩
theorem wp_jpb {α β : Type} {x : Option (jTp α)} {k : α → jI → jJ → jR → Option β} {Q : β → Prop} : Wp (jpb x k) Q ↔ Wp x (fun q => Wp (k q.1 q.2.1 q.2.2.1 q.2.2.2) Q) := wp_bind
theorem Wp.mono {α : Type} {x : Option α} {P Q : α → Prop} (h : Wp x P) (f : ∀ q, P q → Q q) : Wp x Q := by
  obtain ⟨q, a, b⟩ := h
  exact ⟨q, a, f q b⟩
theorem Wp.loop {α β : Type} (F : Nat → β → Option α) (I : Nat → β → Prop) (Q : α → Prop)
    (h : ∀ k r b, I r b → (∀ r' b', r' < r → I r' b' → Wp (F k b') Q) → Wp (F (k + 1) b) Q) : ∀ k r b, r < k → I r b → Wp (F k b) Q := by
  intro k
  induction k with
  | zero => intro r b h1; omega
  | succ k ih => intro r b h1 hI; exact h k r b hI (fun r' b' h2 h3 => ih r' b' (by omega) h3)
/-- of what makes and throws -/
abbrev jQX (α : Type) : Type := Option α → jK → jI → jJ → jR → Nat → Nat → Prop
def Wx {α : Type} (x : Option (jT α)) (Q : jQX α) : Prop := ∃ o K ci cj cr c s, x = some (o, K, ci, cj, cr, c, s) ∧ Q o K ci cj cr c s
theorem wx_some {α : Type} {o : Option α} {K : jK} {ci : jI} {cj : jJ} {cr : jR} {c s : Nat} {Q : jQX α} : Wx (some (o, K, ci, cj, cr, c, s)) Q ↔ Q o K ci cj cr c s := by
  constructor
  · rintro ⟨o', K', ci', cj', cr', c', s', h, hq⟩
    cases h; exact hq
  · exact fun h => ⟨o, K, ci, cj, cr, c, s, rfl, h⟩
theorem wx_jpb {α β : Type} {x : Option (jTp α)} {k : α → jI → jJ → jR → Option (jT β)} {Q : jQX β} : Wx (jpb x k) Q ↔ Wp x (fun q => Wx (k q.1 q.2.1 q.2.2.1 q.2.2.2) Q) := by
  constructor
  · rintro ⟨o, K, ci, cj, cr, c, s, h, hq⟩
    obtain ⟨a, h1, h2⟩ := Option.bind_eq_some_iff.mp h
    exact ⟨a, h1, o, K, ci, cj, cr, c, s, h2, hq⟩
  · rintro ⟨a, h1, o, K, ci, cj, cr, c, s, h2, hq⟩
    exact ⟨o, K, ci, cj, cr, c, s, by unfold jpb; rw [h1]; exact h2, hq⟩
theorem wx_bind {α β : Type} {x : Option α} {k : α → Option (jT β)} {Q : jQX β} : Wx (Option.bind x k) Q ↔ Wp x (fun q => Wx (k q) Q) := by
  constructor
  · rintro ⟨o, K, ci, cj, cr, c, s, h, hq⟩
    obtain ⟨a, h1, h2⟩ := Option.bind_eq_some_iff.mp h
    exact ⟨a, h1, o, K, ci, cj, cr, c, s, h2, hq⟩
  · rintro ⟨a, h1, o, K, ci, cj, cr, c, s, h2, hq⟩
    exact ⟨o, K, ci, cj, cr, c, s, by rw [h1]; exact h2, hq⟩
def jQb {α β : Type} (k : α → jK → jI → jJ → jR → Option (jT β)) (Q : jQX β) : jQX α := fun o K ci cj cr c s => match o with
  | none => Q none K ci cj cr c s
  | some r => Wx (k r K ci cj cr) (fun o' K' ci' cj' cr' c' s' => Q o' K' ci' cj' cr' (c + c') (s + s'))
theorem wx_jxb {α β : Type} {x : Option (jT α)} {k : α → jK → jI → jJ → jR → Option (jT β)} {Q : jQX β} (h : Wx x (jQb k Q)) : Wx (jxb x k) Q := by
  obtain ⟨o, K, ci, cj, cr, c, s, h1, h2⟩ := h
  cases o with
  | none => exact ⟨none, K, ci, cj, cr, c, s, by unfold jxb; rw [h1]; rfl, h2⟩
  | some r =>
    obtain ⟨o', K', ci', cj', cr', c', s', h3, h4⟩ := h2
    exact ⟨o', K', ci', cj', cr', c + c', s + s', by unfold jxb; rw [h1]; show Option.map _ (k r K ci cj cr) = _; rw [h3]; rfl, h4⟩
theorem wx_jal {β : Type} {n : Nat} {x : Option (jT β)} {Q : jQX β} (h : Wx x (fun o K ci cj cr c s => Q o K ci cj cr (c + 1) (s + n))) : Wx (jal n x) Q := by
  obtain ⟨o, K, ci, cj, cr, c, s, h1, h2⟩ := h
  exact ⟨o, K, ci, cj, cr, c + 1, s + n, by unfold jal; rw [h1]; rfl, h2⟩
theorem Wx.mono {α : Type} {x : Option (jT α)} {P Q : jQX α} (h : Wx x P) (f : ∀ o K ci cj cr c s, P o K ci cj cr c s → Q o K ci cj cr c s) : Wx x Q := by
  obtain ⟨o, K, ci, cj, cr, c, s, h1, h2⟩ := h
  exact ⟨o, K, ci, cj, cr, c, s, h1, f _ _ _ _ _ _ _ h2⟩
theorem Wx.loop {α β : Type} (F : Nat → β → Option (jT α)) (I : Nat → β → Prop) (Q : β → jQX α)
    (h : ∀ k r b, I r b → (∀ r' b', r' < r → I r' b' → Wx (F k b') (Q b')) → Wx (F (k + 1) b) (Q b)) : ∀ k r b, r < k → I r b → Wx (F k b) (Q b) := by
  intro k
  induction k with
  | zero => intro r b h1; omega
  | succ k ih => intro r b h1 hI; exact h k r b hI (fun r' b' h2 h3 => ih r' b' (by omega) h3)
/-! whole numbers -/
theorem nI_mulN (a b : Nat) : nI a * nI b = nI (a * b) := (Int32.ofNat_mul a b).symm
theorem nI_subN {a b : Nat} (h : b ≤ a) : nI a - nI b = nI (a - b) := (Int32.ofNat_sub a b h).symm
theorem nI_cl {k : Nat} (h : k < 2147483648) : (nI k).toNatClampNeg = k := nI_clamp h
theorem nI_leN {a b : Nat} (ha : a < 2147483648) (hb : b < 2147483648) : (nI a ≤ nI b) = (a ≤ b) := propext (nI_leI ha hb)
theorem nI_ltN {a b : Nat} (ha : a < 2147483648) (hb : b < 2147483648) : (nI a < nI b) = (a < b) := propext (nI_ltI ha hb)
theorem nI_eqN {a b : Nat} (ha : a < 2147483648) (hb : b < 2147483648) : (nI a = nI b) = (a = b) := propext (nI_eq ha hb)
theorem nI_z : (0 : Int32) = nI 0 := rfl
theorem jok_t {k n : Nat} (h : k < n) (hk : k < 2147483648) : jok (nI k) n = True := eq_true ⟨nI_pos hk, by rw [nI_cl hk]; exact h⟩
theorem nI_lt0 {a : Nat} (ha : a < 2147483648) : (nI a < 0) = False := eq_false (nI_pos ha)
theorem nI_0le {a : Nat} (ha : a < 2147483648) : ((0 : Int32) ≤ nI a) = True := eq_true (nI_pos' ha)
theorem nI_le0 {a : Nat} (ha : a < 2147483648) : (nI a ≤ 0) = (a = 0) := by
  rw [show (0 : Int32) = nI 0 from rfl, nI_leN ha (by omega)]
  exact propext (by omega)
theorem nI_0lt {a : Nat} (ha : a < 2147483648) : ((0 : Int32) < nI a) = (0 < a) := by
  rw [show (0 : Int32) = nI 0 from rfl, nI_ltN (by omega) ha]
theorem nI_eq0 {a : Nat} (ha : a < 2147483648) : (nI a = 0) = (a = 0) := by
  rw [show (0 : Int32) = nI 0 from rfl, nI_eqN ha (by omega)]
theorem nI_m1 {a : Nat} (ha : a < 2147483648) : (nI a = -1) = False := by
  refine eq_false (fun h => ?_)
  have h1 := congrArg Int32.toInt h
  rw [nI_toInt ha] at h1
  have h2 : (-1 : Int32).toInt = -1 := by decide
  omega
theorem m1_nI {a : Nat} (ha : a < 2147483648) : ((-1 : Int32) = nI a) = False :=
  (propext ⟨Eq.symm, Eq.symm⟩ : ((-1 : Int32) = nI a) = (nI a = -1)).trans (nI_m1 ha)
theorem nI_lem1 {a : Nat} (ha : a < 2147483648) : (nI a ≤ -1) = False := by
  refine eq_false (fun h => ?_)
  have h1 := Int32.le_iff_toInt_le.mp h
  rw [nI_toInt ha] at h1
  have h2 : (-1 : Int32).toInt = -1 := by decide
  omega
theorem m1_le {a : Nat} (ha : a < 2147483648) : ((-1 : Int32) ≤ nI a) = True := by
  refine eq_true (Int32.le_iff_toInt_le.mpr ?_)
  rw [nI_toInt ha]
  have h2 : (-1 : Int32).toInt = -1 := by decide
  omega
theorem m1_lt {a : Nat} (ha : a < 2147483648) : ((-1 : Int32) < nI a) = True := by
  refine eq_true (Int32.lt_iff_toInt_lt.mpr ?_)
  rw [nI_toInt ha]
  have h2 : (-1 : Int32).toInt = -1 := by decide
  omega
theorem nI_ltm1 {a : Nat} (ha : a < 2147483648) : (nI a < -1) = False := by
  refine eq_false (fun h => ?_)
  have h1 := Int32.lt_iff_toInt_lt.mp h
  rw [nI_toInt ha] at h1
  have h2 : (-1 : Int32).toInt = -1 := by decide
  omega
theorem nI_L {k : Nat} (h : k < 2147483648) : (nI k).toInt64 = lN k := nI_l h
theorem lN_leN {a b : Nat} (ha : a < 2147483648) (hb : b < 2147483648) : (lN a ≤ lN b) = (a ≤ b) := propext (lN_le ha hb)
theorem lN_ltN {a b : Nat} (ha : a < 2147483648) (hb : b < 2147483648) : (lN a < lN b) = (a < b) := propext (lN_lt ha hb)
theorem lN_eqN {a b : Nat} (ha : a < 2147483648) (hb : b < 2147483648) : (lN a = lN b) = (a = b) := propext (lN_eq ha hb)
theorem ju_ap {α : Type} (f : Nat → Nat → α) (a i : Nat) (v : α) (x j : Nat) : ju f a i v x j = if x = a then (if j = i then v else f x j) else f x j := rfl
/-- any whole number that is not negative is an nI -/
theorem nI_ex {x : Int32} (h : 0 ≤ x) : ∃ j : Nat, j < 2147483648 ∧ x = nI j := by
  refine nI_of (fun h2 => ?_)
  have h3 := Int32.lt_iff_toInt_lt.mp h2
  have h4 := Int32.le_iff_toInt_le.mp h
  omega
theorem i32_nle {x y : Int32} : ¬ x ≤ y ↔ y < x := by
  rw [Int32.le_iff_toInt_le, Int32.lt_iff_toInt_lt]; omega
theorem i32_nlt {x y : Int32} : ¬ x < y ↔ y ≤ x := by
  rw [Int32.le_iff_toInt_le, Int32.lt_iff_toInt_lt]; omega
theorem i64_nle {x y : Int64} : ¬ x ≤ y ↔ y < x := by
  rw [Int64.le_iff_toInt_le, Int64.lt_iff_toInt_lt]; omega
theorem i64_nlt {x y : Int64} : ¬ x < y ↔ y ≤ x := by
  rw [Int64.le_iff_toInt_le, Int64.lt_iff_toInt_lt]; omega
/-- a whole number is negative, or an nI -/
theorem i32_cases (x : Int32) : x < 0 ∨ ∃ j : Nat, j < 2147483648 ∧ x = nI j := by
  by_cases h : x < 0
  · exact Or.inl h
  · exact Or.inr (nI_ex (i32_nlt.mp h))
theorem nI_eq1 {a : Nat} (ha : a < 2147483648) : (nI a = 1) = (a = 1) := by
  rw [show (1 : Int32) = nI 1 from rfl, nI_eqN ha (by omega)]
theorem ju_row {α : Type} (f : Nat → Nat → α) {a i : Nat} (v : α) {x : Nat} (h : x ≠ a) : ju f a i v x = f x := funext (fun _ => ju_ne f v h)
theorem i32_add0 (x : Int32) : x + nI 0 = x := Int32.add_zero x
theorem bt0 : nI 0 = 0 ∨ nI 0 = 1 := Or.inl rfl
theorem bt1 : nI 1 = 0 ∨ nI 1 = 1 := Or.inr rfl
theorem n10 : ¬ nI 1 = 0 := by decide
theorem z00 : nI 0 = 0 := rfl
theorem nI_nm1 {a : Nat} (ha : a < 2147483648) : ¬ nI a = -1 := fun h => by rw [nI_m1 ha] at h; exact h
theorem m1_nnI {a : Nat} (ha : a < 2147483648) : ¬ (-1 : Int32) = nI a := fun h => by rw [m1_nI ha] at h; exact h
theorem Wp.loop2 {α A0 A1 : Type} (F : Nat → A0 → A1 → Option α) (I : Nat → (A0 × A1) → Prop) (Q : α → Prop) (h : ∀ k r a0 a1, I r (a0, a1) → (∀ r' b0 b1, r' < r → I r' (b0, b1) → Wp (F k b0 b1) Q) → Wp (F (k + 1) a0 a1) Q) : ∀ k r a0 a1, r < k → I r (a0, a1) → Wp (F k a0 a1) Q :=
  fun k r a0 a1 hr hI => Wp.loop (fun k (x : A0 × A1) => F k x.1 x.2) I Q (fun k r x hI ih => h k r x.1 x.2 hI (fun r' b0 b1 hr hI => ih r' (b0, b1) hr hI)) k r (a0, a1) hr hI
theorem Wp.loop3 {α A0 A1 A2 : Type} (F : Nat → A0 → A1 → A2 → Option α) (I : Nat → (A0 × A1 × A2) → Prop) (Q : α → Prop) (h : ∀ k r a0 a1 a2, I r (a0, a1, a2) → (∀ r' b0 b1 b2, r' < r → I r' (b0, b1, b2) → Wp (F k b0 b1 b2) Q) → Wp (F (k + 1) a0 a1 a2) Q) : ∀ k r a0 a1 a2, r < k → I r (a0, a1, a2) → Wp (F k a0 a1 a2) Q :=
  fun k r a0 a1 a2 hr hI => Wp.loop (fun k (x : A0 × A1 × A2) => F k x.1 x.2.1 x.2.2) I Q (fun k r x hI ih => h k r x.1 x.2.1 x.2.2 hI (fun r' b0 b1 b2 hr hI => ih r' (b0, b1, b2) hr hI)) k r (a0, a1, a2) hr hI
theorem Wp.loop4 {α A0 A1 A2 A3 : Type} (F : Nat → A0 → A1 → A2 → A3 → Option α) (I : Nat → (A0 × A1 × A2 × A3) → Prop) (Q : α → Prop) (h : ∀ k r a0 a1 a2 a3, I r (a0, a1, a2, a3) → (∀ r' b0 b1 b2 b3, r' < r → I r' (b0, b1, b2, b3) → Wp (F k b0 b1 b2 b3) Q) → Wp (F (k + 1) a0 a1 a2 a3) Q) : ∀ k r a0 a1 a2 a3, r < k → I r (a0, a1, a2, a3) → Wp (F k a0 a1 a2 a3) Q :=
  fun k r a0 a1 a2 a3 hr hI => Wp.loop (fun k (x : A0 × A1 × A2 × A3) => F k x.1 x.2.1 x.2.2.1 x.2.2.2) I Q (fun k r x hI ih => h k r x.1 x.2.1 x.2.2.1 x.2.2.2 hI (fun r' b0 b1 b2 b3 hr hI => ih r' (b0, b1, b2, b3) hr hI)) k r (a0, a1, a2, a3) hr hI
theorem Wp.loop5 {α A0 A1 A2 A3 A4 : Type} (F : Nat → A0 → A1 → A2 → A3 → A4 → Option α) (I : Nat → (A0 × A1 × A2 × A3 × A4) → Prop) (Q : α → Prop) (h : ∀ k r a0 a1 a2 a3 a4, I r (a0, a1, a2, a3, a4) → (∀ r' b0 b1 b2 b3 b4, r' < r → I r' (b0, b1, b2, b3, b4) → Wp (F k b0 b1 b2 b3 b4) Q) → Wp (F (k + 1) a0 a1 a2 a3 a4) Q) : ∀ k r a0 a1 a2 a3 a4, r < k → I r (a0, a1, a2, a3, a4) → Wp (F k a0 a1 a2 a3 a4) Q :=
  fun k r a0 a1 a2 a3 a4 hr hI => Wp.loop (fun k (x : A0 × A1 × A2 × A3 × A4) => F k x.1 x.2.1 x.2.2.1 x.2.2.2.1 x.2.2.2.2) I Q (fun k r x hI ih => h k r x.1 x.2.1 x.2.2.1 x.2.2.2.1 x.2.2.2.2 hI (fun r' b0 b1 b2 b3 b4 hr hI => ih r' (b0, b1, b2, b3, b4) hr hI)) k r (a0, a1, a2, a3, a4) hr hI
theorem Wp.loop6 {α A0 A1 A2 A3 A4 A5 : Type} (F : Nat → A0 → A1 → A2 → A3 → A4 → A5 → Option α) (I : Nat → (A0 × A1 × A2 × A3 × A4 × A5) → Prop) (Q : α → Prop) (h : ∀ k r a0 a1 a2 a3 a4 a5, I r (a0, a1, a2, a3, a4, a5) → (∀ r' b0 b1 b2 b3 b4 b5, r' < r → I r' (b0, b1, b2, b3, b4, b5) → Wp (F k b0 b1 b2 b3 b4 b5) Q) → Wp (F (k + 1) a0 a1 a2 a3 a4 a5) Q) : ∀ k r a0 a1 a2 a3 a4 a5, r < k → I r (a0, a1, a2, a3, a4, a5) → Wp (F k a0 a1 a2 a3 a4 a5) Q :=
  fun k r a0 a1 a2 a3 a4 a5 hr hI => Wp.loop (fun k (x : A0 × A1 × A2 × A3 × A4 × A5) => F k x.1 x.2.1 x.2.2.1 x.2.2.2.1 x.2.2.2.2.1 x.2.2.2.2.2) I Q (fun k r x hI ih => h k r x.1 x.2.1 x.2.2.1 x.2.2.2.1 x.2.2.2.2.1 x.2.2.2.2.2 hI (fun r' b0 b1 b2 b3 b4 b5 hr hI => ih r' (b0, b1, b2, b3, b4, b5) hr hI)) k r (a0, a1, a2, a3, a4, a5) hr hI
theorem Wp.loop7 {α A0 A1 A2 A3 A4 A5 A6 : Type} (F : Nat → A0 → A1 → A2 → A3 → A4 → A5 → A6 → Option α) (I : Nat → (A0 × A1 × A2 × A3 × A4 × A5 × A6) → Prop) (Q : α → Prop) (h : ∀ k r a0 a1 a2 a3 a4 a5 a6, I r (a0, a1, a2, a3, a4, a5, a6) → (∀ r' b0 b1 b2 b3 b4 b5 b6, r' < r → I r' (b0, b1, b2, b3, b4, b5, b6) → Wp (F k b0 b1 b2 b3 b4 b5 b6) Q) → Wp (F (k + 1) a0 a1 a2 a3 a4 a5 a6) Q) : ∀ k r a0 a1 a2 a3 a4 a5 a6, r < k → I r (a0, a1, a2, a3, a4, a5, a6) → Wp (F k a0 a1 a2 a3 a4 a5 a6) Q :=
  fun k r a0 a1 a2 a3 a4 a5 a6 hr hI => Wp.loop (fun k (x : A0 × A1 × A2 × A3 × A4 × A5 × A6) => F k x.1 x.2.1 x.2.2.1 x.2.2.2.1 x.2.2.2.2.1 x.2.2.2.2.2.1 x.2.2.2.2.2.2) I Q (fun k r x hI ih => h k r x.1 x.2.1 x.2.2.1 x.2.2.2.1 x.2.2.2.2.1 x.2.2.2.2.2.1 x.2.2.2.2.2.2 hI (fun r' b0 b1 b2 b3 b4 b5 b6 hr hI => ih r' (b0, b1, b2, b3, b4, b5, b6) hr hI)) k r (a0, a1, a2, a3, a4, a5, a6) hr hI
