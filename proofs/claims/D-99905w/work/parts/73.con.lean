/-! ON IN THE COMPONENT -/
set_option maxRecDepth 100000
def fB (x : Bool) : Int32 := if x = true then nI 1 else nI 0
theorem fB_and (x y : Bool) : fB x &&& fB y = fB (x && y) := by cases x <;> cases y <;> decide
theorem fB_bt (x : Bool) : fB x = 0 ∨ fB x = 1 := by cases x <;> decide
section
variable {n : Nat} {c : jCo} {K : jK} {ci d : jI} {cj : jJ} {cr : jR} {T : Nat} {b : Nat → Int32} {v : jV8}
theorem sp0_shoalOn (hcc : ∀ {d' : jI}, (∀ i, i < 68 ∨ 120 ≤ i → d' i = d i) → CC n c K d' cj cr) (hs3 : coS c ≤ 3) (ht : ∀ k, k < 53 → d 8 k &&& nI 255 = b k) {s : Nat} (hs : s < coS c) :
    Wp (fX0_shoalOn n (nI s) (nI (2 + 2 * s)) K d cj cr) (fun q => (q.1 = fB true ∧ onSh c b s ∨ q.1 = fB false ∧ ¬ onSh c b s) ∧ q.2.1 = ju (ju d 69 s (b (2 + 2 * s))) 70 s (if b (3 + 2 * s) = nI 255 then -1 else b (3 + 2 * s)) ∧ q.2.2.1 = cj ∧ q.2.2.2 = cr) := by
  have e8 : ∀ (a i : Nat) (x : Int32) (f : jI), a ≠ 8 → ju f a i x 8 = f 8 := fun a i x f h => ju_row _ _ (fun z => h z.symm)
  have t0 := ht (2 + 2 * s) (by omega)
  have t1 : d 8 (2 + 2 * s + 1) &&& nI 255 = b (3 + 2 * s) := by rw [ht (2 + 2 * s + 1) (by omega)]; congr 1; omega
  unfold fX0_shoalOn
  rw [wp_jpb, e0_byteAt (by omega) t0, wp_some]
  dsimp only
  simp (disch := omega) only [jok_t, if_true, nI_add, nI_cl]
  rw [wp_jpb, e0_byteAt (x := b (3 + 2 * s)) (by omega) (by rw [e8 _ _ _ _ (by decide)]; exact t1), wp_some]
  dsimp only
  have go : ∀ y, y = (if b (3 + 2 * s) = nI 255 then -1 else b (3 + 2 * s)) → Wp (fX0_shoalOn_46 n (nI (2 + 2 * s)) y (nI s) K (ju d (68 + 1) s (b (2 + 2 * s))) cj cr) (fun q => (q.1 = fB true ∧ onSh c b s ∨ q.1 = fB false ∧ ¬ onSh c b s) ∧ q.2.1 = ju (ju d 69 s (b (2 + 2 * s))) 70 s (if b (3 + 2 * s) = nI 255 then -1 else b (3 + 2 * s)) ∧ q.2.2.1 = cj ∧ q.2.2.2 = cr) := by
    intro y hy
    unfold fX0_shoalOn_46 fX0_shoalOn_88 fX0_shoalOn_84 fX0_shoalOn_89
    simp (disch := omega) only [jok_t, if_true, nI_add, nI_cl]
    have t0' : (ju (ju d (68 + 1) s (b (2 + 2 * s))) (68 + 2) s y) 8 (2 + 2 * s) &&& nI 255 = b (2 + 2 * s) := by rw [e8 _ _ _ _ (by decide), e8 _ _ _ _ (by decide)]; exact t0
    have t1' : (ju (ju d (68 + 1) s (b (2 + 2 * s))) (68 + 2) s y) 8 (2 + 2 * s + 1) &&& nI 255 = b (3 + 2 * s) := by rw [e8 _ _ _ _ (by decide), e8 _ _ _ _ (by decide)]; exact t1
    have hcd : CC n c K (ju (ju d (68 + 1) s (b (2 + 2 * s))) (68 + 2) s y) cj cr := hcc (fun i hi => by rw [ju_row _ _ (by omega), ju_row _ _ (by omega)])
    simp only [if_pos bt0, if_pos bt1]
    rw [wp_jpb, e0_byteAt (by omega) t0', wp_some]
    dsimp only
    by_cases q0 : nI 99 < b (2 + 2 * s)
    · rw [if_pos q0, wp_some]; exact ⟨Or.inr ⟨rfl, fun z => z.1 q0⟩, by rw [hy], rfl, rfl⟩
    rw [if_neg q0, wp_jpb, e0_byteAt (by omega) t1', wp_some]
    dsimp only
    by_cases q1 : b (3 + 2 * s) = nI 255
    · rw [if_pos q1, wp_some]; exact ⟨Or.inl ⟨rfl, q0, Or.inr q1⟩, by rw [hy], rfl, rfl⟩
    rw [if_neg q1, wp_jpb, e0_byteAt (by omega) t1', wp_some]
    dsimp only
    rw [wp_jpb, e0_isBay hcd, wp_some]
    dsimp only
    by_cases q2 : iv (b (3 + 2 * s)) (coB c)
    · rw [if_pos q2, if_neg n10, wp_some]; exact ⟨Or.inl ⟨rfl, q0, Or.inl q2⟩, by rw [hy], rfl, rfl⟩
    · rw [if_neg q2, if_pos z00, wp_some]; exact ⟨Or.inr ⟨rfl, fun z => z.2.elim q2 q1⟩, by rw [hy], rfl, rfl⟩
  by_cases q1 : b (3 + 2 * s) = nI 255
  · rw [if_pos q1]; exact go _ (by rw [if_pos q1])
  · rw [if_neg q1, wp_jpb, e0_byteAt (x := b (3 + 2 * s)) (by omega) (by rw [e8 _ _ _ _ (by decide)]; exact t1), wp_some]; exact go _ (by rw [if_neg q1])
theorem sp0_bayOn (hBT : ∀ k, k < 53 → ∃ x, x < 256 ∧ b k = nI x) (ht : ∀ k, k < 53 → d 8 k &&& nI 255 = b k) {o i : Nat} (hi : i < 6) (ho : o + 4 * i + 3 < 53) :
    Wp (fX0_bayOn n (nI i) (nI (o + 4 * i)) K d cj cr) (fun q => (q.1 = fB true ∧ onBa b o i ∨ q.1 = fB false ∧ ¬ onBa b o i) ∧ q.2.1 = ju (ju (ju d 72 i (b (o + 4 * i))) 73 i (nI 256 * b (o + 4 * i + 1) + b (o + 4 * i + 2))) 74 i (b (o + 4 * i + 3)) ∧ q.2.2.1 = cj ∧ q.2.2.2 = cr) := by
  have e8 : ∀ (a i : Nat) (x : Int32) (f : jI), a ≠ 8 → ju f a i x 8 = f 8 := fun a i x f h => ju_row _ _ (fun z => h z.symm)
  have t0 := ht (o + 4 * i) (by omega)
  have t1 := ht (o + 4 * i + 1) (by omega)
  have t2 := ht (o + 4 * i + 2) (by omega)
  have t3 := ht (o + 4 * i + 3) (by omega)
  obtain ⟨y, y1, y2⟩ := hBT (o + 4 * i + 1) (by omega)
  obtain ⟨z, z1, z2⟩ := hBT (o + 4 * i + 2) (by omega)
  have ez : (b (o + 4 * i + 1) <<< (nI 8 &&& 31)) ||| b (o + 4 * i + 2) = nI 256 * b (o + 4 * i + 1) + b (o + 4 * i + 2) := by
    rw [y2, z2, nI_or8 y1 z1, nI_mulN, nI_add]
  unfold fX0_bayOn fX0_bayOn_98 fX0_bayOn_99
  simp only [if_pos bt0, if_pos bt1]
  rw [wp_jpb, e0_byteAt (by omega) t0, wp_some]
  dsimp only
  simp (disch := omega) only [jok_t, if_true, nI_add (o + 4 * i), nI_cl]
  rw [wp_jpb, e0_byteAt (x := b (o + 4 * i + 1)) (by omega) (by rw [e8 _ _ _ _ (by decide)]; exact t1), wp_some]
  dsimp only
  rw [wp_jpb, e0_byteAt (x := b (o + 4 * i + 2)) (by omega) (by rw [e8 _ _ _ _ (by decide)]; exact t2), wp_some]
  dsimp only
  rw [ez, wp_jpb, e0_byteAt (x := b (o + 4 * i + 3)) (by omega) (by rw [e8 _ _ _ _ (by decide), e8 _ _ _ _ (by decide)]; exact t3), wp_some]
  dsimp only
  rw [wp_jpb, e0_byteAt (x := b (o + 4 * i)) (by omega) (by rw [e8 _ _ _ _ (by decide), e8 _ _ _ _ (by decide), e8 _ _ _ _ (by decide)]; exact t0), wp_some]
  dsimp only
  have e5 : (ju (ju (ju d (68 + 4) i (b (o + 4 * i))) (68 + 5) i (nI 256 * b (o + 4 * i + 1) + b (o + 4 * i + 2))) (68 + 6) i (b (o + 4 * i + 3))) (68 + 5) i = nI 256 * b (o + 4 * i + 1) + b (o + 4 * i + 2) := by
    rw [ju_row (x := 68 + 5) (a := 68 + 6) _ _ (by decide), ju_eq]
  by_cases q0 : nI 99 < b (o + 4 * i)
  · rw [if_pos q0, wp_some]; exact ⟨Or.inr ⟨rfl, fun z => z.1 q0⟩, rfl, rfl, rfl⟩
  rw [if_neg q0]
  by_cases q1 : nI 297 < nI 256 * b (o + 4 * i + 1) + b (o + 4 * i + 2)
  · rw [if_pos (e5.symm ▸ q1), wp_some]; exact ⟨Or.inr ⟨rfl, fun z => z.2.1 q1⟩, rfl, rfl, rfl⟩
  rw [if_neg (e5.symm ▸ q1), wp_jpb, e0_byteAt (x := b (o + 4 * i + 3)) (by omega) (by rw [e8 _ _ _ _ (by decide), e8 _ _ _ _ (by decide), e8 _ _ _ _ (by decide)]; exact t3), wp_some]
  dsimp only
  by_cases q2 : nI 99 < b (o + 4 * i + 3)
  · rw [if_pos q2, wp_some]; exact ⟨Or.inr ⟨rfl, fun z => z.2.2 q2⟩, rfl, rfl, rfl⟩
  · rw [if_neg q2, wp_some]; exact ⟨Or.inl ⟨rfl, q0, q1, q2⟩, rfl, rfl, rfl⟩
theorem sp0_pairOn (ht : ∀ k, k < 53 → d 8 k &&& nI 255 = b k) {o i : Nat} (hi : i < 10) (ho : o + 2 * i + 1 < 53) :
    Wp (fX0_pairOn n (nI i) (nI (o + 2 * i)) K d cj cr) (fun q => (q.1 = fB true ∧ onPa b o i ∨ q.1 = fB false ∧ ¬ onPa b o i) ∧ q.2.1 = ju (ju d 76 i (b (o + 2 * i))) 78 i (b (o + 2 * i + 1)) ∧ q.2.2.1 = cj ∧ q.2.2.2 = cr) := by
  have e8 : ∀ (a i : Nat) (x : Int32) (f : jI), a ≠ 8 → ju f a i x 8 = f 8 := fun a i x f h => ju_row _ _ (fun z => h z.symm)
  have t0 := ht (o + 2 * i) (by omega)
  have t1 := ht (o + 2 * i + 1) (by omega)
  unfold fX0_pairOn fX0_pairOn_56 fX0_pairOn_57
  simp only [if_pos bt0, if_pos bt1]
  rw [wp_jpb, e0_byteAt (by omega) t0, wp_some]
  dsimp only
  simp (disch := omega) only [jok_t, if_true, nI_add (o + 2 * i), nI_cl]
  rw [wp_jpb, e0_byteAt (x := b (o + 2 * i + 1)) (by omega) (by rw [e8 _ _ _ _ (by decide)]; exact t1), wp_some]
  dsimp only
  rw [wp_jpb, e0_byteAt (x := b (o + 2 * i)) (by omega) (by rw [e8 _ _ _ _ (by decide), e8 _ _ _ _ (by decide)]; exact t0), wp_some]
  dsimp only
  by_cases q0 : nI 9 < b (o + 2 * i)
  · rw [if_pos q0, wp_some]; exact ⟨Or.inr ⟨rfl, fun z => z.1 q0⟩, rfl, rfl, rfl⟩
  rw [if_neg q0, wp_jpb, e0_byteAt (x := b (o + 2 * i + 1)) (by omega) (by rw [e8 _ _ _ _ (by decide), e8 _ _ _ _ (by decide)]; exact t1), wp_some]
  dsimp only
  by_cases q2 : nI 99 < b (o + 2 * i + 1)
  · rw [if_pos q2, wp_some]; exact ⟨Or.inr ⟨rfl, fun z => z.2 q2⟩, rfl, rfl, rfl⟩
  · rw [if_neg q2, wp_some]; exact ⟨Or.inl ⟨rfl, q0, q2⟩, rfl, rfl, rfl⟩
end
