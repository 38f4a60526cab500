/-! MORE PURE ROWS (printed by gen/rowsB.py) -/
abbrev jok (i : Int32) (len : Nat) : Prop := ¬ i < 0 ∧ i.toNatClampNeg < len
theorem jok.ix {i : Int32} {len n : Nat} (h : jok i len) (hl : n = len) : jix i i.toNatClampNeg n := ⟨h.1, rfl, by rw [hl]; exact h.2⟩
theorem jbool {x : Int32} (h : x = 0 ∨ x = 1) : narrow .boolean (.int x) = .int x := by
  rcases h with h | h <;> subst h <;> decide
def jmask : List Bool → List Value → List Value
  | true :: b, v :: r => v :: jmask b r
  | false :: b, _ :: r => jU :: jmask b r
  | _, _ => []
theorem jmask_at : ∀ (b : List Bool) (L : List Value) (i : Nat) (v : Value), (jmask b L)[i]? = some v → v ≠ jU → L[i]? = some v
  | [], L, i, v, h, _ => by simp [jmask] at h
  | true :: b, [], i, v, h, _ => by simp [jmask] at h
  | false :: b, [], i, v, h, _ => by simp [jmask] at h
  | true :: b, w :: r, 0, v, h, _ => by simpa [jmask] using h
  | true :: b, w :: r, i + 1, v, h, hu => by
    have h1 : (jmask b r)[i]? = some v := by simpa [jmask] using h
    simpa using jmask_at b r i v h1 hu
  | false :: b, w :: r, 0, v, h, hu => by
    have h1 : jU = v := by simpa [jmask] using h
    exact absurd h1.symm hu
  | false :: b, w :: r, i + 1, v, h, hu => by
    have h1 : (jmask b r)[i]? = some v := by simpa [jmask] using h
    simpa using jmask_at b r i v h1 hu
theorem lgc {x y : Int64} : (lg_cmp x y < 0 ↔ x < y) ∧ (0 < lg_cmp x y ↔ y < x) ∧ (lg_cmp x y = 0 ↔ x = y) := by
  by_cases h1 : y < x
  · have e1 : lg_cmp x y = 1 := by simp [lg_cmp, h1]
    rw [e1]
    have h2 : ¬ x < y := lg_lt_not h1
    have h3 : ¬ x = y := fun z => by subst z; exact h2 h1
    exact ⟨⟨fun z => absurd z (by decide), fun z => absurd z h2⟩, ⟨fun _ => h1, fun _ => by decide⟩, ⟨fun z => absurd z (by decide), fun z => absurd z h3⟩⟩
  · by_cases h2 : x = y
    · subst h2
      have e1 : lg_cmp x x = 0 := by simp [lg_cmp]
      rw [e1]
      exact ⟨⟨fun z => absurd z (by decide), fun z => absurd z h1⟩, ⟨fun z => absurd z (by decide), fun z => absurd z h1⟩, ⟨fun _ => rfl, fun _ => rfl⟩⟩
    · have e1 : lg_cmp x y = -1 := by simp [lg_cmp, h1, h2]
      rw [e1]
      have h3 : x < y := by
        simp only [Int64.lt_iff_toInt_lt] at *
        have : ¬ x.toInt = y.toInt := fun z => h2 (Int64.toInt_inj.mp z)
        omega
      exact ⟨⟨fun _ => h3, fun _ => by decide⟩, ⟨fun z => absurd z (by decide), fun z => absurd z h1⟩, ⟨fun z => absurd z (by decide), fun z => absurd z h2⟩⟩
theorem lgc_ge {x y : Int64} : 0 ≤ lg_cmp x y ↔ y ≤ x := by
  have h := (lgc (x := x) (y := y)).1
  rw [Int32.le_iff_toInt_le, Int64.le_iff_toInt_le]
  rw [Int32.lt_iff_toInt_lt, Int64.lt_iff_toInt_lt] at h
  simp only [Int32.toInt_zero] at *
  omega
theorem lgc_le {x y : Int64} : lg_cmp x y ≤ 0 ↔ x ≤ y := by
  have h := (lgc (x := x) (y := y)).2.1
  rw [Int32.le_iff_toInt_le, Int64.le_iff_toInt_le]
  rw [Int32.lt_iff_toInt_lt, Int64.lt_iff_toInt_lt] at h
  simp only [Int32.toInt_zero] at *
  omega
section
variable {g : jG} {d : Nat} {M : jM} {pc : Nat} {L st : List Value} {K : jK} {ci : jI} {cj : jJ} {cr : jR} {c sl : Nat} {Qr : jQ} {Qx : jX}
theorem ev_mask (b : List Bool) (h : Ev g d M pc (jmask b L) st K ci cj cr c sl Qr Qx) : Ev g d M pc L st K ci cj cr c sl Qr Qx :=
  ev_le h (jmask_at b L) (Nat.le_refl _) (Nat.le_refl _) (fun _ _ _ _ _ q => q) (fun _ _ _ _ _ q => q)
theorem ev_alenM {a t n : Nat} (hd : decode M.2.1 pc = .ok (.arraylength, 1)) (hk : K.1 a = 100 + t) (ht9 : t < 9) (ha : a < K.2.2) (hn : K.2.1 a = n) (kk : Ev g d M (pc + 1) L (.int (nI n) :: st) K ci cj cr c sl Qr Qx) : Ev g d M pc L (.ref a :: st) K ci cj cr c sl Qr Qx :=
  ev_alen hd hk ht9 (Or.inl ha) (by rw [hn]; exact kk)
theorem ev_lcif_eq {x y : Int64} {off : Int} (tgt : Nat) (hd : decode M.2.1 pc = .ok (.lcmp, 1)) (hd2 : decode M.2.1 (pc + 1) = .ok (.ifCond .eq off, 3)) (ht : ((pc + 1 : Nat) : Int) + off = (tgt : Int)) (kt : (x = y) → Ev g d M tgt L st K ci cj cr c sl Qr Qx) (kf : (¬ (x = y)) → Ev g d M (pc + 1 + 3) L st K ci cj cr c sl Qr Qx) : Ev g d M pc L (.long y :: .long x :: st) K ci cj cr c sl Qr Qx :=
  ev_lcmp hd (ev_if_eq tgt hd2 ht (fun z => kt (lgc.2.2.mp z)) (fun z => kf (fun w => z (lgc.2.2.mpr w))))
theorem ev_lcif_ne {x y : Int64} {off : Int} (tgt : Nat) (hd : decode M.2.1 pc = .ok (.lcmp, 1)) (hd2 : decode M.2.1 (pc + 1) = .ok (.ifCond .ne off, 3)) (ht : ((pc + 1 : Nat) : Int) + off = (tgt : Int)) (kt : (¬ x = y) → Ev g d M tgt L st K ci cj cr c sl Qr Qx) (kf : (x = y) → Ev g d M (pc + 1 + 3) L st K ci cj cr c sl Qr Qx) : Ev g d M pc L (.long y :: .long x :: st) K ci cj cr c sl Qr Qx :=
  ev_lcmp hd (ev_if_ne tgt hd2 ht (fun z => kt (fun w => z (lgc.2.2.mpr w))) (fun z => kf (lgc.2.2.mp z)))
theorem ev_lcif_lt {x y : Int64} {off : Int} (tgt : Nat) (hd : decode M.2.1 pc = .ok (.lcmp, 1)) (hd2 : decode M.2.1 (pc + 1) = .ok (.ifCond .lt off, 3)) (ht : ((pc + 1 : Nat) : Int) + off = (tgt : Int)) (kt : (x < y) → Ev g d M tgt L st K ci cj cr c sl Qr Qx) (kf : (¬ (x < y)) → Ev g d M (pc + 1 + 3) L st K ci cj cr c sl Qr Qx) : Ev g d M pc L (.long y :: .long x :: st) K ci cj cr c sl Qr Qx :=
  ev_lcmp hd (ev_if_lt tgt hd2 ht (fun z => kt (lgc.1.mp z)) (fun z => kf (fun w => z (lgc.1.mpr w))))
theorem ev_lcif_ge {x y : Int64} {off : Int} (tgt : Nat) (hd : decode M.2.1 pc = .ok (.lcmp, 1)) (hd2 : decode M.2.1 (pc + 1) = .ok (.ifCond .ge off, 3)) (ht : ((pc + 1 : Nat) : Int) + off = (tgt : Int)) (kt : (y ≤ x) → Ev g d M tgt L st K ci cj cr c sl Qr Qx) (kf : (¬ (y ≤ x)) → Ev g d M (pc + 1 + 3) L st K ci cj cr c sl Qr Qx) : Ev g d M pc L (.long y :: .long x :: st) K ci cj cr c sl Qr Qx :=
  ev_lcmp hd (ev_if_ge tgt hd2 ht (fun z => kt (lgc_ge.mp z)) (fun z => kf (fun w => z (lgc_ge.mpr w))))
theorem ev_lcif_gt {x y : Int64} {off : Int} (tgt : Nat) (hd : decode M.2.1 pc = .ok (.lcmp, 1)) (hd2 : decode M.2.1 (pc + 1) = .ok (.ifCond .gt off, 3)) (ht : ((pc + 1 : Nat) : Int) + off = (tgt : Int)) (kt : (y < x) → Ev g d M tgt L st K ci cj cr c sl Qr Qx) (kf : (¬ (y < x)) → Ev g d M (pc + 1 + 3) L st K ci cj cr c sl Qr Qx) : Ev g d M pc L (.long y :: .long x :: st) K ci cj cr c sl Qr Qx :=
  ev_lcmp hd (ev_if_gt tgt hd2 ht (fun z => kt (lgc.2.1.mp z)) (fun z => kf (fun w => z (lgc.2.1.mpr w))))
theorem ev_lcif_le {x y : Int64} {off : Int} (tgt : Nat) (hd : decode M.2.1 pc = .ok (.lcmp, 1)) (hd2 : decode M.2.1 (pc + 1) = .ok (.ifCond .le off, 3)) (ht : ((pc + 1 : Nat) : Int) + off = (tgt : Int)) (kt : (x ≤ y) → Ev g d M tgt L st K ci cj cr c sl Qr Qx) (kf : (¬ (x ≤ y)) → Ev g d M (pc + 1 + 3) L st K ci cj cr c sl Qr Qx) : Ev g d M pc L (.long y :: .long x :: st) K ci cj cr c sl Qr Qx :=
  ev_lcmp hd (ev_if_le tgt hd2 ht (fun z => kt (lgc_le.mp z)) (fun z => kf (fun w => z (lgc_le.mpr w))))
end
