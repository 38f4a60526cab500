/-! STEPS OF THE BUILDING: each leaves only FF of the state behind it -/
section
variable {g : jG} {d : Nat} {M M' : jM} {pc : Nat} {L st : List Value} {K : jK} {ci : jI} {cj : jJ} {cr : jR} {c sl c1 s1 : Nat} {Qr : jQ} {Qx : jX} {z : Nat} {rl : List (Nat × Nat × Option Nat)} {sts : List Nat}
theorem ff_new {index cN : Nat} (hd : decode M.2.1 pc = .ok (.new index, 3)) (hN : jN M.1.cls index cN) (h : FF z rl sts K cr) (hz : z < 1000000) (hk : ckd z = cN ∧ cln z = 0) (k : ∀ K', FF (z + 1) rl sts K' cr → Ev g d M (pc + 3) L (.ref z :: st) K' ci cj cr c sl Qr Qx) : Ev g d M pc L st K ci cj cr (c + 1) (sl + jfn cN) Qr Qx := by
  refine ev_new hd hN (by rw [h.1]; exact hz) ?_
  have h9 := k _ (h.new hk.1 hk.2)
  rw [← h.1] at h9
  exact h9
theorem ff_int {n : Nat} {i : Int32} (hd : decode M.2.1 pc = .ok (.newarray .int, 2)) (hi : ¬ i < 0) (hin : i.toNatClampNeg = n) (hsz : n ≤ 65536) (h : FF z rl sts K cr) (hz : z < 1000000) (hk : ckd z = 100 ∧ cln z = n) (k : ∀ K', FF (z + 1) rl sts K' cr → Ev g d M (pc + 2) L (.ref z :: st) K' ci cj cr c sl Qr Qx) : Ev g d M pc L (.int i :: st) K ci cj cr (c + 1) (sl + n) Qr Qx := by
  refine ev_newa_int hd hi hin hsz (by rw [h.1]; exact hz) ?_
  have h9 := k _ (h.new hk.1 hk.2)
  rw [← h.1] at h9
  exact h9
theorem ff_byte {n : Nat} {i : Int32} (hd : decode M.2.1 pc = .ok (.newarray .byte, 2)) (hi : ¬ i < 0) (hin : i.toNatClampNeg = n) (hsz : n ≤ 65536) (h : FF z rl sts K cr) (hz : z < 1000000) (hk : ckd z = 101 ∧ cln z = n) (k : ∀ K', FF (z + 1) rl sts K' cr → Ev g d M (pc + 2) L (.ref z :: st) K' ci cj cr c sl Qr Qx) : Ev g d M pc L (.int i :: st) K ci cj cr (c + 1) (sl + n) Qr Qx := by
  refine ev_newa_byte hd hi hin hsz (by rw [h.1]; exact hz) ?_
  have h9 := k _ (h.new hk.1 hk.2)
  rw [← h.1] at h9
  exact h9
theorem ff_anewS {index n : Nat} {i : Int32} (hd : decode M.2.1 pc = .ok (.anewarray index, 3)) (hw : Cond.classLink M.1.cls index "MarriageHerring$State" ∈ lw_all) (hi : ¬ i < 0) (hin : i.toNatClampNeg = n) (hsz : n ≤ 65536) (h : FF z rl sts K cr) (hz : z < 1000000) (hk : ckd z = 108 ∧ cln z = n) (k : ∀ K', FF (z + 1) rl sts K' cr → Ev g d M (pc + 3) L (.ref z :: st) K' ci cj cr c sl Qr Qx) : Ev g d M pc L (.int i :: st) K ci cj cr (c + 1) (sl + n) Qr Qx := by
  refine ev_anewS hd hw hi hin hsz (by rw [h.1]; exact hz) ?_
  have h9 := k _ (h.new hk.1 hk.2)
  rw [← h.1] at h9
  exact h9
theorem ff_m2 {index a b : Nat} {n k : Int32} (hd : decode M.2.1 pc = .ok (.multianewarray index 2, 4)) (hw : Cond.classLink M.1.cls index "[[I" ∈ lw_all) (hn : ¬ n < 0) (hna : n.toNatClampNeg = a) (hk : ¬ k < 0) (hkb : k.toNatClampNeg = b) (ha : a ≤ 65536) (hb : b ≤ 65536) (h : FF z rl sts K cr) (h6 : z + 1 + a ≤ 1000000) (hk0 : ckd z = 106 ∧ cln z = a) (hk1 : ∀ j, j < a → ckd (z + 1 + j) = 100 ∧ cln (z + 1 + j) = b) (hr : ∀ q ∈ rl, q.1 ≠ z) (hs : ∀ t ∈ sts, z ≠ t ∧ z ≠ t + 11)
    (kk : ∀ K' cr', FF (z + 1 + a) rl sts K' cr' → (∀ j, j < a → cr' z j = some (z + 1 + j)) → Ev g d M (pc + 4) L (.ref z :: st) K' ci cj cr' c sl Qr Qx) : Ev g d M pc L (.int k :: .int n :: st) K ci cj cr (c + (1 + a)) (sl + (a + a * b)) Qr Qx := by
  refine ev_multi2 hd hw hn hna hk hkb ha hb (by rw [h.1]; exact h6) ?_
  obtain ⟨g1, g2⟩ := h.m2 hk0 hk1 hr hs
  have h9 := kk _ _ g1 g2
  rw [← h.1] at h9
  exact h9
theorem ff_m3 {index a b f : Nat} {n k q : Int32} (hd : decode M.2.1 pc = .ok (.multianewarray index 3, 4)) (hw : Cond.classLink M.1.cls index "[[[I" ∈ lw_all) (hn : ¬ n < 0) (hna : n.toNatClampNeg = a) (hk : ¬ k < 0) (hkb : k.toNatClampNeg = b) (hq : ¬ q < 0) (hqf : q.toNatClampNeg = f) (ha : a ≤ 65536) (hb : b ≤ 65536) (hf : f ≤ 65536) (h : FF z rl sts K cr) (h6 : z + 1 + a * (1 + b) ≤ 1000000) (hk0 : ckd z = 107 ∧ cln z = a) (hk1 : ∀ j, j < a * (1 + b) → ckd (z + 1 + j) = (if j % (1 + b) = 0 then 106 else 100) ∧ cln (z + 1 + j) = (if j % (1 + b) = 0 then b else f)) (hr : ∀ q ∈ rl, q.1 < z) (hs : ∀ t ∈ sts, t + 11 < z)
    (kk : ∀ K' cr', FF (z + 1 + a * (1 + b)) rl sts K' cr' → (∀ j, j < a → cr' z j = some (z + 1 + j * (1 + b))) → (∀ i, i < a → ∀ j, j < b → cr' (z + 1 + i * (1 + b)) j = some (z + 1 + i * (1 + b) + 1 + j)) → (∀ x, x < z → ∀ k, cr' x k = cr x k) → Ev g d M (pc + 4) L (.ref z :: st) K' ci cj cr' c sl Qr Qx) : Ev g d M pc L (.int q :: .int k :: .int n :: st) K ci cj cr (c + (1 + a * (1 + b))) (sl + (a + a * (b + b * f))) Qr Qx := by
  refine ev_multi3 hd hw hn hna hk hkb hq hqf ha hb hf (by rw [h.1]; exact h6) ?_
  obtain ⟨g1, g2, g3, g4⟩ := h.m3 hk0 hk1 hr hs
  have h9 := kk _ _ g1 g2 g3 g4
  rw [← h.1] at h9
  exact h9
theorem ff_put {index a cN k x : Nat} (hd : decode M.2.1 pc = .ok (.putfield index, 3)) (hF : jP M.1.cls M.1.name index cN k) (h : FF z rl sts K cr) (hk : ckd a = cN) (ha : a < z) (ht : jtag (jfty cN k) = 2) (hr : ∀ q ∈ rl, q.1 ≠ a ∨ q.2.1 ≠ k) (hs : ∀ t ∈ sts, a ≠ t ∧ a ≠ t + 11)
    (kk : ∀ cr', FF z ((a, k, some x) :: rl) sts K cr' → (∀ b, b ≠ a → ∀ j, cr' b j = cr b j) → Ev g d M (pc + 3) L st K ci cj cr' c sl Qr Qx) : Ev g d M pc L (.ref x :: .ref a :: st) K ci cj cr c sl Qr Qx :=
  ev_putR hd hF (h.k ha hk) (by rw [h.1]; exact ha) ht (kk _ (h.put hr hs) (fun b hb j => ju_ne cr _ hb))
theorem ff_state {index : Nat} (hd : decode M.2.1 pc = .ok (.invokespecial index, 3)) (hi : jI1 M.1.cls index 1 mX5_init) (hst : (st.map fun v => v.category).sum ≤ 8) (hh : M.2.2.2.2 = []) (h : FF (z + 1) rl sts K cr) (h6 : z + 60 < 1000000) (hr : ∀ q ∈ rl, q.1 < z) (hs : ∀ t ∈ sts, t + 11 < z) (hk : ∀ j, j < 52 → ckd (z + j) = stk j ∧ cln (z + j) = stl j)
    (kk : ∀ K' cr', FF (z + 52) rl (z :: sts) K' cr' → (∀ b, b < z → ∀ j, cr' b j = cr b j) → Ev g (d + 2) M (pc + 3) L st K' ci cj cr' c sl Qr Qx) : Ev g (d + 2) M pc L (.ref 0 :: .ref z :: st) K ci cj cr (51 + c) (223 + sl) Qr Qx := by
  refine ev_invI1 hd hi (Nat.le_of_ble_eq_true rfl) hst hh (ctor5 ((h.2.1 z (by omega)).1.trans (by have := (hk 0 (by decide)).1; simpa [stk] using this)) h.1 h6 (fun K' cr' h5 => ?_))
  exact kk K' cr' (h.s5 h5 hr hs hk) (fun b hb j => h5.2.2.2.2.2.2 b (by omega) (by omega) j)
end
