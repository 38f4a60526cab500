/-! HEAP ROWS: arrays, what is made -/
/-- the int i is the place n of an array of len places -/
def jix (i : Int32) (n len : Nat) : Prop := ¬ i < 0 ∧ i.toNatClampNeg = n ∧ n < len
theorem jix_nI {n len : Nat} (h : n < len) (hl : len ≤ 2147483648) : jix (nI n) n len := ⟨nI_pos (by omega), nI_clamp (by omega), h⟩
theorem jix.cl {i : Int32} {n len : Nat} (h : jix i n len) : i.toNatClampNeg = n := h.2.1
theorem jav_cell (g : jG) (ci : jI) (cj : jJ) (cr : jR) (cA : ClassId) (tag n i : Nat) : vp_cell cA (jav g ci cj cr tag n i) = arrV cA n (fun j => jfv g ci cj cr tag i j) := by
  match tag with
  | 0 => rfl
  | 1 => rfl
  | n + 2 => rfl
theorem jtys_get (aC : Nat → ClassId) {t : Nat} (h : t < 9) : (jtys aC)[t]? = some (aC t, jaty t) := by
  unfold jtys
  rw [List.getElem?_map, List.getElem?_range h]
  rfl
theorem jnofd : ∀ c, c < 23 → ∀ k, k < jfn c → jfty c k ≠ .float ∧ jfty c k ≠ .double := by decide +kernel
section
variable {p : Program} {e : Env} {R : Room} {s : State} {m : MethodId} {args : Array Value} {below : List Frame} {meth : Method} {c0 : Code} {H : Heap} {locs : List Loc} {cells slots : Nat} {Q : State → Prop} {ls : Array Slot} {rest : List Value}
variable {g : jG} {d : Nat} {M : jM} {pc : Nat} {K : jK} {ci ci' : jI} {cj cj' : jJ} {cr cr' : jR}
/-- the cell of an array -/
theorem jarr (C : jCtx g d M p R s m args meth c0) (r : jRel g K ci cj cr H) {a t : Nat} (hk : K.1 a = 100 + t) (ht : t < 9) (hin : a < K.2.2 ∨ 1000000 ≤ a) : ∃ cell : Cell, H[jad g a]? = some cell ∧ s.isArrayOf cell (jaty t) ∧ cell.vm ≠ .unknown ∧ K.2.1 a ≤ cell.slots.size ∧ cell.slots.size.toInt32 = Int32.ofNat (K.2.1 a) ∧
    (∀ j, j < K.2.1 a → cell.slots[j]? = some (jfv g ci cj cr (jtag (jaty t)) a j)) ∧ (a < K.2.2 → cell = arrV (g.2.2.2.2.2 t) (K.2.1 a) (fun j => jfv g ci cj cr (jtag (jaty t)) a j)) := by
  obtain ⟨r1, r2, r3, r4, r5, r6⟩ := r
  by_cases ha : a < K.2.2
  · have h3 := r3 a _ (jW_get _ _ ha)
    rw [jE_arr hk] at h3
    have h4 : H[jz g + a]? = some (vp_cell (g.2.2.2.2.2 t) (jav g ci cj cr (jtag (jaty t)) (K.2.1 a) a)) := h3
    rw [jav_cell] at h4
    refine ⟨arrV (g.2.2.2.2.2 t) (K.2.1 a) (fun j => jfv g ci cj cr (jtag (jaty t)) a j), by rw [jad_lt ha r2]; exact h4, ((jctx_K C).2 t _ (jtys_get _ ht)).1 _ _, (fun h => by cases h), by rw [arrV_size]; exact Nat.le_refl _, by rw [arrV_size] <;> rfl, fun j hj => by rw [arrV_read _ _ hj], fun _ => rfl⟩
  · have hb : 1000000 ≤ a := by omega
    have r6L : ∀ a, 1000000 ≤ a → ¬ K.1 a = 103 := fun a hb => (r6 a hb).2.2.2
    obtain ⟨-, -, q3, -⟩ := r6 a hb
    obtain ⟨qt, hl⟩ := q3 t hk ht
    obtain ⟨cell, g1, g2, g3, g4, g5, g6, g7⟩ := (va_T.moved (jctx_W C).alike qt).kept (H1 := H) (fun q _ hq => r4 q (by omega))
    refine ⟨cell, g1, g2, g3, g4, g5, fun j hj => ?_, fun z => absurd z ha⟩
    rw [g6 j hj]
    have hval : jfv g ci (fun _ _ => 0) cr (jtag (jaty t)) a j = jfv g ci cj cr (jtag (jaty t)) a j := by
      by_cases h3 : t = 3
      · subst h3
        exact absurd hk (r6L a hb)
      · rcases (show t = 0 ∨ t = 1 ∨ t = 2 ∨ t = 4 ∨ t = 5 ∨ t = 6 ∨ t = 7 ∨ t = 8 by omega) with z | z | z | z | z | z | z | z <;> subst z <;> rfl
    show some (jfv g ci (fun _ _ => 0) cr (jtag (jaty t)) a j) = _
    rw [hval]
/-- storing into an array -/
theorem jarr_put (r : jRel g K ci cj cr H) (S : va_S (jA g) s.heap H locs) {a t n : Nat} {v : Value} {H' : Heap} (hk : K.1 a = 100 + t) (ha : a < K.2.2) (hv : jfv g ci' cj' cr' (jtag (jaty t)) a n = v) (hne : ∀ i, i ≠ n → ci' a i = ci a i ∧ cj' a i = cj a i ∧ cr' a i = cr a i) (hoff : ∀ j, j ≠ a → ∀ i, ci' j i = ci j i ∧ cj' j i = cj j i ∧ cr' j i = cr j i)
    (e1 : H'[jz g + a]? = some ((arrV (g.2.2.2.2.2 t) (K.2.1 a) (fun j => jfv g ci cj cr (jtag (jaty t)) a j)).setSlot n v)) (e2 : H'.size = H.size) (e3 : ∀ q, q ≠ jz g + a → H'[q]? = H[q]?) : jRel g K ci' cj' cr' H' ∧ va_S (jA g) s.heap H' (locs ++ [⟨jz g + a, n⟩]) := by
  refine ⟨jRel_upd r ha e2 e3 ?_ hoff, S.put e2 e3 (Nat.le_add_right _ _)⟩
  rw [jE_arr hk]
  show H'[jz g + a]? = some (vp_cell _ _)
  rw [jav_cell, e1, arrV_store]
  congr 2
  funext j
  unfold updV
  by_cases hj : j = n
  · rw [if_pos hj, hj]; exact hv.symm
  · rw [if_neg hj]
    obtain ⟨z1, z2, z3⟩ := hne j hj
    unfold jfv
    rw [z1, z2, z3]
/-- one thing more -/
theorem jRel_new (r : jRel g K ci cj cr H) (S : va_S (jA g) s.heap H locs) {kn n : Nat} {H' : Heap} (hn : K.2.2 < 1000000) (e2 : H'.size = jz g + K.2.2 + 1) (e3 : ∀ q, q < jz g + K.2.2 → H'[q]? = H[q]?)
    (hat : va_at g.2.2.2.2.1 jcl (jz g + K.2.2, jE g (va_up K.1 K.2.2 kn) (va_up K.2.1 K.2.2 n) ci cj cr K.2.2) H') : jRel g (va_up K.1 K.2.2 kn, va_up K.2.1 K.2.2 n, K.2.2 + 1) ci cj cr H' ∧ va_S (jA g) s.heap H' locs := by
  obtain ⟨r1, r2, r3, r4, r5, r6⟩ := r
  refine ⟨⟨by rw [e2]; rfl, by show K.2.2 + 1 ≤ 1000000; omega, fun k q hq => ?_, fun q hq => by rw [e3 q (by omega)]; exact r4 q hq, fun i h1 h2 k => r5 i (by have : K.2.2 + 1 ≤ i := h1; omega) h2 k, jCon_off r6 (fun i hi => ⟨va_up_ne _ _ (by omega), va_up_ne _ _ (by omega), fun k => ⟨rfl, rfl⟩⟩)⟩, ⟨by rw [e2]; have := S.1; rw [r1] at this; omega, fun q h1 h2 => ?_, S.2.2⟩⟩
  · by_cases hk : k < K.2.2 + 1
    · rw [jW_get _ _ hk] at hq
      cases hq
      by_cases hk2 : k = K.2.2
      · subst hk2; exact hat
      · have hlt : k < K.2.2 := by omega
        have h9 := (r3 k _ (jW_get _ _ hlt)).kept (H1 := H') (e3 _ (by simp; omega))
        have ee : jE g (va_up K.1 K.2.2 kn) (va_up K.2.1 K.2.2 n) ci cj cr k = jE g K.1 K.2.1 ci cj cr k := by
          unfold jE
          rw [va_up_ne K.1 kn hk2, va_up_ne K.2.1 n hk2]
        show va_at _ _ (jz g + k, jE g (va_up K.1 K.2.2 kn) (va_up K.2.1 K.2.2 n) ci cj cr k) H'
        rw [ee]
        exact h9
    · rw [List.getElem?_eq_none (by simpa [jW] using hk)] at hq
      cases hq
  · rw [e3 q (by have := S.1; rw [r1] at this; omega)]
    exact S.2.1 q h1 h2
end
/-- the entry index of own's pool names the sort c, which can be made -/
def jN (own : String) (index c : Nat) : Prop := ∃ (C : String) (T : u_T) (N : Nat), jcl[c]? = some (C, T, N) ∧ Cond.classLink own index C ∈ lw_all ∧ Cond.instantiable C N ∈ lw_all ∧ Cond.initialized C ∈ lw_all
section
variable {g : jG} {d : Nat} {M : jM} {pc : Nat} {L st : List Value} {K : jK} {ci : jI} {cj : jJ} {cr : jR} {c sl : Nat} {Qr : jQ} {Qx : jX}
theorem ev_iaload {a n : Nat} {i : Int32} (hd : decode M.2.1 pc = .ok (.iaload, 1)) (hk : K.1 a = 100) (hin : a < K.2.2 ∨ 1000000 ≤ a) (hi : jix i n (K.2.1 a)) (kk : Ev g d M (pc + 1) L (.int (ci a n) :: st) K ci cj cr c sl Qr Qx) : Ev g d M pc L (.int i :: .ref a :: st) K ci cj cr c sl Qr Qx := by
  intro p e R s m args below meth c0 H locs cells slots Q ls C r S h1 h2 hls E
  obtain ⟨cell, g1, g2, g3, g4, g5, g6, -⟩ := jarr C r (t := 0) hk (by decide) hin
  exact W.iald C.2.1 C.2.2.1 g1 g2 g3 (by rw [hi.2.1]; exact fun z => z.elim hi.1 (fun z => by have := hi.2.2; omega)) (by rw [hi.2.1]; exact g6 n hi.2.2) rfl rfl hd (kk p e R s m args below meth c0 H locs cells slots Q ls C r S h1 h2 hls E)
theorem ev_baload {a n : Nat} {i : Int32} (hd : decode M.2.1 pc = .ok (.baload, 1)) (hk : K.1 a = 101) (hin : a < K.2.2 ∨ 1000000 ≤ a) (hi : jix i n (K.2.1 a)) (kk : Ev g d M (pc + 1) L (.int (ci a n) :: st) K ci cj cr c sl Qr Qx) : Ev g d M pc L (.int i :: .ref a :: st) K ci cj cr c sl Qr Qx := by
  intro p e R s m args below meth c0 H locs cells slots Q ls C r S h1 h2 hls E
  obtain ⟨cell, g1, g2, g3, g4, g5, g6, -⟩ := jarr C r (t := 1) hk (by decide) hin
  exact W.bald C.2.1 C.2.2.1 g1 g2 g3 (by rw [hi.2.1]; exact fun z => z.elim hi.1 (fun z => by have := hi.2.2; omega)) (by rw [hi.2.1]; exact g6 n hi.2.2) rfl rfl hd (kk p e R s m args below meth c0 H locs cells slots Q ls C r S h1 h2 hls E)
theorem ev_caload {a n : Nat} {i : Int32} (hd : decode M.2.1 pc = .ok (.caload, 1)) (hk : K.1 a = 102) (hin : a < K.2.2 ∨ 1000000 ≤ a) (hi : jix i n (K.2.1 a)) (kk : Ev g d M (pc + 1) L (.int (ci a n) :: st) K ci cj cr c sl Qr Qx) : Ev g d M pc L (.int i :: .ref a :: st) K ci cj cr c sl Qr Qx := by
  intro p e R s m args below meth c0 H locs cells slots Q ls C r S h1 h2 hls E
  obtain ⟨cell, g1, g2, g3, g4, g5, g6, -⟩ := jarr C r (t := 2) hk (by decide) hin
  exact W.cald C.2.1 C.2.2.1 g1 g2 g3 (by rw [hi.2.1]; exact fun z => z.elim hi.1 (fun z => by have := hi.2.2; omega)) (by rw [hi.2.1]; exact g6 n hi.2.2) rfl rfl hd (kk p e R s m args below meth c0 H locs cells slots Q ls C r S h1 h2 hls E)
theorem ev_laload {a n : Nat} {i : Int32} (hd : decode M.2.1 pc = .ok (.laload, 1)) (hk : K.1 a = 103) (hin : a < K.2.2 ∨ 1000000 ≤ a) (hi : jix i n (K.2.1 a)) (kk : Ev g d M (pc + 1) L (.long (cj a n) :: st) K ci cj cr c sl Qr Qx) : Ev g d M pc L (.int i :: .ref a :: st) K ci cj cr c sl Qr Qx := by
  intro p e R s m args below meth c0 H locs cells slots Q ls C r S h1 h2 hls E
  obtain ⟨cell, g1, g2, g3, g4, g5, g6, -⟩ := jarr C r (t := 3) hk (by decide) hin
  exact W.lald C.2.1 C.2.2.1 g1 g2 g3 (by rw [hi.2.1]; exact fun z => z.elim hi.1 (fun z => by have := hi.2.2; omega)) (by rw [hi.2.1]; exact g6 n hi.2.2) rfl rfl hd (kk p e R s m args below meth c0 H locs cells slots Q ls C r S h1 h2 hls E)
theorem ev_aaloadQ {a n t : Nat} {i : Int32} (hd : decode M.2.1 pc = .ok (.aaload, 1)) (hk : K.1 a = 100 + t) (ht : 4 ≤ t) (ht9 : t < 9) (hin : a < K.2.2 ∨ 1000000 ≤ a) (hi : jix i n (K.2.1 a)) (kk : Ev g d M (pc + 1) L (va_rf (cr a n) :: st) K ci cj cr c sl Qr Qx) : Ev g d M pc L (.int i :: .ref a :: st) K ci cj cr c sl Qr Qx := by
  intro p e R s m args below meth c0 H locs cells slots Q ls C r S h1 h2 hls E
  obtain ⟨cell, g1, g2, g3, g4, g5, g6, -⟩ := jarr C r (t := t) hk ht9 hin
  have htag : jtag (jaty t) = 2 ∧ (jaty t).isReference = true := by
    rcases (show t = 4 ∨ t = 5 ∨ t = 6 ∨ t = 7 ∨ t = 8 by omega) with z | z | z | z | z <;> subst z <;> exact ⟨rfl, rfl⟩
  exact W.aald C.2.1 C.2.2.1 g1 g2 htag.2 g3 (by rw [hi.2.1]; exact fun z => z.elim hi.1 (fun z => by have := hi.2.2; omega)) (v := jc g (va_rf (cr a n))) (by rw [hi.2.1, g6 n hi.2.2, htag.1, (jfv_c g ci cj cr a n).2.2]) rfl rfl hd (kk p e R s m args below meth c0 H locs cells slots Q ls C r S h1 h2 hls E)
theorem ev_aaload {a n t x : Nat} {i : Int32} (hd : decode M.2.1 pc = .ok (.aaload, 1)) (hk : K.1 a = 100 + t) (ht : 4 ≤ t) (ht9 : t < 9) (hin : a < K.2.2 ∨ 1000000 ≤ a) (hi : jix i n (K.2.1 a)) (hx : cr a n = some x) (kk : Ev g d M (pc + 1) L (.ref x :: st) K ci cj cr c sl Qr Qx) : Ev g d M pc L (.int i :: .ref a :: st) K ci cj cr c sl Qr Qx :=
  ev_aaloadQ hd hk ht ht9 hin hi (by rw [hx]; exact kk)
theorem ev_alen {a t : Nat} (hd : decode M.2.1 pc = .ok (.arraylength, 1)) (hk : K.1 a = 100 + t) (ht9 : t < 9) (hin : a < K.2.2 ∨ 1000000 ≤ a) (kk : Ev g d M (pc + 1) L (.int (nI (K.2.1 a)) :: st) K ci cj cr c sl Qr Qx) : Ev g d M pc L (.ref a :: st) K ci cj cr c sl Qr Qx := by
  intro p e R s m args below meth c0 H locs cells slots Q ls C r S h1 h2 hls E
  obtain ⟨cell, g1, g2, g3, g4, g5, g6, -⟩ := jarr C r (t := t) hk ht9 hin
  exact W.alen C.2.1 C.2.2.1 g1 g2 g5 rfl rfl hd (kk p e R s m args below meth c0 H locs cells slots Q ls C r S h1 h2 hls E)
theorem ev_iastore {a n : Nat} {i : Int32} {x : Int32} (hd : decode M.2.1 pc = .ok (.iastore, 1)) (hk : K.1 a = 100) (ha : a < K.2.2) (hi : jix i n (K.2.1 a)) (kk : Ev g d M (pc + 1) L st K (ju ci a n x) cj cr c sl Qr Qx) : Ev g d M pc L (.int x :: .int i :: .ref a :: st) K ci cj cr c sl Qr Qx := by
  intro p e R s m args below meth c0 H locs cells slots Q ls C r S h1 h2 hls E
  obtain ⟨cell, g1, g2, g3, g4, g5, g6, g7⟩ := jarr C r (t := 0) hk (by decide) (Or.inl ha)
  refine W.iast C.2.1 C.2.2.1 g1 g2 g3 (by rw [hi.2.1]; exact fun z => z.elim hi.1 (fun z => by have := hi.2.2; omega)) rfl rfl hd (fun H' e1 e2 e3 => ?_)
  rw [hi.2.1] at e1 ⊢
  rw [jad_lt ha r.2.1] at e1 e3 ⊢
  rw [g7 ha] at e1
  obtain ⟨r9, S9⟩ := jarr_put r S (t := 0) hk ha (by show Value.int (ju ci a n x a n) = _; first | (rw [ju_eq]; done) | (rw [ju_eq]; rfl)) (fun i hi => ⟨ju_ne2 ci _ hi, rfl, rfl⟩) (fun j hj i => ⟨ju_ne ci _ hj, rfl, rfl⟩) e1 e2 e3
  exact kk p e R s m args below meth c0 H' _ cells slots Q ls C r9 S9 h1 h2 hls E
theorem ev_bastore {a n : Nat} {i : Int32} {x : Int32} (hd : decode M.2.1 pc = .ok (.bastore, 1)) (hk : K.1 a = 101) (ha : a < K.2.2) (hi : jix i n (K.2.1 a)) (kk : Ev g d M (pc + 1) L st K (ju ci a n x.toInt8.toInt32) cj cr c sl Qr Qx) : Ev g d M pc L (.int x :: .int i :: .ref a :: st) K ci cj cr c sl Qr Qx := by
  intro p e R s m args below meth c0 H locs cells slots Q ls C r S h1 h2 hls E
  obtain ⟨cell, g1, g2, g3, g4, g5, g6, g7⟩ := jarr C r (t := 1) hk (by decide) (Or.inl ha)
  refine W.bast C.2.1 C.2.2.1 g1 g2 g3 (by rw [hi.2.1]; exact fun z => z.elim hi.1 (fun z => by have := hi.2.2; omega)) rfl rfl hd (fun H' e1 e2 e3 => ?_)
  rw [hi.2.1] at e1 ⊢
  rw [jad_lt ha r.2.1] at e1 e3 ⊢
  rw [g7 ha] at e1
  obtain ⟨r9, S9⟩ := jarr_put r S (t := 1) hk ha (by show Value.int (ju ci a n x.toInt8.toInt32 a n) = _; first | (rw [ju_eq]; done) | (rw [ju_eq]; rfl)) (fun i hi => ⟨ju_ne2 ci _ hi, rfl, rfl⟩) (fun j hj i => ⟨ju_ne ci _ hj, rfl, rfl⟩) e1 e2 e3
  exact kk p e R s m args below meth c0 H' _ cells slots Q ls C r9 S9 h1 h2 hls E
theorem ev_castore {a n : Nat} {i : Int32} {x : Int32} (hd : decode M.2.1 pc = .ok (.castore, 1)) (hk : K.1 a = 102) (ha : a < K.2.2) (hi : jix i n (K.2.1 a)) (kk : Ev g d M (pc + 1) L st K (ju ci a n x.toUInt32.toUInt16.toUInt32.toInt32) cj cr c sl Qr Qx) : Ev g d M pc L (.int x :: .int i :: .ref a :: st) K ci cj cr c sl Qr Qx := by
  intro p e R s m args below meth c0 H locs cells slots Q ls C r S h1 h2 hls E
  obtain ⟨cell, g1, g2, g3, g4, g5, g6, g7⟩ := jarr C r (t := 2) hk (by decide) (Or.inl ha)
  refine W.cast C.2.1 C.2.2.1 g1 g2 g3 (by rw [hi.2.1]; exact fun z => z.elim hi.1 (fun z => by have := hi.2.2; omega)) rfl rfl hd (fun H' e1 e2 e3 => ?_)
  rw [hi.2.1] at e1 ⊢
  rw [jad_lt ha r.2.1] at e1 e3 ⊢
  rw [g7 ha] at e1
  obtain ⟨r9, S9⟩ := jarr_put r S (t := 2) hk ha (by show Value.int (ju ci a n x.toUInt32.toUInt16.toUInt32.toInt32 a n) = _; first | (rw [ju_eq]; done) | (rw [ju_eq]; rfl)) (fun i hi => ⟨ju_ne2 ci _ hi, rfl, rfl⟩) (fun j hj i => ⟨ju_ne ci _ hj, rfl, rfl⟩) e1 e2 e3
  exact kk p e R s m args below meth c0 H' _ cells slots Q ls C r9 S9 h1 h2 hls E
theorem ev_lastore {a n : Nat} {i : Int32} {x : Int64} (hd : decode M.2.1 pc = .ok (.lastore, 1)) (hk : K.1 a = 103) (ha : a < K.2.2) (hi : jix i n (K.2.1 a)) (kk : Ev g d M (pc + 1) L st K ci (ju cj a n x) cr c sl Qr Qx) : Ev g d M pc L (.long x :: .int i :: .ref a :: st) K ci cj cr c sl Qr Qx := by
  intro p e R s m args below meth c0 H locs cells slots Q ls C r S h1 h2 hls E
  obtain ⟨cell, g1, g2, g3, g4, g5, g6, g7⟩ := jarr C r (t := 3) hk (by decide) (Or.inl ha)
  refine W.last C.2.1 C.2.2.1 g1 g2 g3 (by rw [hi.2.1]; exact fun z => z.elim hi.1 (fun z => by have := hi.2.2; omega)) rfl rfl hd (fun H' e1 e2 e3 => ?_)
  rw [hi.2.1] at e1 ⊢
  rw [jad_lt ha r.2.1] at e1 e3 ⊢
  rw [g7 ha] at e1
  obtain ⟨r9, S9⟩ := jarr_put r S (t := 3) hk ha (by show Value.long (ju cj a n x a n) = _; first | (rw [ju_eq]; done) | (rw [ju_eq]; rfl)) (fun i hi => ⟨rfl, ju_ne2 cj _ hi, rfl⟩) (fun j hj i => ⟨rfl, ju_ne cj _ hj, rfl⟩) e1 e2 e3
  exact kk p e R s m args below meth c0 H' _ cells slots Q ls C r9 S9 h1 h2 hls E
theorem ev_new {index cN : Nat} (hd : decode M.2.1 pc = .ok (.new index, 3)) (hN : jN M.1.cls index cN) (hn : K.2.2 < 1000000) (kk : Ev g d M (pc + 3) L (.ref K.2.2 :: st) (va_up K.1 K.2.2 cN, va_up K.2.1 K.2.2 0, K.2.2 + 1) ci cj cr c sl Qr Qx) : Ev g d M pc L st K ci cj cr (c + 1) (sl + jfn cN) Qr Qx := by
  intro p e R s m args below meth c0 H locs cells slots Q ls C r S h1 h2 hls E
  obtain ⟨C', T, N, hc, w1, w2, w3⟩ := hN
  obtain ⟨hc100, hNn, hwin, hty, hnm⟩ := jcls _ _ _ _ hc
  have hKn := (jctx_K C).1 cN _ hc
  refine W.newcK C.2.1 C.2.2.1 C.2.2.2.2.1 (jctx_w C w1) (jctx_w C w2) (jctx_w C w3) rfl hd (by omega) (by rw [hNn]; omega) hKn.2.1 r.1 fun H1 kC hkC e1 z1 o1 => ?_
  obtain ⟨r9, S9⟩ := jRel_new (kn := cN) (n := 0) r S hn z1 (fun q hq => o1 q hq) (by
    rw [jE_obj (c := cN) (va_up_self _ _ _) hc100]
    refine ⟨_, hc, (u_born (jfty cN) C.2.2.2.2.2.2.2.1 hwin hKn hkC e1 hty).to (fun k hk => ?_)⟩
    obtain ⟨f1, f2, f3⟩ := r.2.2.2.2.1 K.2.2 (Nat.le_refl _) hn k
    have hk' : k < jfn cN := by rw [← hNn]; exact hk
    unfold vp_V
    rw [List.getD_eq_getElem?_getD, List.getElem?_map, List.getElem?_range hk']
    show defaultValue (jfty cN k) = jfv g ci cj cr (jtag (jfty cN k)) K.2.2 k
    have hnf := jnofd cN (by have := (List.getElem?_eq_some_iff.mp hc).1; simpa [jcl] using this) k hk'
    generalize jfty cN k = ty at hnf ⊢
    cases ty <;> simp [jtag, jfv, defaultValue, f1, f2, f3, va_rf] at hnf ⊢)
  have kk9 := kk p e R s m args below meth c0 H1 locs (cells + 1) (slots + N) Q ls C r9 S9 (by omega) (by rw [hNn]; omega) hls E
  rw [show (F0 m (pc + 3) ls ((Value.ref K.2.2 :: st).map (jc g))) = F0 m (pc + 3) ls (.ref (jz g + K.2.2) :: st.map (jc g)) by simp [jc, jad_lt (Nat.lt_succ_self K.2.2) (by omega)]] at kk9
  exact kk9
theorem ev_newa_int {n : Nat} {i : Int32} (hd : decode M.2.1 pc = .ok (.newarray .int, 2)) (hi : ¬ i < 0) (hin : i.toNatClampNeg = n) (hsz : n ≤ 65536) (hn : K.2.2 < 1000000) (kk : Ev g d M (pc + 2) L (.ref K.2.2 :: st) (va_up K.1 K.2.2 100, va_up K.2.1 K.2.2 n, K.2.2 + 1) ci cj cr c sl Qr Qx) : Ev g d M pc L (.int i :: st) K ci cj cr (c + 1) (sl + n) Qr Qx := by
  intro p e R s m args below meth c0 H locs cells slots Q ls C r S h1 h2 hls E
  refine va_newaK (atype := .int) C.2.1 C.2.2.1 (jctx_w C q459) rfl hd rfl hi hin (by show n * 4 ≤ 536870912; omega) (by omega) (by omega) r.1 fun H1 cA e1 z1 o1 hAr hNm => ?_
  have hcA : cA = g.2.2.2.2.2 0 := Option.some.inj (hNm.symm.trans ((jctx_K C).2 0 _ (jtys_get _ (by decide))).2)
  subst hcA
  obtain ⟨r9, S9⟩ := jRel_new (kn := 100) (n := n) r S hn z1 (fun q hq => o1 q hq) (by
    rw [jE_arr (t := 0) (va_up_self _ _ _)]
    show H1[jz g + K.2.2]? = some (vp_cell _ _)
    rw [jav_cell, va_up_self, e1]
    congr 2
    funext k
    obtain ⟨f1, f2, f3⟩ := r.2.2.2.2.1 K.2.2 (Nat.le_refl _) hn k
    show _ = jfv g ci cj cr 0 K.2.2 k
    simp [jfv, f1, f2, f3, defaultValue, Op.newarray.typeOf])
  have kk9 := kk p e R s m args below meth c0 H1 locs (cells + 1) (slots + n) Q ls C r9 S9 (by omega) (by omega) hls E
  rw [show (F0 m (pc + 2) ls ((Value.ref K.2.2 :: st).map (jc g))) = F0 m (pc + 2) ls (.ref (jz g + K.2.2) :: st.map (jc g)) by simp [jc, jad_lt (Nat.lt_succ_self K.2.2) (by omega)]] at kk9
  exact kk9
theorem ev_newa_byte {n : Nat} {i : Int32} (hd : decode M.2.1 pc = .ok (.newarray .byte, 2)) (hi : ¬ i < 0) (hin : i.toNatClampNeg = n) (hsz : n ≤ 65536) (hn : K.2.2 < 1000000) (kk : Ev g d M (pc + 2) L (.ref K.2.2 :: st) (va_up K.1 K.2.2 101, va_up K.2.1 K.2.2 n, K.2.2 + 1) ci cj cr c sl Qr Qx) : Ev g d M pc L (.int i :: st) K ci cj cr (c + 1) (sl + n) Qr Qx := by
  intro p e R s m args below meth c0 H locs cells slots Q ls C r S h1 h2 hls E
  refine va_newaK (atype := .byte) C.2.1 C.2.2.1 (jctx_w C q358) rfl hd rfl hi hin (by show n * 1 ≤ 536870912; omega) (by omega) (by omega) r.1 fun H1 cA e1 z1 o1 hAr hNm => ?_
  have hcA : cA = g.2.2.2.2.2 1 := Option.some.inj (hNm.symm.trans ((jctx_K C).2 1 _ (jtys_get _ (by decide))).2)
  subst hcA
  obtain ⟨r9, S9⟩ := jRel_new (kn := 101) (n := n) r S hn z1 (fun q hq => o1 q hq) (by
    rw [jE_arr (t := 1) (va_up_self _ _ _)]
    show H1[jz g + K.2.2]? = some (vp_cell _ _)
    rw [jav_cell, va_up_self, e1]
    congr 2
    funext k
    obtain ⟨f1, f2, f3⟩ := r.2.2.2.2.1 K.2.2 (Nat.le_refl _) hn k
    show _ = jfv g ci cj cr 0 K.2.2 k
    simp [jfv, f1, f2, f3, defaultValue, Op.newarray.typeOf])
  have kk9 := kk p e R s m args below meth c0 H1 locs (cells + 1) (slots + n) Q ls C r9 S9 (by omega) (by omega) hls E
  rw [show (F0 m (pc + 2) ls ((Value.ref K.2.2 :: st).map (jc g))) = F0 m (pc + 2) ls (.ref (jz g + K.2.2) :: st.map (jc g)) by simp [jc, jad_lt (Nat.lt_succ_self K.2.2) (by omega)]] at kk9
  exact kk9
theorem ev_newa_char {n : Nat} {i : Int32} (hd : decode M.2.1 pc = .ok (.newarray .char, 2)) (hi : ¬ i < 0) (hin : i.toNatClampNeg = n) (hsz : n ≤ 65536) (hn : K.2.2 < 1000000) (kk : Ev g d M (pc + 2) L (.ref K.2.2 :: st) (va_up K.1 K.2.2 102, va_up K.2.1 K.2.2 n, K.2.2 + 1) ci cj cr c sl Qr Qx) : Ev g d M pc L (.int i :: st) K ci cj cr (c + 1) (sl + n) Qr Qx := by
  intro p e R s m args below meth c0 H locs cells slots Q ls C r S h1 h2 hls E
  refine va_newaK (atype := .char) C.2.1 C.2.2.1 (jctx_w C q672) rfl hd rfl hi hin (by show n * 2 ≤ 536870912; omega) (by omega) (by omega) r.1 fun H1 cA e1 z1 o1 hAr hNm => ?_
  have hcA : cA = g.2.2.2.2.2 2 := Option.some.inj (hNm.symm.trans ((jctx_K C).2 2 _ (jtys_get _ (by decide))).2)
  subst hcA
  obtain ⟨r9, S9⟩ := jRel_new (kn := 102) (n := n) r S hn z1 (fun q hq => o1 q hq) (by
    rw [jE_arr (t := 2) (va_up_self _ _ _)]
    show H1[jz g + K.2.2]? = some (vp_cell _ _)
    rw [jav_cell, va_up_self, e1]
    congr 2
    funext k
    obtain ⟨f1, f2, f3⟩ := r.2.2.2.2.1 K.2.2 (Nat.le_refl _) hn k
    show _ = jfv g ci cj cr 0 K.2.2 k
    simp [jfv, f1, f2, f3, defaultValue, Op.newarray.typeOf])
  have kk9 := kk p e R s m args below meth c0 H1 locs (cells + 1) (slots + n) Q ls C r9 S9 (by omega) (by omega) hls E
  rw [show (F0 m (pc + 2) ls ((Value.ref K.2.2 :: st).map (jc g))) = F0 m (pc + 2) ls (.ref (jz g + K.2.2) :: st.map (jc g)) by simp [jc, jad_lt (Nat.lt_succ_self K.2.2) (by omega)]] at kk9
  exact kk9
theorem ev_newa_long {n : Nat} {i : Int32} (hd : decode M.2.1 pc = .ok (.newarray .long, 2)) (hi : ¬ i < 0) (hin : i.toNatClampNeg = n) (hsz : n ≤ 65536) (hn : K.2.2 < 1000000) (kk : Ev g d M (pc + 2) L (.ref K.2.2 :: st) (va_up K.1 K.2.2 103, va_up K.2.1 K.2.2 n, K.2.2 + 1) ci cj cr c sl Qr Qx) : Ev g d M pc L (.int i :: st) K ci cj cr (c + 1) (sl + n) Qr Qx := by
  intro p e R s m args below meth c0 H locs cells slots Q ls C r S h1 h2 hls E
  refine va_newaK (atype := .long) C.2.1 C.2.2.1 (jctx_w C q397) rfl hd rfl hi hin (by show n * 8 ≤ 536870912; omega) (by omega) (by omega) r.1 fun H1 cA e1 z1 o1 hAr hNm => ?_
  have hcA : cA = g.2.2.2.2.2 3 := Option.some.inj (hNm.symm.trans ((jctx_K C).2 3 _ (jtys_get _ (by decide))).2)
  subst hcA
  obtain ⟨r9, S9⟩ := jRel_new (kn := 103) (n := n) r S hn z1 (fun q hq => o1 q hq) (by
    rw [jE_arr (t := 3) (va_up_self _ _ _)]
    show H1[jz g + K.2.2]? = some (vp_cell _ _)
    rw [jav_cell, va_up_self, e1]
    congr 2
    funext k
    obtain ⟨f1, f2, f3⟩ := r.2.2.2.2.1 K.2.2 (Nat.le_refl _) hn k
    show _ = jfv g ci cj cr 1 K.2.2 k
    simp [jfv, f1, f2, f3, defaultValue, Op.newarray.typeOf])
  have kk9 := kk p e R s m args below meth c0 H1 locs (cells + 1) (slots + n) Q ls C r9 S9 (by omega) (by omega) hls E
  rw [show (F0 m (pc + 2) ls ((Value.ref K.2.2 :: st).map (jc g))) = F0 m (pc + 2) ls (.ref (jz g + K.2.2) :: st.map (jc g)) by simp [jc, jad_lt (Nat.lt_succ_self K.2.2) (by omega)]] at kk9
  exact kk9
end
