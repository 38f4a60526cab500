/-! ROWS: System.arraycopy of bytes and of references; sort objects -/
/-- the reals copied into the place a -/
def jcpy {α : Type} (f : Nat → Nat → α) (a0 a sp dp n : Nat) : Nat → Nat → α := fun x j => if x = a then va_cpy (f a0) (f a) sp dp n j else f x j
theorem jcpy_ne {α : Type} (f : Nat → Nat → α) {a0 a sp dp n x : Nat} (h : x ≠ a) (j : Nat) : jcpy f a0 a sp dp n x j = f x j := if_neg h
theorem jcpy_eq {α : Type} (f : Nat → Nat → α) (a0 a sp dp n j : Nat) : jcpy f a0 a sp dp n a j = va_cpy (f a0) (f a) sp dp n j := if_pos rfl
theorem va_cpy_map {α β : Type} (mk : α → β) (f g : Nat → α) (sp dp n j : Nat) : va_cpy (fun j => mk (f j)) (fun j => mk (g j)) sp dp n j = mk (va_cpy f g sp dp n j) := by
  unfold va_cpy
  split <;> rfl
section
variable {g : jG} {d : Nat} {M : jM} {pc : Nat} {L st : List Value} {K : jK} {ci ci' : jI} {cj cj' : jJ} {cr cr' : jR} {c sl : Nat} {Qr : jQ} {Qx : jX}
theorem jcopy_core {index a0 a t : Nat} (hd : decode M.2.1 pc = .ok (.invokestatic index, 3)) (hw : Cond.methodLink M.1.cls index arraycopyName ∈ lw_all) (hst : (st.map fun v => v.category).sum ≤ 8) (hk0 : K.1 a0 = 100 + t) (hk : K.1 a = 100 + t) (ht : t < 9) (ha0 : a0 < K.2.2) (ha : a < K.2.2) {sp dp n : Int32} (h1 : ¬ sp < 0) (h2 : ¬ dp < 0) (h3 : ¬ n < 0) (h4 : sp.toNatClampNeg + n.toNatClampNeg ≤ K.2.1 a0) (h5 : dp.toNatClampNeg + n.toNatClampNeg ≤ K.2.1 a)
    (hel : ∀ (p : Program) (R : Room) (s : State) (m : MethodId) (args : Array Value) (meth : Method) (c0 : Code) (H : Heap), jCtx g (d + 1) M p R s m args meth c0 → jRel g K ci cj cr H → ∀ (vm₁ : Vm), s.vm.Alike vm₁ → ∀ (k1 : Class) (comp : ClassId), s.vm.classes[g.2.2.2.2.2 t]? = some k1 → k1.kind = .array comp (jaty t) → ∀ i, i < n.toNatClampNeg → fits (jaty t) (jfv g ci cj cr (jtag (jaty t)) a0 (sp.toNatClampNeg + i)) = true ∧
      (match jfv g ci cj cr (jtag (jaty t)) a0 (sp.toNatClampNeg + i) with | .ref y => ∃ cellV : Cell, H[y]? = some cellV ∧ cellV.vm.isStatics = false ∧ (∃ kC', vm₁.classes[cellV.cls]? = some kC') ∧ (∃ kE', vm₁.classes[comp]? = some kE') ∧ vm₁.assignable cellV.cls comp = true | _ => True))
    (hv : ∀ j, jfv g ci' cj' cr' (jtag (jaty t)) a j = va_cpy (fun j => jfv g ci cj cr (jtag (jaty t)) a0 j) (fun j => jfv g ci cj cr (jtag (jaty t)) a j) sp.toNatClampNeg dp.toNatClampNeg n.toNatClampNeg j) (hoff : ∀ j, j ≠ a → ∀ i, ci' j i = ci j i ∧ cj' j i = cj j i ∧ cr' j i = cr j i)
    (kk : Ev g (d + 1) M (pc + 3) L st K ci' cj' cr' c sl Qr Qx) : Ev g (d + 1) M pc L (.int n :: .int dp :: .ref a :: .int sp :: .ref a0 :: st) K ci cj cr c sl Qr Qx := by
  intro p e R s m args below meth c0 H locs cells slots Q ls C r S hh1 hh2 hls E
  have nn : ∀ z : Int32, ¬ z < 0 → z.toInt = (z.toNatClampNeg : Int) := by
    intro z hz
    have hz0 : (0 : Int) ≤ z.toInt := by
      have := Int32.not_lt.mp hz
      simpa using Int32.le_iff_toInt_le.mp this
    show z.toInt = ((z.toInt.toNat : Nat) : Int)
    omega
  have F1 : d + 1 ≤ R.frames := C.2.2.2.2.2.2.2.2.2.2.1
  have F2 : 60 * (d + 1) ≤ R.locals := C.2.2.2.2.2.2.2.2.2.2.2.1
  obtain ⟨cs, g1, -, -, -, -, -, g7⟩ := jarr C r hk0 ht (Or.inl ha0)
  have g7' := g7 ha0
  subst g7'
  obtain ⟨cd, f1, -, -, -, -, -, f7⟩ := jarr C r hk ht (Or.inl ha)
  have f7' := f7 ha
  subst f7'
  have hA : ∃ k1 : Class, s.vm.classes[g.2.2.2.2.2 t]? = some k1 ∧ ∃ comp : ClassId, k1.kind = .array comp (jaty t) := by
    obtain ⟨-, k1, hk1, cm1, hkk1⟩ := ((jctx_K C).2 t _ (jtys_get _ ht)).1 0 (fun _ => .null)
    exact ⟨k1, hk1, cm1, hkk1⟩
  obtain ⟨k1, hk1, cm1, hkk1⟩ := hA
  have hsum : (((st.map (jc g)).map fun v => v.category).sum) ≤ 8 := by
    rw [List.map_map]
    have : ((fun v : Value => v.category) ∘ jc g) = fun v => v.category := by funext v; exact jc_cat g v
    rw [this]; exact hst
  have hwords : 2 * 0 + ((st.map (jc g)).map fun v => v.category).sum + (nativeFrameWords "java/lang/System" "arraycopy" 5 + 11) ≤ R.locals := by
    have h9 : nativeFrameWords "java/lang/System" "arraycopy" 5 ≤ 20 := by decide
    omega
  intro T hT X
  obtain ⟨vm', X', step⟩ := X.arraycopy C.2.1 C.2.2.2.2.1 (jctx_w C hw) (jctx_w C q920) (jctx_w C q919) (jctx_w C q180) (src := jad g a0) (dst := jad g a) (cs := arrV (g.2.2.2.2.2 t) (K.2.1 a0) fun j => jfv g ci cj cr (jtag (jaty t)) a0 j) (cd := arrV (g.2.2.2.2.2 t) (K.2.1 a) fun j => jfv g ci cj cr (jtag (jaty t)) a j) (srcPos := sp) (destPos := dp) (n := n) (by rw [hT]; exact g1) (by rw [hT]; exact f1)
    (fun _ h => by cases h) (fun _ h => by cases h) (fun h => by cases h) (fun h => by cases h) hk1 hk1 hkk1 hkk1 (by simp) h1 h2 h3
    (by rw [nn sp h1, nn n h3, arrV_size]; omega)
    (by rw [nn dp h2, nn n h3, arrV_size]; omega)
    (fun vm₁ hal i hi => by
      obtain ⟨z1, z2⟩ := hel p R s m args meth c0 H C r vm₁ hal k1 cm1 hk1 hkk1 i hi
      have e9 : (arrV (g.2.2.2.2.2 t) (K.2.1 a0) fun j => jfv g ci cj cr (jtag (jaty t)) a0 j).slots.getD (sp.toNatClampNeg + i) .null = jfv g ci cj cr (jtag (jaty t)) a0 (sp.toNatClampNeg + i) := by
        rw [Array.getD_eq_getD_getElem?, arrV_read _ _ (by omega)]
        rfl
      rw [e9]
      refine ⟨z1, ?_⟩
      generalize jfv g ci cj cr (jtag (jaty t)) a0 (sp.toNatClampNeg + i) = w at z2 ⊢
      cases w with
      | ref y =>
        obtain ⟨cellV, y1, y2, y3, y4, y5⟩ := z2
        exact ⟨cellV, (show T.heap[y]? = some cellV by rw [hT]; exact y1), (fun q h => by rw [h] at y2; cases y2), y3, y4, y5⟩
      | _ => exact trivial)
    (g := F0 m pc ls (.int n :: .int dp :: .ref (jad g a) :: .int sp :: .ref (jad g a0) :: st.map (jc g))) rfl (by show ls.size = _; rw [hls.1]; exact C.2.2.2.1.symm) (rest := st.map (jc g)) rfl (by rw [C.2.2.1]; exact hd) (by omega) (hwords)
  have e1 : copied (arrV (g.2.2.2.2.2 t) (K.2.1 a0) fun j => jfv g ci cj cr (jtag (jaty t)) a0 j) (arrV (g.2.2.2.2.2 t) (K.2.1 a) fun j => jfv g ci cj cr (jtag (jaty t)) a j) sp dp n = arrV (g.2.2.2.2.2 t) (K.2.1 a) (fun j => jfv g ci' cj' cr' (jtag (jaty t)) a j) := by
    have h9 := va_copied (fun z => z) (g.2.2.2.2.2 t) (g.2.2.2.2.2 t) (n1 := K.2.1 a) (dp := dp.toNatClampNeg) (fun j => jfv g ci cj cr (jtag (jaty t)) a0 j) (fun j => jfv g ci cj cr (jtag (jaty t)) a j) h4
    refine h9.trans ?_
    congr 1
    funext j
    exact (hv j).symm
  rw [e1] at X' step
  have hl : jad g a < H.size := (Array.getElem?_eq_some_iff.mp f1).1
  have hja : jad g a = jz g + a := jad_lt ha r.2.1
  have hheap : ((T.setVm vm').setCell (jad g a) (arrV (g.2.2.2.2.2 t) (K.2.1 a) (fun j => jfv g ci' cj' cr' (jtag (jaty t)) a j))).heap = H.setIfInBounds (jad g a) (arrV (g.2.2.2.2.2 t) (K.2.1 a) (fun j => jfv g ci' cj' cr' (jtag (jaty t)) a j)) := by rw [← hT]; rfl
  have oq : ∀ q : Nat, q ≠ jad g a → (H.setIfInBounds (jad g a) (arrV (g.2.2.2.2.2 t) (K.2.1 a) (fun j => jfv g ci' cj' cr' (jtag (jaty t)) a j)))[q]? = H[q]? := fun q hq => by simp [Array.getElem?_setIfInBounds, Ne.symm hq]
  have r9 : jRel g K ci' cj' cr' (H.setIfInBounds (jad g a) (arrV (g.2.2.2.2.2 t) (K.2.1 a) (fun j => jfv g ci' cj' cr' (jtag (jaty t)) a j))) := by
    refine jRel_upd r ha (by simp) (fun q hq => oq q (by rw [hja]; exact hq)) ?_ hoff
    rw [jE_arr hk]
    show (H.setIfInBounds (jad g a) _)[jz g + a]? = some (vp_cell _ _)
    rw [jav_cell, ← hja]
    simp [Array.getElem?_setIfInBounds, hl]
  obtain ⟨t2, a1, b1⟩ := kk p e R s m args below meth c0 _ _ cells slots Q ls C r9 (⟨by simp; exact S.1, fun q z1 z2 => by
      rw [oq q (fun e => z2 (by rw [e, hja]; exact Nat.le_add_right _ _))]
      exact S.2.1 q z1 z2, fun q hq => by
      rcases List.mem_append.mp hq with h | h
      · exact S.2.2 q h
      · obtain ⟨z, -, hz⟩ := List.mem_map.mp h
        rw [← hz]
        show jz g ≤ jad g a
        rw [hja]; exact Nat.le_add_right _ _⟩) hh1 hh2 hls E _ hheap X'
  exact ⟨t2, step t2 a1, b1⟩
/-- the copied places hold bytes -/
def jbyt (f : Nat → Int32) (sp n : Nat) : Bool := (List.range n).all (fun i => fits .byte (.int (f (sp + i))))
/-- the copied places hold nothing or objects -/
def jobs (K : jK) (f : Nat → Option Nat) (sp n : Nat) : Bool := (List.range n).all (fun i => match f (sp + i) with | none => true | some y => decide (K.1 y < 23 ∧ (y < K.2.2 ∨ 1000000 ≤ y)))
theorem ev_copyB {index a0 a : Nat} (hd : decode M.2.1 pc = .ok (.invokestatic index, 3)) (hw : Cond.methodLink M.1.cls index arraycopyName ∈ lw_all) (hst : (st.map fun v => v.category).sum ≤ 8) (hk0 : K.1 a0 = 101) (hk : K.1 a = 101) (ha0 : a0 < K.2.2) (ha : a < K.2.2) {sp dp n : Int32} (h1 : ¬ sp < 0) (h2 : ¬ dp < 0) (h3 : ¬ n < 0) (h4 : sp.toNatClampNeg + n.toNatClampNeg ≤ K.2.1 a0) (h5 : dp.toNatClampNeg + n.toNatClampNeg ≤ K.2.1 a)
    (hfit : jbyt (ci a0) sp.toNatClampNeg n.toNatClampNeg = true) (kk : Ev g (d + 1) M (pc + 3) L st K (jcpy ci a0 a sp.toNatClampNeg dp.toNatClampNeg n.toNatClampNeg) cj cr c sl Qr Qx) : Ev g (d + 1) M pc L (.int n :: .int dp :: .ref a :: .int sp :: .ref a0 :: st) K ci cj cr c sl Qr Qx := by
  refine jcopy_core (t := 1) hd hw hst hk0 hk (by decide) ha0 ha h1 h2 h3 h4 h5 (fun p R s m args meth c0 H C r vm₁ hal k1 comp hk1 hkk1 i hi => ?_) (fun j => ?_) (fun j hj i => ⟨jcpy_ne ci hj i, rfl, rfl⟩) kk
  · have h9 := List.all_eq_true.mp hfit i (List.mem_range.mpr hi)
    exact ⟨h9, trivial⟩
  · show Value.int (jcpy ci a0 a _ _ _ a j) = _
    rw [jcpy_eq]
    exact (va_cpy_map (fun x => Value.int x) (ci a0) (ci a) _ _ _ j).symm
theorem ev_copyR {index a0 a : Nat} (hd : decode M.2.1 pc = .ok (.invokestatic index, 3)) (hw : Cond.methodLink M.1.cls index arraycopyName ∈ lw_all) (hst : (st.map fun v => v.category).sum ≤ 8) (hk0 : K.1 a0 = 104) (hk : K.1 a = 104) (ha0 : a0 < K.2.2) (ha : a < K.2.2) {sp dp n : Int32} (h1 : ¬ sp < 0) (h2 : ¬ dp < 0) (h3 : ¬ n < 0) (h4 : sp.toNatClampNeg + n.toNatClampNeg ≤ K.2.1 a0) (h5 : dp.toNatClampNeg + n.toNatClampNeg ≤ K.2.1 a)
    (hfit : jobs K (cr a0) sp.toNatClampNeg n.toNatClampNeg = true) (kk : Ev g (d + 1) M (pc + 3) L st K ci cj (jcpy cr a0 a sp.toNatClampNeg dp.toNatClampNeg n.toNatClampNeg) c sl Qr Qx) : Ev g (d + 1) M pc L (.int n :: .int dp :: .ref a :: .int sp :: .ref a0 :: st) K ci cj cr c sl Qr Qx := by
  refine jcopy_core (t := 4) hd hw hst hk0 hk (by decide) ha0 ha h1 h2 h3 h4 h5 (fun p R s m args meth c0 H C r vm₁ hal k1 comp hk1 hkk1 i hi => ?_) (fun j => ?_) (fun j hj i => ⟨rfl, rfl, jcpy_ne cr hj i⟩) kk
  · have h9 := List.all_eq_true.mp hfit i (List.mem_range.mpr hi)
    show fits (.object "java/lang/Object") (va_rf ((cr a0 (sp.toNatClampNeg + i)).map (jad g))) = true ∧ (match va_rf ((cr a0 (sp.toNatClampNeg + i)).map (jad g)) with | .ref y => _ | _ => True)
    cases hy : cr a0 (sp.toNatClampNeg + i) with
    | none => exact ⟨rfl, trivial⟩
    | some y =>
      simp only [hy, decide_eq_true_eq] at h9
      obtain ⟨cellV, C', T, N, hc, f1, f2, f3⟩ := jobj C r rfl h9.1 h9.2
      obtain ⟨kA, comp9, r1, r2, r3, -⟩ := ((jctx_K C).2 4 _ (jtys_get _ (by decide))).2
      cases hk1.symm.trans r1
      cases hkk1.symm.trans r2
      obtain ⟨kC, hkC, -⟩ := Vm.findClass_spec f3
      obtain ⟨kE, hkE, -⟩ := Vm.findClass_spec r3
      obtain ⟨kC', hkC', -⟩ := hal.2.2 _ _ hkC
      obtain ⟨kE', hkE', -⟩ := hal.2.2 _ _ hkE
      refine ⟨rfl, cellV, f1, f2, ⟨kC', hkC'⟩, ⟨kE', hkE'⟩, ?_⟩
      rw [hal.assignable]
      exact vb_asgC (jnw C (jcastO _ _ _ _ hc)) _ _ r3 f3
  · show va_rf ((jcpy cr a0 a _ _ _ a j).map (jad g)) = _
    rw [jcpy_eq]
    exact (va_cpy_map (fun x => va_rf (x.map (jad g))) (cr a0) (cr a) _ _ _ j).symm
/-- the sort object of an Object[] -/
theorem ev_getC {index a : Nat} (hd : decode M.2.1 pc = .ok (.invokevirtual index, 3)) (hw : Cond.methodLink M.1.cls index ⟨"java/lang/Object", "getClass", "()Ljava/lang/Class;"⟩ ∈ lw_all) (hst : (st.map fun v => v.category).sum ≤ 8) (hk : K.1 a = 104) (ha : a < K.2.2) (kk : Ev g (d + 1) M (pc + 3) L (.ref 1000010 :: st) K ci cj cr c sl Qr Qx) : Ev g (d + 1) M pc L (.ref a :: st) K ci cj cr c sl Qr Qx := by
  intro p e R s m args below meth c0 H locs cells slots Q ls C r S h1 h2 hls E
  have F1 : d + 1 ≤ R.frames := C.2.2.2.2.2.2.2.2.2.2.1
  have F2 : 60 * (d + 1) ≤ R.locals := C.2.2.2.2.2.2.2.2.2.2.2.1
  obtain ⟨cell, g1, g2, g3, g4, g5, g6, g7⟩ := jarr C r (t := 4) hk (by decide) (Or.inl ha)
  have hcell := g7 ha
  subst hcell
  obtain ⟨kA, comp, k1, k2, k3, k4⟩ := ((jctx_K C).2 4 _ (jtys_get _ (by decide))).2
  have hsum : (((st.map (jc g)).map fun v => v.category).sum) ≤ 8 := by
    rw [List.map_map]
    have : ((fun v : Value => v.category) ∘ jc g) = fun v => v.category := by funext v; exact jc_cat g v
    rw [this]; exact hst
  exact va_getC (C := "[Ljava/lang/Object;") (mi := jad g 1000010) C.2.1 C.2.2.1 (by rw [hls.1]; exact C.2.2.2.1) C.2.2.2.2.1 (jctx_w C hw) (va_Dc.use (va_Dc.moved (jctx_W C).alike (va_Dc.of (C.1.1 _ q2604)))) (jctx_w C q2603) (jctx_w C q883) (jctx_w C q909) (va_Mi.moved (jctx_W C).alike C.1.2.2.2.2.2.1) ⟨_, g1, rfl, k4⟩ (by omega) (by omega) hd (kk p e R s m args below meth c0 H locs cells slots Q ls C r S h1 h2 hls E)
theorem ev_ldcM {index : Nat} (hd : decode M.2.1 pc = .ok (.ldc index, 2)) (hw : Cond.classLink M.1.cls index "[Ljava/lang/Object;" ∈ lw_all) (kk : Ev g d M (pc + 2) L (.ref 1000010 :: st) K ci cj cr c sl Qr Qx) : Ev g d M pc L st K ci cj cr c sl Qr Qx := by
  intro p e R s m args below meth c0 H locs cells slots Q ls C r S h1 h2 hls E
  exact va_ldcM (mi := jad g 1000010) C.2.1 C.2.2.1 C.2.2.2.2.1 (jctx_w C hw) (va_Mi.moved (jctx_W C).alike C.1.2.2.2.2.2.1) hd (kk p e R s m args below meth c0 H locs cells slots Q ls C r S h1 h2 hls E)
/-- a cast of an array to its own sort -/
theorem ev_castA {index a t : Nat} (hd : decode M.2.1 pc = .ok (.checkcast index, 3)) (hw : Cond.classLink M.1.cls index ("[" ++ (jaty t).toString) ∈ lw_all) (hk : K.1 a = 100 + t) (ht9 : t < 9) (ha : a < K.2.2) (kk : Ev g d M (pc + 3) L (.ref a :: st) K ci cj cr c sl Qr Qx) : Ev g d M pc L (.ref a :: st) K ci cj cr c sl Qr Qx := by
  intro p e R s m args below meth c0 H locs cells slots Q ls C r S h1 h2 hls E
  obtain ⟨cell, g1, g2, g3, g4, g5, g6, g7⟩ := jarr C r hk ht9 (Or.inl ha)
  have hcell := g7 ha
  subst hcell
  have hfc : s.vm.findClass ("[" ++ (jaty t).toString) = some (g.2.2.2.2.2 t) := by
    have h9 := ((jctx_K C).2 t _ (jtys_get _ ht9)).2
    rcases (show t = 0 ∨ t = 1 ∨ t = 2 ∨ t = 3 ∨ t = 4 ∨ t = 5 ∨ t = 6 ∨ t = 7 ∨ t = 8 by omega) with z | z | z | z | z | z | z | z | z <;> subst z
    all_goals first | exact h9 | (obtain ⟨kA, comp, k1, k2, k3, k4⟩ := h9; exact k4)
  have kk9 := kk p e R s m args below meth c0 H locs cells slots Q ls C r S h1 h2 hls E
  intro T0 hT X
  obtain ⟨vm', X', st9⟩ := X.checkcastYes C.2.1 C.2.2.2.2.1 (jctx_w C hw) (by rw [hT]; exact g1) rfl hfc (va_asg _ _) (g := F0 m pc ls (.ref (jad g a) :: st.map (jc g))) rfl rfl (by rw [C.2.2.1]; exact hd)
  obtain ⟨t, a1, b1⟩ := kk9 (T0.setVm vm') hT X'
  exact ⟨t, st9 t a1, b1⟩
end
