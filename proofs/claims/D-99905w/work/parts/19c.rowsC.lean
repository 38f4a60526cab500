/-! ROWS: constants, casts, arrays of references, copies -/
section
variable {p : Program} {e : Env} {R : Room} {s : State} {m : MethodId} {args : Array Value} {below : List Frame} {meth : Method} {c0 : Code} {H : Heap} {locs : List Loc} {cells slots : Nat} {Q : State → Prop} {ls : Array Slot} {rest : List Value}
variable {g : jG} {d : Nat} {M : jM} {pc : Nat} {K : jK} {ci ci' : jI} {cj cj' : jJ} {cr cr' : jR}
/-- the cell of an object -/
theorem jobj (C : jCtx g d M p R s m args meth c0) (r : jRel g K ci cj cr H) {v cN : Nat} (hk : K.1 v = cN) (hc : cN < 23) (hin : v < K.2.2 ∨ 1000000 ≤ v) : ∃ (cell : Cell) (C' : String) (T : u_T) (N : Nat), jcl[cN]? = some (C', T, N) ∧ H[jad g v]? = some cell ∧ cell.vm.isStatics = false ∧ s.vm.findClass C' = some cell.cls := by
  by_cases ha : v < K.2.2
  · have h3 := r.2.2.1 v _ (jW_get _ _ ha)
    rw [jE_obj hk (by omega)] at h3
    obtain ⟨⟨C', T, N⟩, hc, cell, g1, g2, g3, -⟩ := h3
    have hcl := ((jctx_K C).1 cN _ hc).2.1
    exact ⟨cell, C', T, N, hc, by rw [jad_lt ha r.2.1]; exact g1, by rw [g3]; rfl, by rw [g2]; exact hcl⟩
  · have hb : 1000000 ≤ v := by omega
    obtain ⟨q1, q2, -⟩ := r.2.2.2.2.2 v hb
    by_cases h21 : K.1 v = 21
    · obtain ⟨cell, g1, g2, g3, -⟩ := (va_O.moved (jctx_W C).alike (q1 h21).1).kept (H1 := H) (fun q _ hq => r.2.2.2.1 q (by omega))
      have e1 : cN = 21 := hk.symm.trans h21
      subst e1
      exact ⟨cell, _, _, _, rfl, g1, g2, g3⟩
    · exact absurd (by omega) (q2 h21)
theorem jnw (C : jCtx g d M p R s m args meth c0) {a b : String} (hw : Cond.castable a b ∈ lw_tbl) : va_Nw (.castable a b) s := va_Nw.warmC (jctx_W C) (va_Nw.of rfl (C.1.1 _ hw))
end
/-- the entry index of own's pool names a sort that each sort of cs is one of -/
def jCa (own : String) (index : Nat) (cs : List Nat) : Prop := ∃ nm : String, Cond.classLink own index nm ∈ lw_all ∧ ∀ c ∈ cs, c < 23 ∧ ∃ (C : String) (T : u_T) (N : Nat), jcl[c]? = some (C, T, N) ∧ (C = nm ∨ Cond.castable C nm ∈ lw_tbl)
section
variable {g : jG} {d : Nat} {M : jM} {pc : Nat} {L st : List Value} {K : jK} {ci : jI} {cj : jJ} {cr : jR} {c sl : Nat} {Qr : jQ} {Qx : jX}
theorem ev_cast {index a : Nat} {cs : List Nat} (hd : decode M.2.1 pc = .ok (.checkcast index, 3)) (hs : jCa M.1.cls index cs) (hk : K.1 a ∈ cs) (hin : a < K.2.2 ∨ 1000000 ≤ a) (kk : Ev g d M (pc + 3) L (.ref a :: st) K ci cj cr c sl Qr Qx) : Ev g d M pc L (.ref a :: st) K ci cj cr c sl Qr Qx := by
  intro p e R s m args below meth c0 H locs cells slots Q ls C r S h1 h2 hls E
  obtain ⟨nm, w1, w2⟩ := hs
  obtain ⟨h23, C', T, N, hc, hca⟩ := w2 _ hk
  obtain ⟨cell, C9, T9, N9, hc9, f1, f2, f3⟩ := jobj C r rfl h23 hin
  have e9 := hc9.symm.trans hc
  cases e9
  have kk9 := kk p e R s m args below meth c0 H locs cells slots Q ls C r S h1 h2 hls E
  intro T0 hT X
  have hcl : ∃ (t0 : ClassId), s.vm.findClass nm = some t0 ∧ s.vm.assignable cell.cls t0 = true := by
    rcases hca with z | z
    · subst z
      exact ⟨_, f3, va_asg _ _⟩
    · obtain ⟨x, t0, z1, z2, z3⟩ := Cond.castable_spec (va_Nw.use (A := args) rfl (jnw C z))
      cases f3.symm.trans z1
      exact ⟨t0, z2, z3⟩
  obtain ⟨t0, z1, z2⟩ := hcl
  obtain ⟨vm', X', st9⟩ := X.checkcastYes C.2.1 C.2.2.2.2.1 (jctx_w C w1) (by rw [hT]; exact f1) f2 z1 z2 (g := F0 m pc ls (.ref (jad g a) :: st.map (jc g))) rfl rfl (by rw [C.2.2.1]; exact hd)
  obtain ⟨t, a1, b1⟩ := kk9 (T0.setVm vm') hT X'
  exact ⟨t, st9 t a1, b1⟩
theorem ev_inst {index a : Nat} {cs : List Nat} (hd : decode M.2.1 pc = .ok (.instanceof index, 3)) (hs : jCa M.1.cls index cs) (hk : K.1 a ∈ cs) (hin : a < K.2.2 ∨ 1000000 ≤ a) (kk : Ev g d M (pc + 3) L (.int (nI 1) :: st) K ci cj cr c sl Qr Qx) : Ev g d M pc L (.ref a :: st) K ci cj cr c sl Qr Qx := by
  intro p e R s m args below meth c0 H locs cells slots Q ls C r S h1 h2 hls E
  obtain ⟨nm, w1, w2⟩ := hs
  obtain ⟨h23, C', T, N, hc, hca⟩ := w2 _ hk
  obtain ⟨cell, C9, T9, N9, hc9, f1, f2, f3⟩ := jobj C r rfl h23 hin
  have e9 := hc9.symm.trans hc
  cases e9
  have kk9 := kk p e R s m args below meth c0 H locs cells slots Q ls C r S h1 h2 hls E
  intro T0 hT X
  have hcl : ∃ (t0 : ClassId), s.vm.findClass nm = some t0 ∧ s.vm.assignable cell.cls t0 = true := by
    rcases hca with z | z
    · subst z
      exact ⟨_, f3, va_asg _ _⟩
    · obtain ⟨x, t0, z1, z2, z3⟩ := Cond.castable_spec (va_Nw.use (A := args) rfl (jnw C z))
      cases f3.symm.trans z1
      exact ⟨t0, z2, z3⟩
  obtain ⟨t0, z1, z2⟩ := hcl
  obtain ⟨vm', X', st9⟩ := X.instanceofYes C.2.1 C.2.2.2.2.1 (jctx_w C w1) (by rw [hT]; exact f1) f2 z1 z2 (g := F0 m pc ls (.ref (jad g a) :: st.map (jc g))) rfl rfl (by rw [C.2.2.1]; exact hd)
  obtain ⟨t, a1, b1⟩ := kk9 (T0.setVm vm') hT X'
  exact ⟨t, st9 t a1, b1⟩
theorem jkeep {p : Program} {R : Room} {s : State} {m : MethodId} {args : Array Value} {meth : Method} {c0 : Code} {H : Heap} {locs : List Loc} (C : jCtx g d M p R s m args meth c0) (r : jRel g K ci cj cr H) (S : va_S (jA g) s.heap H locs) : ∀ a : Nat, a < g.2.1.heap.size → ¬ jA g a → s.heap[a]? = g.2.1.heap[a]? := by
  intro a h1 h2
  have h3 : jz g ≤ s.heap.size := C.2.2.2.2.2.2.2.2.2.2.2.2.2
  rw [← S.2.1 a (Nat.lt_of_lt_of_le h1 h3) h2]
  exact r.2.2.2.1 a h1
/-- a static of the table -/
theorem ev_gets {index : Nat} (q : String × String × String × Value) (hd : decode M.2.1 pc = .ok (.getstatic index, 3)) (hw : Cond.fieldLink M.1.cls index q.1 q.2.1 q.2.2.1 ∈ lw_all) (hq : q ∈ jstat) (kk : Ev g d M (pc + 3) L (q.2.2.2 :: st) K ci cj cr c sl Qr Qx) : Ev g d M pc L st K ci cj cr c sl Qr Qx := by
  intro p e R s m args below meth c0 H locs cells slots Q ls C r S h1 h2 hls E
  have hZ := (va_Z.moved (jctx_W C).alike (C.1.2.2.2.1 q hq)).kept (H1 := s.heap) (jkeep C r S)
  exact va_gets (A := jA g) C.2.1 C.2.2.1 hZ S C.2.2.2.2.1 (jctx_w C hw) (fun _ h => h) hd (kk p e R s m args below meth c0 H locs cells slots Q ls C r S h1 h2 hls E)
theorem ev_getsN {index : Nat} {host : String} (q : String × String × String × Value) (hd : decode M.2.1 pc = .ok (.getstatic index, 3)) (hw : Cond.fieldLinkNest M.1.cls index q.1 q.2.1 q.2.2.1 host ∈ lw_tbl) (hq : q ∈ jstat) (kk : Ev g d M (pc + 3) L (q.2.2.2 :: st) K ci cj cr c sl Qr Qx) : Ev g d M pc L st K ci cj cr c sl Qr Qx := by
  intro p e R s m args below meth c0 H locs cells slots Q ls C r S h1 h2 hls E
  have hZ := (va_Z.moved (jctx_W C).alike (C.1.2.2.2.1 q hq)).kept (H1 := s.heap) (jkeep C r S)
  exact va_getsN (A := jA g) C.2.1 C.2.2.1 hZ S C.2.2.2.2.1 (jctx_nF C hw) (fun _ h => h) hd (kk p e R s m args below meth c0 H locs cells slots Q ls C r S h1 h2 hls E)
/-- a static of which only a reference or null is said -/
theorem ev_getsQ {index : Nat} (q : String × String × String × Nat) (hd : decode M.2.1 pc = .ok (.getstatic index, 3)) (hw : Cond.fieldLink M.1.cls index q.1 q.2.1 q.2.2.1 ∈ lw_all) (hq : q ∈ jrefs) (kk : ∀ x : Option Nat, Ev g d M (pc + 3) L (va_rf x :: st) K ci cj cr c sl Qr Qx) : Ev g d M pc L st K ci cj cr c sl Qr Qx := by
  intro p e R s m args below meth c0 H locs cells slots Q ls C r S h1 h2 hls E
  rcases C.1.2.2.2.2.1 q hq with z | z
  · have hZ := (va_Z.moved (jctx_W C).alike z).kept (H1 := s.heap) (jkeep C r S)
    exact va_gets (A := jA g) C.2.1 C.2.2.1 hZ S C.2.2.2.2.1 (jctx_w C hw) (fun _ h => h) hd (kk none p e R s m args below meth c0 H locs cells slots Q ls C r S h1 h2 hls E)
  · have hZ := (va_Z.moved (jctx_W C).alike z).kept (H1 := s.heap) (jkeep C r S)
    exact va_gets (A := jA g) C.2.1 C.2.2.1 hZ S C.2.2.2.2.1 (jctx_w C hw) (fun _ h => h) hd (kk (some q.2.2.2) p e R s m args below meth c0 H locs cells slots Q ls C r S h1 h2 hls E)
theorem ev_ldcS {index : Nat} (tx : String) (i : Nat) (hd : decode M.2.1 pc = .ok (.ldc index, 2)) (hq : (M.1.cls, index, tx, i) ∈ jstrs) (kk : Ev g d M (pc + 2) L (.ref i :: st) K ci cj cr c sl Qr Qx) : Ev g d M pc L st K ci cj cr c sl Qr Qx := by
  intro p e R s m args below meth c0 H locs cells slots Q ls C r S h1 h2 hls E
  have hZ := vk_R.warm (jctx_W C) (C.1.2.2.1 _ hq)
  exact va_ldcS C.2.1 C.2.2.1 C.2.2.2.2.1 hZ hd (kk p e R s m args below meth c0 H locs cells slots Q ls C r S h1 h2 hls E)
theorem ev_ldcSw {index : Nat} (tx : String) (i : Nat) (hd : decode M.2.1 pc = .ok (.ldc_w index, 3)) (hq : (M.1.cls, index, tx, i) ∈ jstrs) (kk : Ev g d M (pc + 3) L (.ref i :: st) K ci cj cr c sl Qr Qx) : Ev g d M pc L st K ci cj cr c sl Qr Qx := by
  intro p e R s m args below meth c0 H locs cells slots Q ls C r S h1 h2 hls E
  have hZ := vk_R.warm (jctx_W C) (C.1.2.2.1 _ hq)
  intro T hT X
  obtain ⟨t, a1, b1⟩ := kk p e R s m args below meth c0 H locs cells slots Q ls C r S h1 h2 hls E T hT X
  exact ⟨t, X.ldcStringW C.2.1 C.2.2.2.2.1 (text := tx) (a := jad g i) hZ.1 hZ.2 (g := F0 m pc ls (st.map (jc g))) rfl (by rw [C.2.2.1]; exact hd) t a1, b1⟩
/-- null or not -/
theorem ev_ifnullQ {x : Option Nat} {off : Int} (tgt : Nat) (hd : decode M.2.1 pc = .ok (.ifnull off, 3)) (ht : (pc : Int) + off = (tgt : Int)) (kt : x = none → Ev g d M tgt L st K ci cj cr c sl Qr Qx) (kf : ¬ x = none → Ev g d M (pc + 3) L st K ci cj cr c sl Qr Qx) : Ev g d M pc L (va_rf x :: st) K ci cj cr c sl Qr Qx := by
  cases x with
  | none => exact ev_ifnullN tgt hd ht (kt rfl)
  | some y => exact ev_ifnull hd (kf (fun z => by cases z))
theorem ev_ifnonnullQ {x : Option Nat} {off : Int} (tgt : Nat) (hd : decode M.2.1 pc = .ok (.ifnonnull off, 3)) (ht : (pc : Int) + off = (tgt : Int)) (kt : ¬ x = none → Ev g d M tgt L st K ci cj cr c sl Qr Qx) (kf : x = none → Ev g d M (pc + 3) L st K ci cj cr c sl Qr Qx) : Ev g d M pc L (va_rf x :: st) K ci cj cr c sl Qr Qx := by
  cases x with
  | none => exact ev_ifnonnullN hd (kf rfl)
  | some y => exact ev_ifnonnull tgt hd ht (kt (fun z => by cases z))
theorem ev_aload_nQ {n : Fin 4} {x : Option Nat} (hd : decode M.2.1 pc = .ok (.aload_n n, 1)) (hL : L[(n : Nat)]? = some (va_rf x)) (k : Ev g d M (pc + 1) L (va_rf x :: st) K ci cj cr c sl Qr Qx) : Ev g d M pc L (st) K ci cj cr c sl Qr Qx := by
  cases x with
  | none => exact ev_aload_nN hd hL k
  | some y => exact ev_aload_n hd hL k
theorem ev_aloadQ {i : Nat} {x : Option Nat} (hd : decode M.2.1 pc = .ok (.aload i, 2)) (hL : L[i]? = some (va_rf x)) (k : Ev g d M (pc + 2) L (va_rf x :: st) K ci cj cr c sl Qr Qx) : Ev g d M pc L (st) K ci cj cr c sl Qr Qx := by
  cases x with
  | none => exact ev_aloadN hd hL k
  | some y => exact ev_aload hd hL k
/-! two references, one of them made since the start -/
theorem jad_inj {a b : Nat} {H : Heap} {p : Program} {R : Room} {s : State} {m : MethodId} {args : Array Value} {meth : Method} {c0 : Code} (C : jCtx g d M p R s m args meth c0) (r : jRel g K ci cj cr H) (ha : K.1 a = 21) (hb : K.1 b = 21) (hab : a < K.2.2 ∧ (b < K.2.2 ∨ 1000000 ≤ b) ∨ b < K.2.2 ∧ (a < K.2.2 ∨ 1000000 ≤ a)) : jad g a = jad g b ↔ a = b := by
  refine ⟨fun z => ?_, fun z => by rw [z]⟩
  have key : ∀ x, 1000000 ≤ x → K.1 x = 21 → jad g x < jz g := fun x hx hk => by
    obtain ⟨q1, -⟩ := r.2.2.2.2.2 x hx
    obtain ⟨cell, g1, g2, g3, g4⟩ := (q1 hk).1
    exact Nat.not_le.mp g4
  rcases hab with ⟨h1, h2 | h2⟩ | ⟨h1, h2 | h2⟩
  · rw [jad_lt h1 r.2.1, jad_lt h2 r.2.1] at z; omega
  · have := key b h2 hb
    rw [jad_lt h1 r.2.1] at z; omega
  · rw [jad_lt h1 r.2.1, jad_lt h2 r.2.1] at z; omega
  · have := key a h2 ha
    rw [jad_lt h1 r.2.1] at z; omega
theorem ev_acmp_ne {a b : Nat} {off : Int} (tgt : Nat) (hd : decode M.2.1 pc = .ok (.if_acmp .ne off, 3)) (ht : (pc : Int) + off = (tgt : Int)) (ha : K.1 a = 21) (hb : K.1 b = 21) (hab : a < K.2.2 ∧ (b < K.2.2 ∨ 1000000 ≤ b) ∨ b < K.2.2 ∧ (a < K.2.2 ∨ 1000000 ≤ a)) (kt : ¬ a = b → Ev g d M tgt L st K ci cj cr c sl Qr Qx) (kf : a = b → Ev g d M (pc + 3) L st K ci cj cr c sl Qr Qx) : Ev g d M pc L (.ref b :: .ref a :: st) K ci cj cr c sl Qr Qx := by
  intro p e R s m args below meth c0 H locs cells slots Q ls C r S h1 h2 hls E
  have hi := jad_inj C r ha hb hab
  exact lv_acmp_ne (rx := some (jad g a)) (ry := some (jad g b)) C.2.1 C.2.2.1 hd ht (fun z => kt (fun q => z (by rw [hi.mpr q])) p e R s m args below meth c0 H locs cells slots Q ls C r S h1 h2 hls E) (fun z => kf (hi.mp (Option.some.inj z)) p e R s m args below meth c0 H locs cells slots Q ls C r S h1 h2 hls E)
theorem ev_acmp_neS {a : Nat} {off : Int} (hd : decode M.2.1 pc = .ok (.if_acmp .ne off, 3)) (hp : ∃ tgt : Nat, (pc : Int) + off = (tgt : Int)) (kf : Ev g d M (pc + 3) L st K ci cj cr c sl Qr Qx) : Ev g d M pc L (.ref a :: .ref a :: st) K ci cj cr c sl Qr Qx := by
  intro p e R s m args below meth c0 H locs cells slots Q ls C r S h1 h2 hls E
  obtain ⟨tgt, ht⟩ := hp
  exact lv_acmp_ne (rx := some (jad g a)) (ry := some (jad g a)) C.2.1 C.2.2.1 hd ht (fun z => absurd rfl z) (fun _ => kf p e R s m args below meth c0 H locs cells slots Q ls C r S h1 h2 hls E)
/-! arrays of references -/
theorem jrf_map (g : jG) (f : Nat → Option Nat) : (fun j => va_rf ((f j).map (jad g))) = fun j => jfv g (fun _ _ => 0) (fun _ _ => 0) (fun _ => f) 2 0 j := rfl
/-- a store of the thing v into an array of references, where its sort may be stored -/
theorem jaast_core {a n t v : Nat} {i : Int32} (hd : decode M.2.1 pc = .ok (.aastore, 1)) (hk : K.1 a = 100 + t) (ht : 4 ≤ t) (ht9 : t < 9) (ha : a < K.2.2) (hi : jix i n (K.2.1 a))
    (hv : ∀ (p : Program) (R : Room) (s : State) (m : MethodId) (args : Array Value) (meth : Method) (c0 : Code) (H : Heap), jCtx g d M p R s m args meth c0 → jRel g K ci cj cr H → ∃ (kA : Class) (comp : ClassId) (kE : Class) (cellV : Cell) (kC : Class) (ty : FieldType), s.vm.classes[g.2.2.2.2.2 t]? = some kA ∧ kA.kind = .array comp ty ∧ ty.isReference = true ∧ s.vm.classes[comp]? = some kE ∧ H[jad g v]? = some cellV ∧ cellV.vm.isStatics = false ∧ s.vm.classes[cellV.cls]? = some kC ∧ s.vm.assignable cellV.cls comp = true)
    (kk : Ev g d M (pc + 1) L st K ci cj (ju cr a n (some v)) c sl Qr Qx) : Ev g d M pc L (.ref v :: .int i :: .ref a :: st) K ci cj cr c sl Qr Qx := by
  intro p e R s m args below meth c0 H locs cells slots Q ls C r S h1 h2 hls E
  obtain ⟨kA, comp, kE, cellV, kC, ty, k1, k2, k3, k4, k5, k6, k7, k8⟩ := hv p R s m args meth c0 H C r
  obtain ⟨cell, g1, g2, g3, g4, g5, g6, g7⟩ := jarr C r hk ht9 (Or.inl ha)
  have hcell := g7 ha
  subst hcell
  refine W.aast C.2.1 C.2.2.1 g1 (fun q h => by cases h) (fun h => by cases h) k1 k2 k3 k4 ⟨hi.1, by rw [arrV_size, hi.2.1]; exact hi.2.2⟩ k5 (fun q h => by rw [h] at k6; cases k6) k7 k8 rfl rfl hd fun H1 e1 z oq => ?_
  rw [hi.2.1] at e1 ⊢
  rw [jad_lt ha r.2.1] at e1 oq ⊢
  have htag : jtag (jaty t) = 2 := by
    rcases (show t = 4 ∨ t = 5 ∨ t = 6 ∨ t = 7 ∨ t = 8 by omega) with z | z | z | z | z <;> subst z <;> rfl
  obtain ⟨r9, S9⟩ := jarr_put (ci' := ci) (cj' := cj) (cr' := ju cr a n (some v)) r S (t := t) hk ha (by rw [htag]; show va_rf ((ju cr a n (some v) a n).map (jad g)) = _; rw [ju_eq]; rfl) (fun i hi => ⟨rfl, rfl, ju_ne2 cr _ hi⟩) (fun j hj i => ⟨rfl, rfl, ju_ne cr _ hj⟩) e1 z oq
  exact kk p e R s m args below meth c0 H1 _ cells slots Q ls C r9 S9 h1 h2 hls E
theorem jcastO : ∀ (c : Nat) (C : String) (T : u_T) (N : Nat), jcl[c]? = some (C, T, N) → Cond.castable C "java/lang/Object" ∈ lw_tbl := by
  intro c C T N h
  match c, h with
  | 0, h => cases h; exact q2579
  | 1, h => cases h; exact q2580
  | 2, h => cases h; exact q2582
  | 3, h => cases h; exact q2583
  | 4, h => cases h; exact q2584
  | 5, h => cases h; exact q2577
  | 6, h => cases h; exact q2585
  | 7, h => cases h; exact q2587
  | 8, h => cases h; exact q2588
  | 9, h => cases h; exact q2589
  | 10, h => cases h; exact q2590
  | 11, h => cases h; exact q2592
  | 12, h => cases h; exact q2593
  | 13, h => cases h; exact q2594
  | 14, h => cases h; exact q2595
  | 15, h => cases h; exact q2596
  | 16, h => cases h; exact q2597
  | 17, h => cases h; exact q2598
  | 18, h => cases h; exact q2599
  | 19, h => cases h; exact q2600
  | 20, h => cases h; exact q2581
  | 21, h => cases h; exact q2578
  | 22, h => cases h; exact q2591
  | n + 23, h => exact absurd h (by simp [jcl])
theorem ev_aastO {a n v : Nat} {i : Int32} (hd : decode M.2.1 pc = .ok (.aastore, 1)) (hk : K.1 a = 104) (ha : a < K.2.2) (hi : jix i n (K.2.1 a)) (hv : K.1 v < 23) (hin : v < K.2.2 ∨ 1000000 ≤ v) (kk : Ev g d M (pc + 1) L st K ci cj (ju cr a n (some v)) c sl Qr Qx) : Ev g d M pc L (.ref v :: .int i :: .ref a :: st) K ci cj cr c sl Qr Qx := by
  refine jaast_core (t := 4) hd hk (by decide) (by decide) ha hi (fun p R s m args meth c0 H C r => ?_) kk
  obtain ⟨cellV, C', T, N, hc, f1, f2, f3⟩ := jobj C r rfl hv hin
  obtain ⟨kA, comp, k1, k2, k3, -⟩ := ((jctx_K C).2 4 _ (jtys_get _ (by decide))).2
  obtain ⟨kE, hkE, -⟩ := Vm.findClass_spec k3
  obtain ⟨kC, hkC, -⟩ := Vm.findClass_spec f3
  exact ⟨kA, comp, kE, cellV, kC, _, k1, k2, rfl, hkE, f1, f2, hkC, vb_asgC (jnw C (jcastO _ _ _ _ hc)) _ _ k3 f3⟩
theorem ev_aastS {a n v : Nat} {i : Int32} (hd : decode M.2.1 pc = .ok (.aastore, 1)) (hk : K.1 a = 108) (ha : a < K.2.2) (hi : jix i n (K.2.1 a)) (hv : K.1 v = 5) (hin : v < K.2.2 ∨ 1000000 ≤ v) (kk : Ev g d M (pc + 1) L st K ci cj (ju cr a n (some v)) c sl Qr Qx) : Ev g d M pc L (.ref v :: .int i :: .ref a :: st) K ci cj cr c sl Qr Qx := by
  refine jaast_core (t := 8) hd hk (by decide) (by decide) ha hi (fun p R s m args meth c0 H C r => ?_) kk
  obtain ⟨cellV, C', T, N, hc, f1, f2, f3⟩ := jobj C r hv (by decide) hin
  obtain ⟨kA, comp, k1, k2, k3, -⟩ := ((jctx_K C).2 8 _ (jtys_get _ (by decide))).2
  obtain ⟨kE, hkE, -⟩ := Vm.findClass_spec k3
  obtain ⟨kC, hkC, -⟩ := Vm.findClass_spec f3
  have e9 : C' = "MarriageHerring$State" := by
    have h9 : jcl[5]? = some (RX5, TX5, 14) := rfl
    have h8 := Option.some.inj (hc.symm.trans h9)
    exact congrArg (fun q => q.1) h8
  subst e9
  exact ⟨kA, comp, kE, cellV, kC, _, k1, k2, rfl, hkE, f1, f2, hkC, vb_asgS _ _ k3 f3⟩
theorem ev_aastI {a n v : Nat} {i : Int32} (hd : decode M.2.1 pc = .ok (.aastore, 1)) (hk : K.1 a = 106) (ha : a < K.2.2) (hi : jix i n (K.2.1 a)) (hv : K.1 v = 100) (hin : v < K.2.2) (kk : Ev g d M (pc + 1) L st K ci cj (ju cr a n (some v)) c sl Qr Qx) : Ev g d M pc L (.ref v :: .int i :: .ref a :: st) K ci cj cr c sl Qr Qx := by
  refine jaast_core (t := 6) hd hk (by decide) (by decide) ha hi (fun p R s m args meth c0 H C r => ?_) kk
  obtain ⟨cell, g1, g2, g3, g4, g5, g6, g7⟩ := jarr C r (t := 0) hv (by decide) (Or.inl hin)
  have hcell := g7 hin
  subst hcell
  obtain ⟨k6, k7, z1, z2, -⟩ := C.1.2.2.2.2.2.2
  obtain ⟨k6', hk6, he⟩ := (jctx_W C).alike.2.2 _ _ z1
  have hn0 := ((jctx_K C).2 0 _ (jtys_get _ (by decide))).2
  obtain ⟨kE, hkE, -⟩ := Vm.findClass_spec hn0
  exact ⟨k6', _, kE, _, kE, .array .int, hk6, by rw [he]; exact z2, rfl, hkE, g1, rfl, hkE, va_asg _ _⟩
theorem ev_anewO {index n : Nat} {i : Int32} (hd : decode M.2.1 pc = .ok (.anewarray index, 3)) (hw : Cond.classLink M.1.cls index "java/lang/Object" ∈ lw_all) (hi : ¬ i < 0) (hin : i.toNatClampNeg = n) (hsz : n ≤ 65536) (hn : K.2.2 < 1000000) (kk : Ev g d M (pc + 3) L (.ref K.2.2 :: st) (va_up K.1 K.2.2 104, va_up K.2.1 K.2.2 n, K.2.2 + 1) ci cj cr c sl Qr Qx) : Ev g d M pc L (.int i :: st) K ci cj cr (c + 1) (sl + n) Qr Qx := by
  intro p e R s m args below meth c0 H locs cells slots Q ls C r S h1 h2 hls E
  have hover : va_AO "java/lang/Object" s := va_AO.moved (jctx_W C).alike (va_AO.of (C.1.1 _ q225))
  subst hin
  refine W.anew C.2.1 C.2.2.1 C.2.2.2.2.1 (jctx_w C hw) (va_AO.use hover) rfl hd rfl hi (by omega) (by omega) (by omega) fun cA kA comp f1 f2 f3 f4 => ?_
  have hcA : cA = g.2.2.2.2.2 4 := by
    obtain ⟨kA', comp', k1, k2, k3, k4⟩ := ((jctx_K C).2 4 _ (jtys_get _ (by decide))).2
    exact Option.some.inj (f1.symm.trans k4)
  subst hcA
  generalize hH1 : H.push ({ cls := g.2.2.2.2.2 4, slots := Array.replicate i.toNatClampNeg .null, vm := .none } : Cell) = H1
  have hsz1 := r.1
  have z1 : H1.size = jz g + K.2.2 + 1 := by rw [← hH1, Array.size_push, hsz1]
  have e1 : H1[jz g + K.2.2]? = some (arrV (g.2.2.2.2.2 4) i.toNatClampNeg (fun _ => .null)) := by rw [← hH1, ← hsz1, Array.getElem?_push_size, ← arrV_new]
  have o1 : ∀ q : Nat, q < jz g + K.2.2 → H1[q]? = H[q]? := fun q hq => by rw [← hH1, Array.getElem?_push, if_neg (by rw [hsz1]; exact Nat.ne_of_lt hq)]
  obtain ⟨r9, S9⟩ := jRel_new (kn := 104) (n := i.toNatClampNeg) r S hn z1 o1 (by
    rw [jE_arr (t := 4) (va_up_self _ _ _)]
    show H1[jz g + K.2.2]? = some (vp_cell _ _)
    rw [jav_cell, va_up_self, e1]
    congr 2
    funext k
    obtain ⟨f1, f2, f3⟩ := r.2.2.2.2.1 K.2.2 (Nat.le_refl _) hn k
    show _ = jfv g ci cj cr 2 K.2.2 k
    simp [jfv, f3, va_rf])
  have kk9 := kk p e R s m args below meth c0 H1 locs (cells + 1) (slots + i.toNatClampNeg) Q ls C r9 S9 (by omega) (by omega) hls E
  rw [show (F0 m (pc + 3) ls ((Value.ref K.2.2 :: st).map (jc g))) = F0 m (pc + 3) ls (.ref (jz g + K.2.2) :: st.map (jc g)) by simp [jc, jad_lt (Nat.lt_succ_self K.2.2) (by omega)]] at kk9
  rw [hsz1]
  exact kk9
theorem ev_anewS {index n : Nat} {i : Int32} (hd : decode M.2.1 pc = .ok (.anewarray index, 3)) (hw : Cond.classLink M.1.cls index "MarriageHerring$State" ∈ lw_all) (hi : ¬ i < 0) (hin : i.toNatClampNeg = n) (hsz : n ≤ 65536) (hn : K.2.2 < 1000000) (kk : Ev g d M (pc + 3) L (.ref K.2.2 :: st) (va_up K.1 K.2.2 108, va_up K.2.1 K.2.2 n, K.2.2 + 1) ci cj cr c sl Qr Qx) : Ev g d M pc L (.int i :: st) K ci cj cr (c + 1) (sl + n) Qr Qx := by
  intro p e R s m args below meth c0 H locs cells slots Q ls C r S h1 h2 hls E
  have hover : va_AO "MarriageHerring$State" s := va_AO.moved (jctx_W C).alike (va_AO.of (C.1.1 _ q463))
  subst hin
  refine W.anew C.2.1 C.2.2.1 C.2.2.2.2.1 (jctx_w C hw) (va_AO.use hover) rfl hd rfl hi (by omega) (by omega) (by omega) fun cA kA comp f1 f2 f3 f4 => ?_
  have hcA : cA = g.2.2.2.2.2 8 := by
    obtain ⟨kA', comp', k1, k2, k3, k4⟩ := ((jctx_K C).2 8 _ (jtys_get _ (by decide))).2
    exact Option.some.inj (f1.symm.trans k4)
  subst hcA
  generalize hH1 : H.push ({ cls := g.2.2.2.2.2 8, slots := Array.replicate i.toNatClampNeg .null, vm := .none } : Cell) = H1
  have hsz1 := r.1
  have z1 : H1.size = jz g + K.2.2 + 1 := by rw [← hH1, Array.size_push, hsz1]
  have e1 : H1[jz g + K.2.2]? = some (arrV (g.2.2.2.2.2 8) i.toNatClampNeg (fun _ => .null)) := by rw [← hH1, ← hsz1, Array.getElem?_push_size, ← arrV_new]
  have o1 : ∀ q : Nat, q < jz g + K.2.2 → H1[q]? = H[q]? := fun q hq => by rw [← hH1, Array.getElem?_push, if_neg (by rw [hsz1]; exact Nat.ne_of_lt hq)]
  obtain ⟨r9, S9⟩ := jRel_new (kn := 108) (n := i.toNatClampNeg) r S hn z1 o1 (by
    rw [jE_arr (t := 8) (va_up_self _ _ _)]
    show H1[jz g + K.2.2]? = some (vp_cell _ _)
    rw [jav_cell, va_up_self, e1]
    congr 2
    funext k
    obtain ⟨f1, f2, f3⟩ := r.2.2.2.2.1 K.2.2 (Nat.le_refl _) hn k
    show _ = jfv g ci cj cr 2 K.2.2 k
    simp [jfv, f3, va_rf])
  have kk9 := kk p e R s m args below meth c0 H1 locs (cells + 1) (slots + i.toNatClampNeg) Q ls C r9 S9 (by omega) (by omega) hls E
  rw [show (F0 m (pc + 3) ls ((Value.ref K.2.2 :: st).map (jc g))) = F0 m (pc + 3) ls (.ref (jz g + K.2.2) :: st.map (jc g)) by simp [jc, jad_lt (Nat.lt_succ_self K.2.2) (by omega)]] at kk9
  rw [hsz1]
  exact kk9
end
