/-! CALL ROWS -/
/-- the method M, with the Fault i thrown at pc -/
def EvX (g : jG) (d : Nat) (M : jM) (pc : Nat) (L : List Value) (i : Nat) (K : jK) (ci : jI) (cj : jJ) (cr : jR) (c sl : Nat) (Qr : jQ) (Qx : jX) : Prop :=
  ∀ (p : Program) (e : Env) (R : Room) (s : State) (m : MethodId) (args : Array Value) (below : List Frame) (meth : Method) (c0 : Code) (H : Heap) (locs : List Loc) (cells slots : Nat) (Q : State → Prop) (ls : Array Slot) (rest : List Value),
    jCtx g d M p R s m args meth c0 → jRel g K ci cj cr H → va_S (jA g) s.heap H locs → cells + c ≤ R.cells → slots + sl ≤ R.slots → lv_has ls M.2.2.1 (jas g L) → jEnd g M p e R s m args below meth c0 Q Qr Qx → i < K.2.2 → K.1 i = 3 →
    vx_W p g.1 e R s m args below meth c0 H locs cells slots Q (F0 m pc ls rest) (jad g i)
/-- what a call does, by the machine -/
def jDo (g : jG) (d : Nat) (M M' : jM) (pc len : Nat) (As stk st : List Value) (K : jK) (ci : jI) (cj : jJ) (cr : jR) : Prop :=
  ∀ (p : Program) (e : Env) (R : Room) (s : State) (m : MethodId) (args : Array Value) (below : List Frame) (meth : Method) (c0 : Code) (H : Heap) (locs : List Loc) (cells slots : Nat) (ls : Array Slot) (T : State),
    jCtx g d M p R s m args meth c0 → jRel g K ci cj cr H → T.heap = H → Stand p g.1 e R s m args below meth c0 T locs cells slots → ls.size = c0.maxLocals →
    ∀ (Pre : Pt → Array Value → Prop) (Post : Pt → Array Value → Option Value → Pt → Prop) (PostX : Pt → Array Value → Addr → Pt → Prop), vx_Back g.1 R p e below s args M'.1 len 8 Pre Post PostX → (∀ vm₁, s.WarmedH vm₁ → Pre ⟨T.setVm vm₁, locs, cells, slots⟩ (As.map (jc g)).toArray) →
    (∃ (v : Option Value) (vm₁ : Vm) (B : Pt), s.WarmedH vm₁ ∧ Stand p g.1 e R s m args below meth c0 B.U B.locs B.cells B.slots ∧ Post ⟨T.setVm vm₁, locs, cells, slots⟩ (As.map (jc g)).toArray v B ∧
      ∀ target, Steps p.tables e below (B.U.setTop (F0 m (pc + len) ls (v.toList ++ st.map (jc g)))) target → Steps p.tables e below (T.setTop (F0 m pc ls (stk.map (jc g)))) target) ∨
    (∃ (q : Addr) (vm₁ : Vm) (B : Pt), s.WarmedH vm₁ ∧ Stand p g.1 e R s m args below meth c0 B.U B.locs B.cells B.slots ∧ PostX ⟨T.setVm vm₁, locs, cells, slots⟩ (As.map (jc g)).toArray q B ∧
      Steps p.tables e below (T.setTop (F0 m pc ls (stk.map (jc g)))) ((B.U.setTop (F0 m pc ls (st.map (jc g)))).pushFrame (.throwing q)))
section
variable {g : jG} {d : Nat} {M M' : jM} {pc : Nat} {L st : List Value} {K : jK} {ci : jI} {cj : jJ} {cr : jR} {c sl : Nat} {Qr : jQ} {Qx : jX}
theorem jcall {len c1 s1 : Nat} {As stk : List Value} {Qx' : jX} (hM : jMok M') (hlen : (jent As).length ≤ M'.2.2.1) (hdo : jDo g (d + 1) M M' pc len As stk st K ci cj cr)
    (hcal : EvM g d M' As K ci cj cr c1 s1 (fun w K ci cj cr => Ev g (d + 1) M (pc + len) L (w.toList ++ st) K ci cj cr c sl Qr Qx) Qx')
    (hx : ∀ i K ci cj cr, Qx' i K ci cj cr → EvX g (d + 1) M pc L i K ci cj cr c sl Qr Qx) : Ev g (d + 1) M pc L stk K ci cj cr (c1 + c) (s1 + sl) Qr Qx := by
  intro p e R s m args below meth c0 H locs cells slots Q ls C r S h1 h2 hls E T hT X
  have hB : vx_Back g.1 R p e below s args M'.1 len 8 _ _ _ := jback (R := R) (p := p) (e := e) (below := below) (s := s) (sargs := args) (len := len) C.1 hM hlen hcal C.2.2.2.2.2.2.2.1 C.2.2.2.2.2.2.2.2.2.2.1 C.2.2.2.2.2.2.2.2.2.2.2.1
  rcases hdo p e R s m args below meth c0 H locs cells slots ls T C r hT X (hls.1.trans C.2.2.2.1.symm) _ _ _ hB (fun vm₁ hW => ⟨by show cells + c1 ≤ _; omega, by show slots + s1 ≤ _; omega, rfl, State.WarmedH.trans (jctx_W C) hW, by show jRel g K ci cj cr T.heap; rw [hT]; exact r⟩) with ⟨v, vm₁, B, hW, X', ⟨w, K9, i9, j9, r9, hv, hq, hrel, f1, f2, f3, f4, L9, f5, f6⟩, st9⟩ | ⟨q, vm₁, B, hW, X', ⟨i, K9, i9, j9, r9, hv, hq, hi, hk, hrel, f1, f2, f3, f4, L9, f5, f6⟩, st9⟩
  · have f1' : H.size ≤ B.U.heap.size := by rw [← hT]; exact f1
    have f2' : ∀ q : Nat, q < H.size → ¬ jA g q → B.U.heap[q]? = H[q]? := fun q a b => by rw [← hT] at a ⊢; exact f2 q a b
    have S9 : va_S (jA g) s.heap B.U.heap B.locs := by
      refine ⟨Nat.le_trans S.1 f1', fun q a b => by rw [f2' q (Nat.lt_of_lt_of_le a S.1) b]; exact S.2.1 q a b, fun q hq => ?_⟩
      rw [f5] at hq
      rcases List.mem_append.mp hq with z | z
      · exact S.2.2 q z
      · exact f6 q z
    have f3' : B.cells = cells + c1 := f3
    have f4' : B.slots = slots + s1 := f4
    have W9 := hq p e R s m args below meth c0 B.U.heap B.locs B.cells B.slots Q ls C hrel S9 (by omega) (by omega) hls E
    have e9 : v.toList ++ st.map (jc g) = (w.toList ++ st).map (jc g) := by rw [hv, List.map_append]; cases w <;> rfl
    rw [← e9] at W9
    obtain ⟨t2, a1, b1⟩ := W9 B.U rfl X'
    exact ⟨t2, st9 t2 a1, b1⟩
  · have f1' : H.size ≤ B.U.heap.size := by rw [← hT]; exact f1
    have f2' : ∀ q : Nat, q < H.size → ¬ jA g q → B.U.heap[q]? = H[q]? := fun q a b => by rw [← hT] at a ⊢; exact f2 q a b
    have S9 : va_S (jA g) s.heap B.U.heap B.locs := by
      refine ⟨Nat.le_trans S.1 f1', fun q a b => by rw [f2' q (Nat.lt_of_lt_of_le a S.1) b]; exact S.2.1 q a b, fun q hq => ?_⟩
      rw [f5] at hq
      rcases List.mem_append.mp hq with z | z
      · exact S.2.2 q z
      · exact f6 q z
    have f3' : B.cells = cells + c1 := f3
    have f4' : B.slots = slots + s1 := f4
    subst hv
    obtain ⟨t2, a1, b1⟩ := hx i K9 i9 j9 r9 hq p e R s m args below meth c0 B.U.heap B.locs B.cells B.slots Q ls (st.map (jc g)) C hrel S9 (by omega) (by omega) hls E hi hk B.U rfl X'
    exact ⟨t2, st9.trans a1, b1⟩
theorem evx_out {i : Nat} (hh : M.2.2.2.2 = []) (k : Qx i K ci cj cr) : EvX g d M pc L i K ci cj cr c sl Qr Qx := by
  intro p e R s m args below meth c0 H locs cells slots Q ls rest C r S h1 h2 hls E hi hk
  exact E.2 H locs cells slots K ci cj cr pc ls rest i r S (by omega) (by omega) hi hk (by rw [hh]; intro x hx; cases hx) k
theorem evx_catch {i sp ep hp ct : Nat} (hh : M.2.2.2.2 = [(sp, ep, hp, ct)]) (hcov : covers ⟨sp, ep, hp, ct⟩ pc = true) (h0 : ct ≠ 0) (hw : Cond.classLink M.1.cls ct "MarriageHerring$Fault" ∈ lw_all) (k : Ev g d M hp L [.ref i] K ci cj cr c sl Qr Qx) : EvX g d M pc L i K ci cj cr c sl Qr Qx := by
  intro p e R s m args below meth c0 H locs cells slots Q ls rest C r S h1 h2 hls E hi hk
  have hcast : (Cond.castable "MarriageHerring$Fault" "MarriageHerring$Fault").before args s = true := va_Nw.use rfl (va_Nw.warmC (jctx_W C) (va_Nw.of rfl (C.1.1 _ q288)))
  have h3 := r.2.2.1 i _ (jW_get _ _ hi)
  rw [jE_obj hk (by decide)] at h3
  obtain ⟨rr, hc, cell, g1, g2, g3, -⟩ := h3
  have hrr : rr = (RX3, TX3, 8) := Option.some.inj (hc.symm.trans rfl)
  subst hrr
  have hcl := ((jctx_K C).1 3 _ hc).2.1
  rw [jad_lt hi r.2.1]
  have W9 := k p e R s m args below meth c0 H locs cells slots Q ls C r S h1 h2 hls E
  have e9 : ([.ref i] : List Value).map (jc g) = [.ref (jz g + i)] := by simp [jc, jad_lt hi r.2.1]
  rw [e9] at W9
  exact vx_catch (own := M.1.cls) (name := "MarriageHerring$Fault") (E := "MarriageHerring$Fault") C.2.2.2.2.1 [] ⟨sp, ep, hp, ct⟩ [] (by rw [C.2.2.2.2.2.2.2.2.2.1, hh]; rfl) (fun z hz => by cases hz) hcov h0 (jctx_w C hw) hcast g1 g3 (by rw [g2]; exact hcl) W9
end
/-! sites -/
/-- how many a method takes -/
def jNA (desc : String) (n : Nat) : Prop := (parseMethodDescriptor desc).map (fun d => d.parameters.length) = some n
theorem jNA.use {desc : String} {n : Nat} (h : jNA desc n) : ∀ sig, parseMethodDescriptor desc = some sig → n = sig.parameters.length := by
  intro sig hs
  unfold jNA at h
  rw [hs] at h
  exact (Option.some.inj h).symm
/-- an object's own method, or a hidden one of a nest mate -/
def jV (own : String) (index c n : Nat) (M' : jM) : Prop := ∃ (C : String) (T : u_T) (N : Nat), jcl[c]? = some (C, T, N) ∧ (Cond.methodLink own index M'.1 ∈ lw_all ∨ ∃ host, Cond.methodLinkNest own index M'.1 host ∈ lw_tbl) ∧ Cond.instanceMethod M'.1 ∈ lw_all ∧ (Cond.selects C M'.1 M'.1 ∈ lw_all ∨ (Cond.privateMethod M'.1 ∈ lw_tbl ∧ ∃ x0 y0 : MethodName, Cond.selects C x0 y0 ∈ lw_all ∧ y0.cls = M'.1.cls)) ∧ jNA M'.1.desc n ∧ jMok M' ∧ M'.2.2.2.2 = []
/-- .. one with handlers -/
def jVW (own : String) (index c n : Nat) (M' : jM) : Prop := ∃ (C : String) (T : u_T) (N : Nat), jcl[c]? = some (C, T, N) ∧ Cond.methodLink own index M'.1 ∈ lw_all ∧ Cond.instanceMethod M'.1 ∈ lw_all ∧ Cond.selects C M'.1 M'.1 ∈ lw_all ∧ jNA M'.1.desc n ∧ jMok M' ∧ jcw M' = Cond.codeWith M'.1 M'.2.1 M'.2.2.1 M'.2.2.2.1 M'.2.2.2.2
/-- a method named by a sort above -/
def jUp (own : String) (index c n : Nat) (M' : jM) : Prop := ∃ (C : String) (T : u_T) (N : Nat) (x : MethodName) (owner : String), jcl[c]? = some (C, T, N) ∧ Cond.methodLink own index x ∈ lw_all ∧ Cond.sameMethod x.cls owner x.name x.desc ∈ lw_all ∧ (Cond.declares ⟨owner, x.name, x.desc⟩ ∈ lw_tbl ∨ ∃ (b : ByteArray) (ml : Nat) (ret : Option FieldType), Cond.instanceMethod ⟨owner, x.name, x.desc⟩ ∈ lw_all ∧ Cond.code ⟨owner, x.name, x.desc⟩ b ml ret ∈ lw_all) ∧
  (owner ≠ "java/lang/invoke/MethodHandle" ∧ owner ≠ "java/lang/invoke/VarHandle") ∧ Cond.selects C x M'.1 ∈ lw_all ∧ Cond.instanceMethod M'.1 ∈ lw_all ∧ jNA x.desc n ∧ jMok M' ∧ M'.2.2.2.2 = []
/-- a static method -/
def jS (own : String) (index n : Nat) (M' : jM) : Prop := (Cond.methodLink own index M'.1 ∈ lw_all ∨ ∃ host, Cond.methodLinkNest own index M'.1 host ∈ lw_tbl) ∧ Cond.static M'.1 ∈ lw_all ∧ jNA M'.1.desc n ∧ jMok M' ∧ M'.2.2.2.2 = []
/-- a constructor -/
def jI1 (own : String) (index n : Nat) (M' : jM) : Prop := (Cond.methodLink own index M'.1 ∈ lw_all ∨ ∃ host, Cond.methodLinkNest own index M'.1 host ∈ lw_tbl) ∧ Cond.instanceMethod M'.1 ∈ lw_all ∧ M'.1.name = "<init>" ∧ M'.2.2.2.1 = none ∧ jNA M'.1.desc n ∧ jMok M' ∧ M'.2.2.2.2 = []
/-- super.m(..) -/
def jSu (own : String) (index c n : Nat) (M' : jM) : Prop := ∃ (C : String) (T : u_T) (N : Nat), jcl[c]? = some (C, T, N) ∧ Cond.methodLink own index M'.1 ∈ lw_all ∧ Cond.sameMethod M'.1.cls M'.1.cls M'.1.name M'.1.desc ∈ lw_all ∧ Cond.superclass own M'.1.cls ∈ lw_all ∧ Cond.instanceMethod M'.1 ∈ lw_all ∧ M'.1.name ≠ "<init>" ∧ jNA M'.1.desc n ∧ jMok M' ∧ M'.2.2.2.2 = []
/-- through an interface -/
def jFc (own : String) (index c n : Nat) (M' : jM) : Prop := ∃ (C : String) (T : u_T) (N : Nat) (x : MethodName), jcl[c]? = some (C, T, N) ∧ Cond.methodLink own index x ∈ lw_all ∧ Cond.declares x ∈ lw_tbl ∧ Cond.interfaceMethod x.cls x.cls x.name x.desc ∈ lw_tbl ∧ Cond.publicMethod M'.1 ∈ lw_tbl ∧ Cond.unhidden C x.name x.desc ∈ lw_tbl ∧ Cond.castable C x.cls ∈ lw_tbl ∧
  Cond.selects C x M'.1 ∈ lw_all ∧ Cond.instanceMethod M'.1 ∈ lw_all ∧ (x.cls ≠ "java/lang/invoke/MethodHandle" ∧ x.cls ≠ "java/lang/invoke/VarHandle") ∧ jNA x.desc n ∧ jMok M' ∧ M'.2.2.2.2 = []
section
variable {p : Program} {e : Env} {R : Room} {s : State} {m : MethodId} {args : Array Value} {below : List Frame} {meth : Method} {c0 : Code} {H : Heap}
variable {g : jG} {d : Nat} {M M' : jM} {pc : Nat} {K : jK} {ci : jI} {cj : jJ} {cr : jR}
theorem jctx_nM (C : jCtx g d M p R s m args meth c0) {a : String} {i : Nat} {x : MethodName} {h : String} (hw : Cond.methodLinkNest a i x h ∈ lw_tbl) : (Cond.methodLinkNest a i x h).before args s = true :=
  va_Nw.use rfl (va_Nw.warmM (jctx_W C) (va_Nw.of rfl (C.1.1 _ hw)))
theorem jcode (C : jCtx g d M p R s m args meth c0) (h : jMok M') (hh : M'.2.2.2.2 = []) : (Cond.code M'.1 M'.2.1 M'.2.2.1 M'.2.2.2.1).before args s = true := by
  have h1 := jctx_w C h.1
  unfold jcw at h1
  rw [hh] at h1
  exact h1
theorem jrecv (C : jCtx g d M p R s m args meth c0) (r : jRel g K ci cj cr H) {b cN : Nat} {C' : String} {T : u_T} {N : Nat} (hk : K.1 b = cN) (hc : jcl[cN]? = some (C', T, N)) (hin : b < K.2.2 ∨ 1000000 ≤ b) : ∃ cell : Cell, H[jad g b]? = some cell ∧ cell.vm.isStatics = false ∧ s.vm.findClass C' = some cell.cls ∧ ∃ kB, s.vm.classes[cell.cls]? = some kB := by
  obtain ⟨hc100, -⟩ := jcls _ _ _ _ hc
  obtain ⟨r1, r2, r3, r4, r5, r6⟩ := r
  have fin : ∀ cell : Cell, s.vm.findClass C' = some cell.cls → ∃ kB, s.vm.classes[cell.cls]? = some kB := fun cell h => by
    obtain ⟨k9, h9, -⟩ := Vm.findClass_spec h
    exact ⟨k9, h9⟩
  by_cases hb : b < K.2.2
  · have h3 := r3 b _ (jW_get _ _ hb)
    rw [jE_obj hk hc100] at h3
    obtain ⟨rr, h1, cell, q1, q2, q3, -⟩ := h3
    have hr : rr = (C', T, N) := Option.some.inj (h1.symm.trans hc)
    subst hr
    have hf : s.vm.findClass C' = some cell.cls := by rw [q2]; exact ((jctx_K C).1 cN _ hc).2.1
    exact ⟨cell, by rw [jad_lt hb r2]; exact q1, by rw [q3]; rfl, hf, fin cell hf⟩
  · have hbb : 1000000 ≤ b := by omega
    obtain ⟨q1, q2, -⟩ := r6 b hbb
    have h21 : cN = 21 := Classical.byContradiction fun z => q2 (by rw [hk]; exact z) (by rw [hk]; exact hc100)
    subst h21
    cases hc
    obtain ⟨qo, -⟩ := q1 hk
    obtain ⟨cell, g1, g2, g3, g4⟩ := va_O.kept (H1 := H) (va_O.moved (jctx_W C).alike qo) (fun q _ hq => r4 q (by omega))
    exact ⟨cell, g1, g2, g3, fin cell g3⟩
end
theorem jsel_priv {s : State} {args : Array Value} {C : String} {y x0 y0 : MethodName} (hy : y.cls ≠ "java/lang/invoke/MethodHandle" ∧ y.cls ≠ "java/lang/invoke/VarHandle") (hpriv : (Cond.privateMethod y).before args s = true) (hinst : (Cond.instanceMethod y).before args s = true) (h0 : (Cond.selects C x0 y0).before args s = true) (hcls : y0.cls = y.cls) : (Cond.selects C y y).before args s = true := by
  obtain ⟨c, r, m, hc, -, hn, -, k, hk, hni⟩ := Cond.selects_spec h0
  obtain ⟨mk, methM, hnamed, hmethM, -, -⟩ := Cond.instanceMethod_spec hinst
  have hfound : s.methodFound? y.cls y.name y.desc = some mk := State.methodFound?_of_named hnamed hy
  have e1 : mk.cls = m.cls := Option.some.inj ((findClass_of_methodNamed hnamed).symm.trans (by rw [← hcls]; exact findClass_of_methodNamed hn))
  have hsel : selectMethod {} s.vm c mk = .method mk := selectMethod_private hmethM (Cond.privateMethod_at hpriv mk methM hnamed hmethM)
  simp only [Cond.before, Cond.holds, Cond.value, hc, hfound, hnamed, hsel, e1, hk]
  simp; exact hni
theorem jsel {p : Program} {R : Room} {s : State} {m : MethodId} {args : Array Value} {meth : Method} {c0 : Code} {g : jG} {d : Nat} {M M' : jM} {C' : String} (C : jCtx g d M p R s m args meth c0) (hM : jMok M') (hi : Cond.instanceMethod M'.1 ∈ lw_all) (h : Cond.selects C' M'.1 M'.1 ∈ lw_all ∨ (Cond.privateMethod M'.1 ∈ lw_tbl ∧ ∃ x0 y0 : MethodName, Cond.selects C' x0 y0 ∈ lw_all ∧ y0.cls = M'.1.cls)) : (Cond.selects C' M'.1 M'.1).before args s = true := by
  rcases h with h | ⟨h1, x0, y0, h2, h3⟩
  · exact jctx_w C h
  · exact word_at (jctx_W C) (Or.inl rfl) (jsel_priv ⟨hM.2.2.2.2.1, hM.2.2.2.2.2⟩ (C.1.1 _ h1) (C.1.1 _ (lw_all_tbl hi)) (C.1.1 _ (lw_all_tbl h2)) h3)
section
variable {g : jG} {d : Nat} {M M' : jM} {pc : Nat} {L st : List Value} {K : jK} {ci : jI} {cj : jJ} {cr : jR} {c sl : Nat} {Qr : jQ} {Qx : jX}
theorem jmon {m : MethodId} {ls : Array Slot} {stk st : List Value} (h : (st.map fun v => v.category).sum ≤ 8) : 2 * (F0 m pc ls stk).monitorRoom + ((st.map (jc g)).map fun v => v.category).sum ≤ 8 := by
  have e : (st.map (jc g)).map (fun v => v.category) = st.map (fun v => v.category) := by rw [List.map_map]; exact List.map_congr_left (fun v _ => jc_cat g v)
  rw [e]
  exact lv_room h
theorem jrev (g : jG) (As st : List Value) (b : Nat) : (As.reverse ++ .ref b :: st).map (jc g) = (As.map (jc g)).reverse ++ .ref (jad g b) :: st.map (jc g) := by simp [jc]
theorem jdo_V {index b cN n : Nat} {As : List Value} (hd : decode M.2.1 pc = .ok (.invokevirtual index, 3)) (hs : jV M.1.cls index cN n M') (hk : K.1 b = cN) (hin : b < K.2.2 ∨ 1000000 ≤ b) (hn : As.length = n) (hst : (st.map fun v => v.category).sum ≤ 8) : jDo g d M M' pc 3 (.ref b :: As) (As.reverse ++ .ref b :: st) st K ci cj cr := by
  intro p e R s m args below meth c0 H locs cells slots ls T C r hT X hsz Pre Post PostX hB hpre
  obtain ⟨C', T', N, hc, hl, hi, hse, hna, hM, hh⟩ := hs
  obtain ⟨cell, g1, g2, g3, -⟩ := jrecv C r hk hc hin
  rcases hl with hl | ⟨host, hl⟩
  · exact vx_callV X C.2.1 (C := C') C.2.2.2.2.1 (jctx_w C hl) (jctx_w C hi) (jsel C hM hi hse) (jcode C hM hh) ⟨hM.2.2.2.2.1, hM.2.2.2.2.2⟩ hB (by rw [hT]; exact g1) g2 g3 (g := F0 m pc ls ((As.reverse ++ .ref b :: st).map (jc g))) rfl hsz (argsL := As.map (jc g)) (rest := st.map (jc g)) (fun sig h => by rw [List.length_map, hn]; exact hna.use sig h) (jrev g As st b) (jmon hst) (by rw [C.2.2.1]; exact hd) hpre
  · exact vx_callVN X C.2.1 (C := C') C.2.2.2.2.1 (jctx_nM C hl) (jctx_w C hi) (jsel C hM hi hse) (jcode C hM hh) ⟨hM.2.2.2.2.1, hM.2.2.2.2.2⟩ hB (by rw [hT]; exact g1) g2 g3 (g := F0 m pc ls ((As.reverse ++ .ref b :: st).map (jc g))) rfl hsz (argsL := As.map (jc g)) (rest := st.map (jc g)) (fun sig h => by rw [List.length_map, hn]; exact hna.use sig h) (jrev g As st b) (jmon hst) (by rw [C.2.2.1]; exact hd) hpre
theorem jdo_VW {index b cN n : Nat} {As : List Value} (hd : decode M.2.1 pc = .ok (.invokevirtual index, 3)) (hs : jVW M.1.cls index cN n M') (hk : K.1 b = cN) (hin : b < K.2.2 ∨ 1000000 ≤ b) (hn : As.length = n) (hst : (st.map fun v => v.category).sum ≤ 8) : jDo g d M M' pc 3 (.ref b :: As) (As.reverse ++ .ref b :: st) st K ci cj cr := by
  intro p e R s m args below meth c0 H locs cells slots ls T C r hT X hsz Pre Post PostX hB hpre
  obtain ⟨C', T', N, hc, hl, hi, hse, hna, hM, hh⟩ := hs
  obtain ⟨cell, g1, g2, g3, -⟩ := jrecv C r hk hc hin
  exact vx_callVX X C.2.1 (C := C') C.2.2.2.2.1 (jctx_w C hl) (jctx_w C hi) (jctx_w C hse) (by rw [← hh]; exact jctx_w C hM.1) ⟨hM.2.2.2.2.1, hM.2.2.2.2.2⟩ hB (by rw [hT]; exact g1) g2 g3 (g := F0 m pc ls ((As.reverse ++ .ref b :: st).map (jc g))) rfl hsz (argsL := As.map (jc g)) (rest := st.map (jc g)) (fun sig h => by rw [List.length_map, hn]; exact hna.use sig h) (jrev g As st b) (jmon hst) (by rw [C.2.2.1]; exact hd) hpre
theorem jdo_U {index b cN n : Nat} {As : List Value} (hd : decode M.2.1 pc = .ok (.invokevirtual index, 3)) (hs : jUp M.1.cls index cN n M') (hk : K.1 b = cN) (hin : b < K.2.2 ∨ 1000000 ≤ b) (hn : As.length = n) (hst : (st.map fun v => v.category).sum ≤ 8) : jDo g d M M' pc 3 (.ref b :: As) (As.reverse ++ .ref b :: st) st K ci cj cr := by
  intro p e R s m args below meth c0 H locs cells slots ls T C r hT X hsz Pre Post PostX hB hpre
  obtain ⟨C', T', N, x, owner, hc, hl, hsm, hdl, hno, hse, hi, hna, hM, hh⟩ := hs
  obtain ⟨cell, g1, g2, g3, -⟩ := jrecv C r hk hc hin
  have hdecl : va_Decl s ⟨owner, x.name, x.desc⟩ := by
    rcases hdl with z | ⟨b, ml, ret, z1, z2⟩
    · exact va_Decl.abs (va_Nw.warmD (jctx_W C) (va_Nw.of rfl (C.1.1 _ z)))
    · exact va_Decl.of (jctx_w C z1) (jctx_w C z2)
  exact vx_callVU X C.2.1 (C := C') C.2.2.2.2.1 (jctx_w C hl) (jctx_w C hsm) hdecl hno (jctx_w C hse) (jctx_w C hi) (jcode C hM hh) hB (by rw [hT]; exact g1) g2 g3 (g := F0 m pc ls ((As.reverse ++ .ref b :: st).map (jc g))) rfl hsz (argsL := As.map (jc g)) (rest := st.map (jc g)) (fun sig h => by rw [List.length_map, hn]; exact hna.use sig h) (jrev g As st b) (jmon hst) (by rw [C.2.2.1]; exact hd) hpre
theorem jdo_S {index n : Nat} {As : List Value} (hd : decode M.2.1 pc = .ok (.invokestatic index, 3)) (hs : jS M.1.cls index n M') (hn : As.length = n) (hst : (st.map fun v => v.category).sum ≤ 8) : jDo g d M M' pc 3 As (As.reverse ++ st) st K ci cj cr := by
  intro p e R s m args below meth c0 H locs cells slots ls T C r hT X hsz Pre Post PostX hB hpre
  obtain ⟨hl, hst', hna, hM, hh⟩ := hs
  have e9 : (As.reverse ++ st).map (jc g) = (As.map (jc g)).reverse ++ st.map (jc g) := by simp
  rcases hl with hl | ⟨host, hl⟩
  · exact vx_callS X C.2.1 C.2.2.2.2.1 (jctx_w C hl) (jctx_w C hst') (jctx_w C hM.2.2.1) (jcode C hM hh) ⟨hM.2.2.2.2.1, hM.2.2.2.2.2⟩ hB (g := F0 m pc ls ((As.reverse ++ st).map (jc g))) rfl hsz (argsL := As.map (jc g)) (rest := st.map (jc g)) (fun sig h => by rw [List.length_map, hn]; exact hna.use sig h) e9 (jmon hst) (by rw [C.2.2.1]; exact hd) hpre
  · exact vx_callSN X C.2.1 C.2.2.2.2.1 (jctx_nM C hl) (jctx_w C hst') (jctx_w C hM.2.2.1) (jcode C hM hh) ⟨hM.2.2.2.2.1, hM.2.2.2.2.2⟩ hB (g := F0 m pc ls ((As.reverse ++ st).map (jc g))) rfl hsz (argsL := As.map (jc g)) (rest := st.map (jc g)) (fun sig h => by rw [List.length_map, hn]; exact hna.use sig h) e9 (jmon hst) (by rw [C.2.2.1]; exact hd) hpre
theorem jdo_I {index b n : Nat} {As : List Value} (hd : decode M.2.1 pc = .ok (.invokespecial index, 3)) (hs : jI1 M.1.cls index n M') (hn : As.length = n) (hst : (st.map fun v => v.category).sum ≤ 8) : jDo g d M M' pc 3 (.ref b :: As) (As.reverse ++ .ref b :: st) st K ci cj cr := by
  intro p e R s m args below meth c0 H locs cells slots ls T C r hT X hsz Pre Post PostX hB hpre
  obtain ⟨hl, hi, hnm, hrt, hna, hM, hh⟩ := hs
  have hcd := jcode C hM hh
  rw [hrt] at hcd
  rcases hl with hl | ⟨host, hl⟩
  · exact vx_callI X C.2.1 C.2.2.2.2.1 hnm (jctx_w C hl) (jctx_w C hi) hcd ⟨hM.2.2.2.2.1, hM.2.2.2.2.2⟩ hB (g := F0 m pc ls ((As.reverse ++ .ref b :: st).map (jc g))) rfl hsz (a := jad g b) (argsL := As.map (jc g)) (rest := st.map (jc g)) (fun sig h => by rw [List.length_map, hn]; exact hna.use sig h) (jrev g As st b) (jmon hst) (by rw [C.2.2.1]; exact hd) hpre
  · exact vx_callIN X C.2.1 C.2.2.2.2.1 hnm (jctx_nM C hl) (jctx_w C hi) hcd ⟨hM.2.2.2.2.1, hM.2.2.2.2.2⟩ hB (g := F0 m pc ls ((As.reverse ++ .ref b :: st).map (jc g))) rfl hsz (a := jad g b) (argsL := As.map (jc g)) (rest := st.map (jc g)) (fun sig h => by rw [List.length_map, hn]; exact hna.use sig h) (jrev g As st b) (jmon hst) (by rw [C.2.2.1]; exact hd) hpre
theorem jdo_F {index b cN n count : Nat} {As : List Value} (hd : decode M.2.1 pc = .ok (.invokeinterface index count, 5)) (hs : jFc M.1.cls index cN n M') (hk : K.1 b = cN) (hin : b < K.2.2 ∨ 1000000 ≤ b) (hn : As.length = n) (hst : (st.map fun v => v.category).sum ≤ 8) : jDo g d M M' pc 5 (.ref b :: As) (As.reverse ++ .ref b :: st) st K ci cj cr := by
  intro p e R s m args below meth c0 H locs cells slots ls T C r hT X hsz Pre Post PostX hB hpre
  obtain ⟨C', T', N, x, hc, hl, w1, w2, w3, w4, w5, hse, hi, hno, hna, hM, hh⟩ := hs
  obtain ⟨cell, g1, g2, g3, kB, g4⟩ := jrecv C r hk hc hin
  have hF : va_Fw C' x M'.1 s := va_Fw.moved hno (jctx_W C).alike (va_Fw.of (C.1.1 _ w1) (C.1.1 _ w2) (C.1.1 _ w3) (C.1.1 _ w4) (C.1.1 _ w5))
  obtain ⟨z1, z2, z3, z4, z5⟩ := hF
  exact vx_callIF X C.2.1 (C := C') C.2.2.2.2.1 (jctx_w C hl) (va_any rfl z1) (va_any rfl z2) (jctx_w C hse) (jctx_w C hi) (va_any rfl z3) (va_any rfl z4) (va_any rfl z5) (jcode C hM hh) hno hB (by rw [hT]; exact g1) g2 g3 g4 (g := F0 m pc ls ((As.reverse ++ .ref b :: st).map (jc g))) rfl hsz (argsL := As.map (jc g)) (rest := st.map (jc g)) (fun sig h => by rw [List.length_map, hn]; exact hna.use sig h) (jrev g As st b) (jmon hst) (by rw [C.2.2.1]; exact hd) hpre
theorem jdo_Su {index b cN n : Nat} {As : List Value} (hd : decode M.2.1 pc = .ok (.invokespecial index, 3)) (hs : jSu M.1.cls index cN n M') (hk : K.1 b = cN) (hin : b < K.2.2 ∨ 1000000 ≤ b) (hn : As.length = n) (hst : (st.map fun v => v.category).sum ≤ 8) : jDo g d M M' pc 3 (.ref b :: As) (As.reverse ++ .ref b :: st) st K ci cj cr := by
  intro p e R s m args below meth c0 H locs cells slots ls T C r hT X hsz Pre Post PostX hB hpre
  obtain ⟨C', T', N, hc, hl, hsm, hsu, hi, hno, hna, hM, hh⟩ := hs
  obtain ⟨cell, g1, g2, g3, kB, g4⟩ := jrecv C r hk hc hin
  exact vx_callSU X C.2.1 C.2.2.2.2.1 (jctx_w C hl) (jctx_w C hsm) (jctx_w C hsu) (jctx_w C hi) (jcode C hM hh) hno hB (by rw [hT]; exact g1) g2 g4 (g := F0 m pc ls ((As.reverse ++ .ref b :: st).map (jc g))) rfl hsz (argsL := As.map (jc g)) (rest := st.map (jc g)) (fun sig h => by rw [List.length_map, hn]; exact hna.use sig h) (jrev g As st b) (jmon hst) (by rw [C.2.2.1]; exact hd) hpre
end
