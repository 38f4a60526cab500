/-! THE JUDGEMENT: Ev, the machine at a place of a method, seen by the pure state -/
/-- constants of the start: ids from 1000000 on; strings: 1000100 + 2k the object, 1000101 + 2k its bytes; static rows below -/
def jCon (g : jG) (kd ln : Nat → Nat) (ci : jI) (cr : jR) : Prop :=
  ∀ i, 1000000 ≤ i →
    (kd i = 21 → va_O "java/lang/String" (jad g i) (fun q => jz g ≤ q) g.2.1 g.2.1.heap ∧
      ∀ k, k < 4 → va_OF (TJ6 k).1 (TJ6 k).2.1 (TJ6 k).2.2.1 (jfv g ci (fun _ _ => 0) cr (jtag (tyJ6 k)) i k) (jad g i) (fun q => jz g ≤ q) g.2.1 g.2.1.heap) ∧
    (kd i ≠ 21 → kd i < 100 → False) ∧
    (∀ t, kd i = 100 + t → t < 9 → va_T (jaty t) (jad g i) (ln i) (fun j => jfv g ci (fun _ _ => 0) cr (jtag (jaty t)) i j) (fun q => jz g ≤ q) g.2.1 g.2.1.heap ∧ ln i < 2147483648) ∧ ¬ kd i = 103
/-- what is known of the start -/
def jOK (g : jG) : Prop :=
  (∀ w ∈ lw_tbl, w.before #[Value.ref g.2.2.1] g.2.1 = true) ∧ va_K g.2.2.2.2.1 jcl (jtys g.2.2.2.2.2) g.2.1 ∧ jSta g
/-- the pure state is the heap's -/
def jRel (g : jG) (K : jK) (ci : jI) (cj : jJ) (cr : jR) (H : Heap) : Prop :=
  H.size = jz g + K.2.2 ∧ K.2.2 ≤ 1000000 ∧ va_P g.2.2.2.2.1 jcl (jW (jz g) (jE g K.1 K.2.1 ci cj cr) K.2.2) H ∧ (∀ q : Nat, q < jz g → H[q]? = g.2.1.heap[q]?) ∧
  (∀ i, K.2.2 ≤ i → i < 1000000 → ∀ k, ci i k = 0 ∧ cj i k = 0 ∧ cr i k = none) ∧ jCon g K.1 K.2.1 ci cr
/-- a method's context -/
def jCtx (g : jG) (d : Nat) (M : jM) (p : Program) (R : Room) (s : State) (m : MethodId) (args : Array Value) (meth : Method) (c0 : Code) : Prop :=
  jOK g ∧ p.tables.exec = Jvm.exec ∧ c0.code = M.2.1 ∧ c0.maxLocals = M.2.2.1 ∧ s.vm.findClass M.1.cls = some m.cls ∧ meth.sig.returnType = M.2.2.2.1 ∧ meth.locks = false ∧
  (∀ w ∈ lw_all, w.before args s = true) ∧ meth.name = M.1.name ∧ c0.exceptionTable.toList = tableOf M.2.2.2.2 ∧ d ≤ R.frames ∧ 60 * d ≤ R.locals ∧ g.2.1.WarmedH s.vm ∧ jz g ≤ s.heap.size
abbrev jQ : Type := Option Value → jK → jI → jJ → jR → Prop
abbrev jX : Type := Nat → jK → jI → jJ → jR → Prop
abbrev jA (g : jG) : Nat → Prop := fun q => jz g ≤ q
/-- how the method's end is met: what it returns, what it throws -/
def jEnd (g : jG) (M : jM) (p : Program) (e : Env) (R : Room) (s : State) (m : MethodId) (args : Array Value) (below : List Frame) (meth : Method) (c0 : Code) (Q : State → Prop) (Qr : jQ) (Qx : jX) : Prop :=
  (∀ (H : Heap) (locs : List Loc) (cells slots : Nat) (K : jK) (ci : jI) (cj : jJ) (cr : jR) (pc : Nat) (ls : Array Slot), jRel g K ci cj cr H → va_S (jA g) s.heap H locs → cells ≤ R.cells → slots ≤ R.slots →
    (∀ (x : Int32) (ty : FieldType), M.2.2.2.1 = some ty → narrow ty (.int x) = .int x → decode M.2.1 pc = .ok (.ireturn, 1) → Qr (some (.int x)) K ci cj cr → W p g.1 e R s m args below meth c0 H locs cells slots Q (F0 m pc ls [.int x])) ∧
    (∀ (x : Int64), M.2.2.2.1 = some .long → decode M.2.1 pc = .ok (.lreturn, 1) → Qr (some (.long x)) K ci cj cr → W p g.1 e R s m args below meth c0 H locs cells slots Q (F0 m pc ls [.long x])) ∧
    (∀ (x : Option Nat) (ty : FieldType), M.2.2.2.1 = some ty → jtag ty = 2 → decode M.2.1 pc = .ok (.areturn, 1) → Qr (some (va_rf x)) K ci cj cr → W p g.1 e R s m args below meth c0 H locs cells slots Q (F0 m pc ls [jc g (va_rf x)])) ∧
    (M.2.2.2.1 = none → decode M.2.1 pc = .ok (.return_, 1) → Qr none K ci cj cr → W p g.1 e R s m args below meth c0 H locs cells slots Q (F0 m pc ls []))) ∧
  (∀ (H : Heap) (locs : List Loc) (cells slots : Nat) (K : jK) (ci : jI) (cj : jJ) (cr : jR) (pc : Nat) (ls : Array Slot) (rest : List Value) (i : Nat), jRel g K ci cj cr H → va_S (jA g) s.heap H locs → cells ≤ R.cells → slots ≤ R.slots →
    i < K.2.2 → K.1 i = 3 → (∀ x ∈ tableOf M.2.2.2.2, covers x pc = false) → Qx i K ci cj cr → vx_W p g.1 e R s m args below meth c0 H locs cells slots Q (F0 m pc ls rest) (jad g i))
/-- the method M stands at pc with locals L and stack st; it may make c cells of sl slots; then Qr of what it returns, or Qx of what it throws -/
def Ev (g : jG) (d : Nat) (M : jM) (pc : Nat) (L st : List Value) (K : jK) (ci : jI) (cj : jJ) (cr : jR) (c sl : Nat) (Qr : jQ) (Qx : jX) : Prop :=
  ∀ (p : Program) (e : Env) (R : Room) (s : State) (m : MethodId) (args : Array Value) (below : List Frame) (meth : Method) (c0 : Code) (H : Heap) (locs : List Loc) (cells slots : Nat) (Q : State → Prop) (ls : Array Slot),
    jCtx g d M p R s m args meth c0 → jRel g K ci cj cr H → va_S (jA g) s.heap H locs → cells + c ≤ R.cells → slots + sl ≤ R.slots → lv_has ls M.2.2.1 (jas g L) → jEnd g M p e R s m args below meth c0 Q Qr Qx →
    W p g.1 e R s m args below meth c0 H locs cells slots Q (F0 m pc ls (st.map (jc g)))
section
variable {g : jG} {d : Nat} {M : jM} {pc : Nat} {L st : List Value} {K : jK} {ci : jI} {cj : jJ} {cr : jR} {c sl : Nat} {Qr : jQ} {Qx : jX}
/-- fewer locals, less room, other ends -/
theorem ev_le {L' : List Value} {c' sl' : Nat} {Qr' : jQ} {Qx' : jX} (h : Ev g d M pc L' st K ci cj cr c' sl' Qr' Qx') (hl : ∀ (i : Nat) (v : Value), L'[i]? = some v → v ≠ jU → L[i]? = some v) (hc : c' ≤ c) (hs : sl' ≤ sl)
    (hr : ∀ v K ci cj cr, Qr' v K ci cj cr → Qr v K ci cj cr) (hx : ∀ v K ci cj cr, Qx' v K ci cj cr → Qx v K ci cj cr) : Ev g d M pc L st K ci cj cr c sl Qr Qx := by
  intro p e R s m args below meth c0 H locs cells slots Q ls C r S h1 h2 hls E
  refine h p e R s m args below meth c0 H locs cells slots Q ls C r S (by omega) (by omega) (jas_le hls hl) ⟨fun H locs cells slots K ci cj cr pc ls r S h1 h2 => ?_, fun H locs cells slots K ci cj cr pc ls rest i r S h1 h2 h3 h4 h5 h6 => E.2 H locs cells slots K ci cj cr pc ls rest i r S h1 h2 h3 h4 h5 (hx _ _ _ _ _ h6)⟩
  obtain ⟨e1, e2, e3, e4⟩ := E.1 H locs cells slots K ci cj cr pc ls r S h1 h2
  exact ⟨fun x ty a b k q => e1 x ty a b k (hr _ _ _ _ _ q), fun x a b q => e2 x a b (hr _ _ _ _ _ q), fun x ty a b k q => e3 x ty a b k (hr _ _ _ _ _ q), fun a b q => e4 a b (hr _ _ _ _ _ q)⟩
theorem ev_L {L' : List Value} (hl : jle L' L = true) (h : Ev g d M pc L' st K ci cj cr c sl Qr Qx) : Ev g d M pc L st K ci cj cr c sl Qr Qx :=
  ev_le h (jle_at L' L hl) (Nat.le_refl _) (Nat.le_refl _) (fun _ _ _ _ _ q => q) (fun _ _ _ _ _ q => q)
theorem ev_c {c' sl' : Nat} (hc : c' ≤ c) (hs : sl' ≤ sl) (h : Ev g d M pc L st K ci cj cr c' sl' Qr Qx) : Ev g d M pc L st K ci cj cr c sl Qr Qx :=
  ev_le h (fun _ _ h _ => h) hc hs (fun _ _ _ _ _ q => q) (fun _ _ _ _ _ q => q)
theorem ev_Q {Qr' : jQ} {Qx' : jX} (h : Ev g d M pc L st K ci cj cr c sl Qr' Qx') (hr : ∀ v K ci cj cr, Qr' v K ci cj cr → Qr v K ci cj cr) (hx : ∀ v K ci cj cr, Qx' v K ci cj cr → Qx v K ci cj cr) : Ev g d M pc L st K ci cj cr c sl Qr Qx :=
  ev_le h (fun _ _ h _ => h) (Nat.le_refl _) (Nat.le_refl _) hr hx
theorem ev_d {d' : Nat} (hd : d' ≤ d) (h : Ev g d' M pc L st K ci cj cr c sl Qr Qx) : Ev g d M pc L st K ci cj cr c sl Qr Qx := by
  intro p e R s m args below meth c0 H locs cells slots Q ls C r S h1 h2 hls E
  obtain ⟨C1, C2, C3, C4, C5, C6, C7, C8, C9, C10, C11, C12, C13⟩ := C
  exact h p e R s m args below meth c0 H locs cells slots Q ls ⟨C1, C2, C3, C4, C5, C6, C7, C8, C9, C10, by omega, by omega, C13⟩ r S h1 h2 hls E
/-! pure rows: one an instruction -/
theorem ev_iconst {n : Int} {v : Int32} (hd : decode M.2.1 pc = .ok (.iconst n, 1)) (hv : Int32.ofInt n = v) (k : Ev g d M (pc + 1) L (.int v :: st) K ci cj cr c sl Qr Qx) : Ev g d M pc L st K ci cj cr c sl Qr Qx := by
  intro p e R s m args below meth c0 H locs cells slots Q ls C r S h1 h2 hls E
  exact lv_iconst C.2.1 C.2.2.1 hd hv (k p e R s m args below meth c0 H locs cells slots Q ls C r S h1 h2 hls E)
end
