/-! MULTIANEWARRAY: the rows -/
section
variable {p : Program} {e : Env} {R : Room} {s : State} {m : MethodId} {args : Array Value} {below : List Frame} {meth : Method} {c0 : Code} {H H' : Heap} {locs : List Loc}
variable {g : jG} {d : Nat} {M : jM} {pc : Nat} {K K' : jK} {ci : jI} {cj : jJ} {cr cr' : jR}
theorem jRel_many (r : jRel g K ci cj cr H) (S : va_S (jA g) s.heap H locs) (hK : ∀ i, i < K.2.2 ∨ 1000000 ≤ i → K'.1 i = K.1 i ∧ K'.2.1 i = K.2.1 i ∧ ∀ k, cr' i k = cr i k) (hle : K.2.2 ≤ K'.2.2) (h6 : K'.2.2 ≤ 1000000) (e2 : H'.size = jz g + K'.2.2) (e3 : ∀ q : Nat, q < jz g + K.2.2 → H'[q]? = H[q]?)
    (hz : ∀ i, K'.2.2 ≤ i → i < 1000000 → ∀ k, cr' i k = none) (hat : ∀ i, K.2.2 ≤ i → i < K'.2.2 → va_at g.2.2.2.2.1 jcl (jz g + i, jE g K'.1 K'.2.1 ci cj cr' i) H') {lo : List Loc} (hlo : ∀ x ∈ lo, jz g ≤ x.base) : jRel g K' ci cj cr' H' ∧ va_S (jA g) s.heap H' (locs ++ lo) := by
  obtain ⟨r1, r2, r3, r4, r5, r6⟩ := r
  refine ⟨⟨e2, h6, fun k q hq => ?_, fun q hq => by rw [e3 q (by omega)]; exact r4 q hq, fun i h1 h2 k => ?_, jCon_off r6 (fun i hi => ?_)⟩, ⟨by rw [e2]; have := S.1; rw [r1] at this; omega, fun q h1 h2 => ?_, fun x hx => ?_⟩⟩
  · by_cases hk : k < K'.2.2
    · rw [jW_get _ _ hk] at hq
      cases hq
      by_cases hk2 : k < K.2.2
      · have h9 := (r3 k _ (jW_get _ _ hk2)).kept (H1 := H') (e3 _ (by simp; omega))
        obtain ⟨z1, z2, z3⟩ := hK k (Or.inl hk2)
        have ee : jE g K'.1 K'.2.1 ci cj cr' k = jE g K.1 K.2.1 ci cj cr k := by
          have e9 : jE g K'.1 K'.2.1 ci cj cr' k = jE g K'.1 K'.2.1 ci cj cr k := jE_off (fun i => ⟨rfl, rfl, z3 i⟩)
          rw [e9]
          unfold jE
          rw [z1, z2]
        show va_at _ _ (jz g + k, jE g K'.1 K'.2.1 ci cj cr' k) H'
        rw [ee]
        exact h9
      · exact hat k (by omega) hk
    · rw [List.getElem?_eq_none (by simpa [jW] using hk)] at hq
      cases hq
  · obtain ⟨f1, f2, f3⟩ := r5 i (by omega) h2 k
    exact ⟨f1, f2, hz i h1 h2 k⟩
  · obtain ⟨z1, z2, z3⟩ := hK i (Or.inr hi)
    exact ⟨z1, z2, fun k => ⟨rfl, z3 k⟩⟩
  · rw [e3 q (by have := S.1; rw [r1] at this; omega)]
    exact S.2.1 q h1 h2
  · rcases List.mem_append.mp hx with z | z
    · exact S.2.2 x z
    · exact hlo x z
end
section
variable {p : Program} {l : Launch} {e : Env} {R : Room} {s : State} {m : MethodId} {args : Array Value} {below : List Frame} {meth : Method} {c : Code} {T : State} {locs : List Loc} {cells slots : Nat}
theorem jmulti_step2 (X : Stand p l e R s m args below meth c T locs cells slots) (hexec : p.tables.exec = Jvm.exec) {own nm : String} {index : Nat} {cA : ClassId} (hown : s.vm.findClass own = some m.cls) (hclink : (Cond.classLink own index nm).before args s = true) (hnm : s.vm.findClass nm = some cA)
    {g : JFrame} (hg : g.method = m) (hdg : decode c.code g.pc = .ok (.multianewarray index 2, 4)) {n k : Int32} {rest : List Value} (hstack : g.stack = .int k :: .int n :: rest)
    {inner : State → State} {w u : Nat} {cel : Nat → Nat → Cell} (hB : jBld inner w u cel) (hS : jBldS p l e R s m args below meth c inner w u) (hI : ∀ vm₁, s.vm.Alike vm₁ → jMkW e vm₁ (Op.multianewarray.make cA [n, k]) inner w u) (hcells : cells + w ≤ R.cells) (hslots : slots + u ≤ R.slots) :
    ∃ (vm₁ : Vm) (lo : List Loc), (∀ x ∈ lo, T.heap.size ≤ x.base) ∧ Stand p l e R s m args below meth c (inner (T.setVm vm₁)) (locs ++ lo) (cells + w) (slots + u) ∧
      ∀ target, Steps p.tables e below ((inner (T.setVm vm₁)).setTop { g with pc := g.pc + 4, stack := .ref T.heap.size :: rest }) target → Steps p.tables e below (T.setTop g) target := by
  subst hg
  have hpl : e.platform.magicAccessors = ({} : Platform).magicAccessors := by rw [X.admits.platform]
  obtain ⟨c0, hfc0, hcl⟩ := Cond.classLink_spec hown hclink e.platform hpl
  cases hnm.symm.trans hfc0
  obtain ⟨hg₁, hwarm₁, hready₁⟩ := State.classEntry (e := e) X.warmed hcl
  generalize T.vm.noted g.method.cls index (.cls cA) = vm₁ at hg₁ hwarm₁ hready₁
  have X₁ := X.noted hwarm₁
  obtain ⟨hr1, hr2⟩ := X.roomAbove hcells hslots
  obtain ⟨lo, hlo, XF⟩ := hS _ _ _ _ X₁
  refine ⟨vm₁, lo, hlo, XF, fun target hrest => ?_⟩
  jvm_step X.here [hexec, hdg]
  simp only [Op.multianewarray.sem, wp_bind', W.resolveClassAt_links (State.method?_setTop g X.here.top) hg₁]
  rw [W.popN, if_neg (by decide)]
  refine ⟨g, State.topJava?_setTop' (s := T.setVm vm₁) g X.here.top, [.int n, .int k], rest, rfl, hstack, ?_⟩
  simp only [List.mapM_cons, List.mapM_nil, wp_bind', wp_pure']
  refine hI vm₁ hwarm₁.alike _ _ _ _ _ rfl (by show T.heap.size + w ≤ _; exact hr1) (by show T.slotsUsed + u ≤ _; exact hr2) (fun d' acts' => ?_)
  have eS : ((T.setTop g).setVm vm₁).setTop { g with stack := rest } = (T.setVm vm₁).setTop { g with stack := rest } := by
    show ((T.setVm vm₁).setTop g).setTop _ = _
    rw [State.setTop_setTop]
  rw [eS, hB.2]
  simp only [wp_bind', W.mark, W.pushRef, State.topJava?_setTop' _ XF.here.top, Option.some.injEq, exists_eq_left', State.setTop_setTop, State.heap_setTop]
  intro acts
  simp [jvm, XF.here.top]
  exact hrest
theorem jmulti_step3 (X : Stand p l e R s m args below meth c T locs cells slots) (hexec : p.tables.exec = Jvm.exec) {own nm : String} {index : Nat} {cA : ClassId} (hown : s.vm.findClass own = some m.cls) (hclink : (Cond.classLink own index nm).before args s = true) (hnm : s.vm.findClass nm = some cA)
    {g : JFrame} (hg : g.method = m) (hdg : decode c.code g.pc = .ok (.multianewarray index 3, 4)) {n k q : Int32} {rest : List Value} (hstack : g.stack = .int q :: .int k :: .int n :: rest)
    {inner : State → State} {w u : Nat} {cel : Nat → Nat → Cell} (hB : jBld inner w u cel) (hS : jBldS p l e R s m args below meth c inner w u) (hI : ∀ vm₁, s.vm.Alike vm₁ → jMkW e vm₁ (Op.multianewarray.make cA [n, k, q]) inner w u) (hcells : cells + w ≤ R.cells) (hslots : slots + u ≤ R.slots) :
    ∃ (vm₁ : Vm) (lo : List Loc), (∀ x ∈ lo, T.heap.size ≤ x.base) ∧ Stand p l e R s m args below meth c (inner (T.setVm vm₁)) (locs ++ lo) (cells + w) (slots + u) ∧
      ∀ target, Steps p.tables e below ((inner (T.setVm vm₁)).setTop { g with pc := g.pc + 4, stack := .ref T.heap.size :: rest }) target → Steps p.tables e below (T.setTop g) target := by
  subst hg
  have hpl : e.platform.magicAccessors = ({} : Platform).magicAccessors := by rw [X.admits.platform]
  obtain ⟨c0, hfc0, hcl⟩ := Cond.classLink_spec hown hclink e.platform hpl
  cases hnm.symm.trans hfc0
  obtain ⟨hg₁, hwarm₁, hready₁⟩ := State.classEntry (e := e) X.warmed hcl
  generalize T.vm.noted g.method.cls index (.cls cA) = vm₁ at hg₁ hwarm₁ hready₁
  have X₁ := X.noted hwarm₁
  obtain ⟨hr1, hr2⟩ := X.roomAbove hcells hslots
  obtain ⟨lo, hlo, XF⟩ := hS _ _ _ _ X₁
  refine ⟨vm₁, lo, hlo, XF, fun target hrest => ?_⟩
  jvm_step X.here [hexec, hdg]
  simp only [Op.multianewarray.sem, wp_bind', W.resolveClassAt_links (State.method?_setTop g X.here.top) hg₁]
  rw [W.popN, if_neg (by decide)]
  refine ⟨g, State.topJava?_setTop' (s := T.setVm vm₁) g X.here.top, [.int n, .int k, .int q], rest, rfl, hstack, ?_⟩
  simp only [List.mapM_cons, List.mapM_nil, wp_bind', wp_pure']
  refine hI vm₁ hwarm₁.alike _ _ _ _ _ rfl (by show T.heap.size + w ≤ _; exact hr1) (by show T.slotsUsed + u ≤ _; exact hr2) (fun d' acts' => ?_)
  have eS : ((T.setTop g).setVm vm₁).setTop { g with stack := rest } = (T.setVm vm₁).setTop { g with stack := rest } := by
    show ((T.setVm vm₁).setTop g).setTop _ = _
    rw [State.setTop_setTop]
  rw [eS, hB.2]
  simp only [wp_bind', W.mark, W.pushRef, State.topJava?_setTop' _ XF.here.top, Option.some.injEq, exists_eq_left', State.setTop_setTop, State.heap_setTop]
  intro acts
  simp [jvm, XF.here.top]
  exact hrest
end
