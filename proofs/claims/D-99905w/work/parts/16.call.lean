/-! CALLS: a callee's body by Ev, seen from its caller (jback follows vx_back, vx_ofW of EXCEPTIONS.to-paste, with the thrown thing's place kept) -/
def jcw (M : jM) : Cond := match M.2.2.2.2 with
  | [] => Cond.code M.1 M.2.1 M.2.2.1 M.2.2.2.1
  | h :: t => Cond.codeWith M.1 M.2.1 M.2.2.1 M.2.2.2.1 (h :: t)
theorem jcw_spec {M : jM} {args : Array Value} {s : State} (h : (jcw M).before args s = true) : ∃ m meth c, s.methodNamed? M.1 = some m ∧ s.vm.method? m = some meth ∧ meth.code = some c ∧ c.code = M.2.1 ∧ c.maxLocals = M.2.2.1 ∧ meth.sig.returnType = M.2.2.2.1 ∧ meth.locks = false ∧ c.exceptionTable.toList = tableOf M.2.2.2.2 ∧ parseMethodDescriptor M.1.desc = some meth.sig := by
  unfold jcw at h
  split at h
  · next hh =>
    obtain ⟨m, hn⟩ := Cond.code_named h
    obtain ⟨meth, c, h1, h2, h3, h4, h5, h6, h7, h8⟩ := Cond.code_spec hn h
    exact ⟨m, meth, c, hn, h1, h2, h3, h4, h5, h6, by rw [hh, Array.isEmpty_iff.mp h7]; rfl, h8⟩
  · next a b hh =>
    obtain ⟨m, meth, c, hn, h1, h2, h3, h4, h5, h6, h7, h8⟩ := Cond.codeWith_spec h
    exact ⟨m, meth, c, hn, h1, h2, h3, h4, h6, h7, by rw [hh, ← h5, table_eq], h8⟩
/-- a method of the tables -/
def jMok (M : jM) : Prop := jcw M ∈ lw_all ∧ plainFor M.1 = true ∧ Cond.initialized M.1.cls ∈ lw_all ∧ M.2.2.1 ≤ 40 ∧ M.1.cls ≠ "java/lang/invoke/MethodHandle" ∧ M.1.cls ≠ "java/lang/invoke/VarHandle"
theorem jcw_good {M : jM} (h : jcw M ∈ lw_all) : GoodIn lw_all (jcw M :: lw_all) := by
  unfold jcw at h ⊢
  split at h
  · exact lw_meth h
  · exact lw_methW h
def jentP (n : Nat) (As : List Value) : List Value := jent As ++ List.replicate (n - (jent As).length) jU
theorem jasF_rep (g : jG) : ∀ (n k : Nat), jasF g n (List.replicate k jU) = []
  | _, 0 => rfl
  | n, k + 1 => by
    show (if jU = jU then jasF g (n + 1) (List.replicate k jU) else _) = []
    rw [if_pos rfl]
    exact jasF_rep g (n + 1) k
theorem jent_in (g : jG) (k : Nat) : ∀ (As : List Value) (n : Nat) (q : Nat × Value), q ∈ jasF g n (jent As ++ List.replicate k jU) → q ∈ lv_args n (As.map (jc g))
  | [], n, q, h => by
    have h1 : q ∈ jasF g n (List.replicate k jU) := h
    rw [jasF_rep] at h1
    cases h1
  | v :: r, n, q, h => by
    have ih := jent_in g k r
    have one : v.category = 1 → q ∈ jasF g n (v :: (jent r ++ List.replicate k jU)) → q ∈ lv_args n ((v :: r).map (jc g)) := by
      intro hc h1
      unfold jasF at h1
      show q ∈ (n, jc g v) :: lv_args (if (jc g v).category = 2 then n + 2 else n + 1) (r.map (jc g))
      rw [jc_cat, if_neg (by omega)]
      split at h1
      · exact List.mem_cons_of_mem _ (ih _ q h1)
      · rcases List.mem_cons.mp h1 with h2 | h2
        · rw [h2]; exact List.mem_cons_self
        · exact List.mem_cons_of_mem _ (ih _ q h2)
    have two : v.category = 2 → v ≠ jU → q ∈ jasF g n (v :: jU :: (jent r ++ List.replicate k jU)) → q ∈ lv_args n ((v :: r).map (jc g)) := by
      intro hc hu h1
      unfold jasF at h1
      rw [if_neg hu] at h1
      show q ∈ (n, jc g v) :: lv_args (if (jc g v).category = 2 then n + 2 else n + 1) (r.map (jc g))
      rw [jc_cat, if_pos hc]
      rcases List.mem_cons.mp h1 with h2 | h2
      · rw [h2]; exact List.mem_cons_self
      · unfold jasF at h2
        rw [if_pos rfl] at h2
        exact List.mem_cons_of_mem _ (ih _ q h2)
    cases v with
    | long x => exact two rfl (fun z => by cases z) h
    | double x => exact two rfl (fun z => by cases z) h
    | int x => exact one rfl h
    | float x => exact one rfl h
    | null => exact one rfl h
    | ref x => exact one rfl h
    | retAddr x => exact one rfl h
theorem jent_len (g : jG) : ∀ (As : List Value), (lg_sl (As.map (jc g))).length = (jent As).length
  | [] => rfl
  | v :: r => by
    have ih := jent_len g r
    have e : lg_sl ((v :: r).map (jc g)) = (if (jc g v).category = 2 then [.val (jc g v), .second] else [.val (jc g v)]) ++ lg_sl (r.map (jc g)) := rfl
    rw [e, List.length_append, ih, jc_cat]
    cases v <;> simp [Value.category, jent] <;> omega
/-- a method from its entry -/
abbrev EvM (g : jG) (d : Nat) (M : jM) (As : List Value) (K : jK) (ci : jI) (cj : jJ) (cr : jR) (c sl : Nat) (Qr : jQ) (Qx : jX) : Prop := Ev g d M 0 (jentP M.2.2.1 As) [] K ci cj cr c sl Qr Qx
section
variable {p : Program} {e : Env} {R : Room} {s : State} {m : MethodId} {args : Array Value} {below : List Frame} {meth : Method} {c0 : Code} {H : Heap} {locs : List Loc} {cells slots : Nat} {Q Q' : State → Prop}
theorem jW_mono {l : Launch} {f : JFrame} (h : W p l e R s m args below meth c0 H locs cells slots Q f) (hq : ∀ t, Q t → Q' t) : W p l e R s m args below meth c0 H locs cells slots Q' f := by
  intro T hT X
  obtain ⟨t, a, b⟩ := h T hT X
  exact ⟨t, a, hq t b⟩
end
/-- the end of a callee, for its caller -/
def jRes (g : jG) (Qr : jQ) (Qx : jX) (c1 s1 : Nat) : Array Value → State → Outcome → State → Prop := fun _ st o t =>
  (∃ (w : Option Value) (K : jK) (ci : jI) (cj : jJ) (cr : jR), o = .returned (w.map (jc g)) ∧ Qr w K ci cj cr ∧ jRel g K ci cj cr t.heap ∧ va_F (jA g) st t ∧ ∃ L, FrameEnd st o t L c1 s1 ∧ ∀ q ∈ L, jA g q.base) ∨
  (∃ (i : Nat) (K : jK) (ci : jI) (cj : jJ) (cr : jR), o = .threw (jad g i) ∧ Qx i K ci cj cr ∧ i < K.2.2 ∧ K.1 i = 3 ∧ jRel g K ci cj cr t.heap ∧ va_F (jA g) st t ∧ st.WarmedH t.vm ∧ ∃ L, st.sameButNew ({ t with vm := st.vm } : State) L c1 s1 ∧ ∀ q ∈ L, jA g q.base)
def jPre (g : jG) (As : List Value) (K : jK) (ci : jI) (cj : jJ) (cr : jR) : Array Value → State → Prop := fun v U => v = (As.map (jc g)).toArray ∧ g.2.1.WarmedH U.vm ∧ jRel g K ci cj cr U.heap
section
variable {g : jG} {d : Nat} {M : jM} {K : jK} {ci : jI} {cj : jJ} {cr : jR} {c1 s1 : Nat} {Qr : jQ} {Qx : jX} {As : List Value}
theorem jrm_end {p : Program} {e : Env} {R : Room} {s : State} {m : MethodId} {args : Array Value} {below : List Frame} {meth : Method} {c0 : Code} (C : jCtx g d M p R s m args meth c0) (hR1 : R.cells = c1) (hR2 : R.slots = s1) :
    jEnd g M p e R s m args below meth c0 (fun t => ∃ o, t.status = .running ∧ Ended t below o ∧ jRes g Qr Qx c1 s1 args s o t) Qr Qx := by
  obtain ⟨C1, C2, C3, C4, C5, C6, C7, C8, C9, C10, C11, C12, C13, C14⟩ := C
  have hlocks : meth.locks = false := C7
  refine ⟨fun H locs cells slots K ci cj cr pc ls r S h1 h2 => ?_, fun H locs cells slots K ci cj cr pc ls rest i r S h1 h2 hi hk hout hq => ?_⟩
  · have fin : ∀ (f : JFrame) (v : Option Value) (w : Option Value), w.map (jc g) = v → Qr w K ci cj cr →
        (∀ (Qc : Array Value → State → Outcome → State → Prop), (∀ t : State, t.heap = H → s.WarmedH t.vm → Qc args s (.returned v) t) → W p g.1 e R s m args below meth c0 H locs c1 s1 (MQ below Qc args s c1 s1 (jA g)) f) →
        W p g.1 e R s m args below meth c0 H locs cells slots (fun t => ∃ o, t.status = .running ∧ Ended t below o ∧ jRes g Qr Qx c1 s1 args s o t) f := by
      intro f v w hv hq hW
      refine W.widen (k := c1) (n := s1) (by omega) (by omega) (jW_mono (hW (fun _ st o t => o = .returned v ∧ jRel g K ci cj cr t.heap ∧ va_F (jA g) st t) (fun t ht _ => ⟨rfl, by rw [ht]; exact r, S.F ht⟩)) ?_)
      rintro t ⟨o, b1, b2, ⟨b3, b4, b5⟩, b6⟩
      exact ⟨o, b1, b2, Or.inl ⟨w, K, ci, cj, cr, by rw [hv]; exact b3, hq, b4, b5, b6⟩⟩
    refine ⟨fun x ty ht hn hd hq => ?_, fun x ht hd hq => ?_, fun x ty ht htag hd hq => ?_, fun ht hd hq => ?_⟩
    · exact fin _ (some (.int x)) (some (.int x)) rfl hq (fun Qc hQc => W.zret C2 C3 (C6.trans ht) hn hQc S.2.2 hd)
    · exact fin _ (some (.long x)) (some (.long x)) rfl hq (fun Qc hQc => W.lret C2 C3 (C6.trans ht) hQc S.2.2 hd)
    · have hx : jc g (va_rf x) = .null ∨ ∃ a, jc g (va_rf x) = .ref a := by cases x <;> simp [va_rf, jc]
      exact fin _ (some (jc g (va_rf x))) (some (va_rf x)) rfl hq (fun Qc hQc => by
        cases ty <;> simp [jtag] at htag
        all_goals exact W.aret C2 C3 (C6.trans ht) (by first | exact Or.inl ⟨_, rfl⟩ | exact Or.inr ⟨_, rfl⟩) hx hQc S.2.2 hd)
    · exact fin _ none none rfl hq (fun Qc hQc => W.vret C2 C3 (C6.trans ht) hQc S.2.2 hd)
  · intro T hT X
    obtain ⟨st1, hrun, hend, hW, hsm⟩ := X.leaveThrown (jad g i) (g := F0 m pc ls rest) rfl rfl rfl (by rw [C10]; exact hout) C7
    exact ⟨_, st1, .threw (jad g i), hrun, hend, Or.inr ⟨i, K, ci, cj, cr, rfl, hq, hi, hk, by show jRel g K ci cj cr T.heap; rw [hT]; exact r, S.F hT, hW, locs, hsm.mono (by omega) (by omega), S.2.2⟩⟩
end

section
variable {g : jG} {d : Nat} {M : jM} {K : jK} {ci : jI} {cj : jJ} {cr : jR} {c1 s1 : Nat} {Qr : jQ} {Qx : jX} {As : List Value}
/-- a body by Ev is a method met -/
theorem jmet (hok : jOK g) (hM : jMok M) (hlen : (jent As).length ≤ M.2.2.1) (h : EvM g d M As K ci cj cr c1 s1 Qr Qx) :
    MetFree g.1 M.1 (headSpec (jcw M :: lw_all) ({ frames := d, cells := c1, slots := s1, locals := 60 * d })) (jPre g As K ci cj cr) (fun _ _ _ _ _ => True) (jRes g Qr Qx c1 s1) := by
  refine MetFree.of_bodySF (code := M.2.1) (maxLocals := M.2.2.1) (ret := M.2.2.2.1) hM.2.1 ?_ ?_
  · intro args s m h hn
    obtain ⟨m9, meth, c, hn9, h1, h2, h3, h4, h5, h6, -⟩ := jcw_spec (atoms_spec (ws := jcw M :: lw_all) h _ List.mem_cons_self)
    cases hn.symm.trans hn9
    exact ⟨meth, c, h1, h2, h3, h4, h5, h6⟩
  · intro p e s m args below meth c s₁ B hml hP _
    obtain ⟨rfl, hW, r⟩ := hP
    have hh0 : s₁.heap = s.heap := by rw [B.state]; rfl
    have hts := atoms_spec (ws := jcw M :: lw_all) B.pre
    obtain ⟨m9, meth9, c9, hn9, q1, q2, q3, q4, q5, q6, q7, -⟩ := jcw_spec (hts _ List.mem_cons_self)
    cases Option.some.inj (hn9.symm.trans B.named)
    cases Option.some.inj (q1.symm.trans B.method)
    cases Option.some.inj (q2.symm.trans (Stand.of_body B).code)
    have hnm : meth.name = M.1.name := (name_of_methodNamed B.named B.method).1
    have C : jCtx g d M p (headSpec (jcw M :: lw_all) ({ frames := d, cells := c1, slots := s1, locals := 60 * d })).room s m (As.map (jc g)).toArray meth c :=
      ⟨hok, B.exec, B.bytes, hml, findClass_of_methodNamed B.named, B.returns, B.notSynchronized, fun w h => hts w (List.mem_cons_of_mem _ h), hnm, q7, Nat.le_refl _, Nat.le_refl _, hW, by rw [r.1]; exact Nat.le_add_right _ _⟩
    have hl := lv_entry (As.map (jc g)) (n := M.2.2.1) (by rw [jent_len]; exact hlen)
    have W9 := h p e (headSpec (jcw M :: lw_all) ({ frames := d, cells := c1, slots := s1, locals := 60 * d })).room s m (As.map (jc g)).toArray below meth c s.heap [] 0 0 (fun t => ∃ o, t.status = .running ∧ Ended t below o ∧ jRes g Qr Qx c1 s1 (As.map (jc g)).toArray s o t) _ C r va_S.rf (by show 0 + c1 ≤ c1; omega) (by show 0 + s1 ≤ s1; omega) (hl.mem (fun q hq => jent_in g _ As 0 q hq)) (jrm_end C rfl rfl)
    have W8 : W p g.1 e (headSpec (jcw M :: lw_all) ({ frames := d, cells := c1, slots := s1, locals := 60 * d })).room s m (As.map (jc g)).toArray below meth c s.heap [] 0 0 (fun t => ∃ o, t.status = .running ∧ Ended t below o ∧ jRes g Qr Qx c1 s1 (As.map (jc g)).toArray s o t) (entryFrame m (As.map (jc g)).toArray M.2.2.1) := by
      rw [lg_entry_eq]; exact W9
    obtain ⟨t, a1, o, b1, b2, b3⟩ := W8 s₁ hh0 (Stand.of_body B)
    exact ⟨t, o, a1, b1, b2, b3⟩
/-- what a caller must bring, and what it gets -/
def jPreP (g : jG) (R : Room) (As : List Value) (K : jK) (ci : jI) (cj : jJ) (cr : jR) (c1 s1 : Nat) : Pt → Array Value → Prop := fun A a => A.cells + c1 ≤ R.cells ∧ A.slots + s1 ≤ R.slots ∧ jPre g As K ci cj cr a A.U
def jFr (g : jG) (A B : Pt) (c1 s1 : Nat) : Prop := A.U.heap.size ≤ B.U.heap.size ∧ (∀ q : Nat, q < A.U.heap.size → ¬ jA g q → B.U.heap[q]? = A.U.heap[q]?) ∧ B.cells = A.cells + c1 ∧ B.slots = A.slots + s1 ∧ ∃ L, B.locs = A.locs ++ L ∧ ∀ z ∈ L, jA g z.base
def jPostP (g : jG) (Qr : jQ) (c1 s1 : Nat) : Pt → Array Value → Option Value → Pt → Prop := fun A _ v B => ∃ (w : Option Value) (K : jK) (ci : jI) (cj : jJ) (cr : jR), v = w.map (jc g) ∧ Qr w K ci cj cr ∧ jRel g K ci cj cr B.U.heap ∧ jFr g A B c1 s1
def jPostX (g : jG) (Qx : jX) (c1 s1 : Nat) : Pt → Array Value → Addr → Pt → Prop := fun A _ q B => ∃ (i : Nat) (K : jK) (ci : jI) (cj : jJ) (cr : jR), q = jad g i ∧ Qx i K ci cj cr ∧ i < K.2.2 ∧ K.1 i = 3 ∧ jRel g K ci cj cr B.U.heap ∧ jFr g A B c1 s1
theorem jback {R : Room} {p : Program} {e : Env} {below : List Frame} {s : State} {sargs : Array Value} {len : Nat} (hok : jOK g) (hM : jMok M) (hlen : (jent As).length ≤ M.2.2.1) (h : EvM g d M As K ci cj cr c1 s1 Qr Qx)
    (hts : ∀ w ∈ lw_all, w.before sargs s = true) (hframes : d + 1 ≤ R.frames) (hlocals : 60 * (d + 1) ≤ R.locals) :
    vx_Back g.1 R p e below s sargs M.1 len 8 (jPreP g R As K ci cj cr c1 s1) (jPostP g Qr c1 s1) (jPostX g Qx c1 s1) := by
  have hM0 := jmet hok hM hlen h
  have hws := pay_in hts (jcw_good hM.1)
  intro m meth c A f ig mk a X hg hsize hdg hW hn hp
  have h1 : (headSpec (jcw M :: lw_all) ({ frames := d, cells := c1, slots := s1, locals := 60 * d })).pre.before a A.U = true := atoms_intro fun w hw => hws w hw _ _ X.warmed
  have h2 : (jcw M).before a A.U = true := hws _ List.mem_cons_self _ _ X.warmed
  have h3 : (Cond.initialized M.1.cls).before a A.U = true := hws _ (List.mem_cons_of_mem _ hM.2.2.1) _ _ X.warmed
  have hPc : jPre g As K ci cj cr a (A.U.calling f mk a) := hp.2.2
  obtain ⟨hp1, hp2, -⟩ := hp
  obtain ⟨U, Ls, k0, l0⟩ := A
  dsimp only [Pt.U, Pt.locs, Pt.cells, Pt.slots] at h1 h2 h3 hp1 hp2 X hn hPc ⊢
  obtain ⟨m9, methY, cY, hn9, hmY, hcY, -, hlY, -⟩ := jcw_spec h2
  cases Option.some.inj (hn9.symm.trans hn)
  obtain ⟨kY, hkY, -⟩ := className_of_methodNamed hn
  have hinitY : kY.init = .initialized := Cond.initialized_spec (findClass_of_methodNamed hn) hkY h3
  have hh : At U f.method c below := by rw [hg]; exact X.here
  have happ : (headSpec (jcw M :: lw_all) ({ frames := d, cells := c1, slots := s1, locals := 60 * d })).appliesLoose M.1 e.platform (U.calling f mk a) = true :=
    Spec.appliesLoose_calling (g := f) hh hdg hn hkY hinitY
      (X.room_calling (g := f) (R' := (headSpec (jcw M :: lw_all) ({ frames := d, cells := c1, slots := s1, locals := 60 * d })).room) hsize hmY hcY hframes (by rw [hlY]; have := hM.2.2.2.1; show _ + 60 * d ≤ _; omega) hp1 hp2) h1
  obtain ⟨mid, hmid⟩ := hh.above
  have hfr : (U.setTop f).frames = (.java f :: mid) ++ below := by rw [State.frames_setTop' f hh.top, hmid]; rfl
  obtain ⟨o, s₂, hsteps, -, hend, hq⟩ := Steps.callFree hM0 p X.admits X.cas X.clock (acts := []) hfr happ hPc trivial
  have hq' : jRes g Qr Qx c1 s1 a (U.calling f mk a) o s₂ := hq
  rw [State.frames_setTop' f hh.top] at hend
  obtain ⟨g₀, hg0⟩ := Option.isSome_iff_exists.mp hh.top
  obtain ⟨r, hr⟩ := State.topJava?_eq_some.mp hg0
  have hr' : (({ U with heap := s₂.heap, slotsUsed := s₂.slotsUsed } : State).setVm s₂.vm).frames = .java g₀ :: r := hr
  rcases hq' with ⟨w, K9, i9, j9, r9, ho, hqr, hrel, hF, L, hfe, hL⟩ | ⟨q, K9, i9, j9, r9, ho, hqx, hq1, hq2, hrel, hF, hW₂, L, hsm, hL⟩
  · obtain ⟨⟨v, rfl⟩, hW₂, e2, q2, q3, q4, q5, q6⟩ := id hfe
    have e3 : s₂ = ({ (U.calling f mk a).setFrames s₂.frames with heap := s₂.heap, slotsUsed := s₂.slotsUsed } : State).setVm s₂.vm := by
      have : s₂ = ({ s₂ with vm := (U.calling f mk a).vm } : State).setVm s₂.vm := rfl
      rw [e2] at this
      exact this
    obtain ⟨c₂, i₂, len₂, hc₂, hd₂, hf₂⟩ := hend
    have hW' : U.WarmedH s₂.vm := hW₂
    have hcc : c₂ = c := by
      have h1 : s₂.code? f.method = U.code? f.method := by
        rw [State.code?_eq, State.code?_eq, hW'.alike.method?]
      exact Option.some.inj (hc₂.symm.trans (h1.trans hh.code))
    subst hcc
    have hlen2 : len₂ = len := by rw [hdg] at hd₂; cases hd₂; rfl
    subst hlen2
    have hs₂ : s₂ = (({ U with heap := s₂.heap, slotsUsed := s₂.slotsUsed } : State).setVm s₂.vm).setTop { f with pc := f.pc + len₂, stack := v.toList ++ f.stack } := by
      refine e3.trans ?_
      rw [hf₂, State.calling_eq hh.top, State.setFrames_setFrames, State.setTop_of_frames _ hr', hr]
      rfl
    have hsame : U.sameButNew ({ U with heap := s₂.heap, slotsUsed := s₂.slotsUsed } : State) L c1 s1 := by
      refine ⟨?_, q2, q3, q4, q5, q6⟩
      obtain ⟨t, ht, -⟩ := State.frames_cons hr
      show ({ U with heap := s₂.heap, slotsUsed := s₂.slotsUsed } : State) = { U.setFrames U.frames with heap := s₂.heap, slotsUsed := s₂.slotsUsed }
      rw [State.setFrames_self ht]
    subst hg
    refine Or.inl ⟨v, ⟨(({ U with heap := s₂.heap, slotsUsed := s₂.slotsUsed } : State).setVm s₂.vm), Ls ++ L, k0 + c1, l0 + s1⟩,
      ⟨X.admits, X.cas, X.clock, X.frames, X.room, X.hears, X.method, X.code, (X.here.setHeapUsed s₂.heap s₂.slotsUsed).setVm hW'.alike, X.tail, State.WarmedH.trans X.warmed hW', X.limits, X.bytes, X.same.trans (hsame.setVm s.vm)⟩,
      ⟨w, K9, i9, j9, r9, Outcome.returned.inj ho, hqr, hrel, hF.1, hF.2, rfl, rfl, L, rfl, hL⟩, ?_⟩
    show Steps p.tables e below _ ((({ U with heap := s₂.heap, slotsUsed := s₂.slotsUsed } : State).setVm s₂.vm).setTop { f with pc := f.pc + len₂, stack := v.toList ++ f.stack })
    rw [← hs₂]
    exact hsteps
  · subst ho
    obtain ⟨e2, q2, q3, q4, q5, q6⟩ := id hsm
    have e3 : s₂ = ({ (U.calling f mk a).setFrames s₂.frames with heap := s₂.heap, slotsUsed := s₂.slotsUsed } : State).setVm s₂.vm := by
      have : s₂ = ({ s₂ with vm := (U.calling f mk a).vm } : State).setVm s₂.vm := rfl
      rw [e2] at this
      exact this
    have hf₂ : s₂.frames = .throwing (jad g q) :: .java f :: U.frames.tail := hend
    have hW' : U.WarmedH s₂.vm := hW₂
    have hs₂ : s₂ = ((({ U with heap := s₂.heap, slotsUsed := s₂.slotsUsed } : State).setVm s₂.vm).setTop f).pushFrame (.throwing (jad g q)) := by
      refine e3.trans ?_
      rw [hf₂, State.calling_eq hh.top, State.setFrames_setFrames, State.pushFrame, State.frames_setTop _ hr', State.setTop_of_frames _ hr', State.setFrames_setFrames, hr]
      rfl
    have hsame : U.sameButNew ({ U with heap := s₂.heap, slotsUsed := s₂.slotsUsed } : State) L c1 s1 := by
      refine ⟨?_, q2, q3, q4, q5, q6⟩
      obtain ⟨t, ht, -⟩ := State.frames_cons hr
      show ({ U with heap := s₂.heap, slotsUsed := s₂.slotsUsed } : State) = { U.setFrames U.frames with heap := s₂.heap, slotsUsed := s₂.slotsUsed }
      rw [State.setFrames_self ht]
    subst hg
    refine Or.inr ⟨jad g q, ⟨(({ U with heap := s₂.heap, slotsUsed := s₂.slotsUsed } : State).setVm s₂.vm), Ls ++ L, k0 + c1, l0 + s1⟩,
      ⟨X.admits, X.cas, X.clock, X.frames, X.room, X.hears, X.method, X.code, (X.here.setHeapUsed s₂.heap s₂.slotsUsed).setVm hW'.alike, X.tail, State.WarmedH.trans X.warmed hW', X.limits, X.bytes, X.same.trans (hsame.setVm s.vm)⟩,
      ⟨q, K9, i9, j9, r9, rfl, hqx, hq1, hq2, hrel, hF.1, hF.2, rfl, rfl, L, rfl, hL⟩, ?_⟩
    show Steps p.tables e below _ (((({ U with heap := s₂.heap, slotsUsed := s₂.slotsUsed } : State).setVm s₂.vm).setTop f).pushFrame (.throwing (jad g q)))
    rw [← hs₂]
    exact hsteps
end
