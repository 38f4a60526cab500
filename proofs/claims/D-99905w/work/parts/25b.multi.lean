/-! MULTIANEWARRAY: what the machine's 'make' does -/
def jMkW (e : Env) (vm : Vm) (mk : Sem Addr) (inner : State → State) (w u : Nat) : Prop := ∀ (E : CtlPost) (d : Bool) (acts : List Action) (T : State) (Q : Addr → Pre), T.vm = vm → T.heap.size + w ≤ e.platform.maxCells → T.slotsUsed + u ≤ e.platform.maxSlots → (∀ d' acts', Q T.heap.size d' acts' (inner T)) → wp mk Q E e d acts T
theorem jfitRef {t : FieldType} (h : t.isReference = true) (x : Option Nat) : fits t (va_rf x) = true := by
  cases t <;> simp [FieldType.isReference] at h <;> cases x <;> rfl
theorem jMkW_one {e : Env} {vm : Vm} {comp cc : ClassId} {kc : Class} {type : FieldType} {m : Int32} (hkc : vm.classes[comp]? = some kc) (hkindc : kc.kind = .array cc type) (hm : ¬ m < 0)
    (hl : ¬ m.toNatClampNeg > e.platform.arrayLengthLimit) (hh : ¬ m.toNatClampNeg * componentBytes type > e.platform.maxHeapBytes) (hdf : fits type (defaultValue type) = true) (hdd : (defaultValue type).isDefault = true) :
    jMkW e vm (Op.multianewarray.make comp [m]) (fun T => T.pushCell (arrV comp m.toNatClampNeg (fun _ => defaultValue type))) 1 m.toNatClampNeg := by
  intro E d acts T Q hT h1 h2 hq
  rw [Op.multianewarray.make]
  simp only [wp_bind', W.ite, hm, if_false, wp_pure', W.theClass, hT, hkc, hkindc, Option.some.injEq, exists_eq_left']
  refine W.newArray_of (by rw [hT]; exact hkc) hkindc hl hh (by omega) (by omega) hdf (fun acts' => ?_)
  have e9 : ({ cls := comp, slots := Array.replicate m.toNatClampNeg (defaultValue type) } : Cell) = arrV comp m.toNatClampNeg (fun _ => defaultValue type) := by
    rw [← arrV_new]
  rw [e9]
  exact hq _ _
theorem jMkW_more {e : Env} {vm : Vm} {c comp : ClassId} {k : Class} {t0 : FieldType} {n m : Int32} {rest : List Int32} {inner : State → State} {w u : Nat} {cel : Nat → Nat → Cell} (hB : jBld inner w u cel) (hk : vm.classes[c]? = some k) (hkind : k.kind = .array comp t0) (href : t0.isReference = true) (hn : ¬ n < 0)
    (hl : ¬ n.toNatClampNeg > e.platform.arrayLengthLimit) (hh : ¬ n.toNatClampNeg * componentBytes t0 > e.platform.maxHeapBytes) (hfind : ((m :: rest).find? (· < 0)) = none) (hI : jMkW e vm (Op.multianewarray.make comp (m :: rest)) inner w u) :
    jMkW e vm (Op.multianewarray.make c (n :: m :: rest)) (fun T => jmf c n.toNatClampNeg w inner T n.toNatClampNeg) (1 + n.toNatClampNeg * w) (n.toNatClampNeg + n.toNatClampNeg * u) := by
  intro E d acts T Q hT h1 h2 hq
  rw [Op.multianewarray.make]
  simp only [wp_bind', W.ite, hn, if_false, wp_pure', W.theClass, hT, hk, hkind, Option.some.injEq, exists_eq_left']
  refine W.newArray_of (by rw [hT]; exact hk) hkind hl hh (by omega) (by have := Nat.zero_le (n.toNatClampNeg * u); omega) (jfitRef href none) (fun acts1 => ?_)
  have e9 : ({ cls := c, slots := Array.replicate n.toNatClampNeg Value.null } : Cell) = jmo c n.toNatClampNeg w T.heap.size 0 := by
    unfold jmo
    simp only [Nat.not_lt_zero, if_false]
    rw [← arrV_new]
  rw [e9]
  simp only [hfind]
  rw [ite_self, wp_bind', Std.Legacy.Range.forIn_eq_forIn_range']
  have hsz : ([:n.toNatClampNeg] : Std.Legacy.Range).size = n.toNatClampNeg := by simp [Std.Legacy.Range.size]
  rw [hsz]
  show wp (forIn (List.range' 0 n.toNatClampNeg 1) PUnit.unit _) _ E e _ acts1 _
  refine wp_forIn_inv (fun rest s' => ∃ i, i ≤ n.toNatClampNeg ∧ rest = List.range' i (n.toNatClampNeg - i) ∧ s' = jmf c n.toNatClampNeg w inner T i) _ _ ⟨0, Nat.zero_le _, rfl, rfl⟩ ?_ ?_
  · rintro x rs s' d' acts' Q' ⟨i, hi, hl9, hs'⟩ hnext
    have hlt : i < n.toNatClampNeg := by
      rcases Nat.lt_or_ge i n.toNatClampNeg with h | h
      · exact h
      · rw [show n.toNatClampNeg - i = 0 from by omega] at hl9; simp at hl9
    rw [show n.toNatClampNeg - i = (n.toNatClampNeg - (i + 1)) + 1 from by omega, List.range'_succ] at hl9
    obtain ⟨ex, er⟩ := List.cons.inj hl9
    subst ex; subst hs'
    obtain ⟨a1, a2, a3, a4, a5, a6⟩ := jmf_facts hB c n.toNatClampNeg T x
    obtain ⟨b1, b2, b3, b4, b5⟩ := hB.1 (jmf c n.toNatClampNeg w inner T x)
    have hw1 : (x + 1) * w ≤ n.toNatClampNeg * w := Nat.mul_le_mul_right w hlt
    have hu1 : (x + 1) * u ≤ n.toNatClampNeg * u := Nat.mul_le_mul_right u hlt
    rw [Nat.succ_mul] at hw1 hu1
    have hlt0 : T.heap.size < (jmf c n.toNatClampNeg w inner T x).heap.size := by rw [a1]; omega
    simp only [wp_bind']
    refine hI _ _ _ _ _ (by rw [a3]; exact hT) (by rw [a1]; omega) (by rw [a4]; omega) (fun d2 acts2 => ?_)
    simp only [wp_bind', W.writeLoc, wp_pure']
    refine ⟨jmo c n.toNatClampNeg w T.heap.size x, by rw [b4 _ hlt0]; exact a2, (fun h => by cases h), by unfold jmo; rw [arrV_size]; exact hlt, ?_, hnext _ _ _ ⟨x + 1, hlt, er, ?_⟩⟩
    · show (inner (jmf c n.toNatClampNeg w inner T x)).fitsSlot c .none x (.ref (jmf c n.toNatClampNeg w inner T x).heap.size) = true
      have h9 := jfitRef href (some (jmf c n.toNatClampNeg w inner T x).heap.size)
      simp [State.fitsSlot, State.slotType?, b2, a3, hT, hk, hkind]
      exact h9
    · rw [a1, jmo_set]
      rfl
  · rintro s' d' acts' ⟨i, hi, hl9, hs'⟩
    have hiN : i = n.toNatClampNeg := by
      rcases Nat.lt_or_ge i n.toNatClampNeg with h | h
      · rw [show n.toNatClampNeg - i = (n.toNatClampNeg - (i + 1)) + 1 from by omega, List.range'_succ] at hl9; cases hl9
      · omega
    subst hs'
    rw [hiN]
    simp only [wp_pure']
    exact hq _ _
