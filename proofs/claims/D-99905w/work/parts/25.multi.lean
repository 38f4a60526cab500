/-! MULTIANEWARRAY: an array of arrays, made in one go -/
/-- the outer array, behind i of its N places; each inner thing takes w cells -/
def jmo (c : ClassId) (N w z i : Nat) : Cell := arrV c N (fun j => if j < i then .ref (z + 1 + j * w) else .null)
theorem jmo_set (c : ClassId) (N w z i : Nat) : (jmo c N w z i).setSlot i (.ref (z + 1 + i * w)) = jmo c N w z (i + 1) := by
  unfold jmo
  rw [arrV_store]
  congr 1
  funext j
  unfold updV
  by_cases h : j = i
  · subst h; rw [if_pos rfl, if_pos (Nat.lt_succ_self j)]
  · rw [if_neg h]
    show (if j < i then Value.ref (z + 1 + j * w) else .null) = _
    by_cases h2 : j < i
    · rw [if_pos h2, if_pos (by omega)]
    · rw [if_neg h2, if_neg (by omega)]
def jmf (c : ClassId) (N w : Nat) (inner : State → State) (T : State) : Nat → State
  | 0 => T.pushCell (jmo c N w T.heap.size 0)
  | i + 1 => (inner (jmf c N w inner T i)).setCell T.heap.size (jmo c N w T.heap.size (i + 1))
/-- what makes w cells of u slots, and what they hold, by the place of the first and the place among them -/
def jBld (inner : State → State) (w u : Nat) (cel : Nat → Nat → Cell) : Prop :=
  (∀ T, (inner T).heap.size = T.heap.size + w ∧ (inner T).vm = T.vm ∧ (inner T).slotsUsed = T.slotsUsed + u ∧ (∀ a : Nat, a < T.heap.size → (inner T).heap[a]? = T.heap[a]?) ∧ ∀ o, o < w → (inner T).heap[T.heap.size + o]? = some (cel T.heap.size o)) ∧ ∀ T f, inner (T.setTop f) = (inner T).setTop f
theorem jBld_one (cell : Cell) : jBld (fun T => T.pushCell cell) 1 cell.slots.size (fun _ _ => cell) :=
  ⟨fun T => ⟨by simp, rfl, rfl, fun a ha => State.heap_pushCell_of_lt _ _ ha, fun o ho => by
    rw [show o = 0 by omega]; exact State.heap_pushCell_size ..⟩, fun T f => rfl⟩
theorem jmf_facts {inner : State → State} {w u : Nat} {cel : Nat → Nat → Cell} (hB : jBld inner w u cel) (c : ClassId) (N : Nat) (T : State) : ∀ i, (jmf c N w inner T i).heap.size = T.heap.size + 1 + i * w ∧ (jmf c N w inner T i).heap[T.heap.size]? = some (jmo c N w T.heap.size i) ∧
    (jmf c N w inner T i).vm = T.vm ∧ (jmf c N w inner T i).slotsUsed = T.slotsUsed + N + i * u ∧ (∀ a : Nat, a < T.heap.size → (jmf c N w inner T i).heap[a]? = T.heap[a]?) ∧ ∀ j, j < i → ∀ o, o < w → (jmf c N w inner T i).heap[T.heap.size + 1 + j * w + o]? = some (cel (T.heap.size + 1 + j * w) o)
  | 0 => ⟨by simp [jmf], State.heap_pushCell_size .., rfl, by simp [jmf, jmo, arrV_size], fun a ha => State.heap_pushCell_of_lt _ _ ha, fun j hj => absurd hj (Nat.not_lt_zero j)⟩
  | i + 1 => by
    obtain ⟨a1, a2, a3, a4, a5, a6⟩ := jmf_facts hB c N T i
    obtain ⟨b1, b2, b3, b4, b5⟩ := hB.1 (jmf c N w inner T i)
    have hlt : T.heap.size < (jmf c N w inner T i).heap.size := by rw [a1]; omega
    have hc : (inner (jmf c N w inner T i)).heap[T.heap.size]? = some (jmo c N w T.heap.size i) := by rw [b4 _ hlt]; exact a2
    refine ⟨?_, State.heap_setCell_self hc, ?_, ?_, fun a ha => ?_, fun j hj o ho => ?_⟩
    · show ((inner (jmf c N w inner T i)).heap.setIfInBounds _ _).size = _
      rw [Array.size_setIfInBounds, b1, a1, Nat.succ_mul]; omega
    · show (inner (jmf c N w inner T i)).vm = _
      rw [b2, a3]
    · show (inner (jmf c N w inner T i)).slotsUsed = _
      rw [b3, a4, Nat.succ_mul]; omega
    · show ((inner (jmf c N w inner T i)).setCell _ _).heap[a]? = _
      rw [State.heap_setCell_other (show T.heap.size ≠ a by omega), b4 _ (by rw [a1]; omega)]
      exact a5 a ha
    · show ((inner (jmf c N w inner T i)).setCell _ _).heap[_]? = _
      rw [State.heap_setCell_other (show T.heap.size ≠ T.heap.size + 1 + j * w + o by omega)]
      by_cases hji : j < i
      · have hle : (j + 1) * w ≤ i * w := Nat.mul_le_mul_right w hji
        rw [Nat.succ_mul] at hle
        rw [b4 _ (by rw [a1]; omega)]
        exact a6 j hji o ho
      · have e : j = i := by omega
        subst e
        have h9 := b5 o ho
        rw [a1] at h9
        exact h9
theorem jmf_setTop {inner : State → State} {w u : Nat} {cel : Nat → Nat → Cell} (hB : jBld inner w u cel) (c : ClassId) (N : Nat) (T : State) (f : JFrame) : ∀ i, jmf c N w inner (T.setTop f) i = (jmf c N w inner T i).setTop f
  | 0 => rfl
  | i + 1 => by
    show (inner (jmf c N w inner (T.setTop f) i)).setCell _ _ = _
    rw [jmf_setTop hB c N T f i, hB.2]
    rfl
/-- the cells of an array of N things of w cells -/
def jmc (c : ClassId) (N w : Nat) (cel : Nat → Nat → Cell) (b o : Nat) : Cell := if o = 0 then jmo c N w b N else cel (b + 1 + (o - 1) / w * w) ((o - 1) % w)
theorem jBld_more {inner : State → State} {w u : Nat} {cel : Nat → Nat → Cell} (hB : jBld inner w u cel) (hw : 0 < w) (c : ClassId) (N : Nat) : jBld (fun T => jmf c N w inner T N) (1 + N * w) (N + N * u) (jmc c N w cel) := by
  refine ⟨fun T => ?_, fun T f => jmf_setTop hB c N T f N⟩
  obtain ⟨a1, a2, a3, a4, a5, a6⟩ := jmf_facts hB c N T N
  refine ⟨by rw [a1]; omega, a3, by rw [a4]; omega, a5, fun o ho => ?_⟩
  unfold jmc
  by_cases h0 : o = 0
  · subst h0; rw [if_pos rfl]; exact a2
  · rw [if_neg h0]
    have h1 : (o - 1) / w < N := by
      rw [Nat.div_lt_iff_lt_mul hw]; omega
    have h2 : (o - 1) % w < w := Nat.mod_lt _ hw
    have h3 := a6 _ h1 _ h2
    have h4 : T.heap.size + 1 + (o - 1) / w * w + (o - 1) % w = T.heap.size + o := by
      have := Nat.div_add_mod (o - 1) w
      rw [Nat.mul_comm] at this
      omega
    rw [h4] at h3
    exact h3
section
variable {p : Program} {l : Launch} {e : Env} {R : Room} {s : State} {m : MethodId} {args : Array Value} {below : List Frame} {meth : Method} {c0 : Code}
/-- .. keeps the machine standing -/
def jBldS (p : Program) (l : Launch) (e : Env) (R : Room) (s : State) (m : MethodId) (args : Array Value) (below : List Frame) (meth : Method) (c0 : Code) (inner : State → State) (w u : Nat) : Prop :=
  ∀ (T : State) (locs : List Loc) (cells slots : Nat), Stand p l e R s m args below meth c0 T locs cells slots → ∃ lo : List Loc, (∀ x ∈ lo, T.heap.size ≤ x.base) ∧ Stand p l e R s m args below meth c0 (inner T) (locs ++ lo) (cells + w) (slots + u)
theorem jBldS_one (cell : Cell) : jBldS p l e R s m args below meth c0 (fun T => T.pushCell cell) 1 cell.slots.size :=
  fun T locs cells slots X => ⟨[], fun x hx => (by cases hx), by rw [List.append_nil]; exact X.pushed cell⟩
theorem jBldS_more {inner : State → State} {w u : Nat} {cel : Nat → Nat → Cell} (hB : jBld inner w u cel) (hS : jBldS p l e R s m args below meth c0 inner w u) (c : ClassId) (N : Nat) : ∀ i, jBldS p l e R s m args below meth c0 (fun T => jmf c N w inner T i) (1 + i * w) (N + i * u)
  | 0 => fun T locs cells slots X => by
    refine ⟨[], fun x hx => (by cases hx), ?_⟩
    have h := X.pushed (jmo c N w T.heap.size 0)
    rw [show (jmo c N w T.heap.size 0).slots.size = N by unfold jmo; rw [arrV_size]] at h
    rw [List.append_nil, Nat.zero_mul, Nat.zero_mul]
    exact h
  | i + 1 => fun T locs cells slots X => by
    obtain ⟨lo, hlo, Xi⟩ := jBldS_more hB hS c N i T locs cells slots X
    obtain ⟨a1, a2, a3, a4, a5, a6⟩ := jmf_facts hB c N T i
    obtain ⟨b1, b2, b3, b4, b5⟩ := hB.1 (jmf c N w inner T i)
    obtain ⟨lo2, hlo2, X2⟩ := hS _ _ _ _ Xi
    have hlt : T.heap.size < (jmf c N w inner T i).heap.size := by rw [a1]; omega
    have hc : (inner (jmf c N w inner T i)).heap[T.heap.size]? = some (jmo c N w T.heap.size i) := by rw [b4 _ hlt]; exact a2
    have h := X2.stored hc i (.ref (T.heap.size + 1 + i * w))
    rw [jmo_set] at h
    refine ⟨lo ++ lo2 ++ [⟨T.heap.size, i⟩], fun x hx => ?_, ?_⟩
    · rcases List.mem_append.mp hx with z | z
      · rcases List.mem_append.mp z with z | z
        · exact hlo x z
        · exact Nat.le_trans (by rw [a1]; omega) (hlo2 x z)
      · rw [List.mem_singleton.mp z]; exact Nat.le_refl _
    · have e1 : cells + (1 + (i + 1) * w) = cells + (1 + i * w) + w := by rw [Nat.succ_mul]; omega
      have e2 : slots + (N + (i + 1) * u) = slots + (N + i * u) + u := by rw [Nat.succ_mul]; omega
      rw [e1, e2, ← List.append_assoc, ← List.append_assoc]
      exact h
end
