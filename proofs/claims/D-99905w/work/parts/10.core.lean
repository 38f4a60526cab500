/-! THE PURE STATE: ids of objects, their kinds, lengths and contents; and its picture in the heap -/
abbrev jI : Type := Nat → Nat → Int32
abbrev jJ : Type := Nat → Nat → Int64
abbrev jR : Type := Nat → Nat → Option Nat
/-- the kind of an id (below 100 the number of a sort in jcl, from 100 on an array), its length, the next id -/
abbrev jK : Type := (Nat → Nat) × (Nat → Nat) × Nat
/-- the launch, the state at the law's start, the script's address, where the constants lie, the classes' numbers, the arrays' -/
abbrev jG : Type := Launch × State × Addr × (Nat → Nat) × va_G × (Nat → ClassId)
/-- a method: its name, bytes, how many locals, what it returns, its handlers -/
abbrev jM : Type := MethodName × ByteArray × Nat × Option FieldType × List (Nat × Nat × Nat × Nat)
/-- the mark of a place that holds nothing known -/
abbrev jU : Value := Value.retAddr 0
/-- the heap's size at the law's start: what lies from there on was made since -/
abbrev jz (g : jG) : Nat := g.2.1.heap.size
def jad (g : jG) (i : Nat) : Nat := if i < 1000000 then jz g + i else g.2.2.2.1 i
def jc (g : jG) (v : Value) : Value := match v with
  | .ref i => .ref (jad g i)
  | w => w
def jcl : List vw_C := [(RX0, TX0, 22), (RX1, TX1, 9), (RX2, TX2, 8), (RX3, TX3, 8), (RX4, TX4, 1), (RX5, TX5, 14), (RX6, TX6, 108), (RX8, TX8, 3), (RX9, TX9, 3), (RX10, TX10, 3), (RX12, TX12, 2), (RX13, TX13, 3), (RX14, TX14, 1), (RX15, TX15, 1), (RX16, TX16, 3), (RX18, TX18, 2), (RX19, TX19, 1), (RX20, TX14, 0), (RX21, TX21, 3), (RX22, TX22, 5), (RJ2, TJ2, 3), (RJ6, TJ6, 4), (RJ15, TJ15, 4)]
/-- the types of a sort's fields -/
def jfty (c : Nat) : Nat → FieldType := match c with
  | 0 => tyX0
  | 1 => tyX1
  | 2 => tyX2
  | 3 => tyX3
  | 4 => tyX4
  | 5 => tyX5
  | 6 => tyX6
  | 7 => tyX8
  | 8 => tyX9
  | 9 => tyX10
  | 10 => tyX12
  | 11 => tyX13
  | 12 => tyX14
  | 13 => tyX15
  | 14 => tyX16
  | 15 => tyX18
  | 16 => tyX19
  | 17 => tyX14
  | 18 => tyX21
  | 19 => tyX22
  | 20 => tyJ2
  | 21 => tyJ6
  | _ => tyJ15
/-- how many fields a sort has -/
def jfn (c : Nat) : Nat := match c with
  | 0 => 22
  | 1 => 9
  | 2 => 8
  | 3 => 8
  | 4 => 1
  | 5 => 14
  | 6 => 108
  | 7 => 3
  | 8 => 3
  | 9 => 3
  | 10 => 2
  | 11 => 3
  | 12 => 1
  | 13 => 1
  | 14 => 3
  | 15 => 2
  | 16 => 1
  | 17 => 0
  | 18 => 3
  | 19 => 5
  | 20 => 3
  | 21 => 4
  | _ => 4
/-- arrays by their kind less 100 -/
def jaty (t : Nat) : FieldType := match t with
  | 0 => .int
  | 1 => .byte
  | 2 => .char
  | 3 => .long
  | 4 => .object "java/lang/Object"
  | 5 => .object "java/lang/String"
  | 6 => .array .int
  | 7 => .array (.array .int)
  | _ => .object "MarriageHerring$State"
def jtys (aC : Nat → ClassId) : List (ClassId × FieldType) := (List.range 9).map (fun t => (aC t, jaty t))
/-- 0: a whole number of at most 32 bits; 1: a long; 2: a reference -/
def jtag (t : FieldType) : Nat := match t with
  | .long => 1
  | .object _ => 2
  | .array _ => 2
  | _ => 0
def jfv (g : jG) (ci : jI) (cj : jJ) (cr : jR) (tag i k : Nat) : Value := match tag with
  | 0 => .int (ci i k)
  | 1 => .long (cj i k)
  | _ => va_rf ((cr i k).map (jad g))
def jav (g : jG) (ci : jI) (cj : jJ) (cr : jR) (tag n i : Nat) : vp_A := match tag with
  | 0 => (n, .inl (ci i))
  | 1 => (n, .inr (.inl (cj i)))
  | _ => (n, .inr (.inr (.inr (.inr (fun j => (cr i j).map (jad g))))))
/-- what lies at the id i -/
def jE (g : jG) (kd ln : Nat → Nat) (ci : jI) (cj : jJ) (cr : jR) (i : Nat) : va_E :=
  if kd i < 100 then .inr (kd i, (List.range (jfn (kd i))).map (fun k => jfv g ci cj cr (jtag (jfty (kd i) k)) i k))
  else .inl (g.2.2.2.2.2 (kd i - 100), jav g ci cj cr (jtag (jaty (kd i - 100))) (ln i) i)
def jW (z : Nat) (f : Nat → va_E) (n : Nat) : va_W := (List.range n).map (fun i => (z + i, f i))
theorem jW_get (z : Nat) (f : Nat → va_E) {n i : Nat} (h : i < n) : (jW z f n)[i]? = some (z + i, f i) := by
  simp [jW, h]
theorem jW_congr {z n : Nat} {f f' : Nat → va_E} (h : ∀ i, i < n → f i = f' i) : jW z f n = jW z f' n := by
  unfold jW
  refine List.map_congr_left (fun i hi => ?_)
  rw [h i (List.mem_range.mp hi)]
theorem jW_set (z : Nat) (f f' : Nat → va_E) (n i : Nat) (e : va_E) (h : ∀ j, j < n → f' j = if j = i then e else f j) : (jW z f n).set i (z + i, e) = jW z f' n := by
  apply List.ext_getElem?
  intro j
  rw [List.getElem?_set]
  by_cases hj : i = j
  · subst hj
    by_cases hn : i < n
    · have h1 : i < (jW z f n).length := by simpa [jW] using hn
      rw [if_pos rfl, if_pos h1, jW_get z f' hn, h i hn, if_pos rfl]
    · have h1 : ¬ i < (jW z f n).length := by simpa [jW] using hn
      rw [if_pos rfl, if_neg h1, List.getElem?_eq_none (by simpa [jW] using hn)]
  · rw [if_neg hj]
    by_cases hn : j < n
    · rw [jW_get z f hn, jW_get z f' hn, h j hn, if_neg (fun q => hj q.symm)]
    · rw [List.getElem?_eq_none (by simpa [jW] using hn), List.getElem?_eq_none (by simpa [jW] using hn)]
theorem jW_push (z : Nat) (f f' : Nat → va_E) (n : Nat) (e : va_E) (h : ∀ j, j < n → f' j = f j) (he : f' n = e) : jW z f n ++ [(z + n, e)] = jW z f' (n + 1) := by
  unfold jW
  rw [List.range_succ, List.map_append, List.map_singleton, he]
  congr 1
  refine List.map_congr_left (fun i hi => ?_)
  rw [h i (List.mem_range.mp hi)]
theorem jW_D (z : Nat) (f : Nat → va_E) (n : Nat) : va_D (fun q => z ≤ q) (jW z f n) := by
  have key : ∀ (k : Nat) (q : Nat × va_E), (jW z f n)[k]? = some q → q.1 = z + k := by
    intro k q hk
    by_cases hn : k < n
    · rw [jW_get z f hn] at hk
      cases hk; rfl
    · rw [List.getElem?_eq_none (by simpa [jW] using hn)] at hk
      cases hk
  refine ⟨fun i j p q hi hj hpq => ?_, fun k q hk => ?_⟩
  · have h1 := key i p hi
    have h2 := key j q hj
    omega
  · rw [key k q hk]
    exact Nat.le_add_right z k
/-! locals -/
/-- the known locals, by their places -/
def jasF (g : jG) : Nat → List Value → List (Nat × Value)
  | _, [] => []
  | n, v :: r => if v = jU then jasF g (n + 1) r else (n, jc g v) :: jasF g (n + 1) r
def jas (g : jG) (L : List Value) : List (Nat × Value) := jasF g 0 L
theorem jasF_mem (g : jG) : ∀ (L : List Value) (n : Nat) (q : Nat × Value), q ∈ jasF g n L ↔ ∃ (i : Nat) (v : Value), L[i]? = some v ∧ v ≠ jU ∧ q = (n + i, jc g v)
  | [], n, q => by simp [jasF]
  | w :: r, n, q => by
    unfold jasF
    have ih := jasF_mem g r (n + 1) q
    by_cases hw : w = jU
    · rw [if_pos hw, ih]
      constructor
      · rintro ⟨i, v, h1, h2, h3⟩
        exact ⟨i + 1, v, by simpa using h1, h2, by rw [h3]; congr 1; omega⟩
      · rintro ⟨i, v, h1, h2, h3⟩
        cases i with
        | zero => simp at h1; exact absurd (h1.symm.trans hw) h2
        | succ i => exact ⟨i, v, by simpa using h1, h2, by rw [h3]; congr 1; omega⟩
    · rw [if_neg hw, List.mem_cons, ih]
      constructor
      · rintro (h | ⟨i, v, h1, h2, h3⟩)
        · exact ⟨0, w, rfl, hw, by rw [h]; rfl⟩
        · exact ⟨i + 1, v, by simpa using h1, h2, by rw [h3]; congr 1; omega⟩
      · rintro ⟨i, v, h1, h2, h3⟩
        cases i with
        | zero => simp at h1; subst h1; exact Or.inl h3
        | succ i => exact Or.inr ⟨i, v, by simpa using h1, h2, by rw [h3]; congr 1; omega⟩
theorem jas_mem (g : jG) (L : List Value) (q : Nat × Value) : q ∈ jas g L ↔ ∃ (i : Nat) (v : Value), L[i]? = some v ∧ v ≠ jU ∧ q = (i, jc g v) := by
  unfold jas
  rw [jasF_mem]
  constructor
  · rintro ⟨i, v, h1, h2, h3⟩; exact ⟨i, v, h1, h2, by rw [h3]; congr 1; omega⟩
  · rintro ⟨i, v, h1, h2, h3⟩; exact ⟨i, v, h1, h2, by rw [h3]; congr 1; omega⟩
theorem lv_has.mem {ls : Array Slot} {nL : Nat} {l l' : List (Nat × Value)} (h : lv_has ls nL l) (hs : ∀ q ∈ l', q ∈ l) : lv_has ls nL l' := ⟨h.1, h.2.1, fun q hq => h.2.2 q (hs q hq)⟩
theorem jas_at {g : jG} {L : List Value} {ls : Array Slot} {nL i : Nat} {v : Value} (h : lv_has ls nL (jas g L)) (hv : L[i]? = some v) (hu : v ≠ jU) : ls[i]? = some (.val (jc g v)) :=
  h.2.2 (i, jc g v) ((jas_mem g L _).mpr ⟨i, v, hv, hu, rfl⟩)
/-- fewer known locals -/
def jle : List Value → List Value → Bool
  | [], _ => true
  | v :: r, [] => decide (v = jU) && jle r []
  | v :: r, w :: t => (decide (v = jU) || decide (v = w)) && jle r t
theorem jle_at : ∀ (L' L : List Value), jle L' L = true → ∀ (i : Nat) (v : Value), L'[i]? = some v → v ≠ jU → L[i]? = some v
  | [], L, _, i, v, h1, _ => by simp at h1
  | w :: r, [], h, i, v, h1, h2 => by
    simp only [jle, Bool.and_eq_true, decide_eq_true_eq] at h
    cases i with
    | zero => simp at h1; exact absurd (h1.symm.trans h.1) h2
    | succ i => exact absurd (jle_at r [] h.2 i v (by simpa using h1) h2) (by simp)
  | w :: r, x :: t, h, i, v, h1, h2 => by
    simp only [jle, Bool.and_eq_true, Bool.or_eq_true, decide_eq_true_eq] at h
    cases i with
    | zero =>
      simp at h1
      subst h1
      rcases h.1 with h3 | h3
      · exact absurd h3 h2
      · simp [h3]
    | succ i => simpa using jle_at r t h.2 i v (by simpa using h1) h2
theorem jas_le {g : jG} {L L' : List Value} {ls : Array Slot} {nL : Nat} (h : lv_has ls nL (jas g L)) (hl : ∀ (i : Nat) (v : Value), L'[i]? = some v → v ≠ jU → L[i]? = some v) : lv_has ls nL (jas g L') := by
  refine h.mem (fun q hq => ?_)
  obtain ⟨i, v, h1, h2, h3⟩ := (jas_mem g L' q).mp hq
  exact (jas_mem g L q).mpr ⟨i, v, hl i v h1 h2, h2, h3⟩
/-- a long just ahead of the place is lost -/
def jcut : Nat → List Value → List Value
  | _, [] => []
  | 0, L => L
  | 1, v :: r => (match v with | .long _ => jU | .double _ => jU | w => w) :: r
  | n + 2, v :: r => v :: jcut (n + 1) r
def jset1 (L : List Value) (i : Nat) (v : Value) : List Value := (jcut i L).set i v
def jset2 (L : List Value) (i : Nat) (v : Value) : List Value := ((jcut i L).set i v).set (i + 1) jU
theorem jcut_at : ∀ (L : List Value) (n i : Nat) (v : Value), (jcut n L)[i]? = some v → v ≠ jU → L[i]? = some v ∧ ¬ (i + 1 = n ∧ v.category = 2)
  | [], n, i, v, h, _ => by simp [jcut] at h
  | w :: r, 0, i, v, h, _ => by
    have h1 : (w :: r)[i]? = some v := by simpa [jcut] using h
    exact ⟨h1, by omega⟩
  | w :: r, 1, i, v, h, hu => by
    cases i with
    | zero =>
      simp only [jcut, List.getElem?_cons_zero, Option.some.injEq] at h
      cases w <;> simp_all [Value.category]
      all_goals (subst h; simp [Value.category])
    | succ i =>
      simp only [jcut, List.getElem?_cons_succ] at h
      exact ⟨by simpa using h, by omega⟩
  | w :: r, n + 2, i, v, h, hu => by
    cases i with
    | zero =>
      simp only [jcut, List.getElem?_cons_zero, Option.some.injEq] at h
      subst h
      exact ⟨by simp, by omega⟩
    | succ i =>
      simp only [jcut, List.getElem?_cons_succ] at h
      obtain ⟨h1, h2⟩ := jcut_at r (n + 1) i v h hu
      exact ⟨by simpa using h1, by omega⟩
theorem jc_cat (g : jG) (v : Value) : (jc g v).category = v.category := by cases v <;> rfl
theorem jas_set1 {g : jG} {L : List Value} {ls : Array Slot} {nL i : Nat} {v : Value} (h : lv_has ls nL ((i, jc g v) :: (jas g L).filter (fun q => !(q.1 == i) && !(q.1 + 1 == i && q.2.category == 2)))) : lv_has ls nL (jas g (jset1 L i v)) := by
  refine h.mem (fun q hq => ?_)
  obtain ⟨j, w, h1, h2, h3⟩ := (jas_mem g _ q).mp hq
  unfold jset1 at h1
  rw [List.getElem?_set] at h1
  by_cases hj : i = j
  · subst hj
    rw [if_pos rfl] at h1
    split at h1
    · cases h1; rw [h3]; exact List.mem_cons_self
    · cases h1
  · rw [if_neg hj] at h1
    obtain ⟨g1, g2⟩ := jcut_at L i j w h1 h2
    refine List.mem_cons_of_mem _ (List.mem_filter.mpr ⟨(jas_mem g L q).mpr ⟨j, w, g1, h2, h3⟩, ?_⟩)
    rw [h3]
    simp only [jc_cat, Bool.and_eq_true, Bool.not_eq_true', beq_eq_false_iff_ne, ne_eq, Bool.and_eq_false_imp, beq_iff_eq]
    exact ⟨fun z => hj z.symm, fun z => by intro z2; exact g2 ⟨z, z2⟩⟩
theorem jas_set2 {g : jG} {L : List Value} {ls : Array Slot} {nL i : Nat} {v : Value} (h : lv_has ls nL ((i, jc g v) :: (jas g L).filter (fun q => !(q.1 == i) && (!(q.1 == i + 1) && !(q.1 + 1 == i && q.2.category == 2))))) : lv_has ls nL (jas g (jset2 L i v)) := by
  refine h.mem (fun q hq => ?_)
  obtain ⟨j, w, h1, h2, h3⟩ := (jas_mem g _ q).mp hq
  unfold jset2 at h1
  rw [List.getElem?_set] at h1
  by_cases hj1 : i + 1 = j
  · subst hj1
    rw [if_pos rfl] at h1
    split at h1
    · cases h1; exact absurd rfl h2
    · cases h1
  · rw [if_neg hj1, List.getElem?_set] at h1
    by_cases hj : i = j
    · subst hj
      rw [if_pos rfl] at h1
      split at h1
      · cases h1; rw [h3]; exact List.mem_cons_self
      · cases h1
    · rw [if_neg hj] at h1
      obtain ⟨g1, g2⟩ := jcut_at L i j w h1 h2
      refine List.mem_cons_of_mem _ (List.mem_filter.mpr ⟨(jas_mem g L q).mpr ⟨j, w, g1, h2, h3⟩, ?_⟩)
      rw [h3]
      simp only [jc_cat, Bool.and_eq_true, Bool.not_eq_true', beq_eq_false_iff_ne, ne_eq, Bool.and_eq_false_imp, beq_iff_eq]
      exact ⟨fun z => hj z.symm, fun z => hj1 z.symm, fun z => by intro z2; exact g2 ⟨z, z2⟩⟩
/-- the arguments as locals: a long takes two -/
def jent : List Value → List Value
  | [] => []
  | v :: r => match v with
    | .long _ => v :: jU :: jent r
    | .double _ => v :: jU :: jent r
    | _ => v :: jent r
