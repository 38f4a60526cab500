/-! HEAP ROWS: writing fields -/
/-- one place of a table of contents -/
def ju {α : Type} (f : Nat → Nat → α) (a i : Nat) (v : α) : Nat → Nat → α := fun x j => if x = a then (if j = i then v else f x j) else f x j
theorem ju_ne {α : Type} (f : Nat → Nat → α) {a i : Nat} (v : α) {x j : Nat} (h : x ≠ a) : ju f a i v x j = f x j := if_neg h
theorem ju_ne2 {α : Type} (f : Nat → Nat → α) {a i : Nat} (v : α) {x j : Nat} (h : j ≠ i) : ju f a i v x j = f x j := by
  unfold ju
  by_cases hx : x = a
  · rw [if_pos hx, if_neg h]
  · rw [if_neg hx]
theorem ju_eq {α : Type} (f : Nat → Nat → α) (a i : Nat) (v : α) : ju f a i v a i = v := by simp [ju]
/-- the entry index of own's pool names the field k of the sort c, and the method named nm may write it -/
def jP (own nm : String) (index c k : Nat) : Prop := ∃ (C : String) (T : u_T) (N : Nat) (ref : String), jcl[c]? = some (C, T, N) ∧ k < N ∧
  (((T k).2.2.2 = false ∧ (Cond.fieldLink own index ref (T k).2.1 (T k).2.2.1 ∈ lw_all ∨ ∃ host, Cond.fieldLinkNest own index ref (T k).2.1 (T k).2.2.1 host ∈ lw_tbl)) ∨ ((T k).2.2.2 = true ∧ Cond.fieldLink own index ref (T k).2.1 (T k).2.2.1 ∈ lw_all ∧ (T k).1 = own ∧ nm = "<init>")) ∧
  ((T k).1 = ref ∨ Cond.sameField ref (T k).1 (T k).2.1 (T k).2.2.1 ∈ lw_all)
theorem jE_off {g : jG} {kd ln : Nat → Nat} {ci ci' : jI} {cj cj' : jJ} {cr cr' : jR} {j : Nat} (h : ∀ i, ci' j i = ci j i ∧ cj' j i = cj j i ∧ cr' j i = cr j i) : jE g kd ln ci' cj' cr' j = jE g kd ln ci cj cr j := by
  have e1 : ci' j = ci j := funext fun i => (h i).1
  have e2 : cj' j = cj j := funext fun i => (h i).2.1
  have e3 : cr' j = cr j := funext fun i => (h i).2.2
  unfold jE jfv jav
  simp only [e1, e2, e3]
theorem jCon_off {g : jG} {kd kd' ln ln' : Nat → Nat} {ci ci' : jI} {cr cr' : jR} (h : jCon g kd ln ci cr) (hk : ∀ i, 1000000 ≤ i → kd' i = kd i ∧ ln' i = ln i ∧ ∀ k, ci' i k = ci i k ∧ cr' i k = cr i k) : jCon g kd' ln' ci' cr' := by
  intro i hi
  obtain ⟨a1, a2, a3⟩ := hk i hi
  obtain ⟨b1, b2, b3, b4⟩ := h i hi
  have e1 : ci' i = ci i := funext fun k => (a3 k).1
  have e3 : cr' i = cr i := funext fun k => (a3 k).2
  have ev : ∀ tag k, jfv g ci' (fun _ _ => 0) cr' tag i k = jfv g ci (fun _ _ => 0) cr tag i k := fun tag k => by unfold jfv; rw [e1, e3]
  rw [a1, a2]
  refine ⟨fun h21 => ?_, b2, fun t ht ht9 => ?_, b4⟩
  · obtain ⟨q1, q2⟩ := b1 h21
    exact ⟨q1, fun k hk => by rw [ev]; exact q2 k hk⟩
  · obtain ⟨q1, q2⟩ := b3 t ht ht9
    refine ⟨?_, q2⟩
    have : (fun j => jfv g ci' (fun _ _ => 0) cr' (jtag (jaty t)) i j) = (fun j => jfv g ci (fun _ _ => 0) cr (jtag (jaty t)) i j) := funext fun j => ev _ j
    rw [this]
    exact q1
theorem jRel_upd {g : jG} {K : jK} {ci ci' : jI} {cj cj' : jJ} {cr cr' : jR} {H H1 : Heap} {a : Nat} (r : jRel g K ci cj cr H) (ha : a < K.2.2) (hz : H1.size = H.size) (ho : ∀ q : Nat, q ≠ jz g + a → H1[q]? = H[q]?)
    (hat : va_at g.2.2.2.2.1 jcl (jz g + a, jE g K.1 K.2.1 ci' cj' cr' a) H1) (hoff : ∀ j, j ≠ a → ∀ i, ci' j i = ci j i ∧ cj' j i = cj j i ∧ cr' j i = cr j i) : jRel g K ci' cj' cr' H1 := by
  obtain ⟨r1, r2, r3, r4, r5, r6⟩ := r
  refine ⟨by rw [hz]; exact r1, r2, fun k q hq => ?_, fun q hq => by rw [ho q (by omega)]; exact r4 q hq, fun i h1 h2 k => ?_, jCon_off r6 (fun i hi => ⟨rfl, rfl, fun k => ?_⟩)⟩
  · by_cases hk : k < K.2.2
    · rw [jW_get _ _ hk] at hq
      cases hq
      by_cases hka : k = a
      · subst hka; exact hat
      · rw [jE_off (hoff k hka)]
        exact (r3 k _ (jW_get _ _ hk)).kept (ho _ (by simp; omega))
    · rw [List.getElem?_eq_none (by simpa [jW] using hk)] at hq
      cases hq
  · obtain ⟨e1, e2, e3⟩ := hoff i (by omega) k
    rw [e1, e2, e3]
    exact r5 i h1 h2 k
  · obtain ⟨e1, e2, e3⟩ := hoff i (by omega) k
    exact ⟨e1, e3⟩
theorem jmapset {f f' : Nat → Value} {n k : Nat} {v : Value} (hv : f' k = v) (hne : ∀ i, i ≠ k → f' i = f i) : ((List.range n).map f).set k v = (List.range n).map f' := by
  apply List.ext_getElem?
  intro j
  rw [List.getElem?_set, List.getElem?_map, List.getElem?_map]
  by_cases hj : k = j
  · subst hj
    by_cases hn : k < n
    · rw [if_pos rfl, if_pos (by simpa using hn), List.getElem?_range hn]
      simp [hv]
    · rw [if_pos rfl, if_neg (by simpa using hn), List.getElem?_eq_none (by simpa using hn)]
      rfl
  · rw [if_neg hj]
    by_cases hn : j < n
    · rw [List.getElem?_range hn]
      simp [hne j (fun z => hj z.symm)]
    · rw [List.getElem?_eq_none (by simpa using hn)]
      rfl
section
variable {p : Program} {e : Env} {R : Room} {s : State} {m : MethodId} {args : Array Value} {below : List Frame} {meth : Method} {c0 : Code} {H : Heap} {locs : List Loc} {cells slots : Nat} {Q : State → Prop} {ls : Array Slot} {rest : List Value}
variable {g : jG} {d : Nat} {M : jM} {pc : Nat} {K : jK} {ci ci' : jI} {cj cj' : jJ} {cr cr' : jR}
theorem jput_core (C : jCtx g d M p R s m args meth c0) (r : jRel g K ci cj cr H) (S : va_S (jA g) s.heap H locs) {index a cN k : Nat} {v : Value} (hF : jP M.1.cls M.1.name index cN k) (hk : K.1 a = cN) (ha : a < K.2.2) (hd : decode M.2.1 pc = .ok (.putfield index, 3))
    (hn : narrow (jfty cN k) v = v) (hfit : fits (jfty cN k) v = true) (hv : jfv g ci' cj' cr' (jtag (jfty cN k)) a k = v) (hne : ∀ i, i ≠ k → ci' a i = ci a i ∧ cj' a i = cj a i ∧ cr' a i = cr a i) (hoff : ∀ j, j ≠ a → ∀ i, ci' j i = ci j i ∧ cj' j i = cj j i ∧ cr' j i = cr j i)
    (kk : ∀ (H1 : Heap) (locs1 : List Loc), jRel g K ci' cj' cr' H1 → va_S (jA g) s.heap H1 locs1 → W p g.1 e R s m args below meth c0 H1 locs1 cells slots Q (F0 m (pc + 3) ls rest)) : W p g.1 e R s m args below meth c0 H locs cells slots Q (F0 m pc ls (v :: .ref (jad g a) :: rest)) := by
  obtain ⟨C', T, N, ref, hc, hkN, hlink, hs⟩ := hF
  obtain ⟨hc100, hN, hwin, hty, hnm⟩ := jcls _ _ _ _ hc
  have hK := jctx_K C
  have hts := C.2.2.2.2.2.2.2.1
  have hap := va_apart (own := M.1.cls) hts hwin (jfty cN) hty hnm hK hc
  have hE : (jW (jz g) (jE g K.1 K.2.1 ci cj cr) K.2.2)[a]? = some (jz g + a, .inr (cN, (List.range (jfn cN)).map (fun k => jfv g ci cj cr (jtag (jfty cN k)) a k))) := by rw [jW_get _ _ ha, jE_obj hk hc100]
  obtain ⟨rr, h1, cell, q1, q2, q3, q4⟩ := r.2.2.1 a _ hE
  have hr : rr = (C', T, N) := Option.some.inj (h1.symm.trans hc)
  subst hr
  obtain ⟨hS, hfc, kC, hkC, hkind⟩ := hK.1 cN _ hc
  obtain ⟨cf, kf, fi, f, hi, hsl⟩ := hS k hkN
  have hst := (u_facts hfc hkC (u_lays hts hwin hkN) hi).1
  rw [jad_lt ha r.2.1]
  have fin : ∀ (H' : Heap), H'[jz g + a]? = some (cell.setSlot f.slot v) → H'.size = H.size → (∀ q, q ≠ jz g + a → H'[q]? = H[q]?) → W p g.1 e R s m args below meth c0 H' (locs ++ [⟨jz g + a, f.slot⟩]) cells slots Q (F0 m (pc + 3) ls rest) := by
    intro H' e1 e2 e3
    rw [hsl] at e1 ⊢
    refine kk H' _ (jRel_upd r ha e2 e3 ?_ hoff) (S.put e2 e3 (Nat.le_add_right _ _))
    rw [jE_obj hk hc100]
    refine ⟨_, hc, t_OB.to (V := updV (vp_V _) k v) ⟨_, e1, q2, q3, t_set q4 hap hkN v⟩ (fun j hj => ?_)⟩
    have hl : k < ((List.range (jfn cN)).map (fun k => jfv g ci cj cr (jtag (jfty cN k)) a k)).length := by simp; omega
    rw [vp_updV_set hl v j, jmapset (f' := fun k => jfv g ci' cj' cr' (jtag (jfty cN k)) a k) hv (fun i hi => ?_)]
    obtain ⟨z1, z2, z3⟩ := hne i hi
    unfold jfv
    rw [z1, z2, z3]
  rcases hlink with ⟨hfin, hl⟩ | ⟨hfin, hl, hdecl, hname⟩
  · have hlay := hts _ (hwin _ (u_in_lay hkN))
    unfold u_lay at hlay
    rw [if_neg (by rw [hfin]; decide)] at hlay
    have h6 := u_store hfc hkC hkind hlay hi (hty k hkN) hn hfit
    rcases hl with hl | ⟨host, hl⟩
    · exact W.putK C.2.1 C.2.2.1 (f := f) ⟨C.2.2.2.2.1, jctx_w C hl, ⟨_, _, _, jsame C hs _ hi⟩, hst⟩ (by rw [q2]; exact h6) q1 q3 (by rw [hsl]; exact k2_hasslot (q4 k hkN)) rfl rfl hd fin
    · exact va_WputK C.2.1 C.2.2.1 (f := f) C.2.2.2.2.1 (jctx_nF C hl) (jsame C hs _ hi) hst (by rw [q2]; exact h6) q1 q3 (by rw [hsl]; exact k2_hasslot (q4 k hkN)) rfl rfl hd fin
  · have hlay := hts _ (hwin _ (u_in_lay hkN))
    unfold u_lay at hlay
    rw [if_pos hfin] at hlay
    have hcf : m.cls = cf := by
      obtain ⟨_, _, c', _, _, _, -, -, hf', -, -, -, hown2, -⟩ := Cond.laysFinal_spec hlay
      have e1 : c' = cf := by have := hi.symm.trans hf'; simp at this; exact this.1.symm
      rw [hdecl] at hown2
      rw [← e1]; exact Option.some.inj (C.2.2.2.2.1.symm.trans hown2)
    have h6 := u_fits hfc hkC hkind (Or.inr hlay) hi (hty k hkN) hn hfit
    exact W.putFinK C.2.1 C.2.2.1 C.2.2.2.2.1 (jctx_w C hl) (jsame C hs _ hi) hst hcf (by rw [C.2.2.2.2.2.2.2.2.1]; exact hname) (by rw [q2]; exact h6) q1 q3 (by rw [hsl]; exact k2_hasslot (q4 k hkN)) rfl rfl hd fin
end
section
variable {g : jG} {d : Nat} {M : jM} {pc : Nat} {L st : List Value} {K : jK} {ci : jI} {cj : jJ} {cr : jR} {c sl : Nat} {Qr : jQ} {Qx : jX}
theorem ju_off {α : Type} (f : Nat → Nat → α) {a i : Nat} (v : α) : ∀ j, j ≠ a → ∀ k, ju f a i v j k = f j k := fun j h k => ju_ne f v h
theorem ev_putI {index a cN k : Nat} {x : Int32} (hd : decode M.2.1 pc = .ok (.putfield index, 3)) (hF : jP M.1.cls M.1.name index cN k) (hk : K.1 a = cN) (ha : a < K.2.2) (ht : jtag (jfty cN k) = 0) (hn : narrow (jfty cN k) (.int x) = .int x) (hf : fits (jfty cN k) (.int x) = true)
    (kk : Ev g d M (pc + 3) L st K (ju ci a k x) cj cr c sl Qr Qx) : Ev g d M pc L (.int x :: .ref a :: st) K ci cj cr c sl Qr Qx := by
  intro p e R s m args below meth c0 H locs cells slots Q ls C r S h1 h2 hls E
  exact jput_core C r S hF hk ha hd hn hf (by rw [ht]; show Value.int (ju ci a k x a k) = _; rw [ju_eq]; rfl) (fun i hi => ⟨ju_ne2 ci x hi, rfl, rfl⟩) (fun j hj i => ⟨ju_ne ci x hj, rfl, rfl⟩)
    (fun H1 locs1 r1 S1 => kk p e R s m args below meth c0 H1 locs1 cells slots Q ls C r1 S1 h1 h2 hls E)
theorem ev_putJ {index a cN k : Nat} {x : Int64} (hd : decode M.2.1 pc = .ok (.putfield index, 3)) (hF : jP M.1.cls M.1.name index cN k) (hk : K.1 a = cN) (ha : a < K.2.2) (ht : jfty cN k = .long)
    (kk : Ev g d M (pc + 3) L st K ci (ju cj a k x) cr c sl Qr Qx) : Ev g d M pc L (.long x :: .ref a :: st) K ci cj cr c sl Qr Qx := by
  intro p e R s m args below meth c0 H locs cells slots Q ls C r S h1 h2 hls E
  exact jput_core C r S hF hk ha hd (by rw [ht]; rfl) (by rw [ht]; rfl) (by rw [ht]; show Value.long (ju cj a k x a k) = _; rw [ju_eq]; rfl) (fun i hi => ⟨rfl, ju_ne2 cj x hi, rfl⟩) (fun j hj i => ⟨rfl, ju_ne cj x hj, rfl⟩)
    (fun H1 locs1 r1 S1 => kk p e R s m args below meth c0 H1 locs1 cells slots Q ls C r1 S1 h1 h2 hls E)
theorem jfitR {ty : FieldType} (h : jtag ty = 2) (x : Option Nat) : narrow ty (va_rf x) = va_rf x ∧ fits ty (va_rf x) = true := by
  cases ty <;> simp [jtag] at h <;> cases x <;> exact ⟨rfl, rfl⟩
theorem ev_putQ {index a cN k : Nat} {x : Option Nat} (hd : decode M.2.1 pc = .ok (.putfield index, 3)) (hF : jP M.1.cls M.1.name index cN k) (hk : K.1 a = cN) (ha : a < K.2.2) (ht : jtag (jfty cN k) = 2)
    (kk : Ev g d M (pc + 3) L st K ci cj (ju cr a k x) c sl Qr Qx) : Ev g d M pc L (va_rf x :: .ref a :: st) K ci cj cr c sl Qr Qx := by
  intro p e R s m args below meth c0 H locs cells slots Q ls C r S h1 h2 hls E
  have hx : jc g (va_rf x) = va_rf (x.map (jad g)) := by cases x <;> rfl
  have h9 := jput_core (ls := ls) (cells := cells) (slots := slots) (Q := Q) (below := below) (e := e) (rest := st.map (jc g)) (ci' := ci) (cj' := cj) (cr' := ju cr a k x) C r S hF hk ha hd (jfitR ht (x.map (jad g))).1 (jfitR ht (x.map (jad g))).2 (by rw [ht]; show va_rf ((ju cr a k x a k).map _) = _; rw [ju_eq]) (fun i hi => ⟨rfl, rfl, ju_ne2 cr x hi⟩) (fun j hj i => ⟨rfl, rfl, ju_ne cr x hj⟩)
    (fun H1 locs1 r1 S1 => kk p e R s m args below meth c0 H1 locs1 cells slots Q ls C r1 S1 h1 h2 hls E)
  rw [← hx] at h9
  exact h9
theorem ev_putR {index a cN k x : Nat} (hd : decode M.2.1 pc = .ok (.putfield index, 3)) (hF : jP M.1.cls M.1.name index cN k) (hk : K.1 a = cN) (ha : a < K.2.2) (ht : jtag (jfty cN k) = 2)
    (kk : Ev g d M (pc + 3) L st K ci cj (ju cr a k (some x)) c sl Qr Qx) : Ev g d M pc L (.ref x :: .ref a :: st) K ci cj cr c sl Qr Qx := ev_putQ (x := some x) hd hF hk ha ht kk
theorem ev_putN {index a cN k : Nat} (hd : decode M.2.1 pc = .ok (.putfield index, 3)) (hF : jP M.1.cls M.1.name index cN k) (hk : K.1 a = cN) (ha : a < K.2.2) (ht : jtag (jfty cN k) = 2)
    (kk : Ev g d M (pc + 3) L st K ci cj (ju cr a k none) c sl Qr Qx) : Ev g d M pc L (.null :: .ref a :: st) K ci cj cr c sl Qr Qx := ev_putQ (x := none) hd hF hk ha ht kk
end
