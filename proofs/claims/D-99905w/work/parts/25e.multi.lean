/-! MULTIANEWARRAY: three dimensions -/
section
variable {g : jG} {d : Nat} {M : jM} {pc : Nat} {L st : List Value} {K : jK} {ci : jI} {cj : jJ} {cr : jR} {c sl : Nat} {Qr : jQ} {Qx : jX}
theorem ev_multi3 {index a b f : Nat} {n k q : Int32} (hd : decode M.2.1 pc = .ok (.multianewarray index 3, 4)) (hw : Cond.classLink M.1.cls index "[[[I" ∈ lw_all) (hn : ¬ n < 0) (hna : n.toNatClampNeg = a) (hk : ¬ k < 0) (hkb : k.toNatClampNeg = b) (hq : ¬ q < 0) (hqf : q.toNatClampNeg = f) (ha : a ≤ 65536) (hb : b ≤ 65536) (hf : f ≤ 65536) (h6 : K.2.2 + 1 + a * (1 + b) ≤ 1000000)
    (kk : Ev g d M (pc + 4) L (.ref K.2.2 :: st) (jK3 K a b f) ci cj (jR3 cr K.2.2 a b) c sl Qr Qx) : Ev g d M pc L (.int q :: .int k :: .int n :: st) K ci cj cr (c + (1 + a * (1 + b))) (sl + (a + a * (b + b * f))) Qr Qx := by
  intro p e R s m args below meth c0 H locs cells slots Q ls C r S h1 h2 hls E
  intro T hT X
  obtain ⟨k6, k7, y1, y2, y3, y4⟩ := C.1.2.2.2.2.2.2
  have hA0 : ∃ kc : Class, s.vm.classes[g.2.2.2.2.2 0]? = some kc ∧ ∃ cc : ClassId, kc.kind = .array cc .int := by
    obtain ⟨-, kc, z1, cc, z2⟩ := ((jctx_K C).2 0 _ (jtys_get _ (by decide))).1 0 (fun _ => .null)
    exact ⟨kc, z1, cc, z2⟩
  obtain ⟨kc, hkc, cc, hkindc⟩ := hA0
  obtain ⟨k6', hk6, he6⟩ := (jctx_W C).alike.2.2 _ _ y1
  obtain ⟨k7', hk7, he7⟩ := (jctx_W C).alike.2.2 _ _ y3
  have hnm : s.vm.findClass "[[[I" = some (g.2.2.2.2.2 7) := ((jctx_K C).2 7 _ (jtys_get _ (by decide))).2
  have hlim := Launch.admits_arrayLengthLimit X.admits
  have hhb := Launch.admits_maxHeapBytes X.admits
  have hsz : (arrV (g.2.2.2.2.2 0) q.toNatClampNeg (fun _ => defaultValue .int)).slots.size = q.toNatClampNeg := arrV_size ..
  have hB1 := jBld_one (arrV (g.2.2.2.2.2 0) q.toNatClampNeg (fun _ => defaultValue .int))
  have hS1 := jBldS_one (p := p) (l := g.1) (e := e) (R := R) (s := s) (m := m) (args := args) (below := below) (meth := meth) (c0 := c0) (arrV (g.2.2.2.2.2 0) q.toNatClampNeg (fun _ => defaultValue .int))
  rw [hsz] at hB1 hS1
  have hB2 := jBld_more hB1 (by decide) (g.2.2.2.2.2 6) k.toNatClampNeg
  have hS2 := jBldS_more hB1 hS1 (g.2.2.2.2.2 6) k.toNatClampNeg k.toNatClampNeg
  rw [Nat.mul_one] at hB2 hS2
  have hB := jBld_more hB2 (by omega) (g.2.2.2.2.2 7) n.toNatClampNeg
  have hS := jBldS_more hB2 hS2 (g.2.2.2.2.2 7) n.toNatClampNeg n.toNatClampNeg
  obtain ⟨vm₁, lo, hlo, X', step⟩ := jmulti_step3 X C.2.1 C.2.2.2.2.1 (jctx_w C hw) hnm (g := F0 m pc ls (.int q :: .int k :: .int n :: st.map (jc g))) rfl (by rw [C.2.2.1]; exact hd) rfl hB hS
    (fun vm₁ hal => by
      obtain ⟨kc', hkc', hec⟩ := hal.2.2 _ _ hkc
      obtain ⟨k6'', hk6'', he6''⟩ := hal.2.2 _ _ hk6
      obtain ⟨k7'', hk7'', he7''⟩ := hal.2.2 _ _ hk7
      have hI2 := jMkW_more hB1 hk6'' (by rw [he6'', he6]; exact y2) rfl hk (by rw [hlim]; omega) (by rw [hhb]; show ¬ k.toNatClampNeg * 4 > 536870912; omega) (by simp [hq]) (jMkW_one (e := e) hkc' (by rw [hec]; exact hkindc) hq (by rw [hlim]; omega) (by rw [hhb]; show ¬ q.toNatClampNeg * 4 > 536870912; omega) rfl rfl)
      rw [Nat.mul_one] at hI2
      exact jMkW_more hB2 hk7'' (by rw [he7'', he7]; exact y4) rfl hn (by rw [hlim]; omega) (by rw [hhb]; show ¬ n.toNatClampNeg * 4 > 536870912; omega) (by simp [hk, hq]) hI2)
    (by rw [hna, hkb]; omega) (by rw [hna, hkb, hqf]; omega)
  subst hna
  subst hkb
  subst hqf
  generalize hT9 : jmf (g.2.2.2.2.2 7) n.toNatClampNeg (1 + k.toNatClampNeg) (fun T => jmf (g.2.2.2.2.2 6) k.toNatClampNeg 1 (fun T => T.pushCell (arrV (g.2.2.2.2.2 0) q.toNatClampNeg (fun _ => defaultValue .int))) T k.toNatClampNeg) (T.setVm vm₁) n.toNatClampNeg = T9 at X' step
  have F : T9.heap.size = (T.setVm vm₁).heap.size + (1 + n.toNatClampNeg * (1 + k.toNatClampNeg)) ∧ (∀ a : Nat, a < (T.setVm vm₁).heap.size → T9.heap[a]? = (T.setVm vm₁).heap[a]?) ∧ ∀ o, o < 1 + n.toNatClampNeg * (1 + k.toNatClampNeg) → T9.heap[(T.setVm vm₁).heap.size + o]? = some (jmc (g.2.2.2.2.2 7) n.toNatClampNeg (1 + k.toNatClampNeg) (jmc (g.2.2.2.2.2 6) k.toNatClampNeg 1 (fun _ _ => arrV (g.2.2.2.2.2 0) q.toNatClampNeg (fun _ => defaultValue .int))) (T.setVm vm₁).heap.size o) := by
    rw [← hT9]
    obtain ⟨b1, b2, b3, b4, b5⟩ := hB.1 (T.setVm vm₁)
    exact ⟨b1, b4, b5⟩
  obtain ⟨b1, b4, b5⟩ := F
  generalize n.toNatClampNeg = a at *
  generalize k.toNatClampNeg = b at *
  generalize q.toNatClampNeg = f at *
  have hsize : (T.setVm vm₁).heap.size = jz g + K.2.2 := by show T.heap.size = _; rw [hT]; exact r.1
  have hold : (T.setVm vm₁).heap = H := hT
  have z1 : T9.heap.size = jz g + (K.2.2 + 1 + a * (1 + b)) := by rw [b1, hsize]; omega
  have h99 : jRel g (jK3 K a b f) ci cj (jR3 cr K.2.2 a b) T9.heap ∧ va_S (jA g) s.heap T9.heap (locs ++ lo) := by
    refine jRel_many (K' := jK3 K a b f) (cr' := jR3 cr K.2.2 a b) (H' := T9.heap) (lo := lo) r S (fun i hi => ?_) (by show K.2.2 ≤ K.2.2 + 1 + a * (1 + b); omega) h6 z1 (fun q hq => (b4 q (by rw [hsize]; exact hq)).trans (by rw [hold])) (fun i hi hi6 k => ?_) (fun i hi hi2 => ?_) (fun x hx => Nat.le_trans (Nat.le_add_right (jz g) K.2.2) (by rw [← hsize]; exact hlo x hx))
    · refine ⟨?_, ?_, fun k => ?_⟩
      · show (if i < K.2.2 then K.1 i else if i = K.2.2 then 107 else if i < K.2.2 + 1 + a * (1 + b) then _ else K.1 i) = _
        by_cases h : i < K.2.2
        · rw [if_pos h]
        · rw [if_neg h, if_neg (by omega), if_neg (by omega)]
      · show (if i < K.2.2 then K.2.1 i else if i = K.2.2 then a else if i < K.2.2 + 1 + a * (1 + b) then _ else K.2.1 i) = _
        by_cases h : i < K.2.2
        · rw [if_pos h]
        · rw [if_neg h, if_neg (by omega), if_neg (by omega)]
      · show (if i = K.2.2 then _ else if K.2.2 < i ∧ i < K.2.2 + 1 + a * (1 + b) ∧ _ then _ else cr i k) = _
        rw [if_neg (by omega), if_neg (fun z => by omega)]
    · have hi' : K.2.2 + 1 + a * (1 + b) ≤ i := hi
      show (if i = K.2.2 then _ else if K.2.2 < i ∧ i < K.2.2 + 1 + a * (1 + b) ∧ _ then _ else cr i k) = none
      rw [if_neg (by omega), if_neg (fun z => by omega)]
      exact (r.2.2.2.2.1 i (by omega) hi6 k).2.2
    · have hi2' : i < K.2.2 + 1 + a * (1 + b) := hi2
      by_cases h0 : i = K.2.2
      · subst h0
        have hkd : (jK3 K a b f).1 K.2.2 = 100 + 7 := by
          show (if K.2.2 < K.2.2 then K.1 K.2.2 else if K.2.2 = K.2.2 then 107 else _) = _
          rw [if_neg (Nat.lt_irrefl _), if_pos rfl]
        have hln : (jK3 K a b f).2.1 K.2.2 = a := by
          show (if K.2.2 < K.2.2 then K.2.1 K.2.2 else if K.2.2 = K.2.2 then a else _) = _
          rw [if_neg (Nat.lt_irrefl _), if_pos rfl]
        rw [jE_arr hkd]
        show T9.heap[jz g + K.2.2]? = some (vp_cell _ _)
        rw [jav_cell, hln]
        have h5 := b5 0 (by omega)
        rw [hsize] at h5
        refine h5.trans ?_
        show some (arrV _ a (fun j => if j < a then Value.ref (jz g + K.2.2 + 1 + j * (1 + b)) else .null)) = _
        congr 2
        funext j
        show _ = va_rf ((if K.2.2 = K.2.2 then (if j < a then some (K.2.2 + 1 + j * (1 + b)) else none) else _).map (jad g))
        rw [if_pos rfl]
        by_cases hj : j < a
        · rw [if_pos hj, if_pos hj]
          show Value.ref _ = Value.ref (jad g (K.2.2 + 1 + j * (1 + b)))
          have hjb : (j + 1) * (1 + b) ≤ a * (1 + b) := Nat.mul_le_mul_right _ hj
          rw [Nat.succ_mul] at hjb
          rw [jad_lt (n := K.2.2 + 1 + a * (1 + b)) (by omega) h6]
          simp only [Nat.add_assoc]
        · rw [if_neg hj, if_neg hj]; rfl
      · have h5 := b5 (i - K.2.2) (by omega)
        rw [hsize, show jz g + K.2.2 + (i - K.2.2) = jz g + i by omega] at h5
        unfold jmc at h5
        rw [if_neg (by omega)] at h5
        have hdm := Nat.div_add_mod (i - K.2.2 - 1) (1 + b)
        rw [Nat.mul_comm] at hdm
        by_cases hm : (i - K.2.2 - 1) % (1 + b) = 0
        · have hkd : (jK3 K a b f).1 i = 100 + 6 := by
            show (if i < K.2.2 then K.1 i else if i = K.2.2 then 107 else if i < K.2.2 + 1 + a * (1 + b) then (if (i - K.2.2 - 1) % (1 + b) = 0 then 106 else 100) else K.1 i) = _
            rw [if_neg (by omega), if_neg h0, if_pos hi2', if_pos hm]
          have hln : (jK3 K a b f).2.1 i = b := by
            show (if i < K.2.2 then K.2.1 i else if i = K.2.2 then a else if i < K.2.2 + 1 + a * (1 + b) then (if (i - K.2.2 - 1) % (1 + b) = 0 then b else f) else K.2.1 i) = _
            rw [if_neg (by omega), if_neg h0, if_pos hi2', if_pos hm]
          rw [jE_arr hkd]
          show T9.heap[jz g + i]? = some (vp_cell _ _)
          rw [jav_cell, hln]
          rw [hm, if_pos rfl] at h5
          refine h5.trans ?_
          have hbase : jz g + K.2.2 + 1 + (i - K.2.2 - 1) / (1 + b) * (1 + b) = jz g + i := by omega
          rw [hbase]
          show some (arrV _ b (fun j => if j < b then Value.ref (jz g + i + 1 + j * 1) else .null)) = _
          congr 2
          funext j
          show _ = va_rf ((if i = K.2.2 then _ else if K.2.2 < i ∧ i < K.2.2 + 1 + a * (1 + b) ∧ (i - K.2.2 - 1) % (1 + b) = 0 then (if j < b then some (i + 1 + j) else none) else cr i j).map (jad g))
          rw [if_neg h0, if_pos (show K.2.2 < i ∧ i < K.2.2 + 1 + a * (1 + b) ∧ (i - K.2.2 - 1) % (1 + b) = 0 from ⟨by omega, hi2', hm⟩)]
          by_cases hj : j < b
          · rw [if_pos hj, if_pos hj]
            show Value.ref _ = Value.ref (jad g (i + 1 + j))
            have hlt : (i - K.2.2 - 1) / (1 + b) < a := by rw [Nat.div_lt_iff_lt_mul (by omega)]; omega
            have hjb : ((i - K.2.2 - 1) / (1 + b) + 1) * (1 + b) ≤ a * (1 + b) := Nat.mul_le_mul_right _ hlt
            rw [Nat.succ_mul] at hjb
            rw [jad_lt (n := K.2.2 + 1 + a * (1 + b)) (by omega) h6]
            simp only [Nat.mul_one, Nat.add_assoc]
          · rw [if_neg hj, if_neg hj]; rfl
        · have hkd : (jK3 K a b f).1 i = 100 + 0 := by
            show (if i < K.2.2 then K.1 i else if i = K.2.2 then 107 else if i < K.2.2 + 1 + a * (1 + b) then (if (i - K.2.2 - 1) % (1 + b) = 0 then 106 else 100) else K.1 i) = _
            rw [if_neg (by omega), if_neg h0, if_pos hi2', if_neg hm]
          have hln : (jK3 K a b f).2.1 i = f := by
            show (if i < K.2.2 then K.2.1 i else if i = K.2.2 then a else if i < K.2.2 + 1 + a * (1 + b) then (if (i - K.2.2 - 1) % (1 + b) = 0 then b else f) else K.2.1 i) = _
            rw [if_neg (by omega), if_neg h0, if_pos hi2', if_neg hm]
          rw [jE_arr hkd]
          show T9.heap[jz g + i]? = some (vp_cell _ _)
          rw [jav_cell, hln]
          rw [if_neg hm] at h5
          refine h5.trans ?_
          show some (arrV (g.2.2.2.2.2 0) f (fun _ => Value.int 0)) = some (arrV (g.2.2.2.2.2 0) f (fun j => Value.int (ci i j)))
          congr 2
          funext j
          rw [(r.2.2.2.2.1 i (by omega) (by omega) j).1]
  obtain ⟨r9, S9⟩ := h99
  have kk9 := kk p e R s m args below meth c0 T9.heap (locs ++ lo) (cells + (1 + a * (1 + b))) (slots + (a + a * (b + b * f))) Q ls C r9 S9 (by omega) (by omega) hls E
  obtain ⟨t, a1, a2⟩ := kk9 T9 rfl X'
  refine ⟨t, step t ?_, a2⟩
  have e9 : ((Value.ref K.2.2 :: st).map (jc g)) = .ref T.heap.size :: st.map (jc g) := by
    have h9 : T.heap.size = jz g + K.2.2 := hsize
    simp [jc, h9, jad_lt (Nat.lt_succ_self K.2.2) (show K.2.2 + 1 ≤ 1000000 by omega)]
  rw [e9] at a1
  exact a1
end
