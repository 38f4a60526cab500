/-! HEAP ROWS: fields -/
theorem jcls : ∀ (c : Nat) (C : String) (T : u_T) (N : Nat), jcl[c]? = some (C, T, N) → c < 100 ∧ N = jfn c ∧ (∀ w ∈ u_ws C T N, w ∈ lw_all) ∧ (∀ k, k < N → parseFieldDescriptor (T k).2.2.1 = some (jfty c k)) ∧ (∀ a, a < N → ∀ b, b < N → a ≠ b → (T a).2.1 ≠ (T b).2.1) := by
  intro c C T N h
  match c, h with
  | 0, h => cases h; exact ⟨by decide, rfl, in_X0, tyX0_ok, nmX0⟩
  | 1, h => cases h; exact ⟨by decide, rfl, in_X1, tyX1_ok, nmX1⟩
  | 2, h => cases h; exact ⟨by decide, rfl, in_X2, tyX2_ok, nmX2⟩
  | 3, h => cases h; exact ⟨by decide, rfl, in_X3, tyX3_ok, nmX3⟩
  | 4, h => cases h; exact ⟨by decide, rfl, in_X4, tyX4_ok, nmX4⟩
  | 5, h => cases h; exact ⟨by decide, rfl, in_X5, tyX5_ok, nmX5⟩
  | 6, h => cases h; exact ⟨by decide, rfl, in_X6, tyX6_ok, nmX6⟩
  | 7, h => cases h; exact ⟨by decide, rfl, in_X8, tyX8_ok, nmX8⟩
  | 8, h => cases h; exact ⟨by decide, rfl, in_X9, tyX9_ok, nmX9⟩
  | 9, h => cases h; exact ⟨by decide, rfl, in_X10, tyX10_ok, nmX10⟩
  | 10, h => cases h; exact ⟨by decide, rfl, in_X12, tyX12_ok, nmX12⟩
  | 11, h => cases h; exact ⟨by decide, rfl, in_X13, tyX13_ok, nmX13⟩
  | 12, h => cases h; exact ⟨by decide, rfl, in_X14, tyX14_ok, nmX14⟩
  | 13, h => cases h; exact ⟨by decide, rfl, in_X15, tyX15_ok, nmX15⟩
  | 14, h => cases h; exact ⟨by decide, rfl, in_X16, tyX16_ok, nmX16⟩
  | 15, h => cases h; exact ⟨by decide, rfl, in_X18, tyX18_ok, nmX18⟩
  | 16, h => cases h; exact ⟨by decide, rfl, in_X19, tyX19_ok, nmX19⟩
  | 17, h => cases h; exact ⟨by decide, rfl, fun w hw => (by cases hw), fun k hk => absurd hk (Nat.not_lt_zero k), fun a ha => absurd ha (Nat.not_lt_zero a)⟩
  | 18, h => cases h; exact ⟨by decide, rfl, in_X21, tyX21_ok, nmX21⟩
  | 19, h => cases h; exact ⟨by decide, rfl, in_X22, tyX22_ok, nmX22⟩
  | 20, h => cases h; exact ⟨by decide, rfl, in_J2, tyJ2_ok, nmJ2⟩
  | 21, h => cases h; exact ⟨by decide, rfl, in_J6, tyJ6_ok, nmJ6⟩
  | 22, h => cases h; exact ⟨by decide, rfl, in_J15, tyJ15_ok, nmJ15⟩
  | n + 23, h => exact absurd h (by simp [jcl])
/-- the entry index of own's pool names the field k of the sort c -/
def jF (own : String) (index c k : Nat) : Prop := ∃ (C : String) (T : u_T) (N : Nat) (ref : String), jcl[c]? = some (C, T, N) ∧ k < N ∧
  (Cond.fieldLink own index ref (T k).2.1 (T k).2.2.1 ∈ lw_all ∨ ∃ host, Cond.fieldLinkNest own index ref (T k).2.1 (T k).2.2.1 host ∈ lw_tbl) ∧ ((T k).1 = ref ∨ Cond.sameField ref (T k).1 (T k).2.1 (T k).2.2.1 ∈ lw_all)
theorem jfv_c (g : jG) (ci : jI) (cj : jJ) (cr : jR) (i k : Nat) : (jc g (.int (ci i k)) = jfv g ci cj cr 0 i k) ∧ (jc g (.long (cj i k)) = jfv g ci cj cr 1 i k) ∧ (jc g (va_rf (cr i k)) = jfv g ci cj cr 2 i k) := by
  refine ⟨rfl, rfl, ?_⟩
  show jc g (va_rf (cr i k)) = va_rf ((cr i k).map (jad g))
  cases cr i k <;> rfl
theorem jE_obj {g : jG} {kd ln : Nat → Nat} {ci : jI} {cj : jJ} {cr : jR} {i c : Nat} (hk : kd i = c) (hc : c < 100) : jE g kd ln ci cj cr i = .inr (c, (List.range (jfn c)).map (fun k => jfv g ci cj cr (jtag (jfty c k)) i k)) := by
  subst hk
  simp [jE, hc]
theorem jE_arr {g : jG} {kd ln : Nat → Nat} {ci : jI} {cj : jJ} {cr : jR} {i t : Nat} (hk : kd i = 100 + t) : jE g kd ln ci cj cr i = .inl (g.2.2.2.2.2 t, jav g ci cj cr (jtag (jaty t)) (ln i) i) := by
  unfold jE
  rw [if_neg (by omega), hk, Nat.add_sub_cancel_left]
theorem jad_lt {g : jG} {i n : Nat} (h : i < n) (hn : n ≤ 1000000) : jad g i = jz g + i := by
  unfold jad
  rw [if_pos (by omega)]
section
variable {p : Program} {e : Env} {R : Room} {s : State} {m : MethodId} {args : Array Value} {below : List Frame} {meth : Method} {c0 : Code} {H : Heap} {locs : List Loc} {cells slots : Nat} {Q : State → Prop} {ls : Array Slot} {rest : List Value}
variable {g : jG} {d : Nat} {M : jM} {pc : Nat} {K : jK} {ci : jI} {cj : jJ} {cr : jR}
theorem jctx_K (C : jCtx g d M p R s m args meth c0) : va_K g.2.2.2.2.1 jcl (jtys g.2.2.2.2.2) s := va_K.moved C.2.2.2.2.2.2.2.2.2.2.2.2.1.alike C.1.2.1
theorem jctx_w (C : jCtx g d M p R s m args meth c0) {w : Cond} (h : w ∈ lw_all) : w.before args s = true := C.2.2.2.2.2.2.2.1 w h
theorem jctx_W (C : jCtx g d M p R s m args meth c0) : g.2.1.WarmedH s.vm := C.2.2.2.2.2.2.2.2.2.2.2.2.1
theorem jctx_nF (C : jCtx g d M p R s m args meth c0) {a : String} {i : Nat} {b n d' h : String} (hw : Cond.fieldLinkNest a i b n d' h ∈ lw_tbl) : (Cond.fieldLinkNest a i b n d' h).before args s = true :=
  va_Nw.use rfl (va_Nw.warmF (jctx_W C) (va_Nw.of rfl (C.1.1 _ hw)))
theorem jsame (C : jCtx g d M p R s m args meth c0) {ref owner name desc : String} (h : owner = ref ∨ Cond.sameField ref owner name desc ∈ lw_all) : ∀ x, s.fieldFound? owner name desc = some x → s.fieldFound? ref name desc = some x := by
  intro x hx
  rcases h with h | h
  · rw [← h]; exact hx
  · exact u_same (jctx_w C h) x hx
theorem jget_core (C : jCtx g d M p R s m args meth c0) (r : jRel g K ci cj cr H) {index a cN k : Nat} (hF : jF M.1.cls index cN k) (hk : K.1 a = cN) (hin : a < K.2.2 ∨ 1000000 ≤ a) (hd : decode M.2.1 pc = .ok (.getfield index, 3))
    (kk : W p g.1 e R s m args below meth c0 H locs cells slots Q (F0 m (pc + 3) ls (jfv g ci cj cr (jtag (jfty cN k)) a k :: rest))) : W p g.1 e R s m args below meth c0 H locs cells slots Q (F0 m pc ls (.ref (jad g a) :: rest)) := by
  obtain ⟨C', T, N, ref, hc, hkN, hlink, hs⟩ := hF
  obtain ⟨hc100, hN, hwin, hty, hnm⟩ := jcls _ _ _ _ hc
  obtain ⟨r1, r2, r3, r4, r5, r6⟩ := r
  by_cases ha : a < K.2.2
  · have hE : (jW (jz g) (jE g K.1 K.2.1 ci cj cr) K.2.2)[a]? = some (jz g + a, .inr (cN, (List.range (jfn cN)).map (fun k => jfv g ci cj cr (jtag (jfty cN k)) a k))) := by rw [jW_get _ _ ha, jE_obj hk hc100]
    have hv : ((List.range (jfn cN)).map (fun k => jfv g ci cj cr (jtag (jfty cN k)) a k))[k]? = some (jfv g ci cj cr (jtag (jfty cN k)) a k) := by
      rw [List.getElem?_map, List.getElem?_range (by omega)]; rfl
    rw [jad_lt ha r2]
    rcases hlink with hl | ⟨host, hl⟩
    · exact va_get C.2.1 C.2.2.1 C.2.2.2.2.2.2.2.1 hwin C.2.2.2.2.1 (jctx_K C) r3 a hE hc k hkN (jctx_w C hl) (jsame C hs) hv hd kk
    · exact va_getN C.2.1 C.2.2.1 C.2.2.2.2.2.2.2.1 hwin C.2.2.2.2.1 (jctx_K C) r3 a hE hc k hkN (jctx_nF C hl) (jsame C hs) hv hd kk
  · have hb : 1000000 ≤ a := by omega
    obtain ⟨q1, q2, -⟩ := r6 a hb
    have h21 : cN = 21 := Classical.byContradiction fun z => q2 (by rw [hk]; exact z) (by rw [hk]; exact hc100)
    subst h21
    cases hc
    obtain ⟨-, qf⟩ := q1 hk
    obtain ⟨cf, kc, fi, f, cell, g1, g2, g3, g4, g5, g6⟩ := (va_OF.moved (jctx_W C).alike (qf k hkN)).kept (H1 := H) (fun q _ hq => r4 q (by omega))
    have hval : jfv g ci (fun _ _ => 0) cr (jtag (tyJ6 k)) a k = jfv g ci cj cr (jtag (jfty 21 k)) a k := by
      rcases (show k = 0 ∨ k = 1 ∨ k = 2 ∨ k = 3 by omega) with z | z | z | z <;> subst z <;> rfl
    rw [hval] at g5
    rcases hlink with hl | ⟨host, hl⟩
    · exact W.getf C.2.1 C.2.2.1 C.2.2.2.2.1 (jctx_w C hl) (jsame C hs _ g1) g2 g3 g4 g5 rfl rfl hd kk
    · exact va_Wgetf C.2.1 C.2.2.1 C.2.2.2.2.1 (jctx_nF C hl) (jsame C hs _ g1) g2 g3 g4 g5 rfl rfl hd kk
end
section
variable {g : jG} {d : Nat} {M : jM} {pc : Nat} {L st : List Value} {K : jK} {ci : jI} {cj : jJ} {cr : jR} {c sl : Nat} {Qr : jQ} {Qx : jX}
theorem ev_getI {index a cN k : Nat} (hd : decode M.2.1 pc = .ok (.getfield index, 3)) (hF : jF M.1.cls index cN k) (hk : K.1 a = cN) (hin : a < K.2.2 ∨ 1000000 ≤ a) (ht : jtag (jfty cN k) = 0) (kk : Ev g d M (pc + 3) L (.int (ci a k) :: st) K ci cj cr c sl Qr Qx) : Ev g d M pc L (.ref a :: st) K ci cj cr c sl Qr Qx := by
  intro p e R s m args below meth c0 H locs cells slots Q ls C r S h1 h2 hls E
  exact jget_core C r hF hk hin hd (by rw [ht]; exact kk p e R s m args below meth c0 H locs cells slots Q ls C r S h1 h2 hls E)
theorem ev_getJ {index a cN k : Nat} (hd : decode M.2.1 pc = .ok (.getfield index, 3)) (hF : jF M.1.cls index cN k) (hk : K.1 a = cN) (hin : a < K.2.2 ∨ 1000000 ≤ a) (ht : jtag (jfty cN k) = 1) (kk : Ev g d M (pc + 3) L (.long (cj a k) :: st) K ci cj cr c sl Qr Qx) : Ev g d M pc L (.ref a :: st) K ci cj cr c sl Qr Qx := by
  intro p e R s m args below meth c0 H locs cells slots Q ls C r S h1 h2 hls E
  exact jget_core C r hF hk hin hd (by rw [ht]; exact kk p e R s m args below meth c0 H locs cells slots Q ls C r S h1 h2 hls E)
theorem ev_getQ {index a cN k : Nat} (hd : decode M.2.1 pc = .ok (.getfield index, 3)) (hF : jF M.1.cls index cN k) (hk : K.1 a = cN) (hin : a < K.2.2 ∨ 1000000 ≤ a) (ht : jtag (jfty cN k) = 2) (kk : Ev g d M (pc + 3) L (va_rf (cr a k) :: st) K ci cj cr c sl Qr Qx) : Ev g d M pc L (.ref a :: st) K ci cj cr c sl Qr Qx := by
  intro p e R s m args below meth c0 H locs cells slots Q ls C r S h1 h2 hls E
  exact jget_core C r hF hk hin hd (by rw [ht, ← (jfv_c g ci cj cr a k).2.2]; exact kk p e R s m args below meth c0 H locs cells slots Q ls C r S h1 h2 hls E)
theorem ev_getR {index a cN k x : Nat} (hd : decode M.2.1 pc = .ok (.getfield index, 3)) (hF : jF M.1.cls index cN k) (hk : K.1 a = cN) (hin : a < K.2.2 ∨ 1000000 ≤ a) (ht : jtag (jfty cN k) = 2) (hx : cr a k = some x) (kk : Ev g d M (pc + 3) L (.ref x :: st) K ci cj cr c sl Qr Qx) : Ev g d M pc L (.ref a :: st) K ci cj cr c sl Qr Qx :=
  ev_getQ hd hF hk hin ht (by rw [hx]; exact kk)
theorem ev_getN {index a cN k : Nat} (hd : decode M.2.1 pc = .ok (.getfield index, 3)) (hF : jF M.1.cls index cN k) (hk : K.1 a = cN) (hin : a < K.2.2 ∨ 1000000 ≤ a) (ht : jtag (jfty cN k) = 2) (hx : cr a k = none) (kk : Ev g d M (pc + 3) L (.null :: st) K ci cj cr c sl Qr Qx) : Ev g d M pc L (.ref a :: st) K ci cj cr c sl Qr Qx :=
  ev_getQ hd hF hk hin ht (by rw [hx]; exact kk)
end
