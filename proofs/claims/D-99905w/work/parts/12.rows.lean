/-! THE PURE ROWS (printed by gen/rows.py) -/
section
variable {g : jG} {d : Nat} {M : jM} {pc : Nat} {L st : List Value} {K : jK} {ci : jI} {cj : jJ} {cr : jR} {c sl : Nat} {Qr : jQ} {Qx : jX}
theorem ev_bipush {n : Int} {v : Int32} (hd : decode M.2.1 pc = .ok (.bipush n, 2)) (hv : (Int8.ofInt n).toInt32 = v) (k : Ev g d M (pc + 2) L (.int v :: st) K ci cj cr c sl Qr Qx) : Ev g d M pc L (st) K ci cj cr c sl Qr Qx := by
  intro p e R s m args below meth c0 H locs cells slots Q ls C r S h1 h2 hls E
  exact lv_bipush C.2.1 C.2.2.1 hd hv (k p e R s m args below meth c0 H locs cells slots Q ls C r S h1 h2 hls E)
theorem ev_sipush {n : Int} {v : Int32} (hd : decode M.2.1 pc = .ok (.sipush n, 3)) (hv : (Int16.ofInt n).toInt32 = v) (k : Ev g d M (pc + 3) L (.int v :: st) K ci cj cr c sl Qr Qx) : Ev g d M pc L (st) K ci cj cr c sl Qr Qx := by
  intro p e R s m args below meth c0 H locs cells slots Q ls C r S h1 h2 hls E
  exact lv_sipush C.2.1 C.2.2.1 hd hv (k p e R s m args below meth c0 H locs cells slots Q ls C r S h1 h2 hls E)
theorem ev_lconst {n : Fin 2} {v : Int64} (hd : decode M.2.1 pc = .ok (.lconst n, 1)) (hv : Int64.ofNat (n : Nat) = v) (k : Ev g d M (pc + 1) L (.long v :: st) K ci cj cr c sl Qr Qx) : Ev g d M pc L (st) K ci cj cr c sl Qr Qx := by
  intro p e R s m args below meth c0 H locs cells slots Q ls C r S h1 h2 hls E
  exact lv_lconst C.2.1 C.2.2.1 hd hv (k p e R s m args below meth c0 H locs cells slots Q ls C r S h1 h2 hls E)
theorem ev_null  (hd : decode M.2.1 pc = .ok (.aconst_null, 1))  (k : Ev g d M (pc + 1) L (.null :: st) K ci cj cr c sl Qr Qx) : Ev g d M pc L (st) K ci cj cr c sl Qr Qx := by
  intro p e R s m args below meth c0 H locs cells slots Q ls C r S h1 h2 hls E
  exact lv_null C.2.1 C.2.2.1 hd (k p e R s m args below meth c0 H locs cells slots Q ls C r S h1 h2 hls E)
theorem ev_ldc {index : Nat} {v : Int32} (hd : decode M.2.1 pc = .ok (.ldc index, 2)) (hw : Cond.constant M.1.cls index v ∈ lw_all) (k : Ev g d M (pc + 2) L (.int v :: st) K ci cj cr c sl Qr Qx) : Ev g d M pc L (st) K ci cj cr c sl Qr Qx := by
  intro p e R s m args below meth c0 H locs cells slots Q ls C r S h1 h2 hls E
  exact lv_ldc C.2.1 C.2.2.1 C.2.2.2.2.1 (C.2.2.2.2.2.2.2.1 _ hw) hd (k p e R s m args below meth c0 H locs cells slots Q ls C r S h1 h2 hls E)
theorem ev_ldcw {index : Nat} {v : Int32} (hd : decode M.2.1 pc = .ok (.ldc_w index, 3)) (hw : Cond.constant M.1.cls index v ∈ lw_all) (k : Ev g d M (pc + 3) L (.int v :: st) K ci cj cr c sl Qr Qx) : Ev g d M pc L (st) K ci cj cr c sl Qr Qx := by
  intro p e R s m args below meth c0 H locs cells slots Q ls C r S h1 h2 hls E
  exact lv_ldcw C.2.1 C.2.2.1 C.2.2.2.2.1 (C.2.2.2.2.2.2.2.1 _ hw) hd (k p e R s m args below meth c0 H locs cells slots Q ls C r S h1 h2 hls E)
theorem ev_ldc2 {index : Nat} {v : Int64} (hd : decode M.2.1 pc = .ok (.ldc2_w index, 3)) (hw : Cond.constantLong M.1.cls index v ∈ lw_all) (k : Ev g d M (pc + 3) L (.long v :: st) K ci cj cr c sl Qr Qx) : Ev g d M pc L (st) K ci cj cr c sl Qr Qx := by
  intro p e R s m args below meth c0 H locs cells slots Q ls C r S h1 h2 hls E
  exact lv_ldc2 C.2.1 C.2.2.1 C.2.2.2.2.1 (C.2.2.2.2.2.2.2.1 _ hw) hd (k p e R s m args below meth c0 H locs cells slots Q ls C r S h1 h2 hls E)
theorem ev_iload_n {n : Fin 4} {x : Int32} (hd : decode M.2.1 pc = .ok (.iload_n n, 1)) (hL : L[(n : Nat)]? = some (.int x)) (k : Ev g d M (pc + 1) L (.int x :: st) K ci cj cr c sl Qr Qx) : Ev g d M pc L (st) K ci cj cr c sl Qr Qx := by
  intro p e R s m args below meth c0 H locs cells slots Q ls C r S h1 h2 hls E
  exact lv_iload_n C.2.1 C.2.2.1 hd rfl (jas_at hls hL (fun q => by cases q)) (k p e R s m args below meth c0 H locs cells slots Q ls C r S h1 h2 hls E)
theorem ev_iload {i : Nat} {x : Int32} (hd : decode M.2.1 pc = .ok (.iload i, 2)) (hL : L[i]? = some (.int x)) (k : Ev g d M (pc + 2) L (.int x :: st) K ci cj cr c sl Qr Qx) : Ev g d M pc L (st) K ci cj cr c sl Qr Qx := by
  intro p e R s m args below meth c0 H locs cells slots Q ls C r S h1 h2 hls E
  exact lv_iload C.2.1 C.2.2.1 hd (jas_at hls hL (fun q => by cases q)) (k p e R s m args below meth c0 H locs cells slots Q ls C r S h1 h2 hls E)
theorem ev_lload_n {n : Fin 4} {x : Int64} (hd : decode M.2.1 pc = .ok (.lload_n n, 1)) (hL : L[(n : Nat)]? = some (.long x)) (k : Ev g d M (pc + 1) L (.long x :: st) K ci cj cr c sl Qr Qx) : Ev g d M pc L (st) K ci cj cr c sl Qr Qx := by
  intro p e R s m args below meth c0 H locs cells slots Q ls C r S h1 h2 hls E
  exact lv_lload_n C.2.1 C.2.2.1 hd rfl (jas_at hls hL (fun q => by cases q)) (k p e R s m args below meth c0 H locs cells slots Q ls C r S h1 h2 hls E)
theorem ev_lload {i : Nat} {x : Int64} (hd : decode M.2.1 pc = .ok (.lload i, 2)) (hL : L[i]? = some (.long x)) (k : Ev g d M (pc + 2) L (.long x :: st) K ci cj cr c sl Qr Qx) : Ev g d M pc L (st) K ci cj cr c sl Qr Qx := by
  intro p e R s m args below meth c0 H locs cells slots Q ls C r S h1 h2 hls E
  exact lv_lload C.2.1 C.2.2.1 hd (jas_at hls hL (fun q => by cases q)) (k p e R s m args below meth c0 H locs cells slots Q ls C r S h1 h2 hls E)
theorem ev_aload_n {n : Fin 4} {x : Nat} (hd : decode M.2.1 pc = .ok (.aload_n n, 1)) (hL : L[(n : Nat)]? = some (.ref x)) (k : Ev g d M (pc + 1) L (.ref x :: st) K ci cj cr c sl Qr Qx) : Ev g d M pc L (st) K ci cj cr c sl Qr Qx := by
  intro p e R s m args below meth c0 H locs cells slots Q ls C r S h1 h2 hls E
  exact lv_aload_n C.2.1 C.2.2.1 hd rfl (jas_at hls hL (fun q => by cases q)) (k p e R s m args below meth c0 H locs cells slots Q ls C r S h1 h2 hls E)
theorem ev_aload {i : Nat} {x : Nat} (hd : decode M.2.1 pc = .ok (.aload i, 2)) (hL : L[i]? = some (.ref x)) (k : Ev g d M (pc + 2) L (.ref x :: st) K ci cj cr c sl Qr Qx) : Ev g d M pc L (st) K ci cj cr c sl Qr Qx := by
  intro p e R s m args below meth c0 H locs cells slots Q ls C r S h1 h2 hls E
  exact lv_aload C.2.1 C.2.2.1 hd (jas_at hls hL (fun q => by cases q)) (k p e R s m args below meth c0 H locs cells slots Q ls C r S h1 h2 hls E)
theorem ev_aload_nN {n : Fin 4} (hd : decode M.2.1 pc = .ok (.aload_n n, 1)) (hL : L[(n : Nat)]? = some .null) (k : Ev g d M (pc + 1) L (.null :: st) K ci cj cr c sl Qr Qx) : Ev g d M pc L (st) K ci cj cr c sl Qr Qx := by
  intro p e R s m args below meth c0 H locs cells slots Q ls C r S h1 h2 hls E
  exact lv_aload_nN C.2.1 C.2.2.1 hd rfl (jas_at hls hL (fun q => by cases q)) (k p e R s m args below meth c0 H locs cells slots Q ls C r S h1 h2 hls E)
theorem ev_aloadN {i : Nat} (hd : decode M.2.1 pc = .ok (.aload i, 2)) (hL : L[i]? = some .null) (k : Ev g d M (pc + 2) L (.null :: st) K ci cj cr c sl Qr Qx) : Ev g d M pc L (st) K ci cj cr c sl Qr Qx := by
  intro p e R s m args below meth c0 H locs cells slots Q ls C r S h1 h2 hls E
  exact lv_aloadN C.2.1 C.2.2.1 hd (jas_at hls hL (fun q => by cases q)) (k p e R s m args below meth c0 H locs cells slots Q ls C r S h1 h2 hls E)
theorem ev_istore_n {n : Fin 4} {x : Int32} {L' : List Value} (hd : decode M.2.1 pc = .ok (.istore_n n, 1)) (hn : (n : Nat) < M.2.2.1) (hL : jset1 L (n : Nat) (.int x) = L') (k : Ev g d M (pc + 1) L' st K ci cj cr c sl Qr Qx) : Ev g d M pc L (.int x :: st) K ci cj cr c sl Qr Qx := by
  intro p e R s m args below meth c0 H locs cells slots Q ls C r S h1 h2 hls E
  exact lv_istore_n C.2.1 C.2.2.1 hd rfl hls hn rfl (fun ls' h' => k p e R s m args below meth c0 H locs cells slots Q ls' C r S h1 h2 (hL ▸ jas_set1 (v := .int x) h') E)
theorem ev_istore {i : Nat} {x : Int32} {L' : List Value} (hd : decode M.2.1 pc = .ok (.istore i, 2)) (hn : i < M.2.2.1) (hL : jset1 L i (.int x) = L') (k : Ev g d M (pc + 2) L' st K ci cj cr c sl Qr Qx) : Ev g d M pc L (.int x :: st) K ci cj cr c sl Qr Qx := by
  intro p e R s m args below meth c0 H locs cells slots Q ls C r S h1 h2 hls E
  exact lv_istore C.2.1 C.2.2.1 hd hls hn rfl (fun ls' h' => k p e R s m args below meth c0 H locs cells slots Q ls' C r S h1 h2 (hL ▸ jas_set1 (v := .int x) h') E)
theorem ev_lstore_n {n : Fin 4} {x : Int64} {L' : List Value} (hd : decode M.2.1 pc = .ok (.lstore_n n, 1)) (hn : (n : Nat) + 1 < M.2.2.1) (hL : jset2 L (n : Nat) (.long x) = L') (k : Ev g d M (pc + 1) L' st K ci cj cr c sl Qr Qx) : Ev g d M pc L (.long x :: st) K ci cj cr c sl Qr Qx := by
  intro p e R s m args below meth c0 H locs cells slots Q ls C r S h1 h2 hls E
  exact lv_lstore_n C.2.1 C.2.2.1 hd rfl hls hn rfl (fun ls' h' => k p e R s m args below meth c0 H locs cells slots Q ls' C r S h1 h2 (hL ▸ jas_set2 (v := .long x) h') E)
theorem ev_lstore {i : Nat} {x : Int64} {L' : List Value} (hd : decode M.2.1 pc = .ok (.lstore i, 2)) (hn : i + 1 < M.2.2.1) (hL : jset2 L i (.long x) = L') (k : Ev g d M (pc + 2) L' st K ci cj cr c sl Qr Qx) : Ev g d M pc L (.long x :: st) K ci cj cr c sl Qr Qx := by
  intro p e R s m args below meth c0 H locs cells slots Q ls C r S h1 h2 hls E
  exact lv_lstore C.2.1 C.2.2.1 hd hls hn rfl (fun ls' h' => k p e R s m args below meth c0 H locs cells slots Q ls' C r S h1 h2 (hL ▸ jas_set2 (v := .long x) h') E)
theorem ev_astore_n {n : Fin 4} {x : Nat} {L' : List Value} (hd : decode M.2.1 pc = .ok (.astore_n n, 1)) (hn : (n : Nat) < M.2.2.1) (hL : jset1 L (n : Nat) (.ref x) = L') (k : Ev g d M (pc + 1) L' st K ci cj cr c sl Qr Qx) : Ev g d M pc L (.ref x :: st) K ci cj cr c sl Qr Qx := by
  intro p e R s m args below meth c0 H locs cells slots Q ls C r S h1 h2 hls E
  exact lv_astore_n C.2.1 C.2.2.1 hd rfl hls hn rfl (fun ls' h' => k p e R s m args below meth c0 H locs cells slots Q ls' C r S h1 h2 (hL ▸ jas_set1 (v := .ref x) h') E)
theorem ev_astore {i : Nat} {x : Nat} {L' : List Value} (hd : decode M.2.1 pc = .ok (.astore i, 2)) (hn : i < M.2.2.1) (hL : jset1 L i (.ref x) = L') (k : Ev g d M (pc + 2) L' st K ci cj cr c sl Qr Qx) : Ev g d M pc L (.ref x :: st) K ci cj cr c sl Qr Qx := by
  intro p e R s m args below meth c0 H locs cells slots Q ls C r S h1 h2 hls E
  exact lv_astore C.2.1 C.2.2.1 hd hls hn rfl (fun ls' h' => k p e R s m args below meth c0 H locs cells slots Q ls' C r S h1 h2 (hL ▸ jas_set1 (v := .ref x) h') E)
theorem ev_astore_nN {n : Fin 4} {L' : List Value} (hd : decode M.2.1 pc = .ok (.astore_n n, 1)) (hn : (n : Nat) < M.2.2.1) (hL : jset1 L (n : Nat) (.null) = L') (k : Ev g d M (pc + 1) L' st K ci cj cr c sl Qr Qx) : Ev g d M pc L (.null :: st) K ci cj cr c sl Qr Qx := by
  intro p e R s m args below meth c0 H locs cells slots Q ls C r S h1 h2 hls E
  exact lv_astore_nN C.2.1 C.2.2.1 hd rfl hls hn rfl (fun ls' h' => k p e R s m args below meth c0 H locs cells slots Q ls' C r S h1 h2 (hL ▸ jas_set1 (v := .null) h') E)
theorem ev_astoreN {i : Nat} {L' : List Value} (hd : decode M.2.1 pc = .ok (.astore i, 2)) (hn : i < M.2.2.1) (hL : jset1 L i (.null) = L') (k : Ev g d M (pc + 2) L' st K ci cj cr c sl Qr Qx) : Ev g d M pc L (.null :: st) K ci cj cr c sl Qr Qx := by
  intro p e R s m args below meth c0 H locs cells slots Q ls C r S h1 h2 hls E
  exact lv_astoreN C.2.1 C.2.2.1 hd hls hn rfl (fun ls' h' => k p e R s m args below meth c0 H locs cells slots Q ls' C r S h1 h2 (hL ▸ jas_set1 (v := .null) h') E)
theorem ev_iinc {i : Nat} {n : Int} {x v : Int32} {L' : List Value} (hd : decode M.2.1 pc = .ok (.iinc i n, 3)) (hx : L[i]? = some (.int x)) (hv : x + Int32.ofInt n = v) (hn : i < M.2.2.1) (hL : jset1 L i (.int v) = L') (k : Ev g d M (pc + 3) L' st K ci cj cr c sl Qr Qx) : Ev g d M pc L st K ci cj cr c sl Qr Qx := by
  intro p e R s m args below meth c0 H locs cells slots Q ls C r S h1 h2 hls E
  obtain ⟨q, hq⟩ := List.getElem?_of_mem ((jas_mem g L (i, .int x)).mpr ⟨i, .int x, hx, (fun q => by cases q), rfl⟩)
  exact lv_iinc C.2.1 C.2.2.1 hd hls hq hv hn rfl (fun ls' h' => k p e R s m args below meth c0 H locs cells slots Q ls' C r S h1 h2 (hL ▸ jas_set1 (v := .int v) h') E)
theorem ev_iadd {x y : Int32} (hd : decode M.2.1 pc = .ok (.iadd, 1))  (k : Ev g d M (pc + 1) L (.int (x + y) :: st) K ci cj cr c sl Qr Qx) : Ev g d M pc L (.int y :: .int x :: st) K ci cj cr c sl Qr Qx := by
  intro p e R s m args below meth c0 H locs cells slots Q ls C r S h1 h2 hls E
  exact lv_iadd C.2.1 C.2.2.1 hd (k p e R s m args below meth c0 H locs cells slots Q ls C r S h1 h2 hls E)
theorem ev_isub {x y : Int32} (hd : decode M.2.1 pc = .ok (.isub, 1))  (k : Ev g d M (pc + 1) L (.int (x - y) :: st) K ci cj cr c sl Qr Qx) : Ev g d M pc L (.int y :: .int x :: st) K ci cj cr c sl Qr Qx := by
  intro p e R s m args below meth c0 H locs cells slots Q ls C r S h1 h2 hls E
  exact lv_isub C.2.1 C.2.2.1 hd (k p e R s m args below meth c0 H locs cells slots Q ls C r S h1 h2 hls E)
theorem ev_imul {x y : Int32} (hd : decode M.2.1 pc = .ok (.imul, 1))  (k : Ev g d M (pc + 1) L (.int (x * y) :: st) K ci cj cr c sl Qr Qx) : Ev g d M pc L (.int y :: .int x :: st) K ci cj cr c sl Qr Qx := by
  intro p e R s m args below meth c0 H locs cells slots Q ls C r S h1 h2 hls E
  exact lv_imul C.2.1 C.2.2.1 hd (k p e R s m args below meth c0 H locs cells slots Q ls C r S h1 h2 hls E)
theorem ev_iand {x y : Int32} (hd : decode M.2.1 pc = .ok (.iand, 1))  (k : Ev g d M (pc + 1) L (.int (x &&& y) :: st) K ci cj cr c sl Qr Qx) : Ev g d M pc L (.int y :: .int x :: st) K ci cj cr c sl Qr Qx := by
  intro p e R s m args below meth c0 H locs cells slots Q ls C r S h1 h2 hls E
  exact lv_iand C.2.1 C.2.2.1 hd (k p e R s m args below meth c0 H locs cells slots Q ls C r S h1 h2 hls E)
theorem ev_ior {x y : Int32} (hd : decode M.2.1 pc = .ok (.ior, 1))  (k : Ev g d M (pc + 1) L (.int (x ||| y) :: st) K ci cj cr c sl Qr Qx) : Ev g d M pc L (.int y :: .int x :: st) K ci cj cr c sl Qr Qx := by
  intro p e R s m args below meth c0 H locs cells slots Q ls C r S h1 h2 hls E
  exact lv_ior C.2.1 C.2.2.1 hd (k p e R s m args below meth c0 H locs cells slots Q ls C r S h1 h2 hls E)
theorem ev_ixor {x y : Int32} (hd : decode M.2.1 pc = .ok (.ixor, 1))  (k : Ev g d M (pc + 1) L (.int (x ^^^ y) :: st) K ci cj cr c sl Qr Qx) : Ev g d M pc L (.int y :: .int x :: st) K ci cj cr c sl Qr Qx := by
  intro p e R s m args below meth c0 H locs cells slots Q ls C r S h1 h2 hls E
  exact lv_ixor C.2.1 C.2.2.1 hd (k p e R s m args below meth c0 H locs cells slots Q ls C r S h1 h2 hls E)
theorem ev_ishl {x y : Int32} (hd : decode M.2.1 pc = .ok (.ishl, 1))  (k : Ev g d M (pc + 1) L (.int (x <<< (y &&& 31)) :: st) K ci cj cr c sl Qr Qx) : Ev g d M pc L (.int y :: .int x :: st) K ci cj cr c sl Qr Qx := by
  intro p e R s m args below meth c0 H locs cells slots Q ls C r S h1 h2 hls E
  exact lv_ishl C.2.1 C.2.2.1 hd (k p e R s m args below meth c0 H locs cells slots Q ls C r S h1 h2 hls E)
theorem ev_ishr {x y : Int32} (hd : decode M.2.1 pc = .ok (.ishr, 1))  (k : Ev g d M (pc + 1) L (.int (x >>> (y &&& 31)) :: st) K ci cj cr c sl Qr Qx) : Ev g d M pc L (.int y :: .int x :: st) K ci cj cr c sl Qr Qx := by
  intro p e R s m args below meth c0 H locs cells slots Q ls C r S h1 h2 hls E
  exact lv_ishr C.2.1 C.2.2.1 hd (k p e R s m args below meth c0 H locs cells slots Q ls C r S h1 h2 hls E)
theorem ev_idiv {x y : Int32} (hd : decode M.2.1 pc = .ok (.idiv, 1)) (hne : ¬ y = 0) (k : Ev g d M (pc + 1) L (.int (x / y) :: st) K ci cj cr c sl Qr Qx) : Ev g d M pc L (.int y :: .int x :: st) K ci cj cr c sl Qr Qx := by
  intro p e R s m args below meth c0 H locs cells slots Q ls C r S h1 h2 hls E
  exact lv_idiv C.2.1 C.2.2.1 hd hne (k p e R s m args below meth c0 H locs cells slots Q ls C r S h1 h2 hls E)
theorem ev_irem {x y : Int32} (hd : decode M.2.1 pc = .ok (.irem, 1)) (hne : ¬ y = 0) (k : Ev g d M (pc + 1) L (.int (x - x / y * y) :: st) K ci cj cr c sl Qr Qx) : Ev g d M pc L (.int y :: .int x :: st) K ci cj cr c sl Qr Qx := by
  intro p e R s m args below meth c0 H locs cells slots Q ls C r S h1 h2 hls E
  exact lv_irem C.2.1 C.2.2.1 hd hne (k p e R s m args below meth c0 H locs cells slots Q ls C r S h1 h2 hls E)
theorem ev_ineg {x : Int32} (hd : decode M.2.1 pc = .ok (.ineg, 1))  (k : Ev g d M (pc + 1) L (.int (-x) :: st) K ci cj cr c sl Qr Qx) : Ev g d M pc L (.int x :: st) K ci cj cr c sl Qr Qx := by
  intro p e R s m args below meth c0 H locs cells slots Q ls C r S h1 h2 hls E
  exact lv_ineg C.2.1 C.2.2.1 hd (k p e R s m args below meth c0 H locs cells slots Q ls C r S h1 h2 hls E)
theorem ev_ladd {x y : Int64} (hd : decode M.2.1 pc = .ok (.ladd, 1))  (k : Ev g d M (pc + 1) L (.long (x + y) :: st) K ci cj cr c sl Qr Qx) : Ev g d M pc L (.long y :: .long x :: st) K ci cj cr c sl Qr Qx := by
  intro p e R s m args below meth c0 H locs cells slots Q ls C r S h1 h2 hls E
  exact lv_ladd C.2.1 C.2.2.1 hd (k p e R s m args below meth c0 H locs cells slots Q ls C r S h1 h2 hls E)
theorem ev_lsub {x y : Int64} (hd : decode M.2.1 pc = .ok (.lsub, 1))  (k : Ev g d M (pc + 1) L (.long (x - y) :: st) K ci cj cr c sl Qr Qx) : Ev g d M pc L (.long y :: .long x :: st) K ci cj cr c sl Qr Qx := by
  intro p e R s m args below meth c0 H locs cells slots Q ls C r S h1 h2 hls E
  exact lv_lsub C.2.1 C.2.2.1 hd (k p e R s m args below meth c0 H locs cells slots Q ls C r S h1 h2 hls E)
theorem ev_lmul {x y : Int64} (hd : decode M.2.1 pc = .ok (.lmul, 1))  (k : Ev g d M (pc + 1) L (.long (x * y) :: st) K ci cj cr c sl Qr Qx) : Ev g d M pc L (.long y :: .long x :: st) K ci cj cr c sl Qr Qx := by
  intro p e R s m args below meth c0 H locs cells slots Q ls C r S h1 h2 hls E
  exact lv_lmul C.2.1 C.2.2.1 hd (k p e R s m args below meth c0 H locs cells slots Q ls C r S h1 h2 hls E)
theorem ev_land {x y : Int64} (hd : decode M.2.1 pc = .ok (.land, 1))  (k : Ev g d M (pc + 1) L (.long (x &&& y) :: st) K ci cj cr c sl Qr Qx) : Ev g d M pc L (.long y :: .long x :: st) K ci cj cr c sl Qr Qx := by
  intro p e R s m args below meth c0 H locs cells slots Q ls C r S h1 h2 hls E
  exact lv_land C.2.1 C.2.2.1 hd (k p e R s m args below meth c0 H locs cells slots Q ls C r S h1 h2 hls E)
theorem ev_lor {x y : Int64} (hd : decode M.2.1 pc = .ok (.lor, 1))  (k : Ev g d M (pc + 1) L (.long (x ||| y) :: st) K ci cj cr c sl Qr Qx) : Ev g d M pc L (.long y :: .long x :: st) K ci cj cr c sl Qr Qx := by
  intro p e R s m args below meth c0 H locs cells slots Q ls C r S h1 h2 hls E
  exact lv_lor C.2.1 C.2.2.1 hd (k p e R s m args below meth c0 H locs cells slots Q ls C r S h1 h2 hls E)
theorem ev_lxor {x y : Int64} (hd : decode M.2.1 pc = .ok (.lxor, 1))  (k : Ev g d M (pc + 1) L (.long (x ^^^ y) :: st) K ci cj cr c sl Qr Qx) : Ev g d M pc L (.long y :: .long x :: st) K ci cj cr c sl Qr Qx := by
  intro p e R s m args below meth c0 H locs cells slots Q ls C r S h1 h2 hls E
  exact lv_lxor C.2.1 C.2.2.1 hd (k p e R s m args below meth c0 H locs cells slots Q ls C r S h1 h2 hls E)
theorem ev_ldiv {x y : Int64} (hd : decode M.2.1 pc = .ok (.ldiv, 1)) (hne : ¬ y = 0) (k : Ev g d M (pc + 1) L (.long (x / y) :: st) K ci cj cr c sl Qr Qx) : Ev g d M pc L (.long y :: .long x :: st) K ci cj cr c sl Qr Qx := by
  intro p e R s m args below meth c0 H locs cells slots Q ls C r S h1 h2 hls E
  exact lv_ldiv C.2.1 C.2.2.1 hd hne (k p e R s m args below meth c0 H locs cells slots Q ls C r S h1 h2 hls E)
theorem ev_lrem {x y : Int64} (hd : decode M.2.1 pc = .ok (.lrem, 1)) (hne : ¬ y = 0) (k : Ev g d M (pc + 1) L (.long (x - x / y * y) :: st) K ci cj cr c sl Qr Qx) : Ev g d M pc L (.long y :: .long x :: st) K ci cj cr c sl Qr Qx := by
  intro p e R s m args below meth c0 H locs cells slots Q ls C r S h1 h2 hls E
  exact lv_lrem C.2.1 C.2.2.1 hd hne (k p e R s m args below meth c0 H locs cells slots Q ls C r S h1 h2 hls E)
theorem ev_i2l {x : Int32} (hd : decode M.2.1 pc = .ok (.i2l, 1))  (k : Ev g d M (pc + 1) L (.long x.toInt64 :: st) K ci cj cr c sl Qr Qx) : Ev g d M pc L (.int x :: st) K ci cj cr c sl Qr Qx := by
  intro p e R s m args below meth c0 H locs cells slots Q ls C r S h1 h2 hls E
  exact lv_i2l C.2.1 C.2.2.1 hd rfl (k p e R s m args below meth c0 H locs cells slots Q ls C r S h1 h2 hls E)
theorem ev_l2i {x : Int64} (hd : decode M.2.1 pc = .ok (.l2i, 1))  (k : Ev g d M (pc + 1) L (.int x.toInt32 :: st) K ci cj cr c sl Qr Qx) : Ev g d M pc L (.long x :: st) K ci cj cr c sl Qr Qx := by
  intro p e R s m args below meth c0 H locs cells slots Q ls C r S h1 h2 hls E
  exact lv_l2i C.2.1 C.2.2.1 hd rfl (k p e R s m args below meth c0 H locs cells slots Q ls C r S h1 h2 hls E)
theorem ev_i2b {x : Int32} (hd : decode M.2.1 pc = .ok (.i2b, 1))  (k : Ev g d M (pc + 1) L (.int x.toInt8.toInt32 :: st) K ci cj cr c sl Qr Qx) : Ev g d M pc L (.int x :: st) K ci cj cr c sl Qr Qx := by
  intro p e R s m args below meth c0 H locs cells slots Q ls C r S h1 h2 hls E
  exact lv_i2b C.2.1 C.2.2.1 hd rfl (k p e R s m args below meth c0 H locs cells slots Q ls C r S h1 h2 hls E)
theorem ev_i2s {x : Int32} (hd : decode M.2.1 pc = .ok (.i2s, 1))  (k : Ev g d M (pc + 1) L (.int x.toInt16.toInt32 :: st) K ci cj cr c sl Qr Qx) : Ev g d M pc L (.int x :: st) K ci cj cr c sl Qr Qx := by
  intro p e R s m args below meth c0 H locs cells slots Q ls C r S h1 h2 hls E
  exact lv_i2s C.2.1 C.2.2.1 hd rfl (k p e R s m args below meth c0 H locs cells slots Q ls C r S h1 h2 hls E)
theorem ev_i2c {x : Int32} (hd : decode M.2.1 pc = .ok (.i2c, 1))  (k : Ev g d M (pc + 1) L (.int (x.toUInt32 % 65536).toInt32 :: st) K ci cj cr c sl Qr Qx) : Ev g d M pc L (.int x :: st) K ci cj cr c sl Qr Qx := by
  intro p e R s m args below meth c0 H locs cells slots Q ls C r S h1 h2 hls E
  exact lv_i2c C.2.1 C.2.2.1 hd rfl (k p e R s m args below meth c0 H locs cells slots Q ls C r S h1 h2 hls E)
theorem ev_iushr {x y : Int32} (hd : decode M.2.1 pc = .ok (.iushr, 1))  (k : Ev g d M (pc + 1) L (.int (x.toUInt32 >>> (y.toUInt32 &&& Int32.toUInt32 31)).toInt32 :: st) K ci cj cr c sl Qr Qx) : Ev g d M pc L (.int y :: .int x :: st) K ci cj cr c sl Qr Qx := by
  intro p e R s m args below meth c0 H locs cells slots Q ls C r S h1 h2 hls E
  exact lv_iushr C.2.1 C.2.2.1 hd rfl (k p e R s m args below meth c0 H locs cells slots Q ls C r S h1 h2 hls E)
theorem ev_lcmp {x y : Int64} (hd : decode M.2.1 pc = .ok (.lcmp, 1))  (k : Ev g d M (pc + 1) L (.int (lg_cmp x y) :: st) K ci cj cr c sl Qr Qx) : Ev g d M pc L (.long y :: .long x :: st) K ci cj cr c sl Qr Qx := by
  intro p e R s m args below meth c0 H locs cells slots Q ls C r S h1 h2 hls E
  exact W.lcmp C.2.1 C.2.2.1 hd (k p e R s m args below meth c0 H locs cells slots Q ls C r S h1 h2 hls E)
theorem ev_dup {v : Value} (hd : decode M.2.1 pc = .ok (.dup, 1)) (hv : v.category = 1) (k : Ev g d M (pc + 1) L (v :: v :: st) K ci cj cr c sl Qr Qx) : Ev g d M pc L (v :: st) K ci cj cr c sl Qr Qx := by
  intro p e R s m args below meth c0 H locs cells slots Q ls C r S h1 h2 hls E
  exact lv_dup C.2.1 C.2.2.1 hd (by rw [jc_cat]; exact hv) (k p e R s m args below meth c0 H locs cells slots Q ls C r S h1 h2 hls E)
theorem ev_pop {v : Value} (hd : decode M.2.1 pc = .ok (.pop, 1)) (hv : v.category = 1) (k : Ev g d M (pc + 1) L (st) K ci cj cr c sl Qr Qx) : Ev g d M pc L (v :: st) K ci cj cr c sl Qr Qx := by
  intro p e R s m args below meth c0 H locs cells slots Q ls C r S h1 h2 hls E
  exact lv_pop C.2.1 C.2.2.1 hd (by rw [jc_cat]; exact hv) (k p e R s m args below meth c0 H locs cells slots Q ls C r S h1 h2 hls E)
theorem ev_dup_x1 {v w : Value} (hd : decode M.2.1 pc = .ok (.dup_x1, 1)) (hv : v.category = 1) (hw : w.category = 1) (k : Ev g d M (pc + 1) L (v :: w :: v :: st) K ci cj cr c sl Qr Qx) : Ev g d M pc L (v :: w :: st) K ci cj cr c sl Qr Qx := by
  intro p e R s m args below meth c0 H locs cells slots Q ls C r S h1 h2 hls E
  exact lv_dup_x1 C.2.1 C.2.2.1 hd (by rw [jc_cat]; exact hv) (by rw [jc_cat]; exact hw) (k p e R s m args below meth c0 H locs cells slots Q ls C r S h1 h2 hls E)
theorem ev_dup2 {v w : Value} (hd : decode M.2.1 pc = .ok (.dup2, 1)) (hv : v.category = 1) (hw : w.category = 1) (k : Ev g d M (pc + 1) L (v :: w :: v :: w :: st) K ci cj cr c sl Qr Qx) : Ev g d M pc L (v :: w :: st) K ci cj cr c sl Qr Qx := by
  intro p e R s m args below meth c0 H locs cells slots Q ls C r S h1 h2 hls E
  exact lv_dup2_11 C.2.1 C.2.2.1 hd (by rw [jc_cat]; exact hv) (by rw [jc_cat]; exact hw) (k p e R s m args below meth c0 H locs cells slots Q ls C r S h1 h2 hls E)
theorem ev_dup2L {v : Value} (hd : decode M.2.1 pc = .ok (.dup2, 1)) (hv : v.category = 2) (k : Ev g d M (pc + 1) L (v :: v :: st) K ci cj cr c sl Qr Qx) : Ev g d M pc L (v :: st) K ci cj cr c sl Qr Qx := by
  intro p e R s m args below meth c0 H locs cells slots Q ls C r S h1 h2 hls E
  exact lv_dup2_2 C.2.1 C.2.2.1 hd (by rw [jc_cat]; exact hv) (k p e R s m args below meth c0 H locs cells slots Q ls C r S h1 h2 hls E)
theorem ev_if_eq {x : Int32} {off : Int} (tgt : Nat) (hd : decode M.2.1 pc = .ok (.ifCond .eq off, 3)) (ht : (pc : Int) + off = (tgt : Int)) (kt : (x = 0) → Ev g d M tgt L st K ci cj cr c sl Qr Qx) (kf : (¬ x = 0) → Ev g d M (pc + 3) L st K ci cj cr c sl Qr Qx) : Ev g d M pc L (.int x :: st) K ci cj cr c sl Qr Qx := by
  intro p e R s m args below meth c0 H locs cells slots Q ls C r S h1 h2 hls E
  exact lv_if_eq C.2.1 C.2.2.1 hd ht (fun z => kt z p e R s m args below meth c0 H locs cells slots Q ls C r S h1 h2 hls E) (fun z => kf z p e R s m args below meth c0 H locs cells slots Q ls C r S h1 h2 hls E)
theorem ev_icmp_eq {x y : Int32} {off : Int} (tgt : Nat) (hd : decode M.2.1 pc = .ok (.if_icmp .eq off, 3)) (ht : (pc : Int) + off = (tgt : Int)) (kt : (x = y) → Ev g d M tgt L st K ci cj cr c sl Qr Qx) (kf : (¬ x = y) → Ev g d M (pc + 3) L st K ci cj cr c sl Qr Qx) : Ev g d M pc L (.int y :: .int x :: st) K ci cj cr c sl Qr Qx := by
  intro p e R s m args below meth c0 H locs cells slots Q ls C r S h1 h2 hls E
  exact lv_icmp_eq C.2.1 C.2.2.1 hd ht (fun z => kt z p e R s m args below meth c0 H locs cells slots Q ls C r S h1 h2 hls E) (fun z => kf z p e R s m args below meth c0 H locs cells slots Q ls C r S h1 h2 hls E)
theorem ev_if_ne {x : Int32} {off : Int} (tgt : Nat) (hd : decode M.2.1 pc = .ok (.ifCond .ne off, 3)) (ht : (pc : Int) + off = (tgt : Int)) (kt : (¬ x = 0) → Ev g d M tgt L st K ci cj cr c sl Qr Qx) (kf : (x = 0) → Ev g d M (pc + 3) L st K ci cj cr c sl Qr Qx) : Ev g d M pc L (.int x :: st) K ci cj cr c sl Qr Qx := by
  intro p e R s m args below meth c0 H locs cells slots Q ls C r S h1 h2 hls E
  exact lv_if_ne C.2.1 C.2.2.1 hd ht (fun z => kt z p e R s m args below meth c0 H locs cells slots Q ls C r S h1 h2 hls E) (fun z => kf z p e R s m args below meth c0 H locs cells slots Q ls C r S h1 h2 hls E)
theorem ev_icmp_ne {x y : Int32} {off : Int} (tgt : Nat) (hd : decode M.2.1 pc = .ok (.if_icmp .ne off, 3)) (ht : (pc : Int) + off = (tgt : Int)) (kt : (¬ x = y) → Ev g d M tgt L st K ci cj cr c sl Qr Qx) (kf : (x = y) → Ev g d M (pc + 3) L st K ci cj cr c sl Qr Qx) : Ev g d M pc L (.int y :: .int x :: st) K ci cj cr c sl Qr Qx := by
  intro p e R s m args below meth c0 H locs cells slots Q ls C r S h1 h2 hls E
  exact lv_icmp_ne C.2.1 C.2.2.1 hd ht (fun z => kt z p e R s m args below meth c0 H locs cells slots Q ls C r S h1 h2 hls E) (fun z => kf z p e R s m args below meth c0 H locs cells slots Q ls C r S h1 h2 hls E)
theorem ev_if_lt {x : Int32} {off : Int} (tgt : Nat) (hd : decode M.2.1 pc = .ok (.ifCond .lt off, 3)) (ht : (pc : Int) + off = (tgt : Int)) (kt : (x < 0) → Ev g d M tgt L st K ci cj cr c sl Qr Qx) (kf : (¬ x < 0) → Ev g d M (pc + 3) L st K ci cj cr c sl Qr Qx) : Ev g d M pc L (.int x :: st) K ci cj cr c sl Qr Qx := by
  intro p e R s m args below meth c0 H locs cells slots Q ls C r S h1 h2 hls E
  exact lv_if_lt C.2.1 C.2.2.1 hd ht (fun z => kt z p e R s m args below meth c0 H locs cells slots Q ls C r S h1 h2 hls E) (fun z => kf z p e R s m args below meth c0 H locs cells slots Q ls C r S h1 h2 hls E)
theorem ev_icmp_lt {x y : Int32} {off : Int} (tgt : Nat) (hd : decode M.2.1 pc = .ok (.if_icmp .lt off, 3)) (ht : (pc : Int) + off = (tgt : Int)) (kt : (x < y) → Ev g d M tgt L st K ci cj cr c sl Qr Qx) (kf : (¬ x < y) → Ev g d M (pc + 3) L st K ci cj cr c sl Qr Qx) : Ev g d M pc L (.int y :: .int x :: st) K ci cj cr c sl Qr Qx := by
  intro p e R s m args below meth c0 H locs cells slots Q ls C r S h1 h2 hls E
  exact lv_icmp_lt C.2.1 C.2.2.1 hd ht (fun z => kt z p e R s m args below meth c0 H locs cells slots Q ls C r S h1 h2 hls E) (fun z => kf z p e R s m args below meth c0 H locs cells slots Q ls C r S h1 h2 hls E)
theorem ev_if_ge {x : Int32} {off : Int} (tgt : Nat) (hd : decode M.2.1 pc = .ok (.ifCond .ge off, 3)) (ht : (pc : Int) + off = (tgt : Int)) (kt : (0 ≤ x) → Ev g d M tgt L st K ci cj cr c sl Qr Qx) (kf : (¬ 0 ≤ x) → Ev g d M (pc + 3) L st K ci cj cr c sl Qr Qx) : Ev g d M pc L (.int x :: st) K ci cj cr c sl Qr Qx := by
  intro p e R s m args below meth c0 H locs cells slots Q ls C r S h1 h2 hls E
  exact lv_if_ge C.2.1 C.2.2.1 hd ht (fun z => kt z p e R s m args below meth c0 H locs cells slots Q ls C r S h1 h2 hls E) (fun z => kf z p e R s m args below meth c0 H locs cells slots Q ls C r S h1 h2 hls E)
theorem ev_icmp_ge {x y : Int32} {off : Int} (tgt : Nat) (hd : decode M.2.1 pc = .ok (.if_icmp .ge off, 3)) (ht : (pc : Int) + off = (tgt : Int)) (kt : (y ≤ x) → Ev g d M tgt L st K ci cj cr c sl Qr Qx) (kf : (¬ y ≤ x) → Ev g d M (pc + 3) L st K ci cj cr c sl Qr Qx) : Ev g d M pc L (.int y :: .int x :: st) K ci cj cr c sl Qr Qx := by
  intro p e R s m args below meth c0 H locs cells slots Q ls C r S h1 h2 hls E
  exact lv_icmp_ge C.2.1 C.2.2.1 hd ht (fun z => kt z p e R s m args below meth c0 H locs cells slots Q ls C r S h1 h2 hls E) (fun z => kf z p e R s m args below meth c0 H locs cells slots Q ls C r S h1 h2 hls E)
theorem ev_if_gt {x : Int32} {off : Int} (tgt : Nat) (hd : decode M.2.1 pc = .ok (.ifCond .gt off, 3)) (ht : (pc : Int) + off = (tgt : Int)) (kt : (0 < x) → Ev g d M tgt L st K ci cj cr c sl Qr Qx) (kf : (¬ 0 < x) → Ev g d M (pc + 3) L st K ci cj cr c sl Qr Qx) : Ev g d M pc L (.int x :: st) K ci cj cr c sl Qr Qx := by
  intro p e R s m args below meth c0 H locs cells slots Q ls C r S h1 h2 hls E
  exact lv_if_gt C.2.1 C.2.2.1 hd ht (fun z => kt z p e R s m args below meth c0 H locs cells slots Q ls C r S h1 h2 hls E) (fun z => kf z p e R s m args below meth c0 H locs cells slots Q ls C r S h1 h2 hls E)
theorem ev_icmp_gt {x y : Int32} {off : Int} (tgt : Nat) (hd : decode M.2.1 pc = .ok (.if_icmp .gt off, 3)) (ht : (pc : Int) + off = (tgt : Int)) (kt : (y < x) → Ev g d M tgt L st K ci cj cr c sl Qr Qx) (kf : (¬ y < x) → Ev g d M (pc + 3) L st K ci cj cr c sl Qr Qx) : Ev g d M pc L (.int y :: .int x :: st) K ci cj cr c sl Qr Qx := by
  intro p e R s m args below meth c0 H locs cells slots Q ls C r S h1 h2 hls E
  exact lv_icmp_gt C.2.1 C.2.2.1 hd ht (fun z => kt z p e R s m args below meth c0 H locs cells slots Q ls C r S h1 h2 hls E) (fun z => kf z p e R s m args below meth c0 H locs cells slots Q ls C r S h1 h2 hls E)
theorem ev_if_le {x : Int32} {off : Int} (tgt : Nat) (hd : decode M.2.1 pc = .ok (.ifCond .le off, 3)) (ht : (pc : Int) + off = (tgt : Int)) (kt : (x ≤ 0) → Ev g d M tgt L st K ci cj cr c sl Qr Qx) (kf : (¬ x ≤ 0) → Ev g d M (pc + 3) L st K ci cj cr c sl Qr Qx) : Ev g d M pc L (.int x :: st) K ci cj cr c sl Qr Qx := by
  intro p e R s m args below meth c0 H locs cells slots Q ls C r S h1 h2 hls E
  exact lv_if_le C.2.1 C.2.2.1 hd ht (fun z => kt z p e R s m args below meth c0 H locs cells slots Q ls C r S h1 h2 hls E) (fun z => kf z p e R s m args below meth c0 H locs cells slots Q ls C r S h1 h2 hls E)
theorem ev_icmp_le {x y : Int32} {off : Int} (tgt : Nat) (hd : decode M.2.1 pc = .ok (.if_icmp .le off, 3)) (ht : (pc : Int) + off = (tgt : Int)) (kt : (x ≤ y) → Ev g d M tgt L st K ci cj cr c sl Qr Qx) (kf : (¬ x ≤ y) → Ev g d M (pc + 3) L st K ci cj cr c sl Qr Qx) : Ev g d M pc L (.int y :: .int x :: st) K ci cj cr c sl Qr Qx := by
  intro p e R s m args below meth c0 H locs cells slots Q ls C r S h1 h2 hls E
  exact lv_icmp_le C.2.1 C.2.2.1 hd ht (fun z => kt z p e R s m args below meth c0 H locs cells slots Q ls C r S h1 h2 hls E) (fun z => kf z p e R s m args below meth c0 H locs cells slots Q ls C r S h1 h2 hls E)
theorem ev_goto {off : Int} (tgt : Nat) (hd : decode M.2.1 pc = .ok (.goto off, 3)) (ht : (pc : Int) + off = (tgt : Int)) (k : Ev g d M tgt L st K ci cj cr c sl Qr Qx) : Ev g d M pc L st K ci cj cr c sl Qr Qx := by
  intro p e R s m args below meth c0 H locs cells slots Q ls C r S h1 h2 hls E
  exact lv_goto C.2.1 C.2.2.1 hd ht (k p e R s m args below meth c0 H locs cells slots Q ls C r S h1 h2 hls E)
theorem ev_ifnonnull {x : Nat} {off : Int} (tgt : Nat) (hd : decode M.2.1 pc = .ok (.ifnonnull off, 3)) (ht : (pc : Int) + off = (tgt : Int)) (k : Ev g d M tgt L st K ci cj cr c sl Qr Qx) : Ev g d M pc L (.ref x :: st) K ci cj cr c sl Qr Qx := by
  intro p e R s m args below meth c0 H locs cells slots Q ls C r S h1 h2 hls E
  exact lv_ifnonnull C.2.1 C.2.2.1 hd ht (k p e R s m args below meth c0 H locs cells slots Q ls C r S h1 h2 hls E)
theorem ev_ifnonnullN {off : Int} (hd : decode M.2.1 pc = .ok (.ifnonnull off, 3)) (k : Ev g d M (pc + 3) L st K ci cj cr c sl Qr Qx) : Ev g d M pc L (.null :: st) K ci cj cr c sl Qr Qx := by
  intro p e R s m args below meth c0 H locs cells slots Q ls C r S h1 h2 hls E
  exact lv_ifnonnullN C.2.1 C.2.2.1 hd (k p e R s m args below meth c0 H locs cells slots Q ls C r S h1 h2 hls E)
theorem ev_ifnull {x : Nat} {off : Int} (hd : decode M.2.1 pc = .ok (.ifnull off, 3)) (k : Ev g d M (pc + 3) L st K ci cj cr c sl Qr Qx) : Ev g d M pc L (.ref x :: st) K ci cj cr c sl Qr Qx := by
  intro p e R s m args below meth c0 H locs cells slots Q ls C r S h1 h2 hls E
  exact lv_ifnull C.2.1 C.2.2.1 hd (k p e R s m args below meth c0 H locs cells slots Q ls C r S h1 h2 hls E)
theorem ev_ifnullN {off : Int} (tgt : Nat) (hd : decode M.2.1 pc = .ok (.ifnull off, 3)) (ht : (pc : Int) + off = (tgt : Int)) (k : Ev g d M tgt L st K ci cj cr c sl Qr Qx) : Ev g d M pc L (.null :: st) K ci cj cr c sl Qr Qx := by
  intro p e R s m args below meth c0 H locs cells slots Q ls C r S h1 h2 hls E
  exact lv_ifnullN C.2.1 C.2.2.1 hd ht (k p e R s m args below meth c0 H locs cells slots Q ls C r S h1 h2 hls E)
theorem ev_lookup {dflt : Int} {ps : Array (Int × Int)} {len : Nat} {x : Int32} {off : Int} (tgt : Nat) (hd : decode M.2.1 pc = .ok (.lookupswitch dflt ps, len)) (hp : (ps.toList.zip (ps.toList.drop 1)).all (fun (a, next) => a.1 < next.1) = true) (ho : Op.lookupswitch.offset ps.toList dflt x.toInt = off) (ht : (pc : Int) + off = (tgt : Int)) (k : Ev g d M tgt L st K ci cj cr c sl Qr Qx) : Ev g d M pc L (.int x :: st) K ci cj cr c sl Qr Qx := by
  intro p e R s m args below meth c0 H locs cells slots Q ls C r S h1 h2 hls E
  exact lv_lookup C.2.1 C.2.2.1 hd hp ho ht (k p e R s m args below meth c0 H locs cells slots Q ls C r S h1 h2 hls E)
theorem ev_tableOut {dflt lo hi : Int} {offs : Array Int} {len : Nat} {x : Int32} (tgt : Nat) (hd : decode M.2.1 pc = .ok (.tableswitch dflt lo hi offs, len)) (h : x.toInt < lo ∨ hi < x.toInt) (ht : (pc : Int) + dflt = (tgt : Int)) (k : Ev g d M tgt L st K ci cj cr c sl Qr Qx) : Ev g d M pc L (.int x :: st) K ci cj cr c sl Qr Qx := by
  intro p e R s m args below meth c0 H locs cells slots Q ls C r S h1 h2 hls E
  exact lv_tableOut C.2.1 C.2.2.1 hd h ht (k p e R s m args below meth c0 H locs cells slots Q ls C r S h1 h2 hls E)
theorem ev_tableIn {dflt lo hi : Int} {offs : Array Int} {len : Nat} {x : Int32} {off : Int} (tgt : Nat) (hd : decode M.2.1 pc = .ok (.tableswitch dflt lo hi offs, len)) (g1 : ¬ x.toInt < lo) (g2 : ¬ hi < x.toInt) (ho : offs[(x.toInt - lo).toNat]? = some off) (ht : (pc : Int) + off = (tgt : Int)) (k : Ev g d M tgt L st K ci cj cr c sl Qr Qx) : Ev g d M pc L (.int x :: st) K ci cj cr c sl Qr Qx := by
  intro p e R s m args below meth c0 H locs cells slots Q ls C r S h1 h2 hls E
  exact lv_tableIn C.2.1 C.2.2.1 hd g1 g2 ho ht (k p e R s m args below meth c0 H locs cells slots Q ls C r S h1 h2 hls E)
theorem ev_iret {x : Int32} {ty : FieldType} (hd : decode M.2.1 pc = .ok (.ireturn, 1)) (ht : M.2.2.2.1 = some ty) (hn : narrow ty (.int x) = .int x) (k : Qr (some (.int x)) K ci cj cr) : Ev g d M pc L [.int x] K ci cj cr c sl Qr Qx := by
  intro p e R s m args below meth c0 H locs cells slots Q ls C r S h1 h2 hls E
  exact (E.1 H locs cells slots K ci cj cr pc ls r S (by omega) (by omega)).1 x ty ht hn hd k
theorem ev_lret {x : Int64} (hd : decode M.2.1 pc = .ok (.lreturn, 1)) (ht : M.2.2.2.1 = some .long) (k : Qr (some (.long x)) K ci cj cr) : Ev g d M pc L [.long x] K ci cj cr c sl Qr Qx := by
  intro p e R s m args below meth c0 H locs cells slots Q ls C r S h1 h2 hls E
  exact (E.1 H locs cells slots K ci cj cr pc ls r S (by omega) (by omega)).2.1 x ht hd k
theorem ev_aret {x : Nat} {ty : FieldType} (hd : decode M.2.1 pc = .ok (.areturn, 1)) (ht : M.2.2.2.1 = some ty) (hn : jtag ty = 2) (k : Qr (some (.ref x)) K ci cj cr) : Ev g d M pc L [.ref x] K ci cj cr c sl Qr Qx := by
  intro p e R s m args below meth c0 H locs cells slots Q ls C r S h1 h2 hls E
  exact (E.1 H locs cells slots K ci cj cr pc ls r S (by omega) (by omega)).2.2.1 (some x) ty ht hn hd k
theorem ev_aretN {ty : FieldType} (hd : decode M.2.1 pc = .ok (.areturn, 1)) (ht : M.2.2.2.1 = some ty) (hn : jtag ty = 2) (k : Qr (some .null) K ci cj cr) : Ev g d M pc L [.null] K ci cj cr c sl Qr Qx := by
  intro p e R s m args below meth c0 H locs cells slots Q ls C r S h1 h2 hls E
  exact (E.1 H locs cells slots K ci cj cr pc ls r S (by omega) (by omega)).2.2.1 none ty ht hn hd k
theorem ev_ret (hd : decode M.2.1 pc = .ok (.return_, 1)) (ht : M.2.2.2.1 = none) (k : Qr none K ci cj cr) : Ev g d M pc L [] K ci cj cr c sl Qr Qx := by
  intro p e R s m args below meth c0 H locs cells slots Q ls C r S h1 h2 hls E
  exact (E.1 H locs cells slots K ci cj cr pc ls r S (by omega) (by omega)).2.2.2 ht hd k
theorem ev_athrow {i : Nat} (hd : decode M.2.1 pc = .ok (.athrow, 1)) (hi : i < K.2.2) (hk : K.1 i = 3) (hh : M.2.2.2.2 = []) (k : Qx i K ci cj cr) : Ev g d M pc L (.ref i :: st) K ci cj cr c sl Qr Qx := by
  intro p e R s m args below meth c0 H locs cells slots Q ls C r S h1 h2 hls E
  exact vx_athrow C.2.1 C.2.2.1 hd (E.2 H locs cells slots K ci cj cr pc ls (st.map (jc g)) i r S (by omega) (by omega) hi hk (by rw [hh]; intro x hx; cases hx) k)
end
