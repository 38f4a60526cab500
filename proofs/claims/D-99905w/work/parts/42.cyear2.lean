/-! THE COMPONENT'S YEAR: what is kept, all come -/
set_option maxRecDepth 100000
/-- the rows of a State's grid -/
def RW (K : jK) (cr : jR) (t : Nat) (f : Nat → Nat) : Prop := (∀ k, k < 40 → cr (t + 11) k = some (f k) ∧ K.1 (f k) = 100 ∧ K.2.1 (f k) = 3 ∧ f k < K.2.2 ∧ t + 12 ≤ f k ∧ f k < t + 52) ∧ ∀ j k, j < 40 → k < 40 → f j = f k → j = k
/-- what is kept -/
def KR (ci : jI) (t : Nat) (f : Nat → Nat) (v : jV8) : Prop := ∃ m, m ≤ 40 ∧ v 45 = nI m ∧ ci t 1 = nI m ∧ ∀ k i, k < m → i < 3 → ci (f k) i = v (46 + 3 * k + i)
theorem KR.fr {ci ci' : jI} {t : Nat} {f : Nat → Nat} {v : jV8} {K : jK} {cr : jR} (h : KR ci t f v) (hR : RW K cr t f) (h0 : ci' t 1 = ci t 1) (g : ∀ i, t + 12 ≤ i → i < t + 52 → ci' i = ci i) : KR ci' t f v := by
  obtain ⟨m, h1, h2, h3, h4⟩ := h
  refine ⟨m, h1, h2, h0.trans h3, fun k i hk hi => ?_⟩
  obtain ⟨-, -, -, -, r1, r2⟩ := hR.1 k (by omega)
  rw [g _ r1 r2]; exact h4 k i hk hi
section
variable {n : Nat} {c : jCo} {K : jK} {ci : jI} {cj : jJ} {cr : jR} {t Y : Nat} {v : jV8}
theorem sp_tellsOf_66 {f : Nat → Nat} {m : Nat} {y x : Int32} (hR : RW K cr t f) (hm : m < 40) (h1 : ci t 1 = nI m) :
    Wp (fX5_tellsOf_66 n t y x K ci cj cr) (fun q => q.2.1 = ju (ju (ju (ju ci (f m) 0 (ci t 0)) (f m) 1 y) (f m) 2 x) t 1 (nI (m + 1)) ∧ q.2.2.1 = cj ∧ q.2.2.2 = cr) := by
  obtain ⟨r1, r2, r3, r4, r5, r6⟩ := hR.1 m hm
  unfold fX5_tellsOf_66
  simp (disch := omega) only [h1, jok_t, if_true, nI_cl, r1, Option.bind_some, r2, r3, r4, and_self, ju_row, nI_add, wp_some]
  try dsimp only
theorem sp_tellsOf (hn : 4000 ≤ n) {f : Nat → Nat} {y x : Int32} (ht : isSt t) (hR : RW K cr t f) (hk : KR ci t f v) :
    Wp (fX5_tellsOf n t y x K ci cj cr) (fun q => ∃ f', RW K q.2.2.2 t f' ∧ KR q.2.1 t f' (psh v (ci t 0) y x) ∧ (∀ i, i ≠ t → i < t + 12 ∨ t + 52 ≤ i → q.2.1 i = ci i) ∧ q.2.1 t 0 = ci t 0 ∧ q.2.2.1 = cj ∧ ∀ i, i ≠ t + 11 → q.2.2.2 i = cr i) := by
  obtain ⟨m, m1, m2, m3, m4⟩ := hk
  unfold fX5_tellsOf
  rw [if_pos ht, m3]
  by_cases h40 : m = 40
  · subst h40
    rw [if_pos rfl, if_pos (by rw [jok_t (by omega) (by omega)]; trivial), nI_cl (by omega), (hR.1 0 (by omega)).1, Option.bind_some]
    refine Wp.loop2 (fun k (a0 : Int32) (a1 : jR) => fX5_tellsOf_19 n t k y x (f 0) a0 K ci cj a1) (fun r b => ∃ i, i + r = 40 ∧ 1 ≤ i ∧ b.1 = nI i ∧ (∀ k, k < 40 → b.2 (t + 11) k = some (if k + 1 < i then f (k + 1) else f k)) ∧ ∀ i, i ≠ t + 11 → b.2 i = cr i) _ ?_ n 39 (nI 1) cr (by omega) ⟨1, by omega, by omega, rfl, fun k hk => by rw [if_neg (by omega)]; exact (hR.1 k hk).1, fun _ _ => rfl⟩
    rintro k r l cr1 ⟨i, g1, g1', g2, g3, g4⟩ ih
    simp only at g2 g3 g4 ⊢
    subst g2
    rw [fX5_tellsOf_19.eq_2]
    by_cases hi : 40 ≤ i
    · have : i = 40 := by omega
      subst this
      obtain ⟨r1, r2, r3, r4, r5, r6⟩ := hR.1 0 (by omega)
      rw [if_pos (by rw [nI_leN (by omega) (by omega)]; exact hi), if_pos (by rw [jok_t (by omega) (by omega)]; trivial), if_pos ⟨r2, r4⟩, nI_cl (by omega), m3, nI_subN (by omega)]
      have hR' : RW K (ju cr1 (t + 11) 39 (some (f 0))) t (fun k => if k < 39 then f (k + 1) else f 0) := by
        refine ⟨fun k hk => ?_, fun j k hj hk => ?_⟩
        · by_cases k1 : k = 39
          · subst k1
            simp only [ju_eq, Nat.lt_irrefl, if_false]
            exact ⟨trivial, r2, r3, r4, r5, r6⟩
          · rw [ju_ne2 _ _ k1, g3 k hk, if_pos (by omega)]
            simp only [show k < 39 by omega, if_true]
            exact ⟨trivial, (hR.1 (k + 1) (by omega)).2⟩
        · by_cases j1 : j < 39 <;> by_cases k1 : k < 39 <;> simp only [j1, k1, if_true, if_false] <;> intro e
          · have := hR.2 _ _ (by omega) (by omega) e; omega
          · have := hR.2 _ _ (by omega) (by omega) e; omega
          · have := hR.2 _ _ (by omega) (by omega) e; omega
          · omega
      refine (sp_tellsOf_66 (m := 39) (ci := ju ci t 1 (nI (40 - 1))) hR' (by omega) (ju_eq _ _ _ _)).mono ?_
      rintro ⟨u, ci2, cj2, cr2⟩ ⟨q1, q2, q3⟩
      simp only at q1 q2 q3 ⊢
      subst q2 q3
      rw [if_neg (by omega)] at q1
      rw [ju_ne2 _ _ (by decide)] at q1
      subst q1
      refine ⟨_, hR', ⟨40, by omega, by rw [psh_45, m2, if_pos rfl], ju_eq _ _ _ _, fun k i hk hi => ?_⟩, fun i i1 i2 => ?_, ?_, rfl, fun i hi => ?_⟩
      · unfold psh
        rw [if_pos m2]
        show _ = if 46 + 3 * k + i = 163 then _ else if 46 + 3 * k + i = 164 then _ else if 46 + 3 * k + i = 165 then _ else if 46 ≤ 46 + 3 * k + i ∧ 46 + 3 * k + i < 163 then _ else _
        by_cases k1 : k < 39
        · simp only [k1, if_true]
          obtain ⟨x1, x2, x3, x4, x5, x6⟩ := hR.1 (k + 1) (by omega)
          have hne : f (k + 1) ≠ f 0 := fun e => by have := hR.2 _ _ (by omega) (by omega) e; omega
          rw [ju_row _ _ (by omega), ju_row _ _ hne, ju_row _ _ hne, ju_row _ _ hne, ju_row _ _ (by omega), m4 (k + 1) i (by omega) hi, if_neg (by omega), if_neg (by omega), if_neg (by omega), if_pos (by omega)]
          congr 1; omega
        · have : k = 39 := by omega
          subst this
          simp only [Nat.lt_irrefl, if_false]
          rw [ju_row _ _ (by omega)]
          have hi' : i = 0 ∨ i = 1 ∨ i = 2 := by omega
          rcases hi' with z | z | z <;> subst z
          · rw [ju_ne2 _ _ (by omega), ju_ne2 _ _ (by omega), ju_eq, if_pos rfl]
          · rw [ju_ne2 _ _ (by omega), ju_eq, if_neg (by omega), if_pos rfl]
          · rw [ju_eq, if_neg (by omega), if_neg (by omega), if_pos rfl]
      · show ju _ _ _ _ i = _
        rw [ju_row _ _ i1, ju_row _ _ (by omega), ju_row _ _ (by omega), ju_row _ _ (by omega), ju_row _ _ i1]
      · show ju _ _ _ _ t 0 = _
        rw [ju_ne2 _ _ (by decide), ju_row _ _ (by omega), ju_row _ _ (by omega), ju_row _ _ (by omega), ju_ne2 _ _ (by decide)]
      · show ju cr1 _ _ _ i = _
        rw [ju_row _ _ hi]; exact g4 i hi
    · obtain ⟨r1, r2, r3, r4, r5, r6⟩ := hR.1 i (by omega)
      rw [if_neg (by rw [nI_leN (by omega) (by omega)]; exact hi), if_pos (by rw [jok_t (by omega) (by omega)]; trivial), nI_cl (by omega), g3 i (by omega), if_neg (by omega), Option.bind_some, nI_subN (by omega), if_pos (by rw [jok_t (by omega) (by omega)]; trivial), if_pos ⟨r2, r4⟩, nI_cl (by omega), nI_add]
      refine ih (r - 1) (nI (i + 1)) _ (by omega) ⟨i + 1, by omega, by omega, rfl, fun k hk => ?_, fun j hj => ?_⟩
      · show ju cr1 (t + 11) (i - 1) _ (t + 11) k = _
        by_cases k1 : k = i - 1
        · subst k1
          rw [ju_eq, if_pos (by omega)]
          congr 2; omega
        · rw [ju_ne2 _ _ k1, g3 k hk]
          by_cases k2 : k + 1 < i
          · rw [if_pos k2, if_pos (by omega)]
          · rw [if_neg k2, if_neg (by omega)]
      · show ju cr1 (t + 11) (i - 1) _ j = _
        rw [ju_row _ _ hj]; exact g4 j hj
  · rw [if_neg (show ¬ nI m = nI 40 by rw [nI_eqN (by omega) (by omega)]; exact h40)]
    refine (sp_tellsOf_66 (m := m) hR (by omega) m3).mono ?_
    rintro ⟨u, ci2, cj2, cr2⟩ ⟨q1, q2, q3⟩
    simp only at q1 q2 q3 ⊢
    subst q1 q2 q3
    obtain ⟨r1, r2, r3, r4, r5, r6⟩ := hR.1 m (by omega)
    refine ⟨f, hR, ⟨m + 1, by omega, by rw [psh_45, m2, if_neg (by rw [nI_eqN (by omega) (by omega)]; exact h40), nI_add], ju_eq _ _ _ _, fun k i hk hi => ?_⟩, fun i i1 i2 => ?_, ?_, rfl, fun i hi => rfl⟩
    · unfold psh
      rw [m2, if_neg (by rw [nI_eqN (by omega) (by omega)]; exact h40), nI_cl (by omega)]
      obtain ⟨x1, x2, x3, x4, x5, x6⟩ := hR.1 k (by omega)
      rw [ju_row _ _ (by omega)]
      by_cases k1 : k = m
      · subst k1
        have hi' : i = 0 ∨ i = 1 ∨ i = 2 := by omega
        rcases hi' with z | z | z <;> subst z
        · rw [ju_ne2 _ _ (by omega), ju_ne2 _ _ (by omega), ju_eq, if_neg (by omega), if_pos (by omega)]
        · rw [ju_ne2 _ _ (by omega), ju_eq, if_neg (by omega), if_neg (by omega), if_pos (by omega)]
        · rw [ju_eq, if_neg (by omega), if_neg (by omega), if_neg (by omega), if_pos (by omega)]
      · have hne : f k ≠ f m := fun e => k1 (hR.2 _ _ (by omega) (by omega) e)
        rw [ju_row _ _ hne, ju_row _ _ hne, ju_row _ _ hne, m4 k i (by omega) hi, if_neg (by omega), if_neg (by omega), if_neg (by omega), if_neg (by omega)]
    · show ju _ _ _ _ i = _
      rw [ju_row _ _ i1, ju_row _ _ (by omega), ju_row _ _ (by omega), ju_row _ _ (by omega)]
    · show ju _ _ _ _ t 0 = _
      rw [ju_ne2 _ _ (by decide), ju_row _ _ (by omega), ju_row _ _ (by omega), ju_row _ _ (by omega)]
/-- all come: SRm, the State in the midst -/
def SRm (c : jCo) (ci : jI) (t : Nat) (v : jV8) : Prop := ci t 0 = v 0 ∧ (∀ b, b < coB c → ci (t + 4) b = v (7 + 3 * b) ∧ ci (t + 7) b = vw c v b) ∧ ∀ p, p < coP c → ci (t + 8) p = v (25 + 2 * p) ∧ ci (t + 10) p = v (26 + 2 * p)
theorem sp_come (hn : 4000 ≤ n) {f : Nat → Nat} (hc : CR c) (h : CC n c K ci cj cr) (ht : isSt t) (hs : SR c ci t v) (hto : ∀ s, s < coS c → ci (t + 3) s = tos c v s) (hR : RW K cr t f) (hk : KR ci t f v) :
    Wp (fX5_come n t K ci cj cr) (fun q => q.1 = cms c v ∧ (∀ s, s < coS c → q.2.1 (t + 1) s = goV c v (1 + 2 * s) ∧ q.2.1 (t + 2) s = tos c v s) ∧ (∀ b, b < coB c → q.2.1 (t + 5) b = tks c v b) ∧ (∀ i, t ≤ i → i < t + 12 → i ≠ t → i ≠ t + 1 → i ≠ t + 2 → i ≠ t + 5 → q.2.1 i = ci i) ∧ q.2.1 t 0 = ci t 0 ∧
      (∃ f', RW K q.2.2.2 t f' ∧ KR q.2.1 t f' (kps c v (coS c))) ∧ FS t ci cj cr q.2.1 q.2.2.1 q.2.2.2 ∧ q.2.2.1 = cj) := by
  have hB := hc.1
  have hS := hc.2.2.1
  have htr := st_rg ht
  unfold fX5_come
  rw [if_pos ht]
  refine Wp.loop2 (fun k (a0 : Int32) (a1 : jI) => fX5_come_4 n t k (nI 0) a0 K a1 cj cr) (fun r x => ∃ b, b + r = coB c ∧ x.1 = nI b ∧ (∀ j, j < b → x.2 (t + 5) j = nI 0) ∧ ∀ i, i ≠ t + 5 → x.2 i = ci i) _ ?_ n (coB c) (nI 0) ci (by omega) ⟨0, by omega, rfl, fun j hj => absurd hj (Nat.not_lt_zero j), fun _ _ => rfl⟩
  rintro k r l ci1 ⟨b, g1, g2, g3, g4⟩ ih
  simp only at g2 g3 g4 ⊢
  subst g2
  have F1 : FS t ci cj cr ci1 cj cr := ⟨fun i hi => g4 i (by omega), fun _ _ => rfl, fun _ _ => rfl⟩
  rw [fX5_come_4.eq_2, wp_jpb, e0_bays (h.fs ht F1), wp_some]
  simp only
  simp (disch := omega) only [nI_leN]
  by_cases hb : coB c ≤ b
  · have hbe : b = coB c := by omega
    subst hbe
    rw [if_pos hb]
    clear ih
    refine Wp.loop4 (fun k (a0 : Int32) (a1 : Int32) (a2 : jI) (a3 : jR) => fX5_come_30 n t k a0 a1 K a2 cj a3) (fun r x => ∃ s, s + r = coS c ∧ x.2.1 = nI s ∧ x.1 = cmn c v s ∧ (∀ j, j < coS c → x.2.2.1 (t + 1) j = (if j < s then goV c v (1 + 2 * j) else v (1 + 2 * j))) ∧ (∀ j, j < s → x.2.2.1 (t + 2) j = tos c v j) ∧ (∀ b, b < coB c → x.2.2.1 (t + 5) b = tkn c v b s) ∧ (∀ i, t ≤ i → i < t + 12 → i ≠ t → i ≠ t + 1 → i ≠ t + 2 → i ≠ t + 5 → x.2.2.1 i = ci i) ∧ x.2.2.1 t 0 = ci t 0 ∧
      (∃ f', RW K x.2.2.2 t f' ∧ KR x.2.2.1 t f' (kps c v s)) ∧ FS t ci cj cr x.2.2.1 cj x.2.2.2) _ ?_ n (coS c) (nI 0) (nI 0) ci1 cr (by omega) ⟨0, by omega, rfl, rfl, fun j hj => by rw [if_neg (by omega)]; show ci1 (t + 1) j = _; rw [g4 _ (by omega)]; exact (hs.2.1 j hj).1, fun j hj => absurd hj (Nat.not_lt_zero j), g3, fun i _ _ _ _ _ i6 => g4 i i6, by show ci1 t 0 = _; rw [g4 t (by omega)], ⟨f, hR, hk.fr hR (congrFun (g4 t (by omega)) 1) (fun i i1 i2 => g4 i (by omega))⟩, F1⟩
    clear F1 g3 g4
    rintro k r l1 l2 ci2 cr2 ⟨s, a1, a2, a3, a4, a5, a6, a7, a8, ⟨f1, a9, a10⟩, a11⟩ ih
    simp only at a2 a3 a4 a5 a6 a7 a8 a9 a10 a11 ⊢
    subst a2 a3
    have h2 := h.fs ht a11
    rw [fX5_come_30.eq_2, wp_jpb, e0_shoals h2, wp_some]
    simp only
    by_cases hs2 : coS c ≤ s
    · have : s = coS c := by omega
      subst this
      rw [if_pos (nI_le hs2 (by omega)), wp_some]
      try dsimp only
      refine ⟨rfl, fun j hj => ⟨by have := a4 j hj; rw [if_pos hj] at this; exact this, a5 j hj⟩, a6, a7, a8, ⟨f1, a9, a10⟩, a11, rfl⟩
    · have hs3 : s < coS c := by omega
      rw [if_neg (nI_ge hs3 (by omega))]
      have e3 : ci2 (t + 3) s = tos c v s := by rw [a7 (t + 3) (by omega) (by omega) (by omega) (by omega) (by omega) (by omega)]; exact hto s hs3
      simp (maxSteps := 2000000) (disch := omega) only [jok_t, if_true, nI_cl, ju_row, e3]
      have A1 : FS t ci cj cr (ju ci2 (t + 2) s (tos c v s)) cj cr2 := a11.up (by omega) (by omega)
      unfold fX5_come_127
      rcases tos_rg c v s with hto1 | ⟨b, hb1, hto1⟩
      · rw [if_pos hto1, nI_add]
        refine ih (r - 1) _ (nI (s + 1)) _ cr2 (by omega) ⟨s + 1, by omega, rfl, ?_, fun j hj => ?_, fun j hj => ?_, fun b hb => ?_, fun i i1 i2 i3 i4 i5 i6 => ?_, ?_, ⟨f1, a9, ?_⟩, A1⟩
        · show cmn c v s = cmn c v s + (if tos c v s = -1 then nI 0 else nI 1)
          rw [if_pos hto1, i32_add0]
        · show ju ci2 (t + 2) s _ (t + 1) j = _
          rw [ju_row _ _ (by omega), a4 j hj]
          by_cases j1 : j < s
          · rw [if_pos j1, if_pos (by omega)]
          · rw [if_neg j1]
            by_cases j2 : j = s
            · subst j2
              rw [if_pos (by omega), goV_m hs3 (by omega), if_pos hto1]
            · rw [if_neg (by omega)]
        · show ju ci2 (t + 2) s _ (t + 2) j = _
          by_cases j2 : j = s
          · subst j2; exact ju_eq _ _ _ _
          · rw [ju_ne2 _ _ j2]; exact a5 j (by omega)
        · show ju ci2 (t + 2) s _ (t + 5) b = tkn c v b s + (if tos c v s = nI b then coZ c s else nI 0)
          rw [ju_row _ _ (by omega), a6 b hb, if_neg (by rw [hto1, m1_nI (by omega)]; exact fun h => h), i32_add0]
        · show ju ci2 (t + 2) s _ i = _
          rw [ju_row _ _ i5]; exact a7 i i1 i2 i3 i4 i5 i6
        · show ju ci2 (t + 2) s _ t 0 = _
          rw [ju_row _ _ (by omega)]; exact a8
        · show KR (ju ci2 (t + 2) s _) t f1 (if _ then _ else _)
          rw [if_pos hto1]
          exact a10.fr a9 (by rw [ju_row _ _ (by omega)]) (fun i i1 i2 => ju_row _ _ (by omega))
      · have ht1 : ¬ tos c v s = -1 := by rw [hto1, nI_m1 (by omega)]; exact fun h => h
        rw [if_neg ht1, wp_jpb, hto1]
        have A1 : FS t ci cj cr (ju ci2 (t + 2) s (nI b)) cj cr2 := a11.up (by omega) (by omega)
        have h3 := h.fs ht A1
        obtain ⟨rb, p1, p2, p3, p4, p5⟩ := e0_bayOf h3 hb1
        rw [hto1] at e3
        have e3' : ju ci2 (t + 2) s (nI b) (t + 3) s = nI b := by rw [ju_row _ _ (by omega)]; exact e3
        try rw [e3']
        rw [p1, wp_some]
        dsimp only
        rw [if_pos ⟨p2, p3⟩, p5]
        have A2 : FS t ci cj cr (ju (ju ci2 (t + 2) s (nI b)) (t + 1) s (coM c b)) cj cr2 := A1.up (by omega) (by omega)
        obtain ⟨rs, w1, w2, w3, w4, w5⟩ := e0_shoalOf (h.fs ht A2) hs3
        have e5 : ci2 (t + 5) b = tkn c v b s := a6 b hb1
        simp (maxSteps := 2000000) (disch := omega) only [e3, jok_t, if_true, nI_cl, ju_row, e5]
        rw [wp_jpb, w1, wp_some]
        dsimp only
        rw [if_pos ⟨w2, w3⟩, w5]
        try simp (maxSteps := 2000000) (disch := omega) only [e3, jok_t, if_true, nI_cl, ju_row, e5]
        rw [wp_jpb]
        have A3 : FS t ci cj cr (ju (ju (ju ci2 (t + 2) s (nI b)) (t + 1) s (coM c b)) (t + 5) b (tkn c v b s + coZ c s)) cj cr2 := A2.up (by omega) (by omega)
        refine (sp_tellsOf (v := kps c v s) hn ht a9 (a10.fr a9 ?_ ?_)).mono ?_
        · rw [ju_row _ _ (by omega), ju_row _ _ (by omega), ju_row _ _ (by omega)]
        · intro i i1 i2
          rw [ju_row _ _ (by omega), ju_row _ _ (by omega), ju_row _ _ (by omega)]
        · rintro ⟨u, ci3, cj3, cr3⟩ ⟨f2, q1, q2, q3, q4, q5, q6⟩
          simp only at q1 q2 q3 q4 q5 q6 ⊢
          subst q5
          have y0 : ju (ju (ju ci2 (t + 2) s (nI b)) (t + 1) s (coM c b)) (t + 5) b (tkn c v b s + coZ c s) t 0 = v 0 := by
            rw [ju_row _ _ (by omega), ju_row _ _ (by omega), ju_row _ _ (by omega), a8]; exact hs.1
          rw [nI_add]
          refine ih (r - 1) _ (nI (s + 1)) _ cr3 (by omega) ⟨s + 1, by omega, rfl, ?_, fun j hj => ?_, fun j hj => ?_, fun b' hb' => ?_, fun i i1 i2 i3 i4 i5 i6 => ?_, ?_, ⟨f2, q1, ?_⟩, ⟨fun i hi => (q3 i (by omega) (by omega)).trans (A3.1 i hi), fun _ _ => rfl, fun i hi => (q6 i hi).trans (A3.2.2 i hi)⟩⟩
          · show cmn c v s + nI 1 = cmn c v s + (if tos c v s = -1 then nI 0 else nI 1)
            rw [if_neg ht1]
          · show ci3 (t + 1) j = _
            rw [q3 _ (by omega) (by omega), ju_row _ _ (by omega)]
            by_cases j2 : j = s
            · subst j2
              rw [ju_eq, if_pos (by omega), goV_m hs3 (by omega), if_neg ht1, hto1, nI_cl (by omega)]
            · rw [ju_ne2 _ _ j2, ju_row _ _ (by omega), a4 j hj]
              by_cases j1 : j < s
              · rw [if_pos j1, if_pos (by omega)]
              · rw [if_neg j1, if_neg (by omega)]
          · show ci3 (t + 2) j = _
            rw [q3 _ (by omega) (by omega), ju_row _ _ (by omega), ju_row _ _ (by omega)]
            by_cases j2 : j = s
            · subst j2; rw [ju_eq, hto1]
            · rw [ju_ne2 _ _ j2]; exact a5 j (by omega)
          · show ci3 (t + 5) b' = tkn c v b' s + (if tos c v s = nI b' then coZ c s else nI 0)
            rw [q3 _ (by omega) (by omega)]
            by_cases b2 : b' = b
            · subst b2
              rw [ju_eq, if_pos hto1]
            · rw [ju_ne2 _ _ b2, ju_row _ _ (by omega), ju_row _ _ (by omega), a6 b' hb', if_neg (by rw [hto1, nI_eqN (by omega) (by omega)]; omega), i32_add0]
          · show ci3 i = _
            rw [q3 _ i3 (by omega), ju_row _ _ i6, ju_row _ _ i4, ju_row _ _ i5]; exact a7 i i1 i2 i3 i4 i5 i6
          · show ci3 t 0 = _
            rw [q4, y0]; exact hs.1.symm
          · show KR ci3 t f2 (if tos c v s = -1 then kps c v s else psh (kps c v s) (v 0) (nI s) (tos c v s))
            rw [if_neg ht1, ← y0, hto1]
            exact q2
  · rw [if_neg hb, if_pos (by rw [jok_t (by omega) (by omega)]; trivial), nI_cl (by omega), nI_add]
    refine ih (r - 1) (nI (b + 1)) _ (by omega) ⟨b + 1, by omega, rfl, fun j hj => ?_, fun i hi => ?_⟩
    · show ju ci1 (t + 5) b _ (t + 5) j = _
      by_cases hj2 : j = b
      · subst hj2; exact ju_eq _ _ _ _
      · rw [ju_ne2 _ _ hj2]; exact g3 j (by omega)
    · show ju ci1 (t + 5) b _ i = _
      rw [ju_row _ _ hi]; exact g4 i hi
end
