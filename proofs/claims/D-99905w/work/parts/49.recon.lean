/-! RECONCILE -/
set_option maxRecDepth 100000
theorem nI_and (a b : Nat) : nI a &&& nI b = nI (a &&& b) := Int32.toBitVec_inj.mp (BitVec.ofNat_and (w := 32) (x := a) (y := b)).symm
/-- how many bits -/
def pcn : Nat → Nat → Nat
  | 0, _ => 0
  | f + 1, k => if k = 0 then 0 else pcn f (k &&& (k - 1)) + 1
theorem pcn_le : ∀ f k, pcn f k ≤ f
  | 0, _ => Nat.le_refl _
  | f + 1, k => by
    unfold pcn
    split
    · omega
    · have := pcn_le f (k &&& (k - 1)); omega
def bcF (a : Int32) : Int32 := ((fJ16_bitCount 0 a (fun _ => 0, fun _ => 0, 0) (fun _ _ => 0) (fun _ _ => 0) (fun _ _ => none)).getD (0, (fun _ _ => 0), (fun _ _ => 0), (fun _ _ => none))).1
theorem eJ_bc {n : Nat} {a : Int32} {K : jK} {ci : jI} {cj : jJ} {cr : jR} : fJ16_bitCount n a K ci cj cr = some (bcF a, ci, cj, cr) := rfl
theorem bc_all : ∀ k, k < 1024 → bcF (nI k) = nI (pcn k k) := by decide +kernel
theorem e6_bits {n : Nat} {ci : jI} {cj : jJ} : ∀ (f k a m : Nat), k ≤ f → k < 1024 → f < m → fX6_bits_4 n m (nI a) (nI k) ci cj = some (nI (a + pcn f k), ci, cj)
  | 0, k, a, m, h1, _, h3 => by
    obtain ⟨m, rfl⟩ : ∃ m', m = m' + 1 := ⟨m - 1, by omega⟩
    have : k = 0 := by omega
    subst this
    rw [fX6_bits_4.eq_2, if_pos z00]; rfl
  | f + 1, k, a, m, h1, h2, h3 => by
    obtain ⟨m, rfl⟩ : ∃ m', m = m' + 1 := ⟨m - 1, by omega⟩
    rw [fX6_bits_4.eq_2]
    unfold pcn
    by_cases hk : k = 0
    · subst hk; rw [if_pos z00, if_pos rfl]; rfl
    · have hl : k &&& (k - 1) ≤ k - 1 := Nat.and_le_right
      rw [if_neg (nI_ne0 (by omega) (by omega)), if_neg hk, nI_subN (by omega), nI_and, nI_add, e6_bits f _ _ m (by omega) (by omega) (by omega)]
      congr 2; congr 1; omega
theorem shl_P : ∀ P, P ≤ 10 → nI 1 <<< (nI P &&& 31) = nI (2 ^ P) := by decide
/-- whether the set m has p -/
abbrev hasP (m p : Nat) : Prop := ((nI m >>> (nI p &&& 31)) &&& nI 1) = nI 1
/-- all of a set are true -/
def setP (c : jCo) (m : Nat) (v : jV8) : Nat → jV8
  | 0 => v
  | p + 1 => fun k => if hasP m p ∧ k = 25 + 2 * p then nI 9 else if hasP m p ∧ k = 26 + 2 * p then nI 0 else setP c m v p k
/-- one comes within so many years -/
def cmB (c : jCo) (v : jV8) (s : Nat) (x : Int32) : Nat → Bool
  | 0 => false
  | k + 1 => cmB c v s x k || decide (tos c (goN c v k) s = x)
theorem cmB_up {c : jCo} {v : jV8} {s : Nat} {x : Int32} {k : Nat} (h : tos c (goN c v k) s = x) : ∀ n, k < n → cmB c v s x n = true
  | 0, hk => absurd hk (Nat.not_lt_zero k)
  | n + 1, hk => by
    by_cases e : k = n
    · subst e; show (_ || decide _) = true; rw [decide_eq_true h, Bool.or_true]
    · show (_ || decide _) = true; rw [cmB_up h n (by omega), Bool.true_or]
def ownP (c : jCo) (b : Nat) : Nat → Int32
  | 0 => nI 0
  | p + 1 => if coN c p = b then ownP c b p ||| (nI 1 <<< (nI p &&& 31)) else ownP c b p
/-- whether a set is looked at -/
def lkP (own : Int32) (m : Nat) (best : Int32) : Prop := (nI m &&& (own ^^^ (-1))) = 0 ∧ (best = -1 ∨ bcF (nI m) < bcF best)
def rcl (c : jCo) (v : jV8) (b s k : Nat) : Nat → Int32
  | 0 => -1
  | m + 1 => if (nI m &&& (ownP c b (coP c) ^^^ (-1))) = 0 ∧ (rcl c v b s k m = -1 ∨ bcF (nI m) < bcF (rcl c v b s k m)) ∧ cmB c (setP c m v (coP c)) s (nI b) k = true then nI m else rcl c v b s k m
theorem rcl_rg (c : jCo) (v : jV8) (b s k : Nat) : ∀ m, rcl c v b s k m = -1 ∨ ∃ j, j < m ∧ rcl c v b s k m = nI j
  | 0 => Or.inl rfl
  | m + 1 => by
    unfold rcl
    split
    · exact Or.inr ⟨m, by omega, rfl⟩
    · rcases rcl_rg c v b s k m with h | ⟨j, h1, h2⟩
      · exact Or.inl h
      · exact Or.inr ⟨j, by omega, h2⟩
theorem setP_lo {c : jCo} {m : Nat} {v : jV8} {k : Nat} (h : k < 25 ∨ 45 ≤ k) : ∀ p, p ≤ 10 → setP c m v p k = v k
  | 0, _ => rfl
  | p + 1, hp => by
    show (if _ ∧ k = 25 + 2 * p then _ else if _ ∧ k = 26 + 2 * p then _ else _) = _
    rw [if_neg (fun z => by have := z.2; omega), if_neg (fun z => by have := z.2; omega)]
    exact setP_lo h p (by omega)
theorem setP_VR {c : jCo} {m : Nat} {v : jV8} {Y : Nat} (hc : CR c) (h : VR c v Y) : ∀ p, p ≤ coP c → VR c (setP c m v p) Y
  | 0, _ => h
  | p + 1, hp => by
    have hP := hc.2.1
    obtain ⟨v1, v2, v3, v4⟩ := setP_VR hc h p (by omega)
    have lo : ∀ k, k < 25 → setP c m v (p + 1) k = setP c m v p k := fun k hk => by
      show (if _ ∧ k = 25 + 2 * p then _ else if _ ∧ k = 26 + 2 * p then _ else _) = _
      rw [if_neg (fun z => by have := z.2; omega), if_neg (fun z => by have := z.2; omega)]
    refine ⟨by rw [lo 0 (by omega)]; exact v1, fun s hs => ?_, fun b hb => ?_, fun q hq => ⟨?_, ?_⟩⟩
    · rw [lo _ (by have := hc.2.2.1; omega), lo _ (by have := hc.2.2.1; omega)]; exact v2 s hs
    · rw [lo _ (by have := hc.1; omega), lo _ (by have := hc.1; omega), lo _ (by have := hc.1; omega)]; exact v3 b hb
    · show rg (if _ ∧ 25 + 2 * q = 25 + 2 * p then _ else if _ ∧ 25 + 2 * q = 26 + 2 * p then _ else _) 9
      split
      · exact ⟨9, by omega, rfl⟩
      · split
        · exact ⟨0, by omega, rfl⟩
        · exact (v4 q hq).1
    · show rg (if _ ∧ 26 + 2 * q = 25 + 2 * p then _ else if _ ∧ 26 + 2 * q = 26 + 2 * p then _ else _) 99
      split
      · exact ⟨9, by omega, rfl⟩
      · split
        · exact ⟨0, by omega, rfl⟩
        · exact (v4 q hq).2
def aRecon (c : jCo) (v : jV8) (a0 a1 a2 : Int32) : Int32 := if iv a0 (coB c) ∧ iv a1 (coS c) ∧ iah (v 0) a2 1 20 then rcl c v a0.toNatClampNeg a1.toNatClampNeg a2.toNatClampNeg (2 ^ coP c) else -1
section
variable {n : Nat} {c : jCo} {ci : jI} {cj : jJ}
theorem sp6_doesCome (hn : 4000 ≤ n) {ci0 : jI} {cj0 : jJ} {v : jV8} {b s k : Nat} (h : MI c ci0) (hT : TH c ci0 cj0 ci cj v) (hv : VR c v 999) (hs : s < coS c) (hk : k ≤ 20) :
    Wp (fX6_doesCome n (nI b) (nI s) (nI k) ci cj) (fun q => q.1 = (if cmB c v s (nI b) k = true then nI 1 else nI 0) ∧ ∃ w, TH c ci0 cj0 q.2.1 q.2.2 w) := by
  obtain ⟨hc, hm, hv0, hk0, h58⟩ := h
  have hS := hc.2.2.1
  unfold fX6_doesCome
  refine Wp.loop3 (fun q (a0 : Int32) (a1 : jI) (a2 : jJ) => fX6_doesCome_3 n q (nI b) (nI s) (nI k) a0 a1 a2) (fun r x => ∃ i, i + r = k ∧ x.1 = nI i ∧ TH c ci0 cj0 x.2.1 x.2.2 (goN c v i) ∧ cmB c v s (nI b) i = false) _ ?_ n k (nI 0) ci cj (by omega) ⟨0, by omega, rfl, hT, rfl⟩
  rintro q r l ci1 cj1 ⟨i, g1, g2, g3, g4⟩ ih
  dsimp only at g2 g3 g4
  subst g2
  rw [fX6_doesCome_3.eq_2]
  by_cases hi : k ≤ i
  · have : i = k := by omega
    subst this
    rw [if_pos (nI_le hi (by omega)), wp_some, g4]
    exact ⟨rfl, _, g3⟩
  · rw [if_neg (nI_ge (by omega) (by omega)), wp_bind]
    refine (sp_yearT (Y := 999 + i) hn (by omega) hc hm hk0 g3 (VR_goN hc hv i)).mono ?_
    rintro ⟨ci2, cj2⟩ ⟨q1, q2, q3, q4, q5⟩
    dsimp only at q1 q2 q3 q4 q5 ⊢
    rw [if_pos (by rw [jok_t (by omega) (by omega)]; trivial), nI_cl (by omega)]
    by_cases e : tos c (goN c v i) s = nI b
    · rw [if_pos (show ci2 1589 s = nI b by rw [q2 s hs]; exact e), wp_some, if_pos (cmB_up e k (by omega))]
      exact ⟨rfl, _, q1⟩
    · rw [if_neg (show ¬ ci2 1589 s = nI b by rw [q2 s hs]; exact e), nI_add]
      refine ih (r - 1) (nI (i + 1)) _ _ (by omega) ⟨i + 1, by omega, rfl, q1, ?_⟩
      show (_ || decide _) = false
      rw [g4, decide_eq_false e]; rfl
theorem sp6_pairsIn (hn : 4000 ≤ n) (hc : CR c) (hm : MC c ci) {b : Nat} (hb : b < coB c) : Wp (fX6_pairsIn n (nI b) ci cj) (fun q => q = (ownP c b (coP c), ci, cj)) := by
  have hP := hc.2.1
  have hB := hc.1
  unfold fX6_pairsIn
  refine Wp.loop2 (fun k (a0 a1 : Int32) => fX6_pairsIn_4 n k (nI b) a0 a1 ci cj) (fun r x => ∃ p, p + r = coP c ∧ x.2 = nI p ∧ x.1 = ownP c b p) _ ?_ n (coP c) (nI 0) (nI 0) (by omega) ⟨0, by omega, rfl, rfl⟩
  rintro k r x l ⟨p, g1, g2, g3⟩ ih
  dsimp only at g2 g3
  subst g2
  rw [fX6_pairsIn_4.eq_2, wp_bind, e6_pairMany, wp_some]
  dsimp only
  rw [hm.2.1]
  by_cases hp : coP c ≤ p
  · have : p = coP c := by omega
    subst this
    rw [if_pos (nI_le hp (by omega)), wp_some, g3]
  · rw [if_neg (nI_ge (by omega) (by omega)), wp_bind, e6_bayOf (by omega), wp_some]
    dsimp only
    have hbp := hc.2.2.2.2.2.1 p (by omega)
    rw [hm.2.2.2.2.2.1 p (by omega)]
    unfold fX6_pairsIn_27
    by_cases e : coN c p = b
    · rw [if_pos (show nI (coN c p) = nI b by rw [e]), nI_add]
      exact ih (r - 1) _ (nI (p + 1)) (by omega) ⟨p + 1, by omega, rfl, by show _ = if _ then _ else _; rw [if_pos e, g3]⟩
    · rw [if_neg (show ¬ nI (coN c p) = nI b by rw [nI_eqN (by omega) (by omega)]; exact e), nI_add]
      exact ih (r - 1) _ (nI (p + 1)) (by omega) ⟨p + 1, by omega, rfl, by show _ = if _ then _ else _; rw [if_neg e, g3]⟩
theorem m_recon (hn : 4000 ≤ n) (h : MI c ci) (a0 a1 a2 : Int32) : Wp (fX6_reconcile n a0 a1 a2 ci cj) (fun q => q.1 = aRecon c (ci 1585) a0 a1 a2 ∧ QM ci cj q.2.1 q.2.2) := by
  have hh := h
  obtain ⟨hc, hm, hv, hk, h58⟩ := h
  have hS := hc.2.2.1
  have hB := hc.1
  have hP := hc.2.1
  unfold fX6_reconcile fX6_reconcile_28 aRecon
  rw [wp_bind, e6_isBay hc hm, wp_some]
  dsimp only
  by_cases h1 : iv a0 (coB c)
  rotate_left
  · rw [if_neg h1, if_pos z00, wp_some, if_neg (fun z => h1 z.1)]
    exact ⟨rfl, QM.rfl'⟩
  rw [if_pos h1, if_neg n10, wp_bind, e6_isShoal hc hm, wp_some]
  dsimp only
  by_cases h2 : iv a1 (coS c)
  rotate_left
  · rw [if_neg h2, if_pos z00, wp_some, if_neg (fun z => h2 z.2.1)]
    exact ⟨rfl, QM.rfl'⟩
  rw [if_pos h2, if_neg n10, wp_bind, e6_isAhead, wp_some]
  dsimp only
  by_cases h3 : iah (ci 1585 0) a2 1 20
  rotate_left
  · rw [if_neg h3, if_pos z00, wp_some, if_neg (fun z => h3 z.2.2)]
    exact ⟨rfl, QM.rfl'⟩
  rw [if_pos h3, if_neg n10, if_pos ⟨h1, h2, h3⟩, wp_bind]
  obtain ⟨b, b1, b2⟩ := iv_ex h1 (by omega)
  obtain ⟨s, s1, s2⟩ := iv_ex h2 (by omega)
  obtain ⟨y, k0, k1, k2, -⟩ := iah_ex hv.1 (by omega) (by omega) (by omega) h3
  subst b2 s2 k2
  refine (sp6_pairsIn hn hc hm b1).mono ?_
  rintro q rfl
  dsimp only
  rw [wp_bind, nI_cl (by omega), nI_cl (by omega), nI_cl (by omega)]
  refine (sp_putsAside (c := c) hn).mono ?_
  rintro ⟨ci1, cj1⟩ hT
  have h1024 : 2 ^ coP c ≤ 1024 := Nat.pow_le_pow_right (by omega) hP (n := 2)
  refine Wp.loop4 (fun k (a0 a1 : Int32) (a2 : jI) (a3 : jJ) => fX6_reconcile_47 n k (nI b) (nI s) (nI y) a0 (ownP c b (coP c)) a1 a2 a3) (fun r x => ∃ m, m + r = 2 ^ coP c ∧ x.2.1 = nI m ∧ x.1 = rcl c (ci 1585) b s y m ∧ TH c ci cj x.2.2.1 x.2.2.2 (ci 1585)) _ ?_ n (2 ^ coP c) (-1) (nI 0) ci1 cj1 (by omega) ⟨0, by omega, rfl, rfl, hT⟩
  rintro k r best l ci2 cj2 ⟨m, g1, g2, g3, g4⟩ ih
  dsimp only at g2 g3 g4
  subst g2
  have hm2 := g4.mc hm
  rw [fX6_reconcile_47.eq_2, wp_bind, e6_pairMany, wp_some]
  dsimp only
  rw [hm2.2.1, shl_P _ hP]
  by_cases hmP : 2 ^ coP c ≤ m
  · have : m = 2 ^ coP c := by omega
    subst this
    rw [if_pos (nI_le hmP (by omega)), wp_bind]
    refine (sp_takesBack hn g4 h58).mono ?_
    rintro ⟨ci3, cj3⟩ hQ
    rw [wp_some]
    exact ⟨g3, hQ⟩
  · rw [if_neg (nI_ge (by omega) (by omega))]
    -- one more set
    have skip : ¬ ((nI m &&& (ownP c b (coP c) ^^^ (-1))) = 0 ∧ (best = -1 ∨ bcF (nI m) < bcF best)) → Wp (fX6_reconcile_164 n (fX6_reconcile_47 n k) (nI b) (nI s) (nI y) best (ownP c b (coP c)) (nI m) ci2 cj2) (fun q => q.1 = rcl c (ci 1585) b s y (2 ^ coP c) ∧ QM ci cj q.2.1 q.2.2) := by
      intro hne
      unfold fX6_reconcile_164
      rw [nI_add]
      refine ih (r - 1) best (nI (m + 1)) _ _ (by omega) ⟨m + 1, by omega, rfl, ?_, g4⟩
      show best = if _ then _ else _
      rw [if_neg (fun z => hne ⟨z.1, by rw [g3]; exact z.2.1⟩), g3]
    have try1 : (nI m &&& (ownP c b (coP c) ^^^ (-1))) = 0 ∧ (best = -1 ∨ bcF (nI m) < bcF best) → Wp (fX6_reconcile_90 n (fX6_reconcile_47 n k) (nI b) (nI s) (nI y) best (ownP c b (coP c)) (nI m) ci2 cj2) (fun q => q.1 = rcl c (ci 1585) b s y (2 ^ coP c) ∧ QM ci cj q.2.1 q.2.2) := by
      intro hlk
      unfold fX6_reconcile_90
      refine Wp.loop2 (fun k' (a0 : Int32) (a1 : jI) => fX6_reconcile_93 n (fX6_reconcile_47 n k) k' (nI b) (nI s) (nI y) best (ownP c b (coP c)) (nI m) a0 a1 cj2) (fun r x => ∃ p, p + r = coP c ∧ x.1 = nI p ∧ TH c ci cj x.2 cj2 (setP c m (ci 1585) p)) _ ?_ n (coP c) (nI 0) ci2 (by omega) ⟨0, by omega, rfl, g4⟩
      rintro k' r' l ci3 ⟨p, w1, w2, w3⟩ ih2
      dsimp only at w2 w3
      subst w2
      have hm3 := w3.mc hm
      rw [fX6_reconcile_93.eq_2, wp_bind, e6_pairMany, wp_some]
      dsimp only
      rw [hm3.2.1]
      by_cases hp : coP c ≤ p
      · have : p = coP c := by omega
        subst this
        rw [if_pos (nI_le hp (by omega)), wp_bind]
        refine (sp6_doesCome hn hh w3 (setP_VR hc hv _ (Nat.le_refl _)) s1 (by omega)).mono ?_
        rintro ⟨x, ci4, cj4⟩ ⟨q1, w, q2⟩
        dsimp only at q1 q2 ⊢
        have fin : ∀ bst, bst = rcl c (ci 1585) b s y (m + 1) → Wp (fX6_reconcile_160 n (fX6_reconcile_47 n k) (nI b) (nI s) (nI y) bst (ownP c b (coP c)) (nI m) ci4 cj4) (fun q => q.1 = rcl c (ci 1585) b s y (2 ^ coP c) ∧ QM ci cj q.2.1 q.2.2) := by
          intro bst hb
          unfold fX6_reconcile_160 fX6_reconcile_164
          rw [wp_bind]
          refine (sp_triesAnew hn q2).mono ?_
          rintro ⟨ci5, cj5⟩ ⟨t1, -⟩
          dsimp only at t1 ⊢
          rw [nI_add]
          exact ih (r - 1) bst (nI (m + 1)) _ _ (by omega) ⟨m + 1, by omega, rfl, hb, t1⟩
        subst q1
        by_cases hcm : cmB c (setP c m (ci 1585) (coP c)) s (nI b) y = true
        · rw [if_pos hcm, if_neg n10]
          refine fin (nI m) ?_
          show _ = if _ then _ else _
          rw [if_pos ⟨hlk.1, by rw [← g3]; exact hlk.2, hcm⟩]
        · rw [if_neg hcm, if_pos z00]
          refine fin best ?_
          show _ = if _ then _ else _
          rw [if_neg (fun z => hcm z.2.2), g3]
      · rw [if_neg (nI_ge (by omega) (by omega))]
        unfold fX6_reconcile_140
        by_cases hb : hasP m p
        · rw [if_pos hb]
          simp (disch := omega) only [nI_add, nI_mulN, nI_cl, jok_t, if_true]
          obtain ⟨t1, t2, t3, t4, t5, t6⟩ := w3
          refine ih2 (r' - 1) (nI (p + 1)) _ (by omega) ⟨p + 1, by omega, rfl, ?_, fun j hj => ?_, fun j hj => ?_, fun j j1 j2 => ?_, (Fr.up (Fr.up t5 (by decide) (by decide)) (by decide) (by decide)), t6⟩
          · simp (disch := omega) only [ju_row]; exact t1
          · simp (disch := omega) only [ju_row]; exact t2 j hj
          · show ju (ju ci3 1585 (25 + 2 * p) (nI 9)) 1585 (26 + 2 * p) (nI 0) 1585 j = if hasP m p ∧ j = 25 + 2 * p then nI 9 else if hasP m p ∧ j = 26 + 2 * p then nI 0 else setP c m (ci 1585) p j
            by_cases e1 : j = 26 + 2 * p
            · subst e1
              rw [ju_eq, if_neg (fun z => by have := z.2; omega), if_pos ⟨hb, rfl⟩]
            · rw [ju_ne2 _ _ e1]
              by_cases e2 : j = 25 + 2 * p
              · subst e2; rw [ju_eq, if_pos ⟨hb, rfl⟩]
              · rw [ju_ne2 _ _ e2, if_neg (fun z => e2 z.2), if_neg (fun z => e1 z.2)]; exact t3 j hj
          · show ju (ju ci3 1585 (25 + 2 * p) (nI 9)) 1585 (26 + 2 * p) (nI 0) 1585 j = _
            rw [ju_ne2 _ _ (by omega), ju_ne2 _ _ (by omega)]; exact t4 j j1 j2
        · rw [if_neg hb, nI_add]
          obtain ⟨t1, t2, t3, t4, t5, t6⟩ := w3
          refine ih2 (r' - 1) (nI (p + 1)) _ (by omega) ⟨p + 1, by omega, rfl, t1, t2, fun j hj => ?_, t4, t5, t6⟩
          show ci3 1585 j = if hasP m p ∧ j = 25 + 2 * p then nI 9 else if hasP m p ∧ j = 26 + 2 * p then nI 0 else setP c m (ci 1585) p j
          rw [if_neg (fun z => hb z.1), if_neg (fun z => hb z.1)]; exact t3 j hj
    by_cases c1 : (nI m &&& (ownP c b (coP c) ^^^ (-1))) = 0
    · rw [if_pos c1]
      by_cases c2 : best = -1
      · rw [if_pos c2]; exact try1 ⟨c1, Or.inl c2⟩
      · rw [if_neg c2]
        obtain ⟨j, j1, j2⟩ : ∃ j, j < m ∧ best = nI j := by
          rcases rcl_rg c (ci 1585) b s y m with z | ⟨j, z1, z2⟩
          · exact absurd (g3.trans z) c2
          · exact ⟨j, z1, g3.trans z2⟩
        have b1 : fX6_bits n (nI m) ci2 cj2 = some (bcF (nI m), ci2, cj2) := by
          unfold fX6_bits
          rw [e6_bits m m 0 n (Nat.le_refl _) (by omega) (by omega), bc_all m (by omega)]; congr 2; congr 1; omega
        have b2 : fX6_bits n best ci2 cj2 = some (bcF best, ci2, cj2) := by
          unfold fX6_bits
          rw [j2, e6_bits j j 0 n (Nat.le_refl _) (by omega) (by omega), bc_all j (by omega)]; congr 2; congr 1; omega
        rw [wp_bind, b1, wp_some, wp_bind]
        dsimp only
        rw [b2, wp_some]
        dsimp only
        by_cases c3 : bcF (nI m) < bcF best
        · rw [if_pos c3]; exact try1 ⟨c1, Or.inr c3⟩
        · rw [if_neg c3]; exact skip (fun z => z.2.elim c2 c3)
    · rw [if_neg c1]; exact skip (fun z => c1 z.1)
end
