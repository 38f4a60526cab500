/-! A NAME IN THE MODEL: a number by 27 -/
set_option maxRecDepth 100000
def cR : List Nat → Nat
  | [] => 0
  | x :: l => 27 * cR l + (x - 96)
theorem c27_app (x : Nat) : ∀ (l : List Nat) (v : Nat), c27 (l ++ [x]) v = 27 * c27 l v + (x - 96)
  | [], _ => rfl
  | _ :: l, v => c27_app x l _
theorem c27_rev : ∀ l : List Nat, c27 l.reverse 0 = cR l
  | [] => rfl
  | x :: l => by
    rw [List.reverse_cons, c27_app, c27_rev l]; rfl
theorem cR_inj : ∀ (l m : List Nat), (∀ x ∈ l, isL x) → (∀ x ∈ m, isL x) → cR l = cR m → l = m
  | [], [], _, _, _ => rfl
  | [], x :: m, _, h, e => by
    have := h x (List.mem_cons_self ..)
    have e' : 0 = 27 * cR m + (x - 96) := e
    omega
  | x :: l, [], h, _, e => by
    have := h x (List.mem_cons_self ..)
    have e' : 27 * cR l + (x - 96) = 0 := e
    omega
  | x :: l, y :: m, h, h', e => by
    have h1 := h x (List.mem_cons_self ..)
    have h2 := h' y (List.mem_cons_self ..)
    have e' : 27 * cR l + (x - 96) = 27 * cR m + (y - 96) := e
    have e1 : x = y := by omega
    have e2 : cR l = cR m := by omega
    rw [e1, cR_inj l m (fun z hz => h z (List.mem_cons_of_mem _ hz)) (fun z hz => h' z (List.mem_cons_of_mem _ hz)) e2]
theorem c27_inj {l m : List Nat} (hl : ∀ x ∈ l, isL x) (hm : ∀ x ∈ m, isL x) (e : c27 l 0 = c27 m 0) : l = m := by
  rw [← List.reverse_reverse l, ← List.reverse_reverse m, c27_rev, c27_rev] at e
  have := cR_inj _ _ (fun x hx => hl x (List.mem_reverse.mp hx)) (fun x hx => hm x (List.mem_reverse.mp hx)) e
  rw [← List.reverse_reverse l, this, List.reverse_reverse]
theorem wdN_snoc (t : jTx) : ∀ k p, wdN t p (k + 1) = wdN t p k ++ [t.2 (p + k)]
  | 0, _ => rfl
  | k + 1, p => by
    show t.2 p :: wdN t (p + 1) (k + 1) = t.2 p :: (wdN t (p + 1) k ++ [t.2 (p + (k + 1))])
    rw [wdN_snoc t k (p + 1), show p + 1 + k = p + (k + 1) by omega]
theorem wdN_l {t : jTx} : ∀ {k p : Nat}, (∀ i, i < k → isL (cAt t (p + i))) → ∀ x ∈ wdN t p k, isL x
  | 0, _, _, x, h => by cases h
  | k + 1, p, h, x, hx => by
    rcases List.mem_cons.mp hx with e | e
    · obtain ⟨h1, h2⟩ := isL_lt (h 0 (by omega))
      have h3 := h 0 (by omega)
      rw [h2] at h3
      rw [e]; exact h3
    · exact wdN_l (p := p + 1) (fun i hi => by have := h (i + 1) (by omega); rw [show p + 1 + i = p + (i + 1) by omega]; exact this) x e
theorem wd_l {t : jTx} {p : Nat} : ∀ x ∈ wd t p, isL x := wdN_l (fun i hi => we_l (p := p) (by omega) (by have := we_ge (t := t) p; omega))
theorem wd_len {t : jTx} (p : Nat) : (wd t p).length = we t p - p := wdN_len t _ p
theorem c27_lt {t : jTx} {p : Nat} : ∀ k, (∀ i, i < k → isL (cAt t (p + i))) → c27 (wdN t p k) 0 < 27 ^ k
  | 0, _ => by show 0 < 1; omega
  | k + 1, h => by
    have ih := c27_lt k (fun i hi => h i (by omega))
    obtain ⟨h1, h2⟩ := isL_lt (h k (by omega))
    have h3 := h k (by omega)
    rw [h2] at h3
    rw [wdN_snoc, c27_app]
    show _ < 27 ^ k * 27
    omega
section
variable {n : Nat} {t : jTx} {ci : jI} {cj : jJ}
theorem bd_name {k p : Nat} (h : BD ci k p) : fX6_name n ci cj = some (lN 0, ci, cj) := by
  unfold fX6_name
  rw [if_neg h.ne]
theorem sp6_name (hn : 4000 ≤ n) (hT : TXok t) {p : Nat} (h : MN t ci p) (hW : WO ci) : Wp (fX6_name n ci cj) (fun q => RS (nameS t p) (fun k e => BD q.2.1 k e) (fun e w => q.1 = lN (c27 w 0) ∧ ML t q.2.1 e ∧ q.2.1 1547 38 = nI (sk t p) ∧ sk t p < e ∧ e ≤ t.1 ∧ w.length ≤ 6 ∧ c27 w 0 < 387420489) ∧ Fr [] [2, 4, 5, 6, 38] ci q.2.1 ∧ q.2.2 = cj) := by
  have hT1 := hT.1
  have hb : ci 1547 5 = 0 := by obtain ⟨a, h, -⟩ := h; exact h.2.2.1
  unfold fX6_name fX6_name_37
  rw [if_pos hb, wp_bind]
  refine (sp6_look hn hT h).mono ?_
  rintro ⟨x, d, j⟩ ⟨q1, q2, q3, q4⟩
  dsimp only at q1 q2 q3 q4 ⊢
  subst q1 q4
  rw [wp_bind, e6_isLetter (cAt_le hT _), wp_some]
  dsimp only
  have q3' : Fr [] [2, 4, 5, 6, 38] ci d := q3.le (by decide) (by decide)
  have h5 := q2.2.2.2.2.1
  have h7 := q2.2.2.2.2.2.2
  have no : ∀ (e : jI), ¬ (isL (cAt t (sk t p)) ∧ ¬ pt t (sk t p) ∧ ¬ isOwn (wd t (sk t p))) → ML t e (sk t p) → Fr [] [2, 4, 5, 6, 38] ci e → Wp (Option.bind (fX6_fail n (nI 1) (e 1547 2) e j) (fun q1 => some ((lN 0), q1.1, q1.2))) (fun q => RS (nameS t p) (fun k e => BD q.2.1 k e) (fun e w => q.1 = lN (c27 w 0) ∧ ML t q.2.1 e ∧ q.2.1 1547 38 = nI (sk t p) ∧ sk t p < e ∧ e ≤ t.1 ∧ w.length ≤ 6 ∧ c27 w 0 < 387420489) ∧ Fr [] [2, 4, 5, 6, 38] ci q.2.1 ∧ q.2.2 = j) := by
    intro e hh m1 m2
    rw [m1.2.2.2.2.1, wp_bind, e6_fail m1.2.2.1, wp_some, wp_some]
    refine ⟨?_, (m2.upf (by decide)).upf (by decide), rfl⟩
    unfold nameS
    rw [if_neg hh]
    exact BD.mk' (ci := e) (by omega) (by omega)
  by_cases hl : isL (cAt t (sk t p))
  rotate_left
  · rw [if_neg hl, if_pos z00]; exact no d (fun z => hl z.1) q2 q3'
  rw [if_pos hl, if_neg n10]
  by_cases hp : pt t (sk t p)
  · rw [if_pos (show d 1547 2 = d 1547 4 by rw [h5, h7.mpr hp])]; exact no d (fun z => z.2.1 hp) q2 q3'
  rw [if_neg (show ¬ d 1547 2 = d 1547 4 from fun z => hp (h7.mp (by rw [← z, h5]))), wp_bind]
  refine (sp6_isOwnHere hn hT q2 (hW.fr q3 wtab_nil)).mono ?_
  rintro ⟨x, d2, j2⟩ ⟨o1, o2, o3, o4⟩
  dsimp only at o1 o2 o3 o4 ⊢
  subst o4
  have o3' : Fr [] [2, 4, 5, 6, 38] ci d2 := q3'.tr (o3.le (by decide) (by decide))
  rw [own_iff hl hp] at o1
  by_cases hw : isOwn (wd t (sk t p))
  · rcases o1 with ⟨o1, -⟩ | ⟨-, o1⟩
    · subst o1; rw [if_neg n10]; exact no d2 (fun z => z.2.2 hw) o2 o3'
    · exact absurd hw o1
  have o1' : x = nI 0 := by
    rcases o1 with ⟨-, o1⟩ | ⟨o1, -⟩
    · exact absurd o1 hw
    · exact o1
  subst o1'
  rw [if_pos z00, o2.2.2.2.2.1]
  have hge := we_ge (t := t) (sk t p)
  have hle := we_le (t := t) q2.le
  have hlt : sk t p < we t (sk t p) := by rw [we_step hl]; have := we_ge (t := t) (sk t p + 1); omega
  have hok : isL (cAt t (sk t p)) ∧ ¬ pt t (sk t p) ∧ ¬ isOwn (wd t (sk t p)) := ⟨hl, hp, hw⟩
  refine Wp.loop2 (fun k (x : Int64) (y : jI) => fX6_name_58 n k x y j2) (fun r x => ∃ m, m + r = we t (sk t p) ∧ sk t p ≤ m ∧ m - sk t p ≤ 6 ∧ x.1 = lN (c27 (wdN t (sk t p) (m - sk t p)) 0) ∧ MR1 t x.2 m ∧ x.2 1547 38 = nI (sk t p) ∧ Fr [] [2, 4, 5, 6, 38] ci x.2) _ ?_ n (we t (sk t p) - sk t p) (lN 0) _ (by omega) ⟨sk t p, by omega, Nat.le_refl _, by omega, by rw [Nat.sub_self]; rfl, (o2.up38).mr, by dsimp only; rw [ju_eq], o3'.upf (by decide)⟩
  rintro k r x e ⟨m, g1, g2, g3, g4, g5, g6, g7⟩ ih
  dsimp only at g4 g5 g6 g7
  subst g4
  have g5' := g5
  obtain ⟨f1, f2, f3, f4, f5⟩ := g5
  have hc := c27_lt (t := t) (p := sk t p) (m - sk t p) (fun i hi => we_l (p := sk t p) (by omega) (by omega))
  have hc6 : c27 (wdN t (sk t p) (m - sk t p)) 0 < 387420489 := Nat.lt_of_lt_of_le hc (Nat.pow_le_pow_right (n := 27) (j := 6) (by omega) g3)
  rw [fX6_name_58.eq_2]
  have fin : ∀ hm : m = we t (sk t p), Wp (fX6_name_145 n (lN (c27 (wdN t (sk t p) (m - sk t p)) 0)) e j2) (fun q => RS (nameS t p) (fun k e => BD q.2.1 k e) (fun e w => q.1 = lN (c27 w 0) ∧ ML t q.2.1 e ∧ q.2.1 1547 38 = nI (sk t p) ∧ sk t p < e ∧ e ≤ t.1 ∧ w.length ≤ 6 ∧ c27 w 0 < 387420489) ∧ Fr [] [2, 4, 5, 6, 38] ci q.2.1 ∧ q.2.2 = j2) := by
    intro hm
    subst hm
    unfold fX6_name_145
    rw [f5, wp_some]
    refine ⟨?_, g7.upf (by decide), rfl⟩
    unfold nameS
    rw [if_pos hok, if_pos g3]
    exact ⟨rfl, g5'.en (we_pt hlt), by dsimp only; rw [ju_ne2 _ _ (by decide)]; exact g6, hlt, f4, by rw [wd_len]; exact g3, hc6⟩
  rw [f1]
  by_cases hmT : t.1 ≤ m
  · rw [if_pos (show nI t.1 ≤ e 1547 2 by rw [f5]; exact nI_le hmT (by omega))]; exact fin (by omega)
  have b256 := hT.2 m (by omega)
  have em : e 1548 m = cI (cAt t m) := by rw [f2 m (by omega), cAt_in (show m < t.1 by omega), cI_N b256]
  rw [if_neg (show ¬ nI t.1 ≤ e 1547 2 by rw [f5]; exact nI_ge (by omega) (by omega)), if_pos (show jok (e 1547 2) 1600 by rw [f5, jok_t (by omega) (by omega)]; trivial), show e 1548 (e 1547 2).toNatClampNeg = cI (cAt t m) by rw [f5, nI_cl (by omega), em], wp_bind, e6_isLetter (cAt_le hT _), wp_some]
  dsimp only
  by_cases hm : m = we t (sk t p)
  · rw [if_neg (show ¬ isL (cAt t m) by rw [hm]; exact we_nl _), if_pos z00]; exact fin hm
  have hgm : isL (cAt t m) := we_l g2 (by omega)
  rw [if_pos hgm, if_neg n10]
  by_cases h4 : m - sk t p = 6
  · rw [if_pos (show e 1547 2 - e 1547 38 = nI 6 by rw [f5, g6, nI_subN g2, h4]), f5, wp_bind, e6_fail f3, wp_some, wp_some]
    refine ⟨?_, (g7.upf (by decide)).upf (by decide), rfl⟩
    unfold nameS
    rw [if_pos hok, if_neg (by omega), show sk t p + 6 = m by omega]
    exact BD.mk' (ci := e) (by omega) (by omega)
  · rw [cAt_in (show m < t.1 by omega)] at hgm
    rw [if_neg (show ¬ e 1547 2 - e 1547 38 = nI 6 by rw [f5, g6, nI_subN g2, nI_eqN (by omega) (by omega)]; exact h4), if_pos (show jok (e 1547 2) 1600 by rw [f5, jok_t (by omega) (by omega)]; trivial), f5, nI_cl (by omega), f2 m (by omega), nI_add]
    have ev : ((27 : Int64) * lN (c27 (wdN t (sk t p) (m - sk t p)) 0) + (nI (t.2 m)).toInt64) - (97 : Int64) + lN 1 = lN (27 * c27 (wdN t (sk t p) (m - sk t p)) 0 + (t.2 m - 96)) := by
      rw [nI_L (by omega), show (27 : Int64) = lN 27 from rfl, show (97 : Int64) = lN 97 from rfl, lN_mulN, lN_addN, lN_subN (by omega), lN_addN]
      congr 1; omega
    rw [ev]
    refine ih (r - 1) _ _ (by omega) ⟨m + 1, by omega, by omega, by omega, ?_, g5'.up (by omega), by dsimp only; rw [ju_ne2 _ _ (by decide)]; exact g6, g7.upf (by decide)⟩
    dsimp only
    rw [show m + 1 - sk t p = (m - sk t p) + 1 by omega, wdN_snoc, c27_app, show sk t p + (m - sk t p) = m by omega]
end
