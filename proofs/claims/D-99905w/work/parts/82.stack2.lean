/-! BRACKETS THAT WAIT, IN THE MODEL -/
set_option maxRecDepth 100000
theorem getD_mid (x : Nat) : ∀ (pre S : List Nat), (pre ++ (x :: S)).getD pre.length 0 = x
  | [], _ => rfl
  | _ :: pre, S => getD_mid x pre S
theorem i32_m1 (m : Nat) : nI (m + 1) - nI 1 = nI m := by rw [nI_subN (by omega)]; rfl
theorem i32_0m1 : nI 0 - nI 1 = (-1 : Int32) := by decide
theorem i32_lt_dec {m bs : Nat} (h1 : m ≤ bs) (h2 : bs < 2147483648) : nI m - nI 1 < nI bs := by
  cases m with
  | zero => rw [i32_0m1, m1_lt h2]; trivial
  | succ m => rw [i32_m1]; exact nI_lt (by omega) h2
section
variable {n : Nat} {t : jTx} {ci : jI} {cj : jJ} {W C : List Nat} {o bs : Nat}
theorem STK.atP {pre S : List Nat} {x : Nat} (h : STK ci (pre ++ (x :: S)) C o bs) : ci 1621 S.length = nI x := by
  have e : (pre ++ (x :: S)).length = pre.length + (S.length + 1) := by rw [List.length_append]; rfl
  have := h.2.2.2.1 pre.length (by rw [e]; omega)
  rw [getD_mid, e, show pre.length + (S.length + 1) - 1 - pre.length = S.length by omega] at this
  exact this
/-- what the base or a bracket ends -/
def clo (R : List Nat) (bs : Nat) : Prop := R.length = bs ∨ ∃ x R', R = x :: R' ∧ 20 ≤ x ∧ x ≤ 24 ∧ bs ≤ R'.length
def opl (ops : List Nat) : Prop := ∀ y ∈ ops, y < 20
def brk (R : List Nat) (bs : Nat) : Int32 := if R.length = bs then -1 else nI (R.getD 0 0)
theorem sp6_qBracket_7 {R : List Nat} (hR : clo R bs) : ∀ (ops pre : List Nat) (k : Nat), ops.length < k → opl ops → STK ci (pre ++ (ops ++ R)) C o bs → fX6_qBracket_7 n k (nI (ops ++ R).length - nI 1) ci cj = some (brk R bs, ci, cj)
  | [], pre, k, hk, ho, h => by
    obtain ⟨k, rfl⟩ : ∃ k', k = k' + 1 := ⟨k - 1, by omega⟩
    simp only [List.nil_append] at h ⊢
    have h8 := h.2.2.2.2.2.2.2.1
    rw [List.length_append] at h8
    have h6 := h.2.2.2.2.2.1
    rw [fX6_qBracket_7.eq_2, h6]
    unfold fX6_qBracket_33 fX6_qBracket_51
    rw [h6]
    rcases hR with e | ⟨x, R', e, x1, x2, x3⟩
    · have hlt : nI R.length - nI 1 < nI bs := i32_lt_dec (by omega) (by omega)
      rw [if_pos hlt, if_pos hlt]
      unfold brk
      rw [if_pos e]
    · subst e
      have e1 : nI (x :: R').length - nI 1 = nI R'.length := i32_m1 _
      have h8' : R'.length + 1 ≤ 1650 := by have : pre.length + (R'.length + 1) ≤ 1650 := h8; omega
      have hat : ci 1621 R'.length = nI x := h.atP
      have hnl : ¬ nI R'.length < nI bs := nI_nlt x3 (by omega)
      have hat' : ci 1621 (nI R'.length).toNatClampNeg = nI x := by rw [nI_cl (by omega)]; exact hat
      rw [e1, if_neg hnl, if_pos (by rw [jok_t (by omega) (by omega)]; trivial), hat', e6_qIsBracket (by omega), Option.bind_some]
      dsimp only
      rw [if_pos (show 20 ≤ x ∧ x ≤ 24 from ⟨x1, x2⟩), if_neg n10, if_neg (show ¬ nI R'.length < ci 1547 101 by rw [h6]; exact hnl), if_pos (by rw [jok_t (by omega) (by omega)]; trivial), hat']
      unfold brk
      rw [if_neg (show ¬ (x :: R').length = bs by show ¬ R'.length + 1 = bs; omega)]
      rfl
  | y :: ops, pre, k, hk, ho, h => by
    have hk' : ops.length + 1 < k := hk
    obtain ⟨k, rfl⟩ : ∃ k', k = k' + 1 := ⟨k - 1, by omega⟩
    have h8 := h.2.2.2.2.2.2.2.1
    rw [List.length_append] at h8
    have h8' : pre.length + ((ops ++ R).length + 1) ≤ 1650 := h8
    have h6 := h.2.2.2.2.2.1
    have hy := ho y (List.mem_cons_self ..)
    have e1 : nI ((y :: ops) ++ R).length - nI 1 = nI (ops ++ R).length := i32_m1 _
    have hbs : bs ≤ (ops ++ R).length := by
      rw [List.length_append]
      rcases hR with e | ⟨x, R', e, x1, x2, x3⟩
      · omega
      · rw [e]; show bs ≤ ops.length + (R'.length + 1); omega
    have hat : ci 1621 (ops ++ R).length = nI y := STK.atP (pre := pre) (S := ops ++ R) h
    rw [fX6_qBracket_7.eq_2, h6, e1, if_neg (nI_nlt hbs (by omega)), if_pos (by rw [jok_t (by omega) (by omega)]; trivial), nI_cl (by omega), hat, e6_qIsBracket (by omega), Option.bind_some]
    dsimp only
    rw [if_neg (show ¬ (20 ≤ y ∧ y ≤ 24) by omega), if_pos z00, show nI (ops ++ R).length + (-1 : Int32) = nI (ops ++ R).length - nI 1 from (Int32.sub_eq_add_neg ..).symm]
    exact sp6_qBracket_7 hR ops (pre ++ [y]) k (by omega) (fun z hz => ho z (List.mem_cons_of_mem _ hz)) (by rw [List.append_assoc]; exact h)
theorem e6_qBracket {ops R : List Nat} (hn : 4000 ≤ n) (hR : clo R bs) (ho : opl ops) (h : STK ci (ops ++ R) C o bs) : fX6_qBracket n ci cj = some (brk R bs, ci, cj) := by
  have h8 := h.2.2.2.2.2.2.2.1
  rw [List.length_append] at h8
  unfold fX6_qBracket
  rw [h.2.2.1]
  exact sp6_qBracket_7 hR ops [] n (by omega) ho h
theorem sp6_qDTB {R : List Nat} (hR : clo R bs) : ∀ (ops : List Nat) (ci : jI) (C : List Nat) (k : Nat), ops.length < k → opl ops → STK ci (ops ++ R) C o bs → C.length + ops.length < 1650 → Wp (fX6_qDropsToBracket_0 n k ci cj) (fun q => STK q.1 R (C ++ ops) o bs ∧ Fr [1620] [97, 99] ci q.1 ∧ q.2 = cj)
  | [], ci, C, k, hk, ho, h, hC => by
    obtain ⟨k, rfl⟩ : ∃ k', k = k' + 1 := ⟨k - 1, by omega⟩
    have h' : STK ci R C o bs := h
    have h8 : R.length ≤ 1650 := h'.2.2.2.2.2.2.2.1
    have h6 := h'.2.2.2.2.2.1
    unfold fX6_qDropsToBracket_0 fX6_qDropsToBracket_35
    rw [h'.2.2.1, h6, List.append_nil]
    rcases hR with e | ⟨x, R', e, x1, x2, x3⟩
    · rw [if_pos (nI_le (by omega) (by omega)), wp_some]; exact ⟨h', Fr.rfl', rfl⟩
    · subst e
      have h8' : R'.length + 1 ≤ 1650 := h8
      rw [if_neg (show ¬ nI (x :: R').length ≤ nI bs from nI_ge (by show bs < R'.length + 1; omega) (by show R'.length + 1 < _; omega)), show nI (x :: R').length - nI 1 = nI R'.length from i32_m1 _, if_pos (by rw [jok_t (by omega) (by omega)]; trivial), nI_cl (by omega), h'.top, e6_qIsBracket (by omega), wp_bind, wp_some]
      dsimp only
      rw [if_pos (show 20 ≤ x ∧ x ≤ 24 from ⟨x1, x2⟩), if_neg n10, wp_some]
      exact ⟨h', Fr.rfl', rfl⟩
  | y :: ops, ci, C, k, hk, ho, h, hC => by
    have hk' : ops.length + 1 < k := hk
    have hC' : C.length + (ops.length + 1) < 1650 := hC
    obtain ⟨k, rfl⟩ : ∃ k', k = k' + 1 := ⟨k - 1, by omega⟩
    have h' : STK ci (y :: (ops ++ R)) C o bs := h
    have h8 : (ops ++ R).length + 1 ≤ 1650 := h'.2.2.2.2.2.2.2.1
    have h6 := h'.2.2.2.2.2.1
    have hy := ho y (List.mem_cons_self ..)
    have hbs : bs ≤ (ops ++ R).length := by
      rw [List.length_append]
      rcases hR with e | ⟨x, R', e, x1, x2, x3⟩
      · omega
      · rw [e]; show bs ≤ ops.length + (R'.length + 1); omega
    unfold fX6_qDropsToBracket_0
    rw [h'.2.2.1, h6, if_neg (show ¬ nI (y :: (ops ++ R)).length ≤ nI bs from nI_ge (by show bs < (ops ++ R).length + 1; omega) (by show (ops ++ R).length + 1 < _; omega)), show nI (y :: (ops ++ R)).length - nI 1 = nI (ops ++ R).length from i32_m1 _, if_pos (by rw [jok_t (by omega) (by omega)]; trivial), nI_cl (by omega), h'.top, e6_qIsBracket (by omega), wp_bind, wp_some]
    dsimp only
    rw [if_neg (show ¬ (20 ≤ y ∧ y ≤ 24) by omega), if_pos z00, wp_bind]
    refine (sp6_qDrops h' (by omega)).mono ?_
    rintro ⟨d, j⟩ ⟨q1, q2, q3⟩
    dsimp only at q1 q2 q3 ⊢
    rw [q3]
    refine (sp6_qDTB hR ops d (C ++ [y]) k (by omega) (fun z hz => ho z (List.mem_cons_of_mem _ hz)) q1 (by rw [len_snoc]; omega)).mono ?_
    rintro ⟨d2, j2⟩ ⟨u1, u2, u3⟩
    rw [List.append_assoc] at u1
    exact ⟨u1, q2.tr u2, u3⟩
theorem sp6_qDropsToBracket {ops R : List Nat} (hn : 4000 ≤ n) (hR : clo R bs) (ho : opl ops) (h : STK ci (ops ++ R) C o bs) (hC : C.length + ops.length < 1650) : Wp (fX6_qDropsToBracket n ci cj) (fun q => STK q.1 R (C ++ ops) o bs ∧ Fr [1620] [97, 99] ci q.1 ∧ q.2 = cj) := by
  have h8 := h.2.2.2.2.2.2.2.1
  rw [List.length_append] at h8
  unfold fX6_qDropsToBracket
  exact sp6_qDTB hR ops ci C n (by omega) ho h hC
/-- a part has ended: nothing waits for it -/
theorem e6_endsStop {k : Nat} (h : STK ci W C o bs) (hs : W.length = bs ∨ ∃ x R, W = x :: R ∧ x < 60 ∧ bs ≤ R.length) : fX6_qEndsPart_0 n (k + 1) ci cj = some (ci, cj) := by
  have h8 := h.2.2.2.2.2.2.2.1
  rw [fX6_qEndsPart_0.eq_2]
  unfold fX6_qEndsPart_51
  by_cases hb : ci 1547 5 = 0
  · rw [if_pos hb, h.2.2.1, h.2.2.2.2.2.1]
    rcases hs with e | ⟨x, R, e, x1, x2⟩
    · rw [if_pos (nI_le (by omega) (by omega))]
    · subst e
      have h8' : R.length + 1 ≤ 1650 := h8
      rw [if_neg (show ¬ nI (x :: R).length ≤ nI bs from nI_ge (by show bs < R.length + 1; omega) (by show R.length + 1 < _; omega)), show nI (x :: R).length - nI 1 = nI R.length from i32_m1 _, if_pos (by rw [jok_t (by omega) (by omega)]; trivial), nI_cl (by omega), h.top, if_pos (nI_lt x1 (by omega))]
  · rw [if_neg hb]
/-- a part has ended: a word waits for it -/
theorem sp6_endsOf {k x : Nat} {Q : jI × jJ → Prop} (hb : ci 1547 5 = 0) (h : STK ci (x :: W) C (o + 1) bs) (hx : 60 ≤ x) (hx2 : x ≤ 61) (hbs : bs ≤ W.length) (hC : C.length < 1650) (hq : ∀ d, STK d W (C ++ [x]) o bs → Fr [1620] [97, 99, 100] ci d → Wp (fX6_qEndsPart_0 n k d cj) Q) : Wp (fX6_qEndsPart_0 n (k + 1) ci cj) Q := by
  have h8 : W.length + 1 ≤ 1650 := h.2.2.2.2.2.2.2.1
  have h9 := h.2.2.2.2.2.2.2.2
  rw [fX6_qEndsPart_0.eq_2, if_pos hb, h.2.2.1, h.2.2.2.2.2.1, if_neg (show ¬ nI (x :: W).length ≤ nI bs from nI_ge (by show bs < W.length + 1; omega) (by show W.length + 1 < _; omega)), show nI (x :: W).length - nI 1 = nI W.length from i32_m1 _, if_pos (by rw [jok_t (by omega) (by omega)]; trivial), nI_cl (by omega), h.top, if_neg (nI_nlt hx (by omega)), h.2.2.2.2.1, i32_m1, wp_bind]
  obtain ⟨h1, h2, h3, h4, h5, h6, h7, -, -⟩ := h
  have hs : STK (ju ci 1547 100 (nI o)) (x :: W) C o bs := ⟨by rw [ju_ne2 _ _ (by decide)]; exact h1, fun i hi => by rw [ju_row _ _ (by decide)]; exact h2 i hi, by rw [ju_ne2 _ _ (by decide)]; exact h3, fun i hi => by rw [ju_row _ _ (by decide)]; exact h4 i hi, ju_eq _ _ _ _, by rw [ju_ne2 _ _ (by decide)]; exact h6, h7, h8, by omega⟩
  refine (sp6_qDrops hs hC).mono ?_
  rintro ⟨d, j⟩ ⟨q1, q2, q3⟩
  dsimp only at q1 q2 q3 ⊢
  subst q3
  exact hq d q1 ((Fr.rfl'.upf (by decide) : Fr [1620] [97, 99, 100] ci _).tr (q2.le (by decide) (by decide)))
end
