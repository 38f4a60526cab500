/-! CODES: how they are run, and that the model runs them so -/
set_option maxRecDepth 100000
def hld (x : Int64) : Int64 := if x ≤ (1000000 : Int64) then (if (-1000000 : Int64) ≤ x then x else (-1000000 : Int64)) else (1000000 : Int64)
def flr (a b : Int64) : Int64 := if b = lN 0 then lN 0 else if a - a / b * b = lN 0 then a / b else if decide (lN 0 ≤ a) = decide (lN 0 ≤ b) then a / b else a / b - lN 1
def jnc (c : Nat) (a b : Int64) : Int64 :=
  if c = 1 then hld (a + b) else if c = 2 then hld (a - b) else if c = 3 then hld (a * b) else if c = 4 then flr a b
  else if c = 5 then (if b ≤ a then b else a) else if c = 6 then (if a ≤ b then b else a)
  else if c = 7 then (if b ≤ a then lN 0 else lN 1) else if c = 8 then (if a ≤ b then lN 0 else lN 1) else if c = 9 then (if a = b then lN 1 else lN 0)
  else if c = 10 then a * b else (if a + b ≤ lN 0 then lN 0 else lN 1)
def rc1 (en : jEn) (c : Nat) (st : List Int64) : Option (List Int64) :=
  if 1000 ≤ c then some (lN (c - 1000) :: st)
  else if 60 ≤ c then (match st with
    | x :: r => some (hld (en (c - 49) x) :: r)
    | [] => none)
  else if 40 ≤ c then some (hld (en (c - 40) 0) :: st)
  else if c = 13 then some (lN 1 :: st)
  else if c = 12 then (match st with
    | x :: r => some ((lN 1 - x) :: r)
    | [] => none)
  else (match st with
    | b :: a :: r => some (jnc c a b :: r)
    | _ => none)
def rcs (en : jEn) : List Nat → List Int64 → Option (List Int64)
  | [], st => some st
  | c :: l, st => (rc1 en c st).bind (rcs en l)
theorem rcs_app (en : jEn) : ∀ (l1 l2 : List Nat) (st : List Int64), rcs en (l1 ++ l2) st = (rcs en l1 st).bind (rcs en l2)
  | [], l2, st => rfl
  | c :: l, l2, st => by
    show (rc1 en c st).bind (rcs en (l ++ l2)) = ((rc1 en c st).bind (rcs en l)).bind (rcs en l2)
    cases rc1 en c st with
    | none => rfl
    | some s => exact rcs_app en l l2 s
/-- the codes tell e -/
def dC (l : List Nat) (e : jEE) : Prop := ∀ en st, rcs en l st = some (e en :: st)
theorem dC_app {l1 l2 : List Nat} {en : jEn} {st : List Int64} {e : jEE} (h : dC l1 e) : rcs en (l1 ++ l2) st = rcs en l2 (e en :: st) := by
  rw [rcs_app, h en st]; rfl
theorem dC_two {l1 l2 : List Nat} {e1 e2 : jEE} {c : Nat} (h1 : dC l1 e1) (h2 : dC l2 e2) (hc : c < 12) : dC (l1 ++ (l2 ++ [c])) (fun en => jnc c (e1 en) (e2 en)) := by
  intro en st
  rw [dC_app h1, dC_app h2]
  show (rc1 en c (e2 en :: e1 en :: st)).bind _ = _
  unfold rc1
  rw [if_neg (by omega), if_neg (by omega), if_neg (by omega), if_neg (by omega), if_neg (by omega)]
  rfl
theorem dC_num {k : Nat} : dC [1000 + k] (fun _ => lN k) := by
  intro en st
  show (rc1 en (1000 + k) st).bind _ = _
  unfold rc1
  rw [if_pos (by omega), show 1000 + k - 1000 = k by omega]
  rfl
theorem dC_part {k : Nat} (h : k < 20) : dC [40 + k] (fun en => hld (en k 0)) := by
  intro en st
  show (rc1 en (40 + k) st).bind _ = _
  unfold rc1
  rw [if_neg (by omega), if_neg (by omega), if_pos (by omega), show 40 + k - 40 = k by omega]
  rfl
theorem dC_of {l : List Nat} {e : jEE} {w : Nat} (h : dC l e) (hw : w < 2) : dC (l ++ [60 + w]) (fun en => hld (en (11 + w) (e en))) := by
  intro en st
  rw [dC_app h]
  show (rc1 en (60 + w) (e en :: st)).bind _ = _
  unfold rc1
  rw [if_neg (by omega), if_pos (by omega), show 60 + w - 49 = 11 + w by omega]
  rfl
theorem dC_all : dC [13] (fun _ => lN 1) := fun _ _ => rfl
theorem dC_not {l : List Nat} {e : jEE} (h : dC l e) : dC (l ++ [12]) (fun en => lN 1 - e en) := by
  intro en st
  rw [dC_app h]
  rfl
/-! the pile -/
def pil (cj : jJ) : List Int64 → Prop
  | [] => True
  | x :: r => cj 1622 r.length = x ∧ pil cj r
theorem pil_up {cj : jJ} {i : Nat} {v : Int64} : ∀ {st : List Int64}, pil cj st → st.length ≤ i → pil (ju cj 1622 i v) st
  | [], _, _ => trivial
  | x :: r, h, hi => ⟨by rw [ju_ne2 cj v (by simp at hi; omega)]; exact h.1, pil_up h.2 (by simp at hi; omega)⟩
theorem pil_push {cj : jJ} {v : Int64} {st : List Int64} (h : pil cj st) : pil (ju cj 1622 st.length v) (v :: st) := ⟨ju_eq _ _ _ _, pil_up h (Nat.le_refl _)⟩
theorem e6_qPuts {n : Nat} {x : Int64} {ci : jI} {cj : jJ} {m : Nat} (h : ci 1547 103 = nI m) (hm : m < 1700) : fX6_qPuts n x ci cj = some (ju ci 1547 103 (nI (m + 1)), ju cj 1622 m x) := by
  unfold fX6_qPuts
  rw [h, if_pos (by rw [jok_t hm (by omega)]; trivial), nI_cl (by omega), nI_add]
theorem e6_qClip (n : Nat) (x : Int64) (ci : jI) (cj : jJ) : fX6_qClip n x ci cj = some (hld x, ci, cj) := by
  unfold fX6_qClip fX6_qClip_29 hld
  by_cases h1 : x ≤ (1000000 : Int64)
  · rw [if_pos h1, if_pos h1]
    by_cases h2 : (-1000000 : Int64) ≤ x
    · rw [if_pos h2, if_pos h2]
    · rw [if_neg h2, if_neg h2]
  · rw [if_neg h1, if_neg h1]
theorem e6_qFloor (n : Nat) (a b : Int64) (ci : jI) (cj : jJ) : fX6_qFloor n a b ci cj = some (flr a b, ci, cj) := by
  unfold fX6_qFloor fX6_qFloor_53 fX6_qFloor_32 fX6_qFloor_43 fX6_qFloor_53 fX6_qFloor_55 flr
  by_cases h1 : b = lN 0
  · rw [if_pos h1, if_pos h1]
  · have h0 : ¬ b = 0 := h1
    rw [if_neg h1, if_neg h1, if_neg h0, if_neg h0]
    by_cases h2 : a - a / b * b = lN 0
    · rw [if_pos h2, if_pos h2]
    · rw [if_neg h2, if_neg h2]
      by_cases h3 : lN 0 ≤ a <;> by_cases h4 : lN 0 ≤ b <;> simp [h3, h4, nI_eqN]
theorem e6_qJoins {n m c : Nat} {ci : jI} {cj : jJ} (h : ci 1547 103 = nI (m + 2)) (hm : m + 2 ≤ 1700) (hc : c < 12) (hc0 : 0 < c) : fX6_qJoins n (nI c) ci cj = some (ju (ju ci 1547 103 (nI m)) 1547 103 (nI (m + 1)), ju cj 1622 m (jnc c (cj 1622 m) (cj 1622 (m + 1)))) := by
  have e1 : nI (m + 2) - nI 1 = nI (m + 1) := by rw [nI_subN (by omega)]; congr 1
  have e2 : nI (m + 2) - nI 2 = nI m := by rw [nI_subN (by omega)]; congr 1
  have P : ∀ x, fX6_qPuts n x (ju ci 1547 103 (nI m)) cj = some (ju (ju ci 1547 103 (nI m)) 1547 103 (nI (m + 1)), ju cj 1622 m x) := fun x => e6_qPuts (ju_eq _ _ _ _) (by omega)
  have k1 : (nI (m + 1)).toNatClampNeg = m + 1 := nI_cl (by omega)
  have k2 : (nI m).toNatClampNeg = m := nI_cl (by omega)
  have j1 : jok (nI (m + 1)) 1700 := by rw [jok_t (by omega) (by omega)]; trivial
  have j2 : jok (nI m) 1700 := by rw [jok_t (by omega) (by omega)]; trivial
  unfold fX6_qJoins fX6_qJoins_161 fX6_qJoins_181 fX6_qJoins_200 fX6_qJoins_219 fX6_qJoins_238 fX6_qJoins_270 fX6_qJoins_273
  rw [h, e1, e2, if_pos j1, if_pos j2, k1, k2]
  simp only [e6_qClip, e6_qFloor, P, Option.bind_some]
  generalize cj 1622 m = a
  generalize cj 1622 (m + 1) = b
  have hc' : c = 1 ∨ c = 2 ∨ c = 3 ∨ c = 4 ∨ c = 5 ∨ c = 6 ∨ c = 7 ∨ c = 8 ∨ c = 9 ∨ c = 10 ∨ c = 11 := by omega
  unfold jnc
  rcases hc' with z | z | z | z | z | z | z | z | z | z | z <;> subst z
  · rw [if_pos (show nI 1 = nI 1 from rfl), if_pos (show (1 : Nat) = 1 from rfl)]
  · rw [if_neg (show ¬ nI 2 = nI 1 by decide), if_pos (show nI 2 = nI 2 from rfl), if_neg (show ¬ (2 : Nat) = 1 by decide), if_pos (show (2 : Nat) = 2 from rfl)]
  · rw [if_neg (show ¬ nI 3 = nI 1 by decide), if_neg (show ¬ nI 3 = nI 2 by decide), if_pos (show nI 3 = nI 3 from rfl), if_neg (show ¬ (3 : Nat) = 1 by decide), if_neg (show ¬ (3 : Nat) = 2 by decide), if_pos (show (3 : Nat) = 3 from rfl)]
  · rw [if_neg (show ¬ nI 4 = nI 1 by decide), if_neg (show ¬ nI 4 = nI 2 by decide), if_neg (show ¬ nI 4 = nI 3 by decide), if_pos (show nI 4 = nI 4 from rfl), if_neg (show ¬ (4 : Nat) = 1 by decide), if_neg (show ¬ (4 : Nat) = 2 by decide), if_neg (show ¬ (4 : Nat) = 3 by decide), if_pos (show (4 : Nat) = 4 from rfl)]
  · rw [if_neg (show ¬ nI 5 = nI 1 by decide), if_neg (show ¬ nI 5 = nI 2 by decide), if_neg (show ¬ nI 5 = nI 3 by decide), if_neg (show ¬ nI 5 = nI 4 by decide), if_pos (show nI 5 = nI 5 from rfl), if_neg (show ¬ (5 : Nat) = 1 by decide), if_neg (show ¬ (5 : Nat) = 2 by decide), if_neg (show ¬ (5 : Nat) = 3 by decide), if_neg (show ¬ (5 : Nat) = 4 by decide), if_pos (show (5 : Nat) = 5 from rfl)]
    by_cases w : b ≤ a
    · rw [if_pos w, if_pos w]
    · rw [if_neg w, if_neg w]
  · rw [if_neg (show ¬ nI 6 = nI 1 by decide), if_neg (show ¬ nI 6 = nI 2 by decide), if_neg (show ¬ nI 6 = nI 3 by decide), if_neg (show ¬ nI 6 = nI 4 by decide), if_neg (show ¬ nI 6 = nI 5 by decide), if_pos (show nI 6 = nI 6 from rfl), if_neg (show ¬ (6 : Nat) = 1 by decide), if_neg (show ¬ (6 : Nat) = 2 by decide), if_neg (show ¬ (6 : Nat) = 3 by decide), if_neg (show ¬ (6 : Nat) = 4 by decide), if_neg (show ¬ (6 : Nat) = 5 by decide), if_pos (show (6 : Nat) = 6 from rfl)]
    by_cases w : a ≤ b
    · rw [if_pos w, if_pos w]
    · rw [if_neg w, if_neg w]
  · rw [if_neg (show ¬ nI 7 = nI 1 by decide), if_neg (show ¬ nI 7 = nI 2 by decide), if_neg (show ¬ nI 7 = nI 3 by decide), if_neg (show ¬ nI 7 = nI 4 by decide), if_neg (show ¬ nI 7 = nI 5 by decide), if_neg (show ¬ nI 7 = nI 6 by decide), if_pos (show nI 7 = nI 7 from rfl), if_neg (show ¬ (7 : Nat) = 1 by decide), if_neg (show ¬ (7 : Nat) = 2 by decide), if_neg (show ¬ (7 : Nat) = 3 by decide), if_neg (show ¬ (7 : Nat) = 4 by decide), if_neg (show ¬ (7 : Nat) = 5 by decide), if_neg (show ¬ (7 : Nat) = 6 by decide), if_pos (show (7 : Nat) = 7 from rfl)]
    by_cases w : b ≤ a
    · rw [if_pos w, if_pos w]
    · rw [if_neg w, if_neg w]
  · rw [if_neg (show ¬ nI 8 = nI 1 by decide), if_neg (show ¬ nI 8 = nI 2 by decide), if_neg (show ¬ nI 8 = nI 3 by decide), if_neg (show ¬ nI 8 = nI 4 by decide), if_neg (show ¬ nI 8 = nI 5 by decide), if_neg (show ¬ nI 8 = nI 6 by decide), if_neg (show ¬ nI 8 = nI 7 by decide), if_pos (show nI 8 = nI 8 from rfl), if_neg (show ¬ (8 : Nat) = 1 by decide), if_neg (show ¬ (8 : Nat) = 2 by decide), if_neg (show ¬ (8 : Nat) = 3 by decide), if_neg (show ¬ (8 : Nat) = 4 by decide), if_neg (show ¬ (8 : Nat) = 5 by decide), if_neg (show ¬ (8 : Nat) = 6 by decide), if_neg (show ¬ (8 : Nat) = 7 by decide), if_pos (show (8 : Nat) = 8 from rfl)]
    by_cases w : a ≤ b
    · rw [if_pos w, if_pos w]
    · rw [if_neg w, if_neg w]
  · rw [if_neg (show ¬ nI 9 = nI 1 by decide), if_neg (show ¬ nI 9 = nI 2 by decide), if_neg (show ¬ nI 9 = nI 3 by decide), if_neg (show ¬ nI 9 = nI 4 by decide), if_neg (show ¬ nI 9 = nI 5 by decide), if_neg (show ¬ nI 9 = nI 6 by decide), if_neg (show ¬ nI 9 = nI 7 by decide), if_neg (show ¬ nI 9 = nI 8 by decide), if_pos (show nI 9 = nI 9 from rfl), if_neg (show ¬ (9 : Nat) = 1 by decide), if_neg (show ¬ (9 : Nat) = 2 by decide), if_neg (show ¬ (9 : Nat) = 3 by decide), if_neg (show ¬ (9 : Nat) = 4 by decide), if_neg (show ¬ (9 : Nat) = 5 by decide), if_neg (show ¬ (9 : Nat) = 6 by decide), if_neg (show ¬ (9 : Nat) = 7 by decide), if_neg (show ¬ (9 : Nat) = 8 by decide), if_pos (show (9 : Nat) = 9 from rfl)]
    by_cases w : a = b
    · rw [if_pos w, if_pos w]
    · rw [if_neg w, if_neg w]
  · rw [if_neg (show ¬ nI 10 = nI 1 by decide), if_neg (show ¬ nI 10 = nI 2 by decide), if_neg (show ¬ nI 10 = nI 3 by decide), if_neg (show ¬ nI 10 = nI 4 by decide), if_neg (show ¬ nI 10 = nI 5 by decide), if_neg (show ¬ nI 10 = nI 6 by decide), if_neg (show ¬ nI 10 = nI 7 by decide), if_neg (show ¬ nI 10 = nI 8 by decide), if_neg (show ¬ nI 10 = nI 9 by decide), if_pos (show nI 10 = nI 10 from rfl), if_neg (show ¬ (10 : Nat) = 1 by decide), if_neg (show ¬ (10 : Nat) = 2 by decide), if_neg (show ¬ (10 : Nat) = 3 by decide), if_neg (show ¬ (10 : Nat) = 4 by decide), if_neg (show ¬ (10 : Nat) = 5 by decide), if_neg (show ¬ (10 : Nat) = 6 by decide), if_neg (show ¬ (10 : Nat) = 7 by decide), if_neg (show ¬ (10 : Nat) = 8 by decide), if_neg (show ¬ (10 : Nat) = 9 by decide), if_pos (show (10 : Nat) = 10 from rfl)]
  · rw [if_neg (show ¬ nI 11 = nI 1 by decide), if_neg (show ¬ nI 11 = nI 2 by decide), if_neg (show ¬ nI 11 = nI 3 by decide), if_neg (show ¬ nI 11 = nI 4 by decide), if_neg (show ¬ nI 11 = nI 5 by decide), if_neg (show ¬ nI 11 = nI 6 by decide), if_neg (show ¬ nI 11 = nI 7 by decide), if_neg (show ¬ nI 11 = nI 8 by decide), if_neg (show ¬ nI 11 = nI 9 by decide), if_neg (show ¬ nI 11 = nI 10 by decide), if_neg (show ¬ (11 : Nat) = 1 by decide), if_neg (show ¬ (11 : Nat) = 2 by decide), if_neg (show ¬ (11 : Nat) = 3 by decide), if_neg (show ¬ (11 : Nat) = 4 by decide), if_neg (show ¬ (11 : Nat) = 5 by decide), if_neg (show ¬ (11 : Nat) = 6 by decide), if_neg (show ¬ (11 : Nat) = 7 by decide), if_neg (show ¬ (11 : Nat) = 8 by decide), if_neg (show ¬ (11 : Nat) = 9 by decide), if_neg (show ¬ (11 : Nat) = 10 by decide)]
    by_cases w : a + b ≤ lN 0
    · rw [if_pos w, if_pos w]
    · rw [if_neg w, if_neg w]
/-- a part as the model has it -/
def mPt (ci : jI) (k : Nat) (x : Int64) : Prop :=
  if k = 0 then ∃ b, b < 6 ∧ ci 1547 52 = nI b ∧ x = (ci 1585 (7 + 3 * b)).toInt64
  else if k = 1 then x = (ci 1585 0).toInt64
  else if k = 2 then ∃ b, b < 6 ∧ ci 1547 52 = nI b ∧ x = (ci 1587 b).toInt64
  else if k = 3 then ∃ b, b < 6 ∧ ci 1547 52 = nI b ∧ x = (ci 1585 (9 + 3 * b)).toInt64
  else if k = 4 then x = (ci 1547 54).toInt64
  else if k = 5 then x = (ci 1547 55).toInt64
  else if k = 6 then ∃ b, b < 6 ∧ ci 1547 52 = nI b ∧ x = (ci 1588 b).toInt64
  else if k = 7 then ∃ p, p < 10 ∧ ci 1547 53 = nI p ∧ x = (ci 1585 (25 + 2 * p)).toInt64
  else if k = 8 then ∃ p, p < 10 ∧ ci 1547 53 = nI p ∧ x = (ci 1585 (26 + 2 * p)).toInt64
  else if k = 9 then x = (ci 1547 53).toInt64
  else x = (ci 1547 52).toInt64
theorem mPt.fr {ci ci' : jI} {k : Nat} {x : Int64} (h : mPt ci k x) (h1 : ∀ i, i ≠ 1547 → ci' i = ci i) (h2 : ∀ j, j ≠ 49 → j ≠ 103 → ci' 1547 j = ci 1547 j) : mPt ci' k x := by
  unfold mPt at h ⊢
  rw [h1 1585 (by decide), h1 1587 (by decide), h1 1588 (by decide), h2 52 (by decide) (by decide), h2 53 (by decide) (by decide), h2 54 (by decide) (by decide), h2 55 (by decide) (by decide)]
  exact h
theorem e6_qPartOf {n k : Nat} {ci : jI} {cj : jJ} {x : Int64} {y : Int32} (h : mPt ci k x) (hk : k ≤ 10) : fX6_qPartOf n (nI k) y ci cj = some (x, ci, cj) := by
  have hc : k = 0 ∨ k = 1 ∨ k = 2 ∨ k = 3 ∨ k = 4 ∨ k = 5 ∨ k = 6 ∨ k = 7 ∨ k = 8 ∨ k = 9 ∨ k = 10 := by omega
  unfold fX6_qPartOf fX6_hungerOf fX6_lateOf fX6_trueOf fX6_sinceOf
  unfold mPt at h
  rcases hc with z | z | z | z | z | z | z | z | z | z | z <;> subst z
  · rw [if_pos (show nI 0 = nI 0 from rfl)]
    rw [if_pos (show (0 : Nat) = 0 from rfl)] at h
    obtain ⟨b, hb, h1, h2⟩ := h
    rw [h1]
    simp (disch := omega) only [nI_add, nI_mulN, nI_cl, jok_t, if_true, Option.bind_some, h2]
  · rw [if_neg (show ¬ nI 1 = nI 0 by decide), if_pos (show nI 1 = nI 1 from rfl)]
    rw [if_neg (show ¬ (1 : Nat) = 0 by decide), if_pos (show (1 : Nat) = 1 from rfl)] at h
    simp (disch := omega) only [nI_cl, jok_t, if_true, h]
  · rw [if_neg (show ¬ nI 2 = nI 0 by decide), if_neg (show ¬ nI 2 = nI 1 by decide), if_pos (show nI 2 = nI 2 from rfl)]
    rw [if_neg (show ¬ (2 : Nat) = 0 by decide), if_neg (show ¬ (2 : Nat) = 1 by decide), if_pos (show (2 : Nat) = 2 from rfl)] at h
    obtain ⟨b, hb, h1, h2⟩ := h
    rw [h1]
    simp (disch := omega) only [nI_add, nI_mulN, nI_cl, jok_t, if_true, Option.bind_some, h2]
  · rw [if_neg (show ¬ nI 3 = nI 0 by decide), if_neg (show ¬ nI 3 = nI 1 by decide), if_neg (show ¬ nI 3 = nI 2 by decide), if_pos (show nI 3 = nI 3 from rfl)]
    rw [if_neg (show ¬ (3 : Nat) = 0 by decide), if_neg (show ¬ (3 : Nat) = 1 by decide), if_neg (show ¬ (3 : Nat) = 2 by decide), if_pos (show (3 : Nat) = 3 from rfl)] at h
    obtain ⟨b, hb, h1, h2⟩ := h
    rw [h1]
    simp (disch := omega) only [nI_add, nI_mulN, nI_cl, jok_t, if_true, Option.bind_some, h2]
  · rw [if_neg (show ¬ nI 4 = nI 0 by decide), if_neg (show ¬ nI 4 = nI 1 by decide), if_neg (show ¬ nI 4 = nI 2 by decide), if_neg (show ¬ nI 4 = nI 3 by decide), if_pos (show nI 4 = nI 4 from rfl)]
    rw [if_neg (show ¬ (4 : Nat) = 0 by decide), if_neg (show ¬ (4 : Nat) = 1 by decide), if_neg (show ¬ (4 : Nat) = 2 by decide), if_neg (show ¬ (4 : Nat) = 3 by decide), if_pos (show (4 : Nat) = 4 from rfl)] at h
    rw [h]
  · rw [if_neg (show ¬ nI 5 = nI 0 by decide), if_neg (show ¬ nI 5 = nI 1 by decide), if_neg (show ¬ nI 5 = nI 2 by decide), if_neg (show ¬ nI 5 = nI 3 by decide), if_neg (show ¬ nI 5 = nI 4 by decide), if_pos (show nI 5 = nI 5 from rfl)]
    rw [if_neg (show ¬ (5 : Nat) = 0 by decide), if_neg (show ¬ (5 : Nat) = 1 by decide), if_neg (show ¬ (5 : Nat) = 2 by decide), if_neg (show ¬ (5 : Nat) = 3 by decide), if_neg (show ¬ (5 : Nat) = 4 by decide), if_pos (show (5 : Nat) = 5 from rfl)] at h
    rw [h]
  · rw [if_neg (show ¬ nI 6 = nI 0 by decide), if_neg (show ¬ nI 6 = nI 1 by decide), if_neg (show ¬ nI 6 = nI 2 by decide), if_neg (show ¬ nI 6 = nI 3 by decide), if_neg (show ¬ nI 6 = nI 4 by decide), if_neg (show ¬ nI 6 = nI 5 by decide), if_pos (show nI 6 = nI 6 from rfl)]
    rw [if_neg (show ¬ (6 : Nat) = 0 by decide), if_neg (show ¬ (6 : Nat) = 1 by decide), if_neg (show ¬ (6 : Nat) = 2 by decide), if_neg (show ¬ (6 : Nat) = 3 by decide), if_neg (show ¬ (6 : Nat) = 4 by decide), if_neg (show ¬ (6 : Nat) = 5 by decide), if_pos (show (6 : Nat) = 6 from rfl)] at h
    obtain ⟨b, hb, h1, h2⟩ := h
    rw [h1]
    simp (disch := omega) only [nI_add, nI_mulN, nI_cl, jok_t, if_true, Option.bind_some, h2]
  · rw [if_neg (show ¬ nI 7 = nI 0 by decide), if_neg (show ¬ nI 7 = nI 1 by decide), if_neg (show ¬ nI 7 = nI 2 by decide), if_neg (show ¬ nI 7 = nI 3 by decide), if_neg (show ¬ nI 7 = nI 4 by decide), if_neg (show ¬ nI 7 = nI 5 by decide), if_neg (show ¬ nI 7 = nI 6 by decide), if_pos (show nI 7 = nI 7 from rfl)]
    rw [if_neg (show ¬ (7 : Nat) = 0 by decide), if_neg (show ¬ (7 : Nat) = 1 by decide), if_neg (show ¬ (7 : Nat) = 2 by decide), if_neg (show ¬ (7 : Nat) = 3 by decide), if_neg (show ¬ (7 : Nat) = 4 by decide), if_neg (show ¬ (7 : Nat) = 5 by decide), if_neg (show ¬ (7 : Nat) = 6 by decide), if_pos (show (7 : Nat) = 7 from rfl)] at h
    obtain ⟨b, hb, h1, h2⟩ := h
    rw [h1]
    simp (disch := omega) only [nI_add, nI_mulN, nI_cl, jok_t, if_true, Option.bind_some, h2]
  · rw [if_neg (show ¬ nI 8 = nI 0 by decide), if_neg (show ¬ nI 8 = nI 1 by decide), if_neg (show ¬ nI 8 = nI 2 by decide), if_neg (show ¬ nI 8 = nI 3 by decide), if_neg (show ¬ nI 8 = nI 4 by decide), if_neg (show ¬ nI 8 = nI 5 by decide), if_neg (show ¬ nI 8 = nI 6 by decide), if_neg (show ¬ nI 8 = nI 7 by decide), if_pos (show nI 8 = nI 8 from rfl)]
    rw [if_neg (show ¬ (8 : Nat) = 0 by decide), if_neg (show ¬ (8 : Nat) = 1 by decide), if_neg (show ¬ (8 : Nat) = 2 by decide), if_neg (show ¬ (8 : Nat) = 3 by decide), if_neg (show ¬ (8 : Nat) = 4 by decide), if_neg (show ¬ (8 : Nat) = 5 by decide), if_neg (show ¬ (8 : Nat) = 6 by decide), if_neg (show ¬ (8 : Nat) = 7 by decide), if_pos (show (8 : Nat) = 8 from rfl)] at h
    obtain ⟨b, hb, h1, h2⟩ := h
    rw [h1]
    simp (disch := omega) only [nI_add, nI_mulN, nI_cl, jok_t, if_true, Option.bind_some, h2]
  · rw [if_neg (show ¬ nI 9 = nI 0 by decide), if_neg (show ¬ nI 9 = nI 1 by decide), if_neg (show ¬ nI 9 = nI 2 by decide), if_neg (show ¬ nI 9 = nI 3 by decide), if_neg (show ¬ nI 9 = nI 4 by decide), if_neg (show ¬ nI 9 = nI 5 by decide), if_neg (show ¬ nI 9 = nI 6 by decide), if_neg (show ¬ nI 9 = nI 7 by decide), if_neg (show ¬ nI 9 = nI 8 by decide), if_pos (show nI 9 = nI 9 from rfl)]
    rw [if_neg (show ¬ (9 : Nat) = 0 by decide), if_neg (show ¬ (9 : Nat) = 1 by decide), if_neg (show ¬ (9 : Nat) = 2 by decide), if_neg (show ¬ (9 : Nat) = 3 by decide), if_neg (show ¬ (9 : Nat) = 4 by decide), if_neg (show ¬ (9 : Nat) = 5 by decide), if_neg (show ¬ (9 : Nat) = 6 by decide), if_neg (show ¬ (9 : Nat) = 7 by decide), if_neg (show ¬ (9 : Nat) = 8 by decide), if_pos (show (9 : Nat) = 9 from rfl)] at h
    rw [h]
  · rw [if_neg (show ¬ nI 10 = nI 0 by decide), if_neg (show ¬ nI 10 = nI 1 by decide), if_neg (show ¬ nI 10 = nI 2 by decide), if_neg (show ¬ nI 10 = nI 3 by decide), if_neg (show ¬ nI 10 = nI 4 by decide), if_neg (show ¬ nI 10 = nI 5 by decide), if_neg (show ¬ nI 10 = nI 6 by decide), if_neg (show ¬ nI 10 = nI 7 by decide), if_neg (show ¬ nI 10 = nI 8 by decide), if_neg (show ¬ nI 10 = nI 9 by decide)]
    rw [if_neg (show ¬ (10 : Nat) = 0 by decide), if_neg (show ¬ (10 : Nat) = 1 by decide), if_neg (show ¬ (10 : Nat) = 2 by decide), if_neg (show ¬ (10 : Nat) = 3 by decide), if_neg (show ¬ (10 : Nat) = 4 by decide), if_neg (show ¬ (10 : Nat) = 5 by decide), if_neg (show ¬ (10 : Nat) = 6 by decide), if_neg (show ¬ (10 : Nat) = 7 by decide), if_neg (show ¬ (10 : Nat) = 8 by decide), if_neg (show ¬ (10 : Nat) = 9 by decide)] at h
    rw [h]
/-- within a million -/
def bd (x : Int64) : Prop := -1000000 ≤ x.toInt ∧ x.toInt ≤ 1000000
theorem hld_bd {x : Int64} (h : bd x) : hld x = x := by
  unfold hld
  rw [if_pos (Int64.le_iff_toInt_le.mpr (by rw [show (1000000 : Int64).toInt = 1000000 by decide]; exact h.2)), if_pos (Int64.le_iff_toInt_le.mpr (by rw [show (-1000000 : Int64).toInt = -1000000 by decide]; exact h.1))]
theorem bd_hld (x : Int64) : bd (hld x) := by
  unfold hld
  by_cases h1 : x ≤ (1000000 : Int64)
  · rw [if_pos h1]
    by_cases h2 : (-1000000 : Int64) ≤ x
    · rw [if_pos h2]
      have e1 := Int64.le_iff_toInt_le.mp h1
      have e2 := Int64.le_iff_toInt_le.mp h2
      rw [show (1000000 : Int64).toInt = 1000000 by decide] at e1
      rw [show (-1000000 : Int64).toInt = -1000000 by decide] at e2
      exact ⟨e2, e1⟩
    · rw [if_neg h2]; unfold bd; decide
  · rw [if_neg h1]; unfold bd; decide
theorem bd_lN {k : Nat} (h : k ≤ 1000000) : bd (lN k) := by
  unfold bd
  rw [lN_toInt (by omega)]; omega
theorem bd_nI {k : Nat} (h : k ≤ 1000000) : bd (nI k).toInt64 := by
  rw [nI_L (by omega)]; exact bd_lN h
/-- codes that the model may run of a coast -/
def cOK (w : Nat → Bool) (l : List Nat) : Prop := ∀ y ∈ l, 1 ≤ y ∧ y < 11000 ∧ (40 ≤ y → y < 1000 → y ≤ 50 ∧ w (y - 40) = true) ∧ (y < 40 → y ≤ 13)
theorem cT_run {n w : Nat} (hn : 4000 ≤ n) (hw : w < 4) {al : Nat → Bool} {en : jEn} (hb : ∀ k, al k = true → bd (en k 0)) : ∀ (l : List Nat) (i : Nat) (st : List Int64) (ci : jI) (cj : jJ) (k : Nat) (x : Int64), l.length < k → i + l.length ≤ 1600 → st.length + l.length ≤ 1700 → ci 1583 (4 + w) = nI (i + l.length) →
    (∀ j (h : j < l.length), ci 1584 (1600 + i + j) = nI l[j]) → cOK al l → (∀ k, al k = true → mPt ci k (en k 0)) → ci 1547 103 = nI st.length → pil cj st → rcs en l st = some [x] →
    Wp (fX6_codesTell_19 n k (nI w) (nI i) ci cj) (fun q => q.1 = x ∧ (∀ i, i ≠ 1547 → q.2.1 i = ci i) ∧ (∀ k, k ≠ 103 → q.2.1 1547 k = ci 1547 k) ∧ ∀ i, i ≠ 1622 → q.2.2 i = cj i) := by
  intro l
  induction l with
  | nil =>
    intro i st ci cj k x hk hi hs he hcd hco hp h3 hst hr
    obtain ⟨k, rfl⟩ : ∃ k', k = k' + 1 := ⟨k - 1, by simp at hk; omega⟩
    rw [fX6_codesTell_19.eq_2]
    cases hr
    simp only [List.length_nil, Nat.add_zero] at he
    have j0 : jok (nI 4 + nI w) 8 := by rw [nI_add, jok_t (by omega) (by omega)]; trivial
    rw [if_pos j0, nI_add, nI_cl (by omega), he, if_pos (nI_le (Nat.le_refl i) (by omega)), if_pos (by rw [jok_t (by omega) (by omega)]; trivial), nI_cl (by omega), wp_some]
    exact ⟨hst.1, fun _ _ => rfl, fun _ _ => rfl, fun _ _ => rfl⟩
  | cons c l ih =>
    intro i st ci cj k x hk hi hs he hcd hco hp h3 hst hr
    obtain ⟨k, rfl⟩ : ∃ k', k = k' + 1 := ⟨k - 1, by simp at hk; omega⟩
    simp only [List.length_cons] at hk hi hs he
    have hc0 : ci 1584 (1600 + i) = nI c := hcd 0 (Nat.succ_pos _)
    obtain ⟨hc1, hc2, hc3, hc4⟩ := hco c (List.mem_cons_self)
    have hcd' : ∀ (ci' : jI), (∀ i, i ≠ 1547 → ci' i = ci i) → ∀ j (h : j < l.length), ci' 1584 (1600 + (i + 1) + j) = nI l[j] := by
      intro ci' h1 j h
      rw [h1 1584 (by decide), show 1600 + (i + 1) + j = 1600 + i + (j + 1) by omega]
      exact hcd (j + 1) (Nat.succ_lt_succ h)
    have hco' : cOK al l := fun y hy => hco y (List.mem_cons_of_mem _ hy)
    have he' : ∀ (ci' : jI), (∀ i, i ≠ 1547 → ci' i = ci i) → ci' 1583 (4 + w) = nI (i + 1 + l.length) := by
      intro ci' h1
      rw [h1 1583 (by decide), he]; congr 1; omega
    -- one step more
    have step : ∀ (st' : List Int64) (ci' : jI) (cj' : jJ), (∀ i, i ≠ 1547 → ci' i = ci i) → (∀ k, k ≠ 103 → ci' 1547 k = ci 1547 k) → (∀ i, i ≠ 1622 → cj' i = cj i) → ci' 1547 103 = nI st'.length → pil cj' st' → st'.length ≤ st.length + 1 → rc1 en c st = some st' →
        Wp (fX6_codesTell_136 n (fX6_codesTell_19 n k) (nI w) (nI i) ci' cj') (fun q => q.1 = x ∧ (∀ i, i ≠ 1547 → q.2.1 i = ci i) ∧ (∀ k, k ≠ 103 → q.2.1 1547 k = ci 1547 k) ∧ ∀ i, i ≠ 1622 → q.2.2 i = cj i) := by
      intro st' ci' cj' g1 g2 g3 g4 g5 g6 g7
      have hr' : rcs en l st' = some [x] := by
        have : (rc1 en c st).bind (rcs en l) = some [x] := hr
        rw [g7] at this; exact this
      unfold fX6_codesTell_136
      rw [nI_add]
      refine (ih (i + 1) st' ci' cj' k x (by omega) (by omega) (by omega) (he' ci' g1) (hcd' ci' g1) hco' (fun k hk => (hp k hk).fr g1 (fun j _ hj => g2 j hj)) g4 g5 hr').mono ?_
      rintro q ⟨a1, a2, a3, a4⟩
      exact ⟨a1, fun i hi => (a2 i hi).trans (g1 i hi), fun k hk => (a3 k hk).trans (g2 k hk), fun i hi => (a4 i hi).trans (g3 i hi)⟩
    rw [fX6_codesTell_19.eq_2]
    simp (disch := omega) only [nI_add, jok_t, nI_cl, he, nI_leN, nI_ltN, nI_eqN, hc0, if_true]
    rw [if_neg (by omega)]
    have push : ∀ v, rc1 en c st = some (v :: st) → Wp (fX6_codesTell_136 n (fX6_codesTell_19 n k) (nI w) (nI i) (ju ci 1547 103 (nI (st.length + 1))) (ju cj 1622 st.length v)) (fun q => q.1 = x ∧ (∀ i, i ≠ 1547 → q.2.1 i = ci i) ∧ (∀ k, k ≠ 103 → q.2.1 1547 k = ci 1547 k) ∧ ∀ i, i ≠ 1622 → q.2.2 i = cj i) :=
      fun v hv => step (v :: st) _ _ (fun i hi => funext (fun j => ju_ne _ _ hi)) (fun k hk => ju_ne2 _ _ hk) (fun i hi => funext (fun j => ju_ne _ _ hi)) (ju_eq _ _ _ _) (pil_push hst) (Nat.le_refl _) hv
    by_cases c1 : 1000 ≤ c
    · rw [if_neg (by omega), wp_bind, e6_qPuts h3 (by omega), wp_some, nI_subN (by omega), nI_L (by omega)]
      exact push _ (by unfold rc1; rw [if_pos c1])
    · rw [if_pos (by omega)]
      by_cases c2 : 40 ≤ c
      · obtain ⟨d1, d2⟩ := hc3 c2 (by omega)
        rw [if_neg (by omega), wp_bind, nI_subN (by omega), e6_qPartOf (hp _ d2) (by omega), wp_some, wp_bind, e6_qPuts h3 (by omega), wp_some]
        exact push _ (by unfold rc1; rw [if_neg c1, if_neg (by omega), if_pos c2, hld_bd (hb _ d2)])
      · have c3 := hc4 (by omega)
        rw [if_pos (by omega)]
        by_cases c4 : c = 13
        · rw [if_pos c4, wp_bind, e6_qPuts h3 (by omega), wp_some]
          exact push _ (by unfold rc1; rw [if_neg c1, if_neg (by omega), if_neg c2, if_pos c4])
        · rw [if_neg c4]
          by_cases c5 : c = 12
          · rw [if_pos c5]
            have hr0 : (rc1 en c st).bind (rcs en l) = some [x] := hr
            cases st with
            | nil => unfold rc1 at hr0; rw [if_neg c1, if_neg (by omega), if_neg c2, if_neg c4, if_pos c5] at hr0; cases hr0
            | cons y r =>
              simp only [List.length_cons] at h3 hs
              rw [h3, nI_subN (by omega), show r.length + 1 - 1 = r.length by omega, if_pos (by rw [jok_t (by omega) (by omega)]; trivial), if_pos (by rw [jok_t (by omega) (by omega)]; trivial), nI_cl (by omega), hst.1]
              exact step ((lN 1 - y) :: r) ci _ (fun _ _ => rfl) (fun _ _ => rfl) (fun i hi => funext (fun j => ju_ne _ _ hi)) (by rw [h3]; rfl) (pil_push hst.2) (by simp) (by unfold rc1; rw [if_neg c1, if_neg (by omega), if_neg c2, if_neg c4, if_pos c5])
          · rw [if_neg c5]
            have hr0 : (rc1 en c st).bind (rcs en l) = some [x] := hr
            match st, h3, hs, hst, hr0, step with
            | [], _, _, _, hr0, _ => unfold rc1 at hr0; rw [if_neg c1, if_neg (by omega), if_neg c2, if_neg c4, if_neg c5] at hr0; cases hr0
            | [y], _, _, _, hr0, _ => unfold rc1 at hr0; rw [if_neg c1, if_neg (by omega), if_neg c2, if_neg c4, if_neg c5] at hr0; cases hr0
            | y :: z :: r, h3, hs, hst, hr0, step =>
              simp only [List.length_cons] at h3 hs
              rw [wp_bind, e6_qJoins (m := r.length) h3 (by omega) (by omega) (by omega), wp_some]
              dsimp only
              have e1 : cj 1622 (r.length + 1) = y := by simpa using hst.1
              have e2 : cj 1622 r.length = z := hst.2.1
              rw [e1, e2]
              refine step (jnc c z y :: r) _ _ (fun i hi => funext (fun j => by rw [ju_ne _ _ hi, ju_ne _ _ hi])) (fun k hk => by rw [ju_ne2 _ _ hk, ju_ne2 _ _ hk]) (fun i hi => funext (fun j => ju_ne _ _ hi)) (ju_eq _ _ _ _) (pil_push hst.2.2) (by simp) ?_
              unfold rc1
              rw [if_neg c1, if_neg (by omega), if_neg c2, if_neg c4, if_neg c5]
/-- what the model holds of the codes number w -/
def mX (ci : jI) (al : Nat → Bool) (w : Nat) (o : Option jEE) : Prop := match o with
  | none => ci 1582 (4 + w) = -1
  | some e => ∃ (a : Nat) (l : List Nat), ci 1582 (4 + w) = nI a ∧ ci 1583 (4 + w) = nI (a + l.length) ∧ a + l.length ≤ 1600 ∧ (∀ j (h : j < l.length), ci 1584 (1600 + a + j) = nI l[j]) ∧ cOK al l ∧ dC l e
theorem sp_codesTell {n w : Nat} (hn : 4000 ≤ n) (hw : w < 4) {al : Nat → Bool} {en : jEn} {e : jEE} {ci : jI} {cj : jJ} (h : mX ci al w (some e)) (hb : ∀ k, al k = true → bd (en k 0)) (hp : ∀ k, al k = true → mPt ci k (en k 0)) :
    Wp (fX6_codesTell n (nI w) ci cj) (fun q => q.1 = e en ∧ (∀ i, i ≠ 1547 → q.2.1 i = ci i) ∧ (∀ k, k ≠ 49 → k ≠ 103 → q.2.1 1547 k = ci 1547 k) ∧ ∀ i, i ≠ 1622 → q.2.2 i = cj i) := by
  obtain ⟨a, l, h1, h2, h3, h4, h5, h6⟩ := h
  unfold fX6_codesTell
  simp (disch := omega) only [nI_add, jok_t, nI_cl, if_true]
  have g1 : ∀ i, i ≠ 1547 → (ju (ju ci 1547 49 (nI w)) 1547 103 (nI 0)) i = ci i := fun i hi => funext (fun j => by rw [ju_ne _ _ hi, ju_ne _ _ hi])
  have g2 : ∀ k, k ≠ 49 → k ≠ 103 → (ju (ju ci 1547 49 (nI w)) 1547 103 (nI 0)) 1547 k = ci 1547 k := fun k hk hk' => by rw [ju_ne2 _ _ hk', ju_ne2 _ _ hk]
  rw [g1 1582 (by decide), h1]
  refine (cT_run hn hw hb l a [] _ cj n (e en) (by omega) h3 (by simp; omega) (by rw [g1 1583 (by decide)]; exact h2) (fun j h => by rw [g1 1584 (by decide)]; exact h4 j h) h5 (fun k hk => (hp k hk).fr g1 g2) (ju_eq _ _ _ _) trivial (h6 en [])).mono ?_
  rintro q ⟨a1, a2, a3, a4⟩
  exact ⟨a1, fun i hi => (a2 i hi).trans (g1 i hi), fun k hk hk' => (a3 k hk').trans (g2 k hk hk'), a4⟩
