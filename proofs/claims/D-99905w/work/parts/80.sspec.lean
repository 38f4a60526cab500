/-! HOW SUMS AND TESTS ARE READ: codes as a list -/
set_option maxRecDepth 100000
/-- the words of parts, as the model numbers them -/
def pWs : List (List Nat) := [[104, 117, 110, 103, 101, 114], [121, 101, 97, 114], [118, 111, 119, 115], [108, 97, 116, 101], [102, 97, 114], [115, 105, 122, 101], [99, 97, 117, 103, 104, 116], [116, 114, 117, 101], [115, 105, 110, 99, 101], [110, 117, 109, 98, 101, 114], [112, 108, 97, 99, 101]]
/-- what may be asked in a text of a kind -/
def alw (tk k : Nat) : Bool := if tk = 0 then decide (k < 6) else if tk = 1 then decide (k < 3 ∨ 6 ≤ k ∧ k ≤ 8) else if tk = 2 then decide (k < 3 ∨ k = 6) else if tk = 3 then decide (k < 2 ∨ k = 7 ∨ k = 8) else decide (k < 2 ∨ 6 < k)
/-- the first place of a word in a list; its length, if it is not there -/
def fnd (w : List Nat) : List (List Nat) → Nat
  | [] => 0
  | y :: l => if y = w then 0 else fnd w l + 1
def wVows : List Nat := [118, 111, 119, 115]
def wCaught : List Nat := [99, 97, 117, 103, 104, 116]
def wMin : List Nat := [109, 105, 110]
def wMax : List Nat := [109, 97, 120]
def wNot : List Nat := [110, 111, 116]
def wAll : List Nat := [97, 108, 108]
def wAnd : List Nat := [97, 110, 100]
def wOr : List Nat := [111, 114]
abbrev isPart (tk : Nat) (w : List Nat) : Prop := fnd w pWs < 11 ∧ alw tk (fnd w pWs) = true
abbrev jPa : Type := Nat → jRs (List Nat)
/-- behind what was read -/
def thn {α β : Type} (r : jRs α) (f : Nat → α → jRs β) : jRs β := match r with
  | .inl e => .inl e
  | .inr q => f q.1 q.2
/-- a sign must stand here -/
def mst (t : jTx) (c p : Nat) {β : Type} (f : Nat → jRs β) : jRs β := if cAt t (sk t p) = c then f (sk t p + 1) else .inl (1, sk t p)
/-- one or two sums in brackets; none: no more may be opened -/
def inS (t : jTx) (sm : Option jPa) (two p : Nat) : jRs (List Nat) := if cAt t (sk t p) = 40 then (match sm with
  | none => .inl (4, sk t p)
  | some s => thn (s (sk t p + 1)) (fun p1 l1 => if two = 0 then mst t 41 p1 (fun p2 => .inr (p2, l1)) else mst t 44 p1 (fun p2 => thn (s p2) (fun p3 l2 => mst t 41 p3 (fun p4 => .inr (p4, l1 ++ (l2 ++ [two])))))))
  else .inl (1, sk t p)
/-- an atom: what opens goes by the sums and atoms of the level below -/
def atS (t : jTx) (tk : Nat) (sm am : Option jPa) (p : Nat) : jRs (List Nat) := if cAt t (sk t p) = 40 then inS t sm 0 p
  else if isG (cAt t (sk t p)) then thn (numS t 0 9999 p) (fun p1 v => .inr (p1, [1000 + v]))
  else if isL (cAt t (sk t p)) ∧ ¬ pt t (sk t p) then
    (if isPart tk (wd t (sk t p)) then .inr (we t (sk t p), [40 + fnd (wd t (sk t p)) pWs])
    else if tk = 4 ∧ (wd t (sk t p) = wVows ∨ wd t (sk t p) = wCaught) then (match am with
      | none => .inl (4, sk t p)
      | some a => thn (a (we t (sk t p))) (fun p1 l => .inr (p1, l ++ [if wd t (sk t p) = wVows then 60 else 61])))
    else if wd t (sk t p) = wMin then inS t sm 5 (we t (sk t p))
    else if wd t (sk t p) = wMax then inS t sm 6 (we t (sk t p))
    else .inl (1, sk t p))
  else .inl (1, sk t p)
/-- a chain: behind codes l comes what the sign asks; f is more than all bytes left -/
def chL (t : jTx) (c1 c2 o1 o2 : Nat) (a : jPa) : Nat → Nat → List Nat → jRs (List Nat)
  | 0, p, l => .inr (p, l)
  | f + 1, p, l => if cAt t (sk t p) = c1 then thn (a (sk t p + 1)) (fun p1 l1 => chL t c1 c2 o1 o2 a f p1 (l ++ (l1 ++ [o1])))
    else if cAt t (sk t p) = c2 then thn (a (sk t p + 1)) (fun p1 l1 => chL t c1 c2 o1 o2 a f p1 (l ++ (l1 ++ [o2])))
    else .inr (sk t p, l)
def prS (t : jTx) (a : jPa) (p : Nat) : jRs (List Nat) := thn (a p) (fun p1 l => chL t 42 47 3 4 a (t.1 + 1 - p1) p1 l)
def smS (t : jTx) (a : jPa) (p : Nat) : jRs (List Nat) := thn (prS t a p) (fun p1 l => chL t 43 45 1 2 (prS t a) (t.1 + 1 - p1) p1 l)
/-- by how much may still be opened -/
def aS (t : jTx) (tk : Nat) : Nat → jPa
  | 0 => atS t tk none none
  | r + 1 => atS t tk (some (smS t (aS t tk r))) (some (aS t tk r))
abbrev sS (t : jTx) (tk r : Nat) : jPa := smS t (aS t tk r)
/-! tests -/
def chW (t : jTx) (w : List Nat) (o : Nat) (a : jPa) : Nat → Nat → List Nat → jRs (List Nat)
  | 0, p, l => .inr (p, l)
  | f + 1, p, l => if hasW t p w then thn (a (sk t p + w.length)) (fun p1 l1 => chW t w o a f p1 (l ++ (l1 ++ [o]))) else if isL (cAt t (sk t p)) ∧ pt t (sk t p) then .inl (1, sk t p) else .inr (p, l)
def boS (t : jTx) (a : jPa) (p : Nat) : jRs (List Nat) := thn (a p) (fun p1 l => chW t wAnd 10 a (t.1 + 1 - p1) p1 l)
def teP (t : jTx) (a : jPa) (p : Nat) : jRs (List Nat) := thn (boS t a p) (fun p1 l => chW t wOr 11 (boS t a) (t.1 + 1 - p1) p1 l)
def faS (t : jTx) (tk r : Nat) (te fa : Option jPa) (p : Nat) : jRs (List Nat) := if cAt t (sk t p) = 91 then (match te with
    | none => .inl (4, sk t p)
    | some s => thn (s (sk t p + 1)) (fun p1 l => mst t 93 p1 (fun p2 => .inr (p2, l))))
  else if hasW t p wNot then (match fa with
    | none => .inl (4, sk t p)
    | some s => thn (s (sk t p + 3)) (fun p1 l => .inr (p1, l ++ [12])))
  else if hasW t p wAll then .inr (sk t p + 3, [13])
  else thn (sS t tk r p) (fun p1 l1 => if cAt t (sk t p1) = 60 then thn (sS t tk r (sk t p1 + 1)) (fun p2 l2 => .inr (p2, l1 ++ (l2 ++ [7])))
    else if cAt t (sk t p1) = 62 then thn (sS t tk r (sk t p1 + 1)) (fun p2 l2 => .inr (p2, l1 ++ (l2 ++ [8])))
    else if cAt t (sk t p1) = 61 then thn (sS t tk r (sk t p1 + 1)) (fun p2 l2 => .inr (p2, l1 ++ (l2 ++ [9])))
    else .inl (1, sk t p1))
def fS (t : jTx) (tk : Nat) : Nat → jPa
  | 0 => faS t tk 0 none none
  | r + 1 => faS t tk (r + 1) (some (teP t (fS t tk r))) (some (fS t tk r))
abbrev tS (t : jTx) (tk r : Nat) : jPa := teP t (fS t tk r)
/-! places go by what is behind blanks -/
def skC {α : Type} (t : jTx) (a : Nat → jRs α) : Prop := ∀ p p', sk t p = sk t p' → a p = a p'
theorem atS_sk {t : jTx} {tk : Nat} {sm am : Option jPa} : skC t (atS t tk sm am) := by
  intro p p' h
  unfold atS inS numS
  rw [h]
theorem aS_sk {t : jTx} {tk : Nat} : ∀ r, skC t (aS t tk r)
  | 0 => atS_sk
  | _ + 1 => atS_sk
theorem prS_sk {t : jTx} {a : jPa} (h : skC t a) : skC t (prS t a) := by
  intro p p' e
  unfold prS
  rw [h p p' e]
theorem smS_sk {t : jTx} {a : jPa} (h : skC t a) : skC t (smS t a) := by
  intro p p' e
  unfold smS
  rw [prS_sk h p p' e]
/-! what is read goes on, and stays in the text -/
theorem RS_thn {α β : Type} {r : jRs α} {f : Nat → α → jRs β} {F : Nat → Nat → Prop} {G : Nat → β → Prop} (h : RS r F (fun e a => RS (f e a) F G)) : RS (thn r f) F G := by
  cases r with
  | inl e => exact h
  | inr e => exact h
theorem RS_mono {α : Type} {r : jRs α} {F F' : Nat → Nat → Prop} {G G' : Nat → α → Prop} (h : RS r F G) (h1 : ∀ k e, F k e → F' k e) (h2 : ∀ e a, G e a → G' e a) : RS r F' G' := by
  cases r with
  | inl e => exact h1 _ _ h
  | inr e => exact h2 _ _ h
/-- a fault stands in the text -/
def fO (t : jTx) (k e : Nat) : Prop := 1 ≤ k ∧ k ≤ 5 ∧ e ≤ t.1
def gP (t : jTx) (p e : Nat) (l : List Nat) : Prop := sk t p < e ∧ e ≤ t.1 ∧ 0 < l.length ∧ l.length ≤ e - sk t p
def gS (t : jTx) (a : jPa) : Prop := ∀ p, p ≤ t.1 → RS (a p) (fO t) (gP t p)
theorem mst_g {t : jTx} {c p : Nat} {β : Type} {f : Nat → jRs β} {F : Nat → Nat → Prop} {G : Nat → β → Prop} (hc : c < 256) (hp : p ≤ t.1) (hF : F 1 (sk t p)) (h : sk t p + 1 ≤ t.1 → RS (f (sk t p + 1)) F G) : RS (mst t c p f) F G := by
  unfold mst
  by_cases e : cAt t (sk t p) = c
  · rw [if_pos e]; exact h (cAt_lt hc e).1
  · rw [if_neg e]; exact hF
theorem inS_g {t : jTx} {sm : Option jPa} {two p : Nat} (hs : ∀ s, sm = some s → gS t s) (hp : p ≤ t.1) : RS (inS t sm two p) (fO t) (gP t p) := by
  have hq := sk_le hp
  unfold inS
  by_cases e : cAt t (sk t p) = 40
  rotate_left
  · rw [if_neg e]; exact ⟨by omega, by omega, hq⟩
  have h1 := (cAt_lt (by omega) e).1
  rw [if_pos e]
  cases sm with
  | none => exact ⟨by show 1 ≤ 4; omega, by show 4 ≤ 5; omega, hq⟩
  | some s =>
    refine RS_thn (RS_mono (hs s rfl (sk t p + 1) h1) (fun _ _ z => z) (fun p1 l1 z => ?_))
    obtain ⟨z1, z2, z3, z4⟩ := z
    have g1 := sk_ge (t := t) (sk t p + 1)
    have g2 := sk_ge (t := t) p1
    by_cases e2 : two = 0
    · rw [if_pos e2]
      refine mst_g (by omega) z2 ⟨by omega, by omega, sk_le z2⟩ (fun h => ?_)
      exact ⟨by show sk t p < sk t p1 + 1; omega, h, z3, by show l1.length ≤ _; omega⟩
    · rw [if_neg e2]
      refine mst_g (by omega) z2 ⟨by omega, by omega, sk_le z2⟩ (fun h => ?_)
      refine RS_thn (RS_mono (hs s rfl (sk t p1 + 1) h) (fun _ _ z => z) (fun p3 l2 y => ?_))
      obtain ⟨y1, y2, y3, y4⟩ := y
      have g3 := sk_ge (t := t) (sk t p1 + 1)
      have g4 := sk_ge (t := t) p3
      refine mst_g (by omega) y2 ⟨by omega, by omega, sk_le y2⟩ (fun h' => ?_)
      have e3 : (l1 ++ (l2 ++ [two])).length = l1.length + (l2.length + 1) := by rw [List.length_append, List.length_append]; rfl
      exact ⟨by show sk t p < sk t p3 + 1; omega, h', by show 0 < (l1 ++ (l2 ++ [two])).length; omega, by show (l1 ++ (l2 ++ [two])).length ≤ _; omega⟩
theorem numS_g {t : jTx} {lo hi p : Nat} (hp : p ≤ t.1) : RS (numS t lo hi p) (fO t) (fun e v => sk t p < e ∧ e ≤ t.1) := by
  have hq := sk_le hp
  unfold numS
  by_cases h : isG (cAt t (sk t p)) ∧ ¬ pt t (sk t p)
  rotate_left
  · rw [if_neg h]; exact ⟨by omega, by omega, hq⟩
  have hle := ge_le (t := t) hq
  have hlt : sk t p < ge t (sk t p) := by rw [ge_step h.1]; have := ge_ge (t := t) (sk t p + 1); omega
  rw [if_pos h]
  by_cases h4 : ge t (sk t p) - sk t p ≤ 4
  · rw [if_pos h4]
    by_cases h5 : lo ≤ nvA t (sk t p) (ge t (sk t p) - sk t p) ∧ nvA t (sk t p) (ge t (sk t p) - sk t p) ≤ hi
    · rw [if_pos h5]; exact ⟨hlt, hle⟩
    · rw [if_neg h5]; exact ⟨by show 1 ≤ 2; omega, by show 2 ≤ 5; omega, hq⟩
  · rw [if_neg h4]; exact ⟨by omega, by omega, by show sk t p + 4 ≤ t.1; omega⟩
theorem sk_we {t : jTx} {p : Nat} (h : isL (cAt t p)) : p < we t p := by rw [we_step h]; have := we_ge (t := t) (p + 1); omega
theorem atS_g {t : jTx} {tk : Nat} {sm am : Option jPa} (hs : ∀ s, sm = some s → gS t s) (ha : ∀ s, am = some s → gS t s) : gS t (atS t tk sm am) := by
  intro p hp
  have hq := sk_le hp
  unfold atS
  by_cases e : cAt t (sk t p) = 40
  · rw [if_pos e]; exact inS_g hs hp
  rw [if_neg e]
  by_cases hg : isG (cAt t (sk t p))
  · rw [if_pos hg]
    refine RS_thn (RS_mono (numS_g hp) (fun _ _ z => z) (fun e v z => ?_))
    exact ⟨z.1, z.2, by show 0 < 1; omega, by show 1 ≤ _; have := z.1; omega⟩
  rw [if_neg hg]
  by_cases hl : isL (cAt t (sk t p)) ∧ ¬ pt t (sk t p)
  rotate_left
  · rw [if_neg hl]; exact ⟨by omega, by omega, hq⟩
  have hlt := sk_we hl.1
  have hle := we_le (t := t) hq
  have g1 := sk_ge (t := t) (we t (sk t p))
  rw [if_pos hl]
  by_cases h1 : isPart tk (wd t (sk t p))
  · rw [if_pos h1]; exact ⟨hlt, hle, by show 0 < 1; omega, by show 1 ≤ _; omega⟩
  rw [if_neg h1]
  by_cases h2 : tk = 4 ∧ (wd t (sk t p) = wVows ∨ wd t (sk t p) = wCaught)
  · rw [if_pos h2]
    cases am with
    | none => exact ⟨by show 1 ≤ 4; omega, by show 4 ≤ 5; omega, hq⟩
    | some a =>
      refine RS_thn (RS_mono (ha a rfl _ hle) (fun _ _ z => z) (fun e l z => ?_))
      obtain ⟨z1, z2, z3, z4⟩ := z
      have e3 : (l ++ [if wd t (sk t p) = wVows then 60 else 61]).length = l.length + 1 := by rw [List.length_append]; rfl
      exact ⟨by show sk t p < e; omega, z2, by show 0 < (l ++ [if wd t (sk t p) = wVows then 60 else 61]).length; omega, by show (l ++ [if wd t (sk t p) = wVows then 60 else 61]).length ≤ _; omega⟩
  rw [if_neg h2]
  have lift : ∀ two, RS (inS t sm two (we t (sk t p))) (fO t) (gP t p) := fun two => RS_mono (inS_g hs hle) (fun _ _ z => z) (fun e l z => ⟨by have := z.1; omega, z.2.1, z.2.2.1, by have := z.2.2.2; omega⟩)
  by_cases h3 : wd t (sk t p) = wMin
  · rw [if_pos h3]; exact lift 5
  rw [if_neg h3]
  by_cases h4 : wd t (sk t p) = wMax
  · rw [if_pos h4]; exact lift 6
  rw [if_neg h4]; exact ⟨by omega, by omega, hq⟩
theorem chL_g {t : jTx} {c1 c2 o1 o2 : Nat} {a : jPa} (hc1 : c1 < 256) (hc2 : c2 < 256) (ha : gS t a) : ∀ f p l p0, p ≤ t.1 → gP t p0 p l → RS (chL t c1 c2 o1 o2 a f p l) (fO t) (gP t p0)
  | 0, p, l, p0, hp, h => h
  | f + 1, p, l, p0, hp, h => by
    have h0 := h
    obtain ⟨g1, g2, g3, g4⟩ := h
    have hge := sk_ge (t := t) p
    have step : ∀ (c o : Nat), c < 256 → cAt t (sk t p) = c → RS (thn (a (sk t p + 1)) (fun p1 l1 => chL t c1 c2 o1 o2 a f p1 (l ++ (l1 ++ [o])))) (fO t) (gP t p0) := by
      intro c o hc e
      have h1 := (cAt_lt hc e).1
      refine RS_thn (RS_mono (ha _ h1) (fun _ _ z => z) (fun p1 l1 z => ?_))
      obtain ⟨z1, z2, z3, z4⟩ := z
      have hge1 := sk_ge (t := t) (sk t p + 1)
      have e3 : (l ++ (l1 ++ [o])).length = l.length + (l1.length + 1) := by rw [List.length_append, List.length_append]; rfl
      exact chL_g hc1 hc2 ha f p1 _ p0 z2 ⟨by omega, z2, by omega, by omega⟩
    unfold chL
    by_cases e1 : cAt t (sk t p) = c1
    · rw [if_pos e1]; exact step c1 o1 hc1 e1
    rw [if_neg e1]
    by_cases e2 : cAt t (sk t p) = c2
    · rw [if_pos e2]; exact step c2 o2 hc2 e2
    rw [if_neg e2]
    exact ⟨by show sk t p0 < sk t p; omega, sk_le hp, g3, by show l.length ≤ sk t p - sk t p0; omega⟩
theorem prS_g {t : jTx} {a : jPa} (ha : gS t a) : gS t (prS t a) := fun p hp => RS_thn (RS_mono (ha p hp) (fun _ _ z => z) (fun p1 l z => chL_g (by omega) (by omega) ha _ p1 l p z.2.1 z))
theorem smS_g {t : jTx} {a : jPa} (ha : gS t a) : gS t (smS t a) := fun p hp => RS_thn (RS_mono (prS_g ha p hp) (fun _ _ z => z) (fun p1 l z => chL_g (by omega) (by omega) (prS_g ha) _ p1 l p z.2.1 z))
theorem aS_g {t : jTx} {tk : Nat} : ∀ r, gS t (aS t tk r)
  | 0 => atS_g (fun _ h => by cases h) (fun _ h => by cases h)
  | r + 1 => atS_g (fun s h => by cases h; exact smS_g (aS_g r)) (fun s h => by cases h; exact aS_g r)
theorem sS_g {t : jTx} {tk r : Nat} : gS t (sS t tk r) := smS_g (aS_g r)
