/-! THE PLAIN LAW: a coast, and a year over a state (a row of numbers as the model lays it) -/
abbrev jEn : Type := Nat → Int64 → Int64
abbrev jEE : Type := jEn → Int64
abbrev jTT : Type := jEn → Bool
/-- a coast: how many bays, pairs, shoals; storm; the bays' miles; the pairs' bays; the shoals' sizes; what lures, mends, starves; who counts -/
abbrev jCo : Type := (Nat × Nat × Nat × Nat) × (Nat → Int32) × (Nat → Nat) × (Nat → Int32) × Option jEE × Option jEE × Option jEE × Option jTT
abbrev coB (c : jCo) : Nat := c.1.1
abbrev coP (c : jCo) : Nat := c.1.2.1
abbrev coS (c : jCo) : Nat := c.1.2.2.1
abbrev coW (c : jCo) : Nat := c.1.2.2.2
abbrev coM (c : jCo) : Nat → Int32 := c.2.1
abbrev coN (c : jCo) : Nat → Nat := c.2.2.1
abbrev coZ (c : jCo) : Nat → Int32 := c.2.2.2.1
abbrev coL (c : jCo) : Option jEE := c.2.2.2.2.1
abbrev coE (c : jCo) : Option jEE := c.2.2.2.2.2.1
abbrev coT (c : jCo) : Option jEE := c.2.2.2.2.2.2.1
abbrev coC (c : jCo) : Option jTT := c.2.2.2.2.2.2.2
abbrev jV8 : Type := Nat → Int32
/-- a sum -/
def sg (f : Nat → Int32) : Nat → Int32
  | 0 => nI 0
  | k + 1 => sg f k + f k
theorem sg_congr {f g : Nat → Int32} : ∀ {n : Nat}, (∀ k, k < n → f k = g k) → sg f n = sg g n
  | 0, _ => rfl
  | n + 1, h => by
    show sg f n + f n = sg g n + g n
    rw [sg_congr (fun k hk => h k (by omega)), h n (by omega)]
/-- who counts -/
def vC (v : jV8) (p b : Nat) : jEn := fun k _ => if k = 0 then (v (7 + 3 * b)).toInt64 else if k = 1 then (v 0).toInt64 else if k = 7 then (v (25 + 2 * p)).toInt64 else if k = 8 then (v (26 + 2 * p)).toInt64 else 0
def cnt (c : jCo) (v : jV8) (p : Nat) : Bool := match coC c with
  | none => decide (0 < v (25 + 2 * p))
  | some t => t (vC v p (coN c p))
/-- vows of a bay -/
def vw (c : jCo) (v : jV8) (b : Nat) : Int32 := sg (fun p => if coN c p = b ∧ cnt c v p = true then v (25 + 2 * p) else nI 0) (coP c)
def iab (x : Int32) : Int32 := if 0 ≤ x then x else -x
def vL (c : jCo) (v w : jV8) (s b : Nat) : jEn := fun k _ => if k = 0 then (v (7 + 3 * b)).toInt64 else if k = 1 then (v 0).toInt64 else if k = 2 then (w b).toInt64 else if k = 3 then (v (9 + 3 * b)).toInt64 else if k = 4 then (iab (v (1 + 2 * s) - coM c b)).toInt64 else if k = 5 then (coZ c s).toInt64 else 0
/-- by how much a bay lures a shoal -/
def lur (c : jCo) (v w : jV8) (s b : Nat) : Int64 := match coL c with
  | none => (w b).toInt64
  | some e => e (vL c v w s b)
def chs (c : jCo) (v w : jV8) (s : Nat) : Nat → Int32 × Int64
  | 0 => (-1, lN 0)
  | b + 1 => if (chs c v w s b).2 < lur c v w s b then (nI b, lur c v w s b) else chs c v w s b
/-- where a shoal comes -/
def tos (c : jCo) (v : jV8) (s : Nat) : Int32 := (chs c v (vw c v) s (coB c)).1
def tks (c : jCo) (v : jV8) (b : Nat) : Int32 := sg (fun s => if tos c v s = nI b then coZ c s else nI 0) (coS c)
def cms (c : jCo) (v : jV8) : Int32 := sg (fun s => if tos c v s = -1 then nI 0 else nI 1) (coS c)
def vM (c : jCo) (v : jV8) (p : Nat) : jEn := fun k _ => if k = 0 then (v (7 + 3 * coN c p)).toInt64 else if k = 1 then (v 0).toInt64 else if k = 2 then (vw c v (coN c p)).toInt64 else if k = 6 then (tks c v (coN c p)).toInt64 else if k = 7 then (v (25 + 2 * p)).toInt64 else if k = 8 then (v (26 + 2 * p)).toInt64 else 0
def vS (c : jCo) (v : jV8) (b : Nat) : jEn := fun k _ => if k = 0 then (v (7 + 3 * b)).toInt64 else if k = 1 then (v 0).toInt64 else if k = 2 then (vw c v b).toInt64 else if k = 6 then (tks c v b).toInt64 else 0
def cut (x : Int64) (m : Nat) : Int32 := if x < 0 then nI 0 else if lN m < x then nI m else x.toInt32
def mnd (c : jCo) (v : jV8) (p : Nat) : Int32 := match coE c with
  | none => v (25 + 2 * p)
  | some e => cut (e (vM c v p)) 9
def stv (c : jCo) (v : jV8) (b : Nat) : Int32 := match coT c with
  | none => cut ((v (7 + 3 * b) + nI 9 - tks c v b).toInt64) 99
  | some e => cut (e (vS c v b)) 99
def snc (x : Int32) : Int32 := if nI 99 ≤ x then x else x + nI 1
/-- a year, but for what is kept -/
def goV (c : jCo) (v : jV8) : jV8 := fun k =>
  if k = 0 then v 0 + nI 1
  else if k < 7 then (if (k - 1) / 2 < coS c then (if k % 2 = 1 then (if tos c v ((k - 1) / 2) = -1 then v k else coM c (tos c v ((k - 1) / 2)).toNatClampNeg) else tos c v ((k - 1) / 2)) else v k)
  else if k < 25 then (if (k - 7) / 3 < coB c then (if k % 3 = 1 then stv c v ((k - 7) / 3) else if k % 3 = 2 then tks c v ((k - 7) / 3) else vw c v ((k - 7) / 3)) else v k)
  else if k < 45 then (if (k - 25) / 2 < coP c then (if k % 2 = 1 then mnd c v ((k - 25) / 2) else snc (v k)) else v k)
  else v k
def goN (c : jCo) (v : jV8) : Nat → jV8
  | 0 => v
  | k + 1 => goV c (goN c v k)
/-- what is kept: one row more -/
def psh (v : jV8) (y s b : Int32) : jV8 := if v 45 = nI 40 then (fun k => if k = 163 then y else if k = 164 then s else if k = 165 then b else if 46 ≤ k ∧ k < 163 then v (k + 3) else v k)
  else (fun k => if k = 45 then v 45 + nI 1 else if k = 46 + 3 * (v 45).toNatClampNeg then y else if k = 47 + 3 * (v 45).toNatClampNeg then s else if k = 48 + 3 * (v 45).toNatClampNeg then b else v k)
def kps (c : jCo) (v : jV8) : Nat → jV8
  | 0 => v
  | s + 1 => if tos c v s = -1 then kps c v s else psh (kps c v s) (v 0) (nI s) (tos c v s)
/-- a year -/
def goF (c : jCo) (v : jV8) : jV8 := fun k => if k < 45 then goV c v k else kps c v (coS c) k
def goFN (c : jCo) (v : jV8) : Nat → jV8
  | 0 => v
  | k + 1 => goF c (goFN c v k)
/-! how the year's row is read -/
theorem goV_0 (c : jCo) (v : jV8) : goV c v 0 = v 0 + nI 1 := rfl
theorem goV_m {c : jCo} {v : jV8} {s : Nat} (h : s < coS c) (h3 : s < 3) : goV c v (1 + 2 * s) = if tos c v s = -1 then v (1 + 2 * s) else coM c (tos c v s).toNatClampNeg := by
  unfold goV
  rw [if_neg (by omega), if_pos (by omega), show (1 + 2 * s - 1) / 2 = s by omega, if_pos h, if_pos (by omega)]
theorem goV_a {c : jCo} {v : jV8} {s : Nat} (h : s < coS c) (h3 : s < 3) : goV c v (2 + 2 * s) = tos c v s := by
  unfold goV
  rw [if_neg (by omega), if_pos (by omega), show (2 + 2 * s - 1) / 2 = s by omega, if_pos h, if_neg (by omega)]
theorem goV_h {c : jCo} {v : jV8} {b : Nat} (h : b < coB c) (h3 : b < 6) : goV c v (7 + 3 * b) = stv c v b := by
  unfold goV
  rw [if_neg (by omega), if_neg (by omega), if_pos (by omega), show (7 + 3 * b - 7) / 3 = b by omega, if_pos h, if_pos (by omega)]
theorem goV_t {c : jCo} {v : jV8} {b : Nat} (h : b < coB c) (h3 : b < 6) : goV c v (8 + 3 * b) = tks c v b := by
  unfold goV
  rw [if_neg (by omega), if_neg (by omega), if_pos (by omega), show (8 + 3 * b - 7) / 3 = b by omega, if_pos h, if_neg (by omega), if_pos (by omega)]
theorem goV_l {c : jCo} {v : jV8} {b : Nat} (h : b < coB c) (h3 : b < 6) : goV c v (9 + 3 * b) = vw c v b := by
  unfold goV
  rw [if_neg (by omega), if_neg (by omega), if_pos (by omega), show (9 + 3 * b - 7) / 3 = b by omega, if_pos h, if_neg (by omega), if_neg (by omega)]
theorem goV_b {c : jCo} {v : jV8} {p : Nat} (h : p < coP c) (h3 : p < 10) : goV c v (25 + 2 * p) = mnd c v p := by
  unfold goV
  rw [if_neg (by omega), if_neg (by omega), if_neg (by omega), if_pos (by omega), show (25 + 2 * p - 25) / 2 = p by omega, if_pos h, if_pos (by omega)]
theorem goV_s {c : jCo} {v : jV8} {p : Nat} (h : p < coP c) (h3 : p < 10) : goV c v (26 + 2 * p) = snc (v (26 + 2 * p)) := by
  unfold goV
  rw [if_neg (by omega), if_neg (by omega), if_neg (by omega), if_pos (by omega), show (26 + 2 * p - 25) / 2 = p by omega, if_pos h, if_neg (by omega)]
/-- the same where it counts -/
def eqV (c : jCo) (v w : jV8) : Prop := v 0 = w 0 ∧ (∀ s, s < coS c → v (1 + 2 * s) = w (1 + 2 * s) ∧ v (2 + 2 * s) = w (2 + 2 * s)) ∧ (∀ b, b < coB c → v (7 + 3 * b) = w (7 + 3 * b) ∧ v (8 + 3 * b) = w (8 + 3 * b) ∧ v (9 + 3 * b) = w (9 + 3 * b)) ∧ ∀ p, p < coP c → v (25 + 2 * p) = w (25 + 2 * p) ∧ v (26 + 2 * p) = w (26 + 2 * p)
