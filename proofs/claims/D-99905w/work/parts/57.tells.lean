/-! TELLS -/
set_option maxRecDepth 100000
theorem bit01 (x : Int32) : x &&& nI 1 = 0 ∨ x &&& nI 1 = nI 1 := by
  have h : ∀ b : BitVec 32, b &&& 1#32 = 0#32 ∨ b &&& 1#32 = 1#32 := by
    intro b
    have e : (b &&& 1#32).toNat = b.toNat % 2 := by
      rw [BitVec.toNat_and]
      show b.toNat &&& 1 = _
      exact Nat.and_one_is_mod b.toNat
    have h2 : b.toNat % 2 = 0 ∨ b.toNat % 2 = 1 := by omega
    rcases h2 with z | z
    · exact Or.inl (BitVec.eq_of_toNat_eq (by rw [e, z]; rfl))
    · exact Or.inr (BitVec.eq_of_toNat_eq (by rw [e, z]; rfl))
  rcases h x.toBitVec with z | z
  · exact Or.inl (Int32.toBitVec_inj.mp z)
  · exact Or.inr (Int32.toBitVec_inj.mp z)
def cnA (m : Nat) (W : Nat → Nat → Nat → Int32) (k s a : Nat) : Nat → Nat := ns (fun b => if hasP m a ∧ hasP m b ∧ W a k s = W b k s then 1 else 0)
def moA (m : Nat) (W : Nat → Nat → Nat → Int32) (k s : Nat) : Nat → Nat
  | 0 => 0
  | a + 1 => max (moA m W k s a) (cnA m W k s a 10)
theorem cnA_le (m : Nat) (W : Nat → Nat → Nat → Int32) (k s a b : Nat) : cnA m W k s a b ≤ b := by
  have := ns_le (f := fun b => if hasP m a ∧ hasP m b ∧ W a k s = W b k s then 1 else 0) (m := 1) (fun k => by split <;> omega) b
  unfold cnA; omega
theorem moA_le (m : Nat) (W : Nat → Nat → Nat → Int32) (k s : Nat) : ∀ a, moA m W k s a ≤ 10
  | 0 => by show 0 ≤ 10; omega
  | a + 1 => by
    have h1 := moA_le m W k s a
    have h2 := cnA_le m W k s a 10
    show max _ _ ≤ 10
    omega
abbrev jT3 : Type := Int32 × Int32 × Int32
def teS (m : Nat) (W : Nat → Nat → Nat → Int32) (st : jT3) (k : Nat) : Nat → jT3
  | 0 => st
  | s + 1 => if (teS m W st k s).1 = -1 ∨ nI (moA m W k s 10) < (teS m W st k s).2.2 then (nI k, nI s, nI (moA m W k s 10)) else teS m W st k s
def teK (m : Nat) (W : Nat → Nat → Nat → Int32) (S : Nat) : Nat → jT3
  | 0 => (-1, -1, nI 0)
  | k + 1 => teS m W (teK m W S k) k S
theorem teS_congr {m : Nat} {W W' : Nat → Nat → Nat → Int32} {st : jT3} {k : Nat} : ∀ {S : Nat}, (∀ x s, x < 10 → s < S → W x k s = W' x k s) → teS m W st k S = teS m W' st k S
  | 0, _ => rfl
  | S + 1, h => by
    have e : ∀ a, a ≤ 10 → moA m W k S a = moA m W' k S a := by
      intro a
      induction a with
      | zero => exact fun _ => rfl
      | succ a ih =>
        intro ha
        show max _ _ = max _ _
        rw [ih (by omega)]
        congr 1
        refine ns_congr (fun b hb => ?_)
        rw [h a S (by omega) (by omega), h b S (by omega) (by omega)]
    unfold teS
    rw [teS_congr (fun x s hx hs => h x s hx (by omega)), e 10 (by omega)]
def aTells (c : jCo) (d : jRD) (v : jV8) (y : Nat) (a0 a1 : Int32) : Int32 := if iv a0 (coP c) ∧ nI 0 ≤ a1 ∧ a1 ≤ nI 2 then
    (if tsv c d v a0.toNatClampNeg (yrsN y) 10 = 0 ∨ (teK (tsv c d v a0.toNatClampNeg (yrsN y) 10) (wy c v a0.toNatClampNeg) (coS c) (yrsN y)).1 = -1 then -1 else if a1 = 0 then (teK (tsv c d v a0.toNatClampNeg (yrsN y) 10) (wy c v a0.toNatClampNeg) (coS c) (yrsN y)).1 else if a1 = nI 1 then (teK (tsv c d v a0.toNatClampNeg (yrsN y) 10) (wy c v a0.toNatClampNeg) (coS c) (yrsN y)).2.1 else (teK (tsv c d v a0.toNatClampNeg (yrsN y) 10) (wy c v a0.toNatClampNeg) (coS c) (yrsN y)).2.2) else -1
section
variable {n : Nat} {c : jCo} {d : jRD} {ci : jI} {cj : jJ}
theorem sp6_mostAlike (hn : 4000 ≤ n) {m k s : Nat} {W : Nat → Nat → Nat → Int32} (hk : k < 31) (hs : s < 3) (hW : ∀ x, x < 10 → ci 1593 (93 * x + 3 * k + s) = W x k s) : Wp (fX6_mostAlike n (nI m) (nI (3 * k + s)) ci cj) (fun q => q = (nI (moA m W k s 10), ci, cj)) := by
  have hW' : ∀ x, x < 10 → ci 1593 (93 * x + (3 * k + s)) = W x k s := fun x hx => by rw [← hW x hx]; congr 1; omega
  unfold fX6_mostAlike
  refine Wp.loop2 (fun q (a0 a1 : Int32) => fX6_mostAlike_5 n q (nI m) (nI (3 * k + s)) a0 a1 ci cj) (fun r b => ∃ a, a + r = 10 ∧ b.2 = nI a ∧ b.1 = nI (moA m W k s a)) _ ?_ n 10 (nI 0) (nI 0) (by omega) ⟨0, by omega, rfl, rfl⟩
  rintro q r most l ⟨a, g1, g2, g3⟩ ih
  dsimp only at g2 g3
  subst g2
  rw [fX6_mostAlike_5.eq_2]
  have hm10 := moA_le m W k s a
  by_cases ha : 9 < a
  · have : a = 10 := by omega
    subst this
    rw [if_pos (nI_lt ha (by omega)), wp_some, g3]
  · rw [if_neg (nI_nlt (by omega) (by omega))]
    unfold fX6_mostAlike_92
    by_cases hb : ((nI m >>> (nI a &&& 31)) &&& nI 1) = 0
    · rw [if_pos hb, nI_add]
      have hnot : ¬ hasP m a := fun z => by unfold hasP at z; rw [hb] at z; exact absurd z (by decide)
      refine ih (r - 1) most (nI (a + 1)) (by omega) ⟨a + 1, by omega, rfl, ?_⟩
      show most = nI (max _ (cnA m W k s a 10))
      have e : cnA m W k s a 10 = 0 := by
        unfold cnA
        rw [ns_congr (g := fun _ => 0) (fun b _ => by rw [if_neg (fun z => hnot z.1)]), ns_const]
      rw [e, g3]; congr 1; omega
    · have hhas : hasP m a := (bit01 _).resolve_left hb
      rw [if_neg hb]
      refine Wp.loop2 (fun q' (a0 a1 : Int32) => fX6_mostAlike_30 n (fX6_mostAlike_5 n q) q' (nI m) (nI (3 * k + s)) most (nI a) a0 a1 ci cj) (fun r b => ∃ b', b' + r = 10 ∧ b.2 = nI b' ∧ b.1 = nI (cnA m W k s a b')) _ ?_ n 10 (nI 0) (nI 0) (by omega) ⟨0, by omega, rfl, rfl⟩
      rintro q' r' x l ⟨b, w1, w2, w3⟩ ih2
      dsimp only at w2 w3
      subst w2
      rw [fX6_mostAlike_30.eq_2]
      have hc10 := cnA_le m W k s a b
      unfold fX6_mostAlike_92 fX6_mostAlike_77
      by_cases hb9 : 9 < b
      · have : b = 10 := by omega
        subst this
        rw [if_pos (nI_lt hb9 (by omega)), nI_add]
        by_cases hle : cnA m W k s a 10 ≤ moA m W k s a
        · rw [if_pos (show x ≤ most by rw [w3, g3]; exact nI_le hle (by omega))]
          refine ih (r - 1) most (nI (a + 1)) (by omega) ⟨a + 1, by omega, rfl, ?_⟩
          show most = nI (max _ (cnA m W k s a 10))
          rw [g3]; congr 1; omega
        · rw [if_neg (show ¬ x ≤ most by rw [w3, g3]; exact nI_ge (by omega) (by omega))]
          refine ih (r - 1) x (nI (a + 1)) (by omega) ⟨a + 1, by omega, rfl, ?_⟩
          show x = nI (max _ (cnA m W k s a 10))
          rw [w3]; congr 1; omega
      · rw [if_neg (nI_nlt (by omega) (by omega))]
        have ea := hW' a (by omega)
        have eb := hW' b (by omega)
        have nop : ¬ (hasP m a ∧ hasP m b ∧ W a k s = W b k s) → Wp (fX6_mostAlike_30 n (fX6_mostAlike_5 n q) q' (nI m) (nI (3 * k + s)) most (nI a) x (nI (b + 1)) ci cj) (fun q => q = (nI (moA m W k s 10), ci, cj)) := by
          intro hno
          refine ih2 (r' - 1) x (nI (b + 1)) (by omega) ⟨b + 1, by omega, rfl, ?_⟩
          show x = nI (cnA m W k s a b + (if hasP m a ∧ hasP m b ∧ W a k s = W b k s then 1 else 0))
          rw [if_neg hno]; exact w3
        rw [nI_add]
        by_cases hbb : hasP m b
        · rw [if_pos hbb]
          simp (disch := omega) only [nI_add, nI_mulN, nI_cl, jok_t, if_true, ea, eb]
          by_cases e : W a k s = W b k s
          · rw [if_pos e, w3, nI_add]
            refine ih2 (r' - 1) _ (nI (b + 1)) (by omega) ⟨b + 1, by omega, rfl, ?_⟩
            show nI _ = nI (cnA m W k s a b + (if hasP m a ∧ hasP m b ∧ W a k s = W b k s then 1 else 0))
            rw [if_pos ⟨hhas, hbb, e⟩]
          · rw [if_neg e]; exact nop (fun z => e z.2.2)
        · rw [if_neg hbb]; exact nop (fun z => hbb z.2.1)
theorem m_tells (hn : 4000 ≤ n) (h : MI c ci) (hd : RDok c d) (hR : MR d ci) {y : Nat} (hy : ci 1585 0 = nI y) (hy9 : y ≤ 999) (a0 a1 : Int32) :
    Wp (fX6_tells n a0 a1 ci cj) (fun q => q.1 = aTells c d (ci 1585) y a0 a1 ∧ QM ci cj q.2.1 q.2.2) := by
  have hc := h.1
  have hP := hc.2.1
  have hS := hc.2.2.1
  unfold fX6_tells fX6_tells_20 aTells
  rw [wp_bind, e6_isPair hc h.2.1, wp_some]
  dsimp only
  by_cases h1 : iv a0 (coP c)
  rotate_left
  · rw [if_neg h1, if_pos z00, wp_some, if_neg (fun z => h1 z.1)]
    exact ⟨rfl, QM.rfl'⟩
  rw [if_pos h1, if_neg n10, wp_bind, e6_isIn, wp_some]
  dsimp only
  have e01 : (lN 0 ≤ a1.toInt64 ∧ a1.toInt64 ≤ (2 : Int64)) ↔ (nI 0 ≤ a1 ∧ a1 ≤ nI 2) := by
    rw [show lN 0 = (nI 0).toInt64 from rfl, show (2 : Int64) = (nI 2).toInt64 from rfl, Int32.toInt64_le, Int32.toInt64_le]
  by_cases h2 : nI 0 ≤ a1 ∧ a1 ≤ nI 2
  rotate_left
  · rw [if_neg (fun z => h2 (e01.mp z)), if_pos z00, wp_some, if_neg (fun z => h2 z.2)]
    exact ⟨rfl, QM.rfl'⟩
  rw [if_pos (e01.mpr h2), if_neg n10, if_pos ⟨h1, h2⟩, wp_bind]
  obtain ⟨p, p1, p2⟩ := iv_ex h1 (by omega)
  subst p2
  rw [nI_cl (by omega)]
  refine (sp6_trueSet hn h hd hR hy hy9 p1).mono ?_
  rintro ⟨z, ci1, cj1⟩ ⟨q1, q2, q3⟩
  dsimp only at q1 q2 q3 ⊢
  subst q1
  have hlt := tsv_lt c d (ci 1585) p (yrsN y) 10
  generalize tsv c d (ci 1585) p (yrsN y) 10 = m at hlt ⊢
  have m1 : MC c ci1 := h.2.1.fr' q2.2.2.1 (by decide)
  have e0 : ci1 1585 0 = nI y := (q2.1 0 (by omega)).trans hy
  have hlim : (if m = 0 then 0 else yrsN y) < n := by
    have : yrsN y ≤ 31 := by unfold yrsN; omega
    split <;> omega
  refine Wp.loop4 (fun q (b0 b1 b2 b3 : Int32) => fX6_tells_40 n q a1 (nI m) b0 b1 b2 b3 ci1 cj1) (fun r b => ∃ k, k + r = (if m = 0 then 0 else yrsN y) ∧ b.2.2.2 = nI k ∧ (b.1, b.2.1, b.2.2.1) = teK m (wy c (ci 1585) p) (coS c) k) _ ?_ n (if m = 0 then 0 else yrsN y) (-1) (-1) (nI 0) (nI 0) hlim ⟨0, by omega, rfl, rfl⟩
  rintro q r by_ bs fw l ⟨k, g1, g2, g3⟩ ih
  dsimp only at g2 g3
  subst g2
  have hH : yrsN y ≤ 31 := by unfold yrsN; omega
  have k31 : k ≤ 31 := by
    split at g1 <;> omega
  have gb : by_ = (teK m (wy c (ci 1585) p) (coS c) k).1 := congrArg Prod.fst g3
  have gs : bs = (teK m (wy c (ci 1585) p) (coS c) k).2.1 := congrArg (fun q => q.2.1) g3
  have gf : fw = (teK m (wy c (ci 1585) p) (coS c) k).2.2 := congrArg (fun q => q.2.2) g3
  have fin : k = (if m = 0 then 0 else yrsN y) → Wp (fX6_tells_132 n a1 by_ bs fw ci1 cj1) (fun q => (q.1 = if m = 0 ∨ (teK m (wy c (ci 1585) p) (coS c) (yrsN y)).1 = -1 then -1 else if a1 = 0 then (teK m (wy c (ci 1585) p) (coS c) (yrsN y)).1 else if a1 = nI 1 then (teK m (wy c (ci 1585) p) (coS c) (yrsN y)).2.1 else (teK m (wy c (ci 1585) p) (coS c) (yrsN y)).2.2) ∧ QM ci cj q.2.1 q.2.2) := by
    intro hk
    unfold fX6_tells_132 fX6_tells_163
    by_cases m0 : m = 0
    · rw [if_pos m0] at hk
      subst hk
      rw [if_pos (show by_ = -1 from gb), wp_some, if_pos (Or.inl m0)]
      exact ⟨rfl, q2⟩
    · rw [if_neg m0] at hk
      subst hk
      by_cases c1 : by_ = -1
      · rw [if_pos c1, wp_some, if_pos (Or.inr (gb.symm.trans c1))]
        exact ⟨rfl, q2⟩
      · have hno : ¬ (m = 0 ∨ (teK m (wy c (ci 1585) p) (coS c) (yrsN y)).1 = -1) := fun z => z.elim m0 (fun z => c1 (gb.trans z))
        by_cases c2 : a1 = 0
        · simp only [if_neg c1, if_neg hno, if_pos c2, wp_some]; exact ⟨gb, q2⟩
        · by_cases c3 : a1 = nI 1
          · simp only [if_neg c1, if_neg hno, if_neg c2, if_pos c3, wp_some]; exact ⟨gs, q2⟩
          · simp only [if_neg c1, if_neg hno, if_neg c2, if_neg c3, wp_some]; exact ⟨gf, q2⟩
  rw [fX6_tells_40.eq_2]
  by_cases m0 : m = 0
  · rw [if_pos (show nI m = 0 by rw [m0]; rfl)]
    exact fin (by rw [if_pos m0] at g1 ⊢; omega)
  · rw [if_neg (nI_ne0 (by omega) (by omega))]
    rw [if_neg m0] at g1
    by_cases h30 : 30 < k
    · rw [if_pos (nI_lt h30 (by omega))]
      exact fin (by rw [if_neg m0]; omega)
    · have ek : ci1 1585 (nI 0).toNatClampNeg + nI k = nI (y + k) := by rw [nI_cl (by omega), e0, nI_add]
      rw [if_neg (nI_nlt (by omega) (by omega)), if_pos (by rw [jok_t (by omega) (by omega)]; trivial)]
      by_cases h9 : 999 ≤ y + k
      · rw [if_pos (show nI 999 ≤ ci1 1585 (nI 0).toNatClampNeg + nI k by rw [ek]; exact nI_le h9 (by omega))]
        exact fin (by rw [if_neg m0]; unfold yrsN at g1 ⊢; omega)
      · rw [if_neg (show ¬ nI 999 ≤ ci1 1585 (nI 0).toNatClampNeg + nI k by rw [ek]; exact nI_ge (by omega) (by omega))]
        have kH : k < yrsN y := by unfold yrsN; omega
        refine Wp.loop4 (fun q' (b0 b1 b2 b3 : Int32) => fX6_tells_69 n (fX6_tells_40 n q) q' a1 (nI m) b0 b1 b2 (nI k) b3 ci1 cj1) (fun r b => ∃ s, s + r = coS c ∧ b.2.2.2 = nI s ∧ (b.1, b.2.1, b.2.2.1) = teS m (wy c (ci 1585) p) (teK m (wy c (ci 1585) p) (coS c) k) k s) _ ?_ n (coS c) by_ bs fw (nI 0) (by omega) ⟨0, by omega, rfl, g3⟩
        rintro q' r' by2 bs2 fw2 l ⟨s, u1, u2, u3⟩ ih2
        dsimp only at u2 u3
        subst u2
        rw [fX6_tells_69.eq_2, wp_bind, e6_shoalMany, wp_some]
        dsimp only
        rw [m1.2.2.1]
        by_cases hs : coS c ≤ s
        · have : s = coS c := by omega
          subst this
          rw [if_pos (nI_le hs (by omega)), nI_add]
          exact ih (r - 1) by2 bs2 fw2 (nI (k + 1)) (by omega) ⟨k + 1, by rw [if_neg m0]; omega, rfl, u3⟩
        · rw [if_neg (nI_ge (by omega) (by omega)), nI_mulN, nI_add, wp_bind]
          refine (sp6_mostAlike (W := wy c (ci 1585) p) hn (by omega) (by omega) (fun x hx => q3 x k s hx (by omega) (by omega))).mono ?_
          rintro z rfl
          dsimp only
          have ub : by2 = (teS m (wy c (ci 1585) p) (teK m (wy c (ci 1585) p) (coS c) k) k s).1 := congrArg Prod.fst u3
          have uf : fw2 = (teS m (wy c (ci 1585) p) (teK m (wy c (ci 1585) p) (coS c) k) k s).2.2 := congrArg (fun q => q.2.2) u3
          unfold fX6_tells_108 fX6_tells_120
          rw [nI_add]
          by_cases c1 : by2 = -1
          · rw [if_pos c1]
            refine ih2 (r' - 1) _ _ _ (nI (s + 1)) (by omega) ⟨s + 1, by omega, rfl, ?_⟩
            show _ = if _ then _ else _
            rw [if_pos (Or.inl (ub.symm.trans c1))]
          · rw [if_neg c1]
            by_cases c2 : nI (moA m (wy c (ci 1585) p) k s 10) < fw2
            · rw [if_pos c2]
              refine ih2 (r' - 1) _ _ _ (nI (s + 1)) (by omega) ⟨s + 1, by omega, rfl, ?_⟩
              show _ = if _ then _ else _
              rw [if_pos (Or.inr (by rw [← uf]; exact c2))]
            · rw [if_neg c2]
              refine ih2 (r' - 1) _ _ _ (nI (s + 1)) (by omega) ⟨s + 1, by omega, rfl, ?_⟩
              show _ = if _ then _ else _
              rw [if_neg (fun z => z.elim (fun a => c1 (ub.trans a)) (fun a => c2 (by rw [uf]; exact a)))]; exact u3
end
