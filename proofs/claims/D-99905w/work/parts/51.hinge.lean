/-! HINGE -/
set_option maxRecDepth 100000
def upv (v : jV8) (k : Nat) (x : Int32) : jV8 := fun j => if j = k then x else v j
theorem upv_eq (v : jV8) (k : Nat) (x : Int32) : upv v k x k = x := if_pos rfl
theorem upv_ne {v : jV8} {k j : Nat} {x : Int32} (h : j ≠ k) : upv v k x j = v j := if_neg h
theorem VR_updB {c : jCo} {v : jV8} {Y p : Nat} {x : Int32} (h : VR c v Y) (hc : CR c) (hx : rg x 9) : VR c (upv v (25 + 2 * p) x) Y := by
  obtain ⟨v1, v2, v3, v4⟩ := h
  have hB := hc.1
  have hS := hc.2.2.1
  refine ⟨by rw [upv_ne (by omega)]; exact v1, fun s hs => ?_, fun b hb => ?_, fun q hq => ⟨?_, ?_⟩⟩
  · rw [upv_ne (by omega), upv_ne (by omega)]; exact v2 s hs
  · rw [upv_ne (by omega), upv_ne (by omega), upv_ne (by omega)]; exact v3 b hb
  · by_cases e : q = p
    · subst e; rw [upv_eq]; exact hx
    · rw [upv_ne (by omega)]; exact (v4 q hq).1
  · rw [upv_ne (by omega)]; exact (v4 q hq).2
theorem sg_add (f g : Nat → Int32) : ∀ n, sg (fun k => f k + g k) n = sg f n + sg g n
  | 0 => rfl
  | n + 1 => by
    show sg (fun k => f k + g k) n + (f n + g n) = (sg f n + f n) + (sg g n + g n)
    rw [sg_add f g n, Int32.add_assoc, Int32.add_assoc, ← Int32.add_assoc (sg g n), ← Int32.add_assoc (f n), Int32.add_comm (sg g n) (f n)]
theorem sg_zero : ∀ n, sg (fun _ => nI 0) n = nI 0
  | 0 => rfl
  | n + 1 => by show sg _ n + nI 0 = _; rw [sg_zero n]; rfl
theorem sg_one {x z : Int32} {b0 : Nat} (hx : x = nI b0) (hb : b0 < 1000) : ∀ n, n < 1000 → sg (fun b => if x = nI b then z else nI 0) n = if b0 < n then z else nI 0
  | 0, _ => by rw [if_neg (by omega)]; rfl
  | n + 1, hn => by
    show sg _ n + (if x = nI n then z else nI 0) = _
    rw [sg_one hx hb n (by omega)]
    by_cases e : b0 = n
    · subst e; rw [if_neg (by omega), if_pos hx, if_pos (by omega)]; exact Int32.zero_add z
    · rw [if_neg (show ¬ x = nI n by rw [hx, nI_eqN (by omega) (by omega)]; exact e), i32_add0]
      by_cases h : b0 < n
      · rw [if_pos h, if_pos (by omega)]
      · rw [if_neg h, if_neg (by omega)]
theorem sg_none {x z : Int32} (hx : x = -1) : ∀ n, n < 1000 → sg (fun b => if x = nI b then z else nI 0) n = nI 0
  | 0, _ => rfl
  | n + 1, hn => by
    show sg _ n + (if x = nI n then z else nI 0) = _
    rw [sg_none hx n (by omega), if_neg (by rw [hx]; exact m1_nnI (by omega))]; rfl
theorem tks_fsh {c : jCo} {v : jV8} (hc : CR c) : ∀ S, sg (fun b => tkn c v b S) (coB c) = fsh c v S
  | 0 => sg_zero _
  | S + 1 => by
    have hB := hc.1
    show sg (fun b => tkn c v b S + (if tos c v S = nI b then coZ c S else nI 0)) (coB c) = fsh c v S + (if tos c v S = -1 then nI 0 else coZ c S)
    rw [sg_add, tks_fsh hc S]
    congr 1
    rcases tos_rg c v S with h | ⟨b, h1, h2⟩
    · rw [if_pos h, sg_none h _ (by omega)]
    · rw [if_neg (by rw [h2]; exact nI_nm1 (by omega)), sg_one h2 (by omega) _ (by omega), if_pos h1]
theorem fsh_rg {c : jCo} {v : jV8} (hc : CR c) : rg (fsh c v (coS c)) 297 := by
  have h1 : rg (fsh c v (coS c)) (coS c * 99) := by
    refine sg_bd (by have := hc.2.2.1; omega) (fun s hs => ?_)
    by_cases h : tos c v s = -1
    · simp only [if_pos h]; exact ⟨0, by omega, rfl⟩
    · simp only [if_neg h]; exact hc.2.2.2.2.2.2 s hs
  exact h1.le (by have := hc.2.2.1; omega)
/-- all that is caught in k years -/
def allF (c : jCo) (v : jV8) (k : Nat) : Int32 := sg (fun i => fsh c (goN c v i) (coS c)) k
theorem allF_rg {c : jCo} {v : jV8} {k : Nat} (hc : CR c) (hk : k ≤ 40) : rg (allF c v k) 11880 := by
  have h1 : rg (allF c v k) (k * 297) := sg_bd (by omega) (fun i _ => fsh_rg hc)
  exact h1.le (by omega)
def hin (c : jCo) (v : jV8) (k : Nat) : Nat → Int32 × Int32
  | 0 => (-1, -1)
  | p + 1 => if ¬ v (25 + 2 * p) = 0 ∧ ((hin c v k p).1 = -1 ∨ allF c (upv v (25 + 2 * p) (nI 0)) k < (hin c v k p).2) then (nI p, allF c (upv v (25 + 2 * p) (nI 0)) k) else hin c v k p
def aHinge (c : jCo) (v : jV8) (a0 a1 : Int32) : Int32 := if iah (v 0) a0 1 40 ∧ (nI 0 ≤ a1 ∧ a1 ≤ nI 1) then (if a1 = 0 then (hin c v a0.toNatClampNeg (coP c)).1 else (hin c v a0.toNatClampNeg (coP c)).2) else -1
section
variable {n : Nat} {c : jCo} {ci : jI} {cj : jJ}
theorem m_hinge (hn : 4000 ≤ n) (h : MI c ci) (a0 a1 : Int32) : Wp (fX6_hinge n a0 a1 ci cj) (fun q => q.1 = aHinge c (ci 1585) a0 a1 ∧ QM ci cj q.2.1 q.2.2) := by
  obtain ⟨hc, hm, hv, hk, h58⟩ := h
  have hP := hc.2.1
  unfold fX6_hinge fX6_hinge_21 aHinge
  rw [wp_bind, e6_isAhead, wp_some]
  dsimp only
  by_cases h1 : iah (ci 1585 0) a0 1 40
  rotate_left
  · rw [if_neg h1, if_pos z00, wp_some, if_neg (fun z => h1 z.1)]
    exact ⟨rfl, QM.rfl'⟩
  rw [if_pos h1, if_neg n10, wp_bind, e6_isIn, wp_some]
  dsimp only
  have e01 : (lN 0 ≤ a1.toInt64 ∧ a1.toInt64 ≤ lN 1) ↔ (nI 0 ≤ a1 ∧ a1 ≤ nI 1) := by
    rw [show lN 0 = (nI 0).toInt64 from rfl, show lN 1 = (nI 1).toInt64 from rfl, Int32.toInt64_le, Int32.toInt64_le]
  by_cases h2 : nI 0 ≤ a1 ∧ a1 ≤ nI 1
  rotate_left
  · rw [if_neg (fun z => h2 (e01.mp z)), if_pos z00, wp_some, if_neg (fun z => h2 z.2)]
    exact ⟨rfl, QM.rfl'⟩
  rw [if_pos (e01.mpr h2), if_neg n10, if_pos ⟨h1, h2⟩, wp_bind]
  obtain ⟨y, k0, k1, k2, -⟩ := iah_ex hv.1 (by omega) (by omega) (by omega) h1
  subst k2
  rw [nI_cl (by omega)]
  refine (sp_putsAside (c := c) hn).mono ?_
  rintro ⟨ci1, cj1⟩ hT
  dsimp only
  refine Wp.loop5 (fun k (a2 a3 a4 : Int32) (a5 : jI) (a6 : jJ) => fX6_hinge_35 n k (nI y) a1 a2 a3 a4 a5 a6) (fun r x => ∃ p, p + r = coP c ∧ x.2.2.1 = nI p ∧ (x.1, x.2.1) = hin c (ci 1585) y p ∧ TH c ci cj x.2.2.2.1 x.2.2.2.2 (ci 1585)) _ ?_ n (coP c) (-1) (-1) (nI 0) ci1 cj1 (by omega) ⟨0, by omega, rfl, rfl, hT⟩
  rintro k r best least l ci2 cj2 ⟨p, g1, g2, g3, g4⟩ ih
  dsimp only at g2 g3 g4
  subst g2
  have hm2 := g4.mc hm
  have gb : best = (hin c (ci 1585) y p).1 := congrArg Prod.fst g3
  have gl : least = (hin c (ci 1585) y p).2 := congrArg Prod.snd g3
  rw [fX6_hinge_35.eq_2, wp_bind, e6_pairMany, wp_some]
  dsimp only
  rw [hm2.2.1]
  unfold fX6_hinge_95 fX6_hinge_104 fX6_hinge_124
  by_cases hp : coP c ≤ p
  · have : p = coP c := by omega
    subst this
    rw [if_pos (nI_le hp (by omega)), wp_bind]
    refine (sp_takesBack hn g4 h58).mono ?_
    rintro ⟨ci3, cj3⟩ hQ
    dsimp only
    by_cases h0 : a1 = 0
    · rw [if_pos h0, wp_some, if_pos h0]; exact ⟨gb, hQ⟩
    · rw [if_neg h0, wp_some, if_neg h0]; exact ⟨gl, hQ⟩
  · rw [if_neg (nI_ge (by omega) (by omega)), wp_bind, e6_trueOf (by omega), wp_some]
    dsimp only
    have e25 : ci2 1585 (25 + 2 * p) = ci 1585 (25 + 2 * p) := g4.2.2.1 _ (by omega)
    by_cases h0 : ci 1585 (25 + 2 * p) = 0
    · rw [if_pos (show ci2 1585 (25 + 2 * p) = 0 by rw [e25]; exact h0), nI_add]
      refine ih (r - 1) best least (nI (p + 1)) _ _ (by omega) ⟨p + 1, by omega, rfl, ?_, g4⟩
      show _ = if _ then _ else _
      rw [if_neg (fun z => z.1 h0)]; exact g3
    · rw [if_neg (show ¬ ci2 1585 (25 + 2 * p) = 0 by rw [e25]; exact h0)]
      simp (disch := omega) only [nI_add, nI_mulN, nI_cl, jok_t, if_true]
      rw [wp_bind]
      obtain ⟨t1, t2, t3, t4, t5, t6⟩ := g4
      have T3 : TH c ci cj (ju ci2 1585 (25 + 2 * p) (nI 0)) cj2 (upv (ci 1585) (25 + 2 * p) (nI 0)) := by
        refine ⟨by rw [ju_row _ _ (by decide)]; exact t1, fun j hj => by rw [ju_row _ _ (by decide)]; exact t2 j hj, fun j hj => ?_, fun j j1 j2 => by rw [ju_ne2 _ _ (by omega)]; exact t4 j j1 j2, Fr.up t5 (by decide) (by decide), t6⟩
        by_cases e : j = 25 + 2 * p
        · subst e; rw [ju_eq, upv_eq]
        · rw [ju_ne2 _ _ e, upv_ne e]; exact t3 j hj
      refine (sp_yearsT (Y := 999) hn (by omega) hc hm hk T3 (VR_updB hv hc ⟨0, by omega, rfl⟩)).mono ?_
      rintro ⟨ci3, cj3⟩ ⟨q1, q2, q3⟩
      dsimp only at q1 q2 q3 ⊢
      rw [wp_bind]
      refine (sp_triesAnew hn q1).mono ?_
      rintro ⟨ci4, cj4⟩ ⟨w1, w2, w3⟩
      dsimp only at w1 w2 w3 ⊢
      have e60 : ci4 1547 60 = allF c (upv (ci 1585) (25 + 2 * p) (nI 0)) y := (w2.2 60 (by decide)).trans q2
      have upd1 : (best = -1 ∨ allF c (upv (ci 1585) (25 + 2 * p) (nI 0)) y < least) → Wp (fX6_hinge_35 n k (nI y) a1 (nI p) (ci4 1547 60) (nI (p + 1)) ci4 cj4) (fun q => (q.1 = if a1 = 0 then (hin c (ci 1585) y (coP c)).1 else (hin c (ci 1585) y (coP c)).2) ∧ QM ci cj q.2.1 q.2.2) := by
        intro hor
        refine ih (r - 1) _ _ (nI (p + 1)) _ _ (by omega) ⟨p + 1, by omega, rfl, ?_, w1⟩
        show _ = if _ then _ else _
        rw [if_pos ⟨h0, by rw [← gb, ← gl]; exact hor⟩]
        exact Prod.ext rfl e60
      by_cases c1 : best = -1
      · rw [if_pos c1]; exact upd1 (Or.inl c1)
      · rw [if_neg c1]
        by_cases c2 : allF c (upv (ci 1585) (25 + 2 * p) (nI 0)) y < least
        · rw [if_pos (show ci4 1547 60 < least by rw [e60]; exact c2)]; exact upd1 (Or.inr c2)
        · rw [if_neg (show ¬ ci4 1547 60 < least by rw [e60]; exact c2)]
          refine ih (r - 1) best least (nI (p + 1)) _ _ (by omega) ⟨p + 1, by omega, rfl, ?_, w1⟩
          show _ = if _ then _ else _
          rw [if_neg (fun z => z.2.elim (fun a => c1 (gb.trans a)) (fun a => c2 (by rw [gl]; exact a)))]; exact g3
end
section
variable {n : Nat} {c : jCo} {K : jK} {ci ci1 ci2 : jI} {cj cj1 cj2 : jJ} {cr cr1 cr2 : jR} {v w : jV8}
theorem StR.by8 {t p : Nat} {x : Int32} (hc : CR c) (h : StR c K ci cr t w) (hp : p < 10) : StR c K (ju ci (t + 8) p x) cr t (upv w (25 + 2 * p) x) := by
  have hB := hc.1
  have hS := hc.2.2.1
  obtain ⟨⟨s1, s2, s3, s4⟩, f, s5, s6⟩ := h
  refine ⟨⟨?_, fun s hs => ⟨?_, ?_⟩, fun b hb => ⟨?_, ?_, ?_⟩, fun q hq => ⟨?_, ?_⟩⟩, f, s5, ?_⟩
  · rw [ju_row _ _ (by omega), upv_ne (by omega)]; exact s1
  · rw [ju_row _ _ (by omega), upv_ne (by omega)]; exact (s2 s hs).1
  · rw [ju_row _ _ (by omega), upv_ne (by omega)]; exact (s2 s hs).2
  · rw [ju_row _ _ (by omega), upv_ne (by omega)]; exact (s3 b hb).1
  · rw [ju_row _ _ (by omega), upv_ne (by omega)]; exact (s3 b hb).2.1
  · rw [ju_row _ _ (by omega), upv_ne (by omega)]; exact (s3 b hb).2.2
  · by_cases e : q = p
    · subst e; rw [ju_eq, upv_eq]
    · rw [ju_ne2 _ _ e, upv_ne (by omega)]; exact (s4 q hq).1
  · rw [ju_row _ _ (by omega), upv_ne (by omega)]; exact (s4 q hq).2
  · obtain ⟨m, m1, m2, m3, m4⟩ := s6
    refine ⟨m, m1, by rw [upv_ne (by omega)]; exact m2, by rw [ju_row _ _ (by omega)]; exact m3, fun k i hk hi => ?_⟩
    obtain ⟨-, -, -, -, r1, r2⟩ := s5.1 k (by omega)
    rw [ju_row _ _ (by omega), upv_ne (by omega)]; exact m4 k i hk hi
theorem sp0_tookAll (hn : 4000 ≤ n) (hc : CR c) (h : CC n c K ci cj cr) {t : Nat} (ht : isSt t) : fX5_tookAll n t K ci cj cr = some (sg (fun b => ci (t + 5) b) (coB c), ci, cj, cr) := by
  have hB := hc.1
  have key : Wp (fX5_tookAll_4 n t n (nI 0) (nI 0) K ci cj cr) (fun q => q = (sg (fun b => ci (t + 5) b) (coB c), ci, cj, cr)) := by
    refine Wp.loop2 (fun k (a0 a1 : Int32) => fX5_tookAll_4 n t k a0 a1 K ci cj cr) (fun r x => ∃ b, b + r = coB c ∧ x.2 = nI b ∧ x.1 = sg (fun b => ci (t + 5) b) b) _ ?_ n (coB c) (nI 0) (nI 0) (by omega) ⟨0, by omega, rfl, rfl⟩
    rintro k r x l ⟨b, g1, g2, g3⟩ ih
    dsimp only at g2 g3
    subst g2
    rw [fX5_tookAll_4.eq_2, wp_jpb, e0_bays h, wp_some]
    dsimp only
    by_cases hb : coB c ≤ b
    · have : b = coB c := by omega
      subst this
      rw [if_pos (nI_le hb (by omega)), wp_some, g3]
    · rw [if_neg (nI_ge (by omega) (by omega)), if_pos (by rw [jok_t (by omega) (by omega)]; trivial), nI_cl (by omega), nI_add]
      exact ih (r - 1) _ (nI (b + 1)) (by omega) ⟨b + 1, by omega, rfl, by show _ = sg _ b + _; rw [g3]⟩
  obtain ⟨q, k1, k2⟩ := key
  unfold fX5_tookAll
  rw [if_pos ht, k1, k2]
theorem c_hinge (hn : 4000 ≤ n) (h : CI n c K ci cj cr v) (a0 a1 : Int32) : Wp (fX0_hinge n a0 a1 K ci cj cr) (fun q => q.1 = aHinge c v a0 a1 ∧ QK K ci cj cr q.2.1 q.2.2.1 q.2.2.2) := by
  have hc := h.1
  have hP := hc.2.1
  have hv := h.2.2.2.2.1
  unfold fX0_hinge fX0_hinge_20 aHinge
  rw [wp_jpb, e0_isAhead, wp_some, h.y0]
  dsimp only
  by_cases h1 : iah (v 0) a0 1 40
  rotate_left
  · rw [if_neg h1, if_pos z00, wp_some, if_neg (fun z => h1 z.1)]
    exact ⟨rfl, h.qk⟩
  rw [if_pos h1, if_neg n10, wp_jpb, e0_is, wp_some]
  dsimp only
  by_cases h2 : nI 0 ≤ a1 ∧ a1 ≤ nI 1
  rotate_left
  · rw [if_neg h2, if_pos z00, wp_some, if_neg (fun z => h2 z.2)]
    exact ⟨rfl, h.qk⟩
  rw [if_pos h2, if_neg n10, if_pos ⟨h1, h2⟩]
  obtain ⟨y, k0, k1, k2, -⟩ := iah_ex hv.1 (by omega) (by omega) (by omega) h1
  subst k2
  rw [nI_cl (by omega)]
  have hF : (100000000 : Int32) = nI 100000000 := rfl
  refine Wp.loop6 (fun k (a2 a3 a4 : Int32) (a5 : jI) (a6 : jJ) (a7 : jR) => fX0_hinge_32 n k (nI y) a1 a2 a3 a4 K a5 a6 a7) (fun r x => ∃ p, p + r = coP c ∧ x.2.2.1 = nI p ∧ x.1 = (hin c v y p).1 ∧ x.2.1 = (if (hin c v y p).1 = -1 then 100000000 else (hin c v y p).2) ∧ QK K ci cj cr x.2.2.2.1 x.2.2.2.2.1 x.2.2.2.2.2) _ ?_ n (coP c) (-1) 100000000 (nI 0) ci cj cr (by omega) ⟨0, by omega, rfl, rfl, rfl, h.qk⟩
  rintro k r best least l ci2 cj2 cr2 ⟨p, g1, g2, g3, g3', g4⟩ ih
  dsimp only at g2 g3 g3' g4
  subst g2
  have h2' := h.qk' g4
  rw [fX0_hinge_32.eq_2, wp_jpb, e0_pairs h2'.2.2.1, wp_some]
  dsimp only
  by_cases hp : coP c ≤ p
  · have : p = coP c := by omega
    subst this
    unfold fX0_hinge_145 fX0_hinge_151
    rw [if_pos (nI_le hp (by omega))]
    by_cases c1 : best = -1
    · rw [if_pos c1, wp_some]
      refine ⟨?_, g4⟩
      have hl : ∀ q, q ≤ 10 → (hin c v y q).1 = -1 → (hin c v y q).2 = -1 := by
        intro q
        induction q with
        | zero => exact fun _ _ => rfl
        | succ q ihq =>
          intro hq
          unfold hin
          split
          · exact fun e => absurd e (nI_nm1 (by omega))
          · exact ihq (by omega)
      by_cases c0 : a1 = 0
      · rw [if_pos c0, c1]; rw [← c1, g3]
      · rw [if_neg c0, hl _ (by omega) (by rw [← g3]; exact c1)]; exact c1
    · rw [if_neg c1]
      by_cases c0 : a1 = 0
      · rw [if_pos c0, wp_some, if_pos c0]; exact ⟨g3, g4⟩
      · rw [if_neg c0, wp_some, if_neg c0]
        exact ⟨by rw [g3', if_neg (by rw [← g3]; exact c1)], g4⟩
  · rw [if_neg (nI_ge (by omega) (by omega)), if_pos (by rw [jok_t (by omega) (by omega)]; trivial)]
    have e24 : ci2 (16 + 8) (nI p).toNatClampNeg = v (25 + 2 * p) := by rw [nI_cl (by omega)]; exact (h2'.2.2.2.1.1.2.2.2 p (by omega)).1
    by_cases h0 : v (25 + 2 * p) = 0
    · rw [if_pos (show ci2 (16 + 8) (nI p).toNatClampNeg = 0 by rw [e24]; exact h0)]
      unfold fX0_hinge_130
      rw [nI_add]
      have e : hin c v y (p + 1) = hin c v y p := by
        show (if _ then _ else _) = _
        rw [if_neg (fun z => z.1 h0)]
      exact ih (r - 1) best least (nI (p + 1)) _ _ _ (by omega) ⟨p + 1, by omega, rfl, by rw [e]; exact g3, by rw [e]; exact g3', g4⟩
    · rw [if_neg (show ¬ ci2 (16 + 8) (nI p).toNatClampNeg = 0 by rw [e24]; exact h0), wp_jpb]
      refine (sp_triesQ hn h g4).mono ?_
      rintro ⟨x, ci3, cj3, cr3⟩ ⟨q1, q2, -, q3⟩
      dsimp only at q1 q2 q3 ⊢
      subst q1
      have hC3 := h.2.1.qk q3
      rw [if_pos ⟨sk0 hC3 is68, sl0 hC3 is68⟩, wp_bind, sr8 hC3 is68, wp_some, if_pos ⟨sk8 hC3 is68, sl8 hC3 is68⟩, sn8 hC3 is68, if_pos (by rw [jok_t (by omega) (by omega)]; trivial), nI_cl (by omega)]
      have S4 := q2.by8 (p := p) (x := nI 0) hc (by omega)
      have Q4 := q3.up (i := 68 + 8) (k := p) (x := nI 0) (by omega)
      generalize hw : upv v (25 + 2 * p) (nI 0) = w at S4
      have hwv : VR c w 999 := by rw [← hw]; exact VR_updB hv hc ⟨0, by omega, rfl⟩
      refine Wp.loop5 (fun k' (a2 a3 : Int32) (a5 : jI) (a6 : jJ) (a7 : jR) => fX0_hinge_81 n (fX0_hinge_32 n k) k' (nI y) a1 best least (nI p) a2 a3 K a5 a6 a7) (fun r x => ∃ i, i + r = y ∧ x.2.1 = nI i ∧ x.1 = allF c w i ∧ StR c K x.2.2.1 x.2.2.2.2 68 (goFN c w i) ∧ QK K ci cj cr x.2.2.1 x.2.2.2.1 x.2.2.2.2) _ ?_ n y (nI 0) (nI 0) _ _ _ (by omega) ⟨0, by omega, rfl, rfl, S4, Q4⟩
      rintro k' r' x l ci5 cj5 cr5 ⟨i, w1, w2, w3, w4, w5⟩ ih2
      dsimp only at w2 w3 w4 w5
      subst w2
      rw [fX0_hinge_81.eq_2]
      by_cases hi : y ≤ i
      · have : i = y := by omega
        subst this
        rw [if_pos (nI_le hi (by omega))]
        unfold fX0_hinge_130
        rw [nI_add]
        obtain ⟨a, a1', a2'⟩ := allF_rg (c := c) (v := w) (k := i) hc (by omega)
        by_cases c1 : best = -1
        · have el : least = 100000000 := by rw [g3', if_pos (by rw [← g3]; exact c1)]
          rw [if_pos (show x < least by rw [w3, a2', el, hF]; exact nI_lt (by omega) (by omega))]
          have e : hin c v i (p + 1) = (nI p, allF c w i) := by
            show (if _ then _ else _) = _
            rw [if_pos ⟨h0, Or.inl (by rw [← g3]; exact c1)⟩, hw]
          exact ih (r - 1) _ _ (nI (p + 1)) _ _ _ (by omega) ⟨p + 1, by omega, rfl, by rw [e], by rw [e, if_neg (nI_nm1 (by omega))]; exact w3, w5⟩
        · have el : least = (hin c v i p).2 := by rw [g3', if_neg (by rw [← g3]; exact c1)]
          by_cases c2 : x < least
          · rw [if_pos c2]
            have e : hin c v i (p + 1) = (nI p, allF c w i) := by
              show (if _ then _ else _) = _
              rw [hw, if_pos ⟨h0, Or.inr (by rw [← el, ← w3]; exact c2)⟩]
            exact ih (r - 1) _ _ (nI (p + 1)) _ _ _ (by omega) ⟨p + 1, by omega, rfl, by rw [e], by rw [e, if_neg (nI_nm1 (by omega))]; exact w3, w5⟩
          · rw [if_neg c2]
            have e : hin c v i (p + 1) = hin c v i p := by
              show (if _ then _ else _) = _
              rw [hw, if_neg (fun z => z.2.elim (fun a => c1 (g3.trans a)) (fun a => c2 (by rw [el, w3]; exact a)))]
            exact ih (r - 1) best least (nI (p + 1)) _ _ _ (by omega) ⟨p + 1, by omega, rfl, by rw [e]; exact g3, by rw [e]; exact g3', w5⟩
      · rw [if_neg (nI_ge (by omega) (by omega)), wp_jpb]
        refine (sp_goesQ hn h w5 w4 (VR_goFN hc hwv i)).mono ?_
        rintro ⟨z, ci6, cj6, cr6⟩ ⟨p1, p2, p3, p4⟩
        dsimp only at p1 p2 p3 p4 ⊢
        rw [wp_jpb, sp0_tookAll hn hc (h.2.2.1.qk p4) is68, wp_some]
        dsimp only
        rw [nI_add]
        refine ih2 (r' - 1) _ (nI (i + 1)) _ _ _ (by omega) ⟨i + 1, by omega, rfl, ?_, p2, p4⟩
        show x + _ = allF c w i + fsh c (goN c w i) (coS c)
        rw [w3, ← tks_fsh hc]
        congr 1
        refine sg_congr (fun b hb => ?_)
        refine ((p2.1.2.2.1 b hb).2.1).trans ((goFN_45 hc w (i + 1) _ (by have := hc.1; omega)).trans ?_)
        show goV c (goN c w i) (8 + 3 * b) = _
        rw [goV_t hb (by have := hc.1; omega)]; rfl
end
