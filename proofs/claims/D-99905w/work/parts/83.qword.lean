/-! WHICH WORD IS HERE -/
set_option maxRecDepth 100000
def wix (tk : Nat) (w : List Nat) : Int32 := if tk = 4 ∧ w = wVows then nI 11 else if tk = 4 ∧ w = wCaught then nI 12 else if fnd w pWs < 11 then nI (fnd w pWs) else -1
section
variable {n : Nat} {t : jTx} {ci : jI} {cj : jJ}
theorem ML.tk {a : Nat} {d d' : jI} {tk : Nat} (g : Fr [] [2] d d') (h : d 1547 49 = nI tk) : d' 1547 49 = nI tk := (g.2 49 (by decide)).trans h
theorem hasW_ne {p : Nat} {w : List Nat} (hl : isL (cAt t (sk t p)) ∧ ¬ pt t (sk t p)) (h : ¬ hasW t p w) : ¬ w = wd t (sk t p) := fun e => h ⟨hl.1, hl.2, e.symm⟩
theorem sp6_qWH3 (hn : 4000 ≤ n) (hT : TXok t) {p tk : Nat} {d : jI} {j : jJ} (htk : tk ≤ 4) (h : ML t d (sk t p)) (hW : WO d) (n0 : ¬ hasW t p [104, 117, 110, 103, 101, 114]) (n1 : ¬ hasW t p [121, 101, 97, 114]) (n3 : ¬ hasW t p [108, 97, 116, 101]) (n4 : ¬ hasW t p [102, 97, 114]) (n5 : ¬ hasW t p [115, 105, 122, 101]) (nv : tk < 4 → ¬ hasW t p [118, 111, 119, 115]) (nc : tk < 4 → ¬ hasW t p [99, 97, 117, 103, 104, 116]) : Wp (fX6_qWordHere_108 n d j) (fun q => q.1 = (if isL (cAt t (sk t p)) ∧ ¬ pt t (sk t p) then wix tk (wd t (sk t p)) else -1) ∧ ML t q.2.1 (sk t p) ∧ Fr [] [2] d q.2.1 ∧ q.2.2 = j) := by
  unfold fX6_qWordHere_108
  refine own_step hn hT h hW (1614, [116, 114, 117, 101]) (by decide) (fun z d' m' f' => ?_) (fun z0 d0 m0 f0 => ?_)
  · dsimp only; rw [if_neg n10, wp_some]; exact ⟨by dsimp only; rw [if_pos ⟨z.1, z.2.1⟩, z.2.2]; unfold wix; rw [if_neg (fun y => absurd y.2 (by decide)), if_neg (fun y => absurd y.2 (by decide))]; decide, m', (Fr.rfl' : Fr [] [2] d d).tr f', rfl⟩
  dsimp only
  rw [if_pos z00]
  have g0 : Fr [] [2] d d0 := (Fr.rfl' : Fr [] [2] d d).tr f0
  have w0 : WO d0 := hW.fr g0 wtab_nil
  refine own_step hn hT m0 w0 (1615, [115, 105, 110, 99, 101]) (by decide) (fun z d' m' f' => ?_) (fun z1 d1 m1 f1 => ?_)
  · dsimp only; rw [if_neg n10, wp_some]; exact ⟨by dsimp only; rw [if_pos ⟨z.1, z.2.1⟩, z.2.2]; unfold wix; rw [if_neg (fun y => absurd y.2 (by decide)), if_neg (fun y => absurd y.2 (by decide))]; decide, m', g0.tr f', rfl⟩
  dsimp only
  rw [if_pos z00]
  have g1 : Fr [] [2] d d1 := g0.tr f1
  have w1 : WO d1 := hW.fr g1 wtab_nil
  refine own_step hn hT m1 w1 (1616, [110, 117, 109, 98, 101, 114]) (by decide) (fun z d' m' f' => ?_) (fun z2 d2 m2 f2 => ?_)
  · dsimp only; rw [if_neg n10, wp_some]; exact ⟨by dsimp only; rw [if_pos ⟨z.1, z.2.1⟩, z.2.2]; unfold wix; rw [if_neg (fun y => absurd y.2 (by decide)), if_neg (fun y => absurd y.2 (by decide))]; decide, m', g1.tr f', rfl⟩
  dsimp only
  rw [if_pos z00]
  have g2 : Fr [] [2] d d2 := g1.tr f2
  have w2 : WO d2 := hW.fr g2 wtab_nil
  refine own_step hn hT m2 w2 (1617, [112, 108, 97, 99, 101]) (by decide) (fun z d' m' f' => ?_) (fun z3 d3 m3 f3 => ?_)
  · dsimp only; rw [if_neg n10, wp_some]; exact ⟨by dsimp only; rw [if_pos ⟨z.1, z.2.1⟩, z.2.2]; unfold wix; rw [if_neg (fun y => absurd y.2 (by decide)), if_neg (fun y => absurd y.2 (by decide))]; decide, m', g2.tr f', rfl⟩
  dsimp only
  rw [if_pos z00]
  have g3 : Fr [] [2] d d3 := g2.tr f3
  have w3 : WO d3 := hW.fr g3 wtab_nil
  refine own_step hn hT m3 w3 (1618, [118, 111, 119, 115]) (by decide) (fun z d' m' f' => ?_) (fun z4 d4 m4 f4 => ?_)
  · have e4 : tk = 4 := by
      by_cases e : tk < 4
      · exact absurd z (nv e)
      · omega
    dsimp only; rw [if_neg n10, wp_some]; exact ⟨by dsimp only; rw [if_pos ⟨z.1, z.2.1⟩, z.2.2]; unfold wix; rw [if_pos ⟨e4, rfl⟩], m', g3.tr f', rfl⟩
  dsimp only
  rw [if_pos z00]
  have g4 : Fr [] [2] d d4 := g3.tr f4
  have w4 : WO d4 := hW.fr g4 wtab_nil
  refine own_step hn hT m4 w4 (1619, [99, 97, 117, 103, 104, 116]) (by decide) (fun z d' m' f' => ?_) (fun z5 d5 m5 f5 => ?_)
  · have e4 : tk = 4 := by
      by_cases e : tk < 4
      · exact absurd z (nc e)
      · omega
    dsimp only; rw [if_neg n10, wp_some]; exact ⟨by dsimp only; rw [if_pos ⟨z.1, z.2.1⟩, z.2.2]; unfold wix; rw [if_neg (fun y => absurd y.2 (by decide)), if_pos ⟨e4, rfl⟩], m', g4.tr f', rfl⟩
  dsimp only
  rw [if_pos z00]
  have g5 : Fr [] [2] d d5 := g4.tr f5
  have w5 : WO d5 := hW.fr g5 wtab_nil
  rw [wp_some]
  refine ⟨?_, m5, g5, rfl⟩
  dsimp only
  by_cases hl : isL (cAt t (sk t p)) ∧ ¬ pt t (sk t p)
  · rw [if_pos hl]
    have nn : ∀ w, ¬ hasW t p w → ¬ wd t (sk t p) = w := fun w h e => h ⟨hl.1, hl.2, e⟩
    unfold wix
    rw [if_neg (fun y => nn _ z4 y.2), if_neg (fun y => nn _ z5 y.2)]
    have e : fnd (wd t (sk t p)) pWs = 11 := by
      unfold pWs fnd
      rw [if_neg (hasW_ne hl n0)]; unfold fnd; rw [if_neg (hasW_ne hl n1)]; unfold fnd; rw [if_neg (hasW_ne hl z4)]; unfold fnd; rw [if_neg (hasW_ne hl n3)]; unfold fnd; rw [if_neg (hasW_ne hl n4)]; unfold fnd; rw [if_neg (hasW_ne hl n5)]; unfold fnd; rw [if_neg (hasW_ne hl z5)]; unfold fnd; rw [if_neg (hasW_ne hl z0)]; unfold fnd; rw [if_neg (hasW_ne hl z1)]; unfold fnd; rw [if_neg (hasW_ne hl z2)]; unfold fnd; rw [if_neg (hasW_ne hl z3)]; rfl
    rw [e, if_neg (by omega)]
  · rw [if_neg hl]
theorem sp6_qWH2 (hn : 4000 ≤ n) (hT : TXok t) {p tk : Nat} {d : jI} {j : jJ} (htk : tk ≤ 4) (h49 : d 1547 49 = nI tk) (h : ML t d (sk t p)) (hW : WO d) (n0 : ¬ hasW t p [104, 117, 110, 103, 101, 114]) (n1 : ¬ hasW t p [121, 101, 97, 114]) (nv : tk < 4 → ¬ hasW t p [118, 111, 119, 115]) : Wp (fX6_qWordHere_47 n d j) (fun q => q.1 = (if isL (cAt t (sk t p)) ∧ ¬ pt t (sk t p) then wix tk (wd t (sk t p)) else -1) ∧ ML t q.2.1 (sk t p) ∧ Fr [] [2] d q.2.1 ∧ q.2.2 = j) := by
  unfold fX6_qWordHere_47
  refine own_step hn hT h hW (1610, [108, 97, 116, 101]) (by decide) (fun z d' m' f' => ?_) (fun z0 d0 m0 f0 => ?_)
  · dsimp only; rw [if_neg n10, wp_some]; exact ⟨by dsimp only; rw [if_pos ⟨z.1, z.2.1⟩, z.2.2]; unfold wix; rw [if_neg (fun y => absurd y.2 (by decide)), if_neg (fun y => absurd y.2 (by decide))]; decide, m', (Fr.rfl' : Fr [] [2] d d).tr f', rfl⟩
  dsimp only
  rw [if_pos z00]
  have g0 : Fr [] [2] d d0 := (Fr.rfl' : Fr [] [2] d d).tr f0
  have w0 : WO d0 := hW.fr g0 wtab_nil
  refine own_step hn hT m0 w0 (1611, [102, 97, 114]) (by decide) (fun z d' m' f' => ?_) (fun z1 d1 m1 f1 => ?_)
  · dsimp only; rw [if_neg n10, wp_some]; exact ⟨by dsimp only; rw [if_pos ⟨z.1, z.2.1⟩, z.2.2]; unfold wix; rw [if_neg (fun y => absurd y.2 (by decide)), if_neg (fun y => absurd y.2 (by decide))]; decide, m', g0.tr f', rfl⟩
  dsimp only
  rw [if_pos z00]
  have g1 : Fr [] [2] d d1 := g0.tr f1
  have w1 : WO d1 := hW.fr g1 wtab_nil
  refine own_step hn hT m1 w1 (1612, [115, 105, 122, 101]) (by decide) (fun z d' m' f' => ?_) (fun z2 d2 m2 f2 => ?_)
  · dsimp only; rw [if_neg n10, wp_some]; exact ⟨by dsimp only; rw [if_pos ⟨z.1, z.2.1⟩, z.2.2]; unfold wix; rw [if_neg (fun y => absurd y.2 (by decide)), if_neg (fun y => absurd y.2 (by decide))]; decide, m', g1.tr f', rfl⟩
  dsimp only
  rw [if_pos z00]
  have g2 : Fr [] [2] d d2 := g1.tr f2
  have w2 : WO d2 := hW.fr g2 wtab_nil
  have e49 : d2 1547 49 = nI tk := ML.tk (a := 0) g2 h49
  by_cases e : 4 ≤ tk
  · rw [if_pos (show nI 4 ≤ d2 1547 49 by rw [e49]; exact nI_le e (by omega))]
    refine (sp6_qWH3 hn hT htk m2 w2 n0 n1 z0 z1 z2 nv (fun y => by omega)).mono ?_
    rintro q ⟨q1, q2, q3, q4⟩
    exact ⟨q1, q2, g2.tr q3, q4⟩
  rw [if_neg (show ¬ nI 4 ≤ d2 1547 49 by rw [e49]; exact nI_ge (by omega) (by omega))]
  refine own_step hn hT m2 w2 (1613, [99, 97, 117, 103, 104, 116]) (by decide) (fun z d' m' f' => ?_) (fun z3 d3 m3 f3 => ?_)
  · dsimp only; rw [if_neg n10, wp_some]; exact ⟨by dsimp only; rw [if_pos ⟨z.1, z.2.1⟩, z.2.2]; unfold wix; rw [if_neg (fun y => by omega), if_neg (fun y => by omega)]; decide, m', g2.tr f', rfl⟩
  dsimp only
  rw [if_pos z00]
  have g3 : Fr [] [2] d d3 := g2.tr f3
  refine (sp6_qWH3 hn hT htk m3 (hW.fr g3 wtab_nil) n0 n1 z0 z1 z2 nv (fun _ => z3)).mono ?_
  rintro q ⟨q1, q2, q3, q4⟩
  exact ⟨q1, q2, g3.tr q3, q4⟩
theorem sp6_qWordHere (hn : 4000 ≤ n) (hT : TXok t) {p tk : Nat} {d : jI} {j : jJ} (htk : tk ≤ 4) (h49 : d 1547 49 = nI tk) (h : ML t d (sk t p)) (hW : WO d) : Wp (fX6_qWordHere n d j) (fun q => q.1 = (if isL (cAt t (sk t p)) ∧ ¬ pt t (sk t p) then wix tk (wd t (sk t p)) else -1) ∧ ML t q.2.1 (sk t p) ∧ Fr [] [2] d q.2.1 ∧ q.2.2 = j) := by
  unfold fX6_qWordHere
  refine own_step hn hT h hW (1607, [104, 117, 110, 103, 101, 114]) (by decide) (fun z d' m' f' => ?_) (fun z0 d0 m0 f0 => ?_)
  · dsimp only; rw [if_neg n10, wp_some]; exact ⟨by dsimp only; rw [if_pos ⟨z.1, z.2.1⟩, z.2.2]; unfold wix; rw [if_neg (fun y => absurd y.2 (by decide)), if_neg (fun y => absurd y.2 (by decide))]; decide, m', (Fr.rfl' : Fr [] [2] d d).tr f', rfl⟩
  dsimp only
  rw [if_pos z00]
  have g0 : Fr [] [2] d d0 := (Fr.rfl' : Fr [] [2] d d).tr f0
  have w0 : WO d0 := hW.fr g0 wtab_nil
  refine own_step hn hT m0 w0 (1608, [121, 101, 97, 114]) (by decide) (fun z d' m' f' => ?_) (fun z1 d1 m1 f1 => ?_)
  · dsimp only; rw [if_neg n10, wp_some]; exact ⟨by dsimp only; rw [if_pos ⟨z.1, z.2.1⟩, z.2.2]; unfold wix; rw [if_neg (fun y => absurd y.2 (by decide)), if_neg (fun y => absurd y.2 (by decide))]; decide, m', g0.tr f', rfl⟩
  dsimp only
  rw [if_pos z00]
  have g1 : Fr [] [2] d d1 := g0.tr f1
  have w1 : WO d1 := hW.fr g1 wtab_nil
  have e49 : d1 1547 49 = nI tk := ML.tk (a := 0) g1 h49
  by_cases e : 4 ≤ tk
  · rw [if_pos (show nI 4 ≤ d1 1547 49 by rw [e49]; exact nI_le e (by omega))]
    refine (sp6_qWH2 hn hT htk (ML.tk (a := 0) g1 h49) m1 w1 z0 z1 (fun y => by omega)).mono ?_
    rintro q ⟨q1, q2, q3, q4⟩
    exact ⟨q1, q2, g1.tr q3, q4⟩
  rw [if_neg (show ¬ nI 4 ≤ d1 1547 49 by rw [e49]; exact nI_ge (by omega) (by omega))]
  refine own_step hn hT m1 w1 (1609, [118, 111, 119, 115]) (by decide) (fun z d' m' f' => ?_) (fun z2 d2 m2 f2 => ?_)
  · dsimp only; rw [if_neg n10, wp_some]; exact ⟨by dsimp only; rw [if_pos ⟨z.1, z.2.1⟩, z.2.2]; unfold wix; rw [if_neg (fun y => by omega), if_neg (fun y => by omega)]; decide, m', g1.tr f', rfl⟩
  dsimp only
  rw [if_pos z00]
  have g2 : Fr [] [2] d d2 := g1.tr f2
  refine (sp6_qWH2 hn hT htk (ML.tk (a := 0) g2 h49) m2 (hW.fr g2 wtab_nil) z0 z1 (fun _ => z2)).mono ?_
  rintro q ⟨q1, q2, q3, q4⟩
  exact ⟨q1, q2, g2.tr q3, q4⟩
theorem e6_isAllowed {tk k : Nat} (htk : tk ≤ 4) (hk : k ≤ 20) (h49 : ci 1547 49 = nI tk) : fX6_isAllowed n (nI k) ci cj = some (if alw tk k = true then nI 1 else nI 0, ci, cj) := by
  unfold fX6_isAllowed fX6_isAllowed_47 fX6_isAllowed_67 fX6_isAllowed_72 fX6_isAllowed_84 fX6_isAllowed_89 fX6_isAllowed_109 fX6_isAllowed_114 fX6_isAllowed_126 fX6_isAllowed_131
  simp only [e6_isIn, Option.bind_some, if_pos bt0, if_pos bt1, h49]
  have c68 : ((6 : Int64) ≤ (nI k).toInt64 ∧ (nI k).toInt64 ≤ (8 : Int64)) ↔ (6 ≤ k ∧ k ≤ 8) := by
    rw [nI_L (by omega), show (6 : Int64) = lN 6 from rfl, show (8 : Int64) = lN 8 from rfl, lN_leN (by omega) (by omega), lN_leN (by omega) (by omega)]
  have c78 : ((7 : Int64) ≤ (nI k).toInt64 ∧ (nI k).toInt64 ≤ (8 : Int64)) ↔ (7 ≤ k ∧ k ≤ 8) := by
    rw [nI_L (by omega), show (7 : Int64) = lN 7 from rfl, show (8 : Int64) = lN 8 from rfl, lN_leN (by omega) (by omega), lN_leN (by omega) (by omega)]
  simp only [c68, c78]
  simp (disch := omega) only [nI_eqN, nI_leN, nI_ltN]
  unfold alw
  have : tk = 0 ∨ tk = 1 ∨ tk = 2 ∨ tk = 3 ∨ tk = 4 := by omega
  rcases this with e | e | e | e | e <;> subst e <;> simp only [if_true, if_false, decide_eq_true_eq, reduceIte, Nat.reduceEqDiff]
  · by_cases h1 : 6 ≤ k
    · rw [if_pos h1, if_neg (by omega)]
    · rw [if_neg h1, if_pos (by omega)]
  · by_cases h1 : k < 3
    · rw [if_pos h1, if_pos (by omega)]
    · rw [if_neg h1]
      by_cases h2 : 6 ≤ k ∧ k ≤ 8
      · rw [if_pos h2, if_neg n10, if_pos (by omega)]
      · rw [if_neg h2, if_pos z00, if_neg (by omega)]
  · by_cases h1 : k < 3
    · rw [if_pos h1, if_pos (by omega)]
    · rw [if_neg h1]
      by_cases h2 : k = 6
      · rw [if_pos h2, if_pos (by omega)]
      · rw [if_neg h2, if_neg (by omega)]
  · by_cases h1 : k < 2
    · rw [if_pos h1, if_pos (by omega)]
    · rw [if_neg h1]
      by_cases h2 : 7 ≤ k ∧ k ≤ 8
      · rw [if_pos h2, if_neg n10, if_pos (by omega)]
      · rw [if_neg h2, if_pos z00, if_neg (by omega)]
  · by_cases h1 : k < 2
    · rw [if_pos h1, if_pos (by omega)]
    · rw [if_neg h1]
      by_cases h2 : k ≤ 6
      · rw [if_pos h2, if_neg (by omega)]
      · rw [if_neg h2, if_pos (by omega)]
end
