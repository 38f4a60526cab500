/-! WHICH PART IS HERE -/
set_option maxRecDepth 100000
abbrev hL (t : jTx) (p : Nat) : Prop := isL (cAt t (sk t p)) ∧ ¬ pt t (sk t p)
def wpt (t : jTx) (tk p : Nat) : Int32 := if hL t p ∧ isPart tk (wd t (sk t p)) then nI (fnd (wd t (sk t p)) pWs) else -1
def wof (t : jTx) (tk p : Nat) : Int32 := if hL t p ∧ tk = 4 ∧ wd t (sk t p) = wVows then nI 11 else if hL t p ∧ tk = 4 ∧ wd t (sk t p) = wCaught then nI 12 else -1
theorem fnd_v : fnd wVows pWs = 2 := by decide
theorem fnd_c : fnd wCaught pWs = 6 := by decide
section
variable {n : Nat} {t : jTx} {ci : jI} {cj : jJ}
theorem sp6_wpt (hn : 4000 ≤ n) (hT : TXok t) {p tk : Nat} {d : jI} {j : jJ} (htk : tk ≤ 4) (h49 : d 1547 49 = nI tk) (h : ML t d (sk t p)) (hW : WO d) : Wp (fX6_qWordOf n (nI 0) (nI 11) d j) (fun q => q.1 = wpt t tk p ∧ ML t q.2.1 (sk t p) ∧ Fr [] [2] d q.2.1 ∧ q.2.2 = j) := by
  unfold fX6_qWordOf fX6_qWordOf_27 fX6_qWordOf_28
  rw [wp_bind]
  refine (sp6_qWordHere hn hT htk h49 h hW).mono ?_
  rintro ⟨x, d1, j1⟩ ⟨q1, q2, q3, q4⟩
  dsimp only at q1 q2 q3 q4 ⊢
  subst q4
  have e49 : d1 1547 49 = nI tk := ML.tk (a := 0) q3 h49
  unfold wpt
  by_cases hl : hL t p
  rotate_left
  · rw [if_neg hl] at q1
    rw [q1, if_pos (by decide), wp_some, if_neg (fun z => hl z.1)]
    exact ⟨rfl, q2, q3, rfl⟩
  rw [if_pos hl] at q1
  unfold wix at q1
  by_cases h1 : tk = 4 ∧ wd t (sk t p) = wVows
  · rw [if_pos h1] at q1
    rw [q1, if_neg (by decide), if_pos (by decide), wp_some, if_neg (fun z => by have z2 := z.2.2; rw [h1.2, fnd_v, h1.1] at z2; exact absurd z2 (by decide))]
    exact ⟨rfl, q2, q3, rfl⟩
  rw [if_neg h1] at q1
  by_cases h2 : tk = 4 ∧ wd t (sk t p) = wCaught
  · rw [if_pos h2] at q1
    rw [q1, if_neg (by decide), if_pos (by decide), wp_some, if_neg (fun z => by have z2 := z.2.2; rw [h2.2, fnd_c, h2.1] at z2; exact absurd z2 (by decide))]
    exact ⟨rfl, q2, q3, rfl⟩
  rw [if_neg h2] at q1
  by_cases h3 : fnd (wd t (sk t p)) pWs < 11
  · rw [if_pos h3] at q1
    rw [q1, if_neg (nI_nlt (by omega) (by omega)), if_neg (nI_ge (by omega) (by omega)), wp_bind, e6_isAllowed htk (by omega) e49, wp_some]
    dsimp only
    by_cases h4 : alw tk (fnd (wd t (sk t p)) pWs) = true
    · rw [if_pos h4, if_neg n10, wp_some, if_pos (show hL t p ∧ isPart tk (wd t (sk t p)) from ⟨hl, h3, h4⟩)]; exact ⟨rfl, q2, q3, rfl⟩
    · rw [if_neg h4, if_pos z00, wp_some, if_neg (show ¬ (hL t p ∧ isPart tk (wd t (sk t p))) from fun z => h4 z.2.2)]; exact ⟨rfl, q2, q3, rfl⟩
  · rw [if_neg h3] at q1
    rw [q1, if_pos (by decide), wp_some, if_neg (fun z => h3 z.2.1)]
    exact ⟨rfl, q2, q3, rfl⟩
theorem sp6_wof (hn : 4000 ≤ n) (hT : TXok t) {p tk : Nat} {d : jI} {j : jJ} (htk : tk ≤ 4) (h49 : d 1547 49 = nI tk) (h : ML t d (sk t p)) (hW : WO d) : Wp (fX6_qWordOf n (nI 11) (nI 13) d j) (fun q => q.1 = wof t tk p ∧ ML t q.2.1 (sk t p) ∧ Fr [] [2] d q.2.1 ∧ q.2.2 = j) := by
  unfold fX6_qWordOf fX6_qWordOf_27 fX6_qWordOf_28
  rw [wp_bind]
  refine (sp6_qWordHere hn hT htk h49 h hW).mono ?_
  rintro ⟨x, d1, j1⟩ ⟨q1, q2, q3, q4⟩
  dsimp only at q1 q2 q3 q4 ⊢
  subst q4
  have e49 : d1 1547 49 = nI tk := ML.tk (a := 0) q3 h49
  unfold wof
  by_cases hl : hL t p
  rotate_left
  · rw [if_neg hl] at q1
    rw [q1, if_pos (by decide), wp_some, if_neg (fun z => hl z.1), if_neg (fun z => hl z.1)]
    exact ⟨rfl, q2, q3, rfl⟩
  rw [if_pos hl] at q1
  unfold wix at q1
  by_cases h1 : tk = 4 ∧ wd t (sk t p) = wVows
  · rw [if_pos h1] at q1
    rw [q1, if_neg (by decide), if_neg (by decide), wp_bind, e6_isAllowed htk (by omega) e49, wp_some, if_pos (show alw tk 11 = true by rw [h1.1]; rfl)]
    dsimp only
    rw [if_neg n10, wp_some, if_pos (show hL t p ∧ tk = 4 ∧ wd t (sk t p) = wVows from ⟨hl, h1⟩)]
    exact ⟨rfl, q2, q3, rfl⟩
  rw [if_neg h1] at q1
  by_cases h2 : tk = 4 ∧ wd t (sk t p) = wCaught
  · rw [if_pos h2] at q1
    rw [q1, if_neg (by decide), if_neg (by decide), wp_bind, e6_isAllowed htk (by omega) e49, wp_some, if_pos (show alw tk 12 = true by rw [h2.1]; rfl)]
    dsimp only
    rw [if_neg n10, wp_some, if_neg (show ¬ (hL t p ∧ tk = 4 ∧ wd t (sk t p) = wVows) from fun z => h1 z.2), if_pos (show hL t p ∧ tk = 4 ∧ wd t (sk t p) = wCaught from ⟨hl, h2⟩)]
    exact ⟨rfl, q2, q3, rfl⟩
  rw [if_neg h2] at q1
  rw [if_neg (show ¬ (hL t p ∧ tk = 4 ∧ wd t (sk t p) = wVows) from fun z => h1 z.2), if_neg (show ¬ (hL t p ∧ tk = 4 ∧ wd t (sk t p) = wCaught) from fun z => h2 z.2)]
  by_cases h3 : fnd (wd t (sk t p)) pWs < 11
  · rw [if_pos h3] at q1
    rw [q1, if_pos (nI_lt (by omega) (by omega)), wp_some]; exact ⟨rfl, q2, q3, rfl⟩
  · rw [if_neg h3] at q1
    rw [q1, if_pos (by decide), wp_some]; exact ⟨rfl, q2, q3, rfl⟩
theorem sp6_qAsksWord (hn : 4000 ≤ n) (hT : TXok t) {p k : Nat} {w : List Nat} (h : MN t ci p) (hW : WO ci) (hk : k < 13) (hw : (1607 + k, w) ∈ wtab) (hh : hasW t p w) : Wp (fX6_qAsksWord n (nI k) ci cj) (fun q => ML t q.1 (sk t p + w.length) ∧ Fr [] [2, 4, 5, 6] ci q.1 ∧ q.2 = cj) := by
  have key : Wp (Option.bind (fX6_asks n (1607 + k) ci cj) (fun q2 => some (q2.1, q2.2))) (fun q => ML t q.1 (sk t p + w.length) ∧ Fr [] [2, 4, 5, 6] ci q.1 ∧ q.2 = cj) := by
    rw [wp_bind]
    refine (sp6_asks hn hT h hW hw).mono ?_
    rintro ⟨d, j⟩ ⟨q1, q2, q3, q4⟩
    rw [wp_some]
    exact ⟨q1 hh, q3, q4⟩
  unfold fX6_qAsksWord fX6_qAsksWord_204
  have : k = 0 ∨ k = 1 ∨ k = 2 ∨ k = 3 ∨ k = 4 ∨ k = 5 ∨ k = 6 ∨ k = 7 ∨ k = 8 ∨ k = 9 ∨ k = 10 ∨ k = 11 ∨ k = 12 := by omega
  rcases this with e | e | e | e | e | e | e | e | e | e | e | e | e <;> subst e
  · rw [if_pos rfl]; exact key
  · rw [if_neg (by decide), if_pos rfl]; exact key
  · rw [if_neg (by decide), if_neg (by decide), if_pos rfl]; exact key
  · rw [if_neg (by decide), if_neg (by decide), if_neg (by decide), if_pos rfl]; exact key
  · rw [if_neg (by decide), if_neg (by decide), if_neg (by decide), if_neg (by decide), if_pos rfl]; exact key
  · rw [if_neg (by decide), if_neg (by decide), if_neg (by decide), if_neg (by decide), if_neg (by decide), if_pos rfl]; exact key
  · rw [if_neg (by decide), if_neg (by decide), if_neg (by decide), if_neg (by decide), if_neg (by decide), if_neg (by decide), if_pos rfl]; exact key
  · rw [if_neg (by decide), if_neg (by decide), if_neg (by decide), if_neg (by decide), if_neg (by decide), if_neg (by decide), if_neg (by decide), if_pos rfl]; exact key
  · rw [if_neg (by decide), if_neg (by decide), if_neg (by decide), if_neg (by decide), if_neg (by decide), if_neg (by decide), if_neg (by decide), if_neg (by decide), if_pos rfl]; exact key
  · rw [if_neg (by decide), if_neg (by decide), if_neg (by decide), if_neg (by decide), if_neg (by decide), if_neg (by decide), if_neg (by decide), if_neg (by decide), if_neg (by decide), if_pos rfl]; exact key
  · rw [if_neg (by decide), if_neg (by decide), if_neg (by decide), if_neg (by decide), if_neg (by decide), if_neg (by decide), if_neg (by decide), if_neg (by decide), if_neg (by decide), if_neg (by decide), if_pos rfl]; exact key
  · rw [if_neg (by decide), if_neg (by decide), if_neg (by decide), if_neg (by decide), if_neg (by decide), if_neg (by decide), if_neg (by decide), if_neg (by decide), if_neg (by decide), if_neg (by decide), if_neg (by decide), if_pos rfl]; exact key
  · rw [if_neg (by decide), if_neg (by decide), if_neg (by decide), if_neg (by decide), if_neg (by decide), if_neg (by decide), if_neg (by decide), if_neg (by decide), if_neg (by decide), if_neg (by decide), if_neg (by decide), if_neg (by decide)]; exact key
end
