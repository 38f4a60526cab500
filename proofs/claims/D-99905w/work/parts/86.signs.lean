/-! SIGNS OF A SUM IN THE MODEL -/
set_option maxRecDepth 100000
section
variable {n : Nat} {t : jTx} {ci : jI} {cj : jJ} {o bs : Nat}
theorem hd_cons {y x : Nat} {R : List Nat} : ((y :: R).head? = some x) ↔ y = x := ⟨fun h => Option.some.inj h, fun h => by rw [h]; rfl⟩
theorem sp6_162 {R : List Nat} {x : Nat} (hR3 : R.head? ≠ some 3) (hR4 : R.head? ≠ some 4) (hRs : ∀ y ∈ R, y < 100) (hRl : R.length < 1640) : ∀ (mp : List Nat) (d : jI) (C : List Nat) (j : jJ) (k : Nat), mp.length < k → (∀ y ∈ mp, y = 3 ∨ y = 4) → STK d (mp ++ R) C o bs → C.length + mp.length < 1650 →
    Wp (fX6_qGoesOn_162 n k (nI x) d j) (fun q => q.1 = nI 1 ∧ STK q.2.1 (x :: R) (C ++ mp) o bs ∧ Fr [1620, 1621] [97, 99] d q.2.1 ∧ q.2.2 = j)
  | [], d, C, j, k, hk, hm, h, hC => by
    obtain ⟨k, rfl⟩ : ∃ k', k = k' + 1 := ⟨k - 1, by omega⟩
    have h' : STK d R C o bs := h
    have hs : ∀ y ∈ R, y < 2147483648 := fun y hy => by have := hRs y hy; omega
    rw [fX6_qGoesOn_162.eq_2, wp_bind, e6_qIsOn (by omega) h' hs, wp_some]
    dsimp only
    rw [if_neg hR3, if_pos z00, wp_bind, e6_qIsOn (by omega) h' hs, wp_some]
    dsimp only
    rw [if_neg hR4, if_pos z00, if_pos (show jok (d 1547 99) 1700 by rw [h'.2.2.1, jok_t (by omega) (by omega)]; trivial), ju_row (x := 1547) _ _ (by decide), h'.2.2.1, nI_cl (by omega), nI_add, wp_some, List.append_nil]
    exact ⟨rfl, h'.push (by omega), (Fr.rfl'.up (by decide) (by decide)).upf (by decide), rfl⟩
  | y :: mp, d, C, j, k, hk, hm, h, hC => by
    have hk' : mp.length + 1 < k := hk
    have hC' : C.length + (mp.length + 1) < 1650 := hC
    obtain ⟨k, rfl⟩ : ∃ k', k = k' + 1 := ⟨k - 1, by omega⟩
    have h' : STK d (y :: (mp ++ R)) C o bs := h
    have hs : ∀ z ∈ (y :: (mp ++ R)), z < 2147483648 := fun z hz => by
      rcases List.mem_cons.mp hz with e | e
      · have := hm y (List.mem_cons_self ..); omega
      · rcases List.mem_append.mp e with e | e
        · have := hm z (List.mem_cons_of_mem _ e); omega
        · have := hRs z e; omega
    have drop : Wp (fX6_qGoesOn_178 n (fX6_qGoesOn_162 n k) (nI x) d j) (fun q => q.1 = nI 1 ∧ STK q.2.1 (x :: R) (C ++ (y :: mp)) o bs ∧ Fr [1620, 1621] [97, 99] d q.2.1 ∧ q.2.2 = j) := by
      unfold fX6_qGoesOn_178
      rw [wp_bind]
      refine (sp6_qDrops h' (by omega)).mono ?_
      rintro ⟨d1, j1⟩ ⟨q1, q2, q3⟩
      dsimp only at q1 q2 q3 ⊢
      refine (sp6_162 hR3 hR4 hRs hRl mp d1 (C ++ [y]) j1 k (by omega) (fun z hz => hm z (List.mem_cons_of_mem _ hz)) q1 (by rw [len_snoc]; omega)).mono ?_
      rintro ⟨z, d2, j2⟩ ⟨u0, u1, u2, u3⟩
      rw [List.append_assoc] at u1
      exact ⟨u0, u1, (q2.le (by decide) (by decide)).tr u2, u3.trans q3⟩
    rw [fX6_qGoesOn_162.eq_2, wp_bind, e6_qIsOn (by omega) h' hs, wp_some]
    dsimp only
    by_cases e3 : y = 3
    · rw [if_pos (hd_cons.mpr e3), if_neg n10]; exact drop
    · have e4 : y = 4 := by have := hm y (List.mem_cons_self ..); omega
      rw [if_neg (fun z => e3 (hd_cons.mp z)), if_pos z00, wp_bind, e6_qIsOn (by omega) h' hs, wp_some]
      dsimp only
      rw [if_pos (hd_cons.mpr e4), if_neg n10]; exact drop
theorem sp6_247 {R : List Nat} {x : Nat} (hR : ∀ c, R.head? = some c → ¬ (1 ≤ c ∧ c ≤ 4)) (hRs : ∀ y ∈ R, y < 100) (hRl : R.length < 1640) : ∀ (mp : List Nat) (d : jI) (C : List Nat) (j : jJ) (k : Nat), mp.length < k → (∀ y ∈ mp, 1 ≤ y ∧ y ≤ 4) → STK d (mp ++ R) C o bs → C.length + mp.length < 1650 →
    Wp (fX6_qGoesOn_247 n k (nI x) d j) (fun q => q.1 = nI 1 ∧ STK q.2.1 (x :: R) (C ++ mp) o bs ∧ Fr [1620, 1621] [97, 99] d q.2.1 ∧ q.2.2 = j)
  | [], d, C, j, k, hk, hm, h, hC => by
    obtain ⟨k, rfl⟩ : ∃ k', k = k' + 1 := ⟨k - 1, by omega⟩
    have h' : STK d R C o bs := h
    have hs : ∀ y ∈ R, y < 2147483648 := fun y hy => by have := hRs y hy; omega
    have hR' : ∀ c, 1 ≤ c → c ≤ 4 → ¬ R.head? = some c := fun c c1 c2 e => hR c e ⟨c1, c2⟩
    rw [fX6_qGoesOn_247.eq_2, wp_bind, e6_qIsOn (by omega) h' hs, wp_some]
    dsimp only
    rw [if_neg (hR' 3 (by omega) (by omega)), if_pos z00, wp_bind, e6_qIsOn (by omega) h' hs, wp_some]
    dsimp only
    rw [if_neg (hR' 4 (by omega) (by omega)), if_pos z00, wp_bind, e6_qIsOn (by omega) h' hs, wp_some]
    dsimp only
    rw [if_neg (hR' 1 (by omega) (by omega)), if_pos z00, wp_bind, e6_qIsOn (by omega) h' hs, wp_some]
    dsimp only
    rw [if_neg (hR' 2 (by omega) (by omega)), if_pos z00, if_pos (show jok (d 1547 99) 1700 by rw [h'.2.2.1, jok_t (by omega) (by omega)]; trivial), ju_row (x := 1547) _ _ (by decide), h'.2.2.1, nI_cl (by omega), nI_add, wp_some, List.append_nil]
    exact ⟨rfl, h'.push (by omega), (Fr.rfl'.up (by decide) (by decide)).upf (by decide), rfl⟩
  | y :: mp, d, C, j, k, hk, hm, h, hC => by
    have hk' : mp.length + 1 < k := hk
    have hC' : C.length + (mp.length + 1) < 1650 := hC
    obtain ⟨k, rfl⟩ : ∃ k', k = k' + 1 := ⟨k - 1, by omega⟩
    have h' : STK d (y :: (mp ++ R)) C o bs := h
    have hy := hm y (List.mem_cons_self ..)
    have hs : ∀ z ∈ (y :: (mp ++ R)), z < 2147483648 := fun z hz => by
      rcases List.mem_cons.mp hz with e | e
      · omega
      · rcases List.mem_append.mp e with e | e
        · have := hm z (List.mem_cons_of_mem _ e); omega
        · have := hRs z e; omega
    have drop : Wp (fX6_qGoesOn_279 n (fX6_qGoesOn_247 n k) (nI x) d j) (fun q => q.1 = nI 1 ∧ STK q.2.1 (x :: R) (C ++ (y :: mp)) o bs ∧ Fr [1620, 1621] [97, 99] d q.2.1 ∧ q.2.2 = j) := by
      unfold fX6_qGoesOn_279
      rw [wp_bind]
      refine (sp6_qDrops h' (by omega)).mono ?_
      rintro ⟨d1, j1⟩ ⟨q1, q2, q3⟩
      dsimp only at q1 q2 q3 ⊢
      refine (sp6_247 hR hRs hRl mp d1 (C ++ [y]) j1 k (by omega) (fun z hz => hm z (List.mem_cons_of_mem _ hz)) q1 (by rw [len_snoc]; omega)).mono ?_
      rintro ⟨z, d2, j2⟩ ⟨u0, u1, u2, u3⟩
      rw [List.append_assoc] at u1
      exact ⟨u0, u1, (q2.le (by decide) (by decide)).tr u2, u3.trans q3⟩
    rw [fX6_qGoesOn_247.eq_2, wp_bind, e6_qIsOn (by omega) h' hs, wp_some]
    dsimp only
    by_cases e3 : y = 3
    · rw [if_pos (hd_cons.mpr e3), if_neg n10]; exact drop
    rw [if_neg (fun z => e3 (hd_cons.mp z)), if_pos z00, wp_bind, e6_qIsOn (by omega) h' hs, wp_some]
    dsimp only
    by_cases e4 : y = 4
    · rw [if_pos (hd_cons.mpr e4), if_neg n10]; exact drop
    rw [if_neg (fun z => e4 (hd_cons.mp z)), if_pos z00, wp_bind, e6_qIsOn (by omega) h' hs, wp_some]
    dsimp only
    by_cases e1 : y = 1
    · rw [if_pos (hd_cons.mpr e1), if_neg n10]; exact drop
    rw [if_neg (fun z => e1 (hd_cons.mp z)), if_pos z00, wp_bind, e6_qIsOn (by omega) h' hs, wp_some]
    dsimp only
    rw [if_pos (hd_cons.mpr (show y = 2 by omega)), if_neg n10]; exact drop
end
