/-! A PART THAT ENDS MAKES NO FAULT -/
set_option maxRecDepth 100000
section
variable {n : Nat}
theorem drops5 {d : jI} {j : jJ} {q : jI × jJ} (h : fX6_qDrops n d j = some q) : q.1 1547 5 = d 1547 5 := by
  unfold fX6_qDrops fX6_qCode at h
  split at h
  · split at h
    · cases h
      dsimp only
      rw [ju_ne2 _ _ (by decide), ju_row _ _ (by decide), ju_ne2 _ _ (by decide)]
    · cases h
  · cases h
theorem ends5 : ∀ (k : Nat) (d : jI) (j : jJ) (q : jI × jJ), fX6_qEndsPart_0 n k d j = some q → q.1 1547 5 = d 1547 5
  | 0, _, _, _, h => by cases h
  | k + 1, d, j, q, h => by
    rw [fX6_qEndsPart_0.eq_2] at h
    unfold fX6_qEndsPart_51 at h
    split at h
    · split at h
      · cases h; rfl
      · split at h
        · split at h
          · cases h; rfl
          · obtain ⟨r, h1, h2⟩ := Option.bind_eq_some_iff.mp h
            rw [ends5 k _ _ _ h2, drops5 h1, ju_ne2 _ _ (by decide)]
        · cases h
    · cases h; rfl
end
