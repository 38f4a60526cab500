/-! BYTES -/
set_option maxRecDepth 100000
theorem i8_and (y : Int32) : y.toInt8.toInt32.toInt8.toInt32 &&& nI 255 = y &&& nI 255 := by
  apply Int32.toBitVec_inj.mp
  show (BitVec.signExtend 32 (BitVec.signExtend 8 (BitVec.signExtend 32 (BitVec.signExtend 8 y.toBitVec)))) &&& 255#32 = y.toBitVec &&& 255#32
  apply BitVec.eq_of_getLsbD_eq
  intro i hi
  rw [BitVec.getLsbD_and, BitVec.getLsbD_and]
  by_cases h8 : i < 8
  · congr 1
    rw [BitVec.getLsbD_signExtend, BitVec.getLsbD_signExtend, BitVec.getLsbD_signExtend, BitVec.getLsbD_signExtend]
    simp [h8, hi]
  · have : (255#32).getLsbD i = false := by
      have hh : ∀ j : Fin 32, 8 ≤ j.val → (255#32).getLsbD j.val = false := by decide
      exact hh ⟨i, hi⟩ (by show 8 ≤ i; omega)
    rw [this, Bool.and_false, Bool.and_false]
theorem and255 (y : Int32) : ∃ x, x < 256 ∧ y &&& nI 255 = nI x := by
  refine ⟨y.toBitVec.toNat % 256, Nat.mod_lt _ (by omega), Int32.toBitVec_inj.mp (BitVec.eq_of_toNat_eq ?_)⟩
  show (y.toBitVec &&& 255#32).toNat = (BitVec.ofNat 32 (y.toBitVec.toNat % 256)).toNat
  rw [BitVec.toNat_and, BitVec.toNat_ofNat, BitVec.toNat_ofNat, Nat.mod_eq_of_lt (a := y.toBitVec.toNat % 256) (by omega)]
  exact Nat.and_two_pow_sub_one_eq_mod y.toBitVec.toNat 8
theorem nI_and255 {k : Nat} (h : k < 2147483648) : nI k &&& nI 255 = nI (k % 256) := by
  refine Int32.toBitVec_inj.mp (BitVec.eq_of_toNat_eq ?_)
  show (BitVec.ofNat 32 k &&& 255#32).toNat = (BitVec.ofNat 32 (k % 256)).toNat
  rw [BitVec.toNat_and, BitVec.toNat_ofNat, BitVec.toNat_ofNat, BitVec.toNat_ofNat, Nat.mod_eq_of_lt (a := k % 256) (by omega), Nat.mod_eq_of_lt (a := k) (by omega)]
  exact Nat.and_two_pow_sub_one_eq_mod k 8
theorem m1_and255 : (-1 : Int32) &&& nI 255 = nI 255 := by decide
theorem nI_or8 {a b : Nat} (ha : a < 256) (hb : b < 256) : (nI a <<< (nI 8 &&& 31)) ||| nI b = nI (256 * a + b) := by
  have h : ∀ a : Fin 256, (nI a.val <<< (nI 8 &&& 31)) = nI (256 * a.val) := by decide
  rw [h ⟨a, ha⟩, nI_or]
  congr 1
  show 256 * a ||| b = 256 * a + b
  exact (Nat.two_pow_add_eq_or_of_lt (i := 8) hb a).symm
theorem nI_shr8 {k : Nat} (h : k ≤ 999) : nI k >>> (nI 8 &&& 31) = nI (k / 256) := by
  have h' : ∀ a : Fin 1000, nI a.val >>> (nI 8 &&& 31) = nI (a.val / 256) := by decide +kernel
  exact h' ⟨k, by omega⟩
/-- byte j of a word -/
def byt (y : Int32) (j : Nat) : Int32 := (y >>> (nI (24 - 8 * j) &&& 31)) &&& nI 255
