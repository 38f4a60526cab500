/-! MarriageHerring -/
set_option maxRecDepth 100000
def RX0 : String := "MarriageHerring"
def TX0 : u_T := fun k => match k with
  | 0 => ("MarriageHerring", "coast", "LMarriageHerring$Coast;", false)
  | 1 => ("MarriageHerring", "tape", "[B", true)
  | 2 => ("MarriageHerring", "taped", "I", false)
  | 3 => ("MarriageHerring", "faultKind", "I", false)
  | 4 => ("MarriageHerring", "faultPlace", "I", false)
  | 5 => ("MarriageHerring", "reader", "LMarriageHerring$Reader;", true)
  | 6 => ("MarriageHerring", "moment", "LMarriageHerring$Moment;", true)
  | 7 => ("MarriageHerring", "asked", "LMarriageHerring$Moment;", true)
  | 8 => ("MarriageHerring", "refused", "[I", true)
  | 9 => ("MarriageHerring", "now", "LMarriageHerring$State;", true)
  | 10 => ("MarriageHerring", "tried", "LMarriageHerring$State;", true)
  | 11 => ("MarriageHerring", "came", "[[I", true)
  | 12 => ("MarriageHerring", "rowYear", "[I", true)
  | 13 => ("MarriageHerring", "rowShoal", "[I", true)
  | 14 => ("MarriageHerring", "rowBay", "[I", true)
  | 15 => ("MarriageHerring", "rows", "I", false)
  | 16 => ("MarriageHerring", "bayBy", "[[[I", true)
  | 17 => ("MarriageHerring", "kept", "[LMarriageHerring$State;", true)
  | 18 => ("MarriageHerring", "undos", "I", false)
  | 19 => ("MarriageHerring", "seeds", "J", false)
  | 20 => ("MarriageHerring", "out", "[B", true)
  | _ => ("MarriageHerring", "outs", "I", false)
def tyX0 : Nat → FieldType := fun k => match k with
  | 0 => .object "MarriageHerring$Coast"
  | 1 => .array .byte
  | 2 => .int
  | 3 => .int
  | 4 => .int
  | 5 => .object "MarriageHerring$Reader"
  | 6 => .object "MarriageHerring$Moment"
  | 7 => .object "MarriageHerring$Moment"
  | 8 => .array .int
  | 9 => .object "MarriageHerring$State"
  | 10 => .object "MarriageHerring$State"
  | 11 => .array (.array .int)
  | 12 => .array .int
  | 13 => .array .int
  | 14 => .array .int
  | 15 => .int
  | 16 => .array (.array (.array .int))
  | 17 => .array (.object "MarriageHerring$State")
  | 18 => .int
  | 19 => .long
  | 20 => .array .byte
  | _ => .int
abbrev wsX00 : List Cond := u_ws RX0 TX0 22
set_option maxRecDepth 100000 in
theorem nmX0 : ∀ a, a < 22 → ∀ b, b < 22 → a ≠ b → (TX0 a).2.1 ≠ (TX0 b).2.1 := by decide +kernel
set_option maxRecDepth 100000 in
theorem tyX0_ok : ∀ k, k < 22 → parseFieldDescriptor (TX0 k).2.2.1 = some (tyX0 k) := by decide +kernel
abbrev cX0_init : ByteArray := prog_1_method_7_code
def yX0_init : MethodName := ⟨RX0, "<init>", "()V"⟩
def dkwX0_init_8 : List UInt8 := [181, 0, 99, 42, 16, 53, 188, 8, 181, 0, 103, 177]
abbrev dktX0_init_8 : List UInt8 := dkwX0_init_8 ++ []
def dkwX0_init_7 : List UInt8 := [42, 180, 0, 95, 27, 187, 0, 66, 89, 42, 183, 0, 68, 83, 132, 1, 1, 167, 255, 233, 42, 10]
abbrev dktX0_init_7 : List UInt8 := dkwX0_init_7 ++ dktX0_init_8
def dkwX0_init_6 : List UInt8 := [197, 0, 90, 3, 181, 0, 92, 42, 16, 20, 189, 0, 66, 181, 0, 95, 3, 60, 27, 16, 20, 162, 0, 23]
abbrev dktX0_init_6 : List UInt8 := dkwX0_init_6 ++ dktX0_init_7
def dkwX0_init_5 : List UInt8 := [16, 16, 188, 10, 181, 0, 84, 42, 16, 16, 188, 10, 181, 0, 87, 42, 16, 10, 16, 31, 6]
abbrev dktX0_init_5 : List UInt8 := dkwX0_init_5 ++ dktX0_init_6
def dkwX0_init_4 : List UInt8 := [181, 0, 73, 42, 16, 60, 6, 197, 0, 76, 2, 181, 0, 78, 42, 16, 16, 188, 10, 181, 0, 81, 42]
abbrev dktX0_init_4 : List UInt8 := dkwX0_init_4 ++ dktX0_init_5
def dkwX0_init_3 : List UInt8 := [181, 0, 62, 42, 187, 0, 66, 89, 42, 183, 0, 68, 181, 0, 69, 42, 187, 0, 66, 89, 42, 183, 0, 68]
abbrev dktX0_init_3 : List UInt8 := dkwX0_init_3 ++ dktX0_init_4
def dkwX0_init_2 : List UInt8 := [183, 0, 54, 181, 0, 55, 42, 187, 0, 52, 89, 183, 0, 54, 181, 0, 59, 42, 16, 6, 188, 10]
abbrev dktX0_init_2 : List UInt8 := dkwX0_init_2 ++ dktX0_init_3
def dkwX0_init_1 : List UInt8 := [42, 2, 181, 0, 39, 42, 187, 0, 43, 89, 42, 183, 0, 45, 181, 0, 48, 42, 187, 0, 52, 89]
abbrev dktX0_init_1 : List UInt8 := dkwX0_init_1 ++ dktX0_init_2
def dkwX0_init_0 : List UInt8 := [42, 183, 0, 22, 42, 187, 0, 28, 89, 183, 0, 30, 181, 0, 31, 42, 17, 6, 64, 188, 8, 181, 0, 35]
abbrev dktX0_init_0 : List UInt8 := dkwX0_init_0 ++ dktX0_init_1
theorem dksX0_init_0 : cX0_init.data.toList.drop 0 = dktX0_init_0 := by decide +kernel
theorem dksX0_init_1 : cX0_init.data.toList.drop 24 = dktX0_init_1 := dk_seg dksX0_init_0 24 rfl rfl
theorem dksX0_init_2 : cX0_init.data.toList.drop 46 = dktX0_init_2 := dk_seg dksX0_init_1 22 rfl rfl
theorem dksX0_init_3 : cX0_init.data.toList.drop 68 = dktX0_init_3 := dk_seg dksX0_init_2 22 rfl rfl
theorem dksX0_init_4 : cX0_init.data.toList.drop 92 = dktX0_init_4 := dk_seg dksX0_init_3 24 rfl rfl
theorem dksX0_init_5 : cX0_init.data.toList.drop 115 = dktX0_init_5 := dk_seg dksX0_init_4 23 rfl rfl
theorem dksX0_init_6 : cX0_init.data.toList.drop 136 = dktX0_init_6 := dk_seg dksX0_init_5 21 rfl rfl
theorem dksX0_init_7 : cX0_init.data.toList.drop 160 = dktX0_init_7 := dk_seg dksX0_init_6 24 rfl rfl
theorem dksX0_init_8 : cX0_init.data.toList.drop 182 = dktX0_init_8 := dk_seg dksX0_init_7 22 rfl rfl
theorem dX0_init_0 : decode cX0_init 0 = .ok (.aload_n 0, 1) := dk_42 (dk_at dksX0_init_0 0 rfl rfl)
theorem dX0_init_1 : decode cX0_init 1 = .ok (.invokespecial 22, 3) := dk_183 0 22 (dk_at dksX0_init_0 1 rfl rfl)
theorem dX0_init_4 : decode cX0_init 4 = .ok (.aload_n 0, 1) := dk_42 (dk_at dksX0_init_0 4 rfl rfl)
theorem dX0_init_5 : decode cX0_init 5 = .ok (.new 28, 3) := dk_187 0 28 (dk_at dksX0_init_0 5 rfl rfl)
theorem dX0_init_8 : decode cX0_init 8 = .ok (.dup, 1) := dk_89 (dk_at dksX0_init_0 8 rfl rfl)
theorem dX0_init_9 : decode cX0_init 9 = .ok (.invokespecial 30, 3) := dk_183 0 30 (dk_at dksX0_init_0 9 rfl rfl)
theorem dX0_init_12 : decode cX0_init 12 = .ok (.putfield 31, 3) := dk_181 0 31 (dk_at dksX0_init_0 12 rfl rfl)
theorem dX0_init_15 : decode cX0_init 15 = .ok (.aload_n 0, 1) := dk_42 (dk_at dksX0_init_0 15 rfl rfl)
theorem dX0_init_16 : decode cX0_init 16 = .ok (.sipush 1600, 3) := dk_17 6 64 (dk_at dksX0_init_0 16 rfl rfl)
theorem dX0_init_19 : decode cX0_init 19 = .ok (.newarray .byte, 2) := dk_188_8 (dk_at dksX0_init_0 19 rfl rfl)
theorem dX0_init_21 : decode cX0_init 21 = .ok (.putfield 35, 3) := dk_181 0 35 (dk_at dksX0_init_0 21 rfl rfl)
theorem dX0_init_24 : decode cX0_init 24 = .ok (.aload_n 0, 1) := dk_42 (dk_at dksX0_init_1 0 rfl rfl)
theorem dX0_init_25 : decode cX0_init 25 = .ok (.iconst (-1), 1) := dk_2 (dk_at dksX0_init_1 1 rfl rfl)
theorem dX0_init_26 : decode cX0_init 26 = .ok (.putfield 39, 3) := dk_181 0 39 (dk_at dksX0_init_1 2 rfl rfl)
theorem dX0_init_29 : decode cX0_init 29 = .ok (.aload_n 0, 1) := dk_42 (dk_at dksX0_init_1 5 rfl rfl)
theorem dX0_init_30 : decode cX0_init 30 = .ok (.new 43, 3) := dk_187 0 43 (dk_at dksX0_init_1 6 rfl rfl)
theorem dX0_init_33 : decode cX0_init 33 = .ok (.dup, 1) := dk_89 (dk_at dksX0_init_1 9 rfl rfl)
theorem dX0_init_34 : decode cX0_init 34 = .ok (.aload_n 0, 1) := dk_42 (dk_at dksX0_init_1 10 rfl rfl)
theorem dX0_init_35 : decode cX0_init 35 = .ok (.invokespecial 45, 3) := dk_183 0 45 (dk_at dksX0_init_1 11 rfl rfl)
theorem dX0_init_38 : decode cX0_init 38 = .ok (.putfield 48, 3) := dk_181 0 48 (dk_at dksX0_init_1 14 rfl rfl)
theorem dX0_init_41 : decode cX0_init 41 = .ok (.aload_n 0, 1) := dk_42 (dk_at dksX0_init_1 17 rfl rfl)
theorem dX0_init_42 : decode cX0_init 42 = .ok (.new 52, 3) := dk_187 0 52 (dk_at dksX0_init_1 18 rfl rfl)
theorem dX0_init_45 : decode cX0_init 45 = .ok (.dup, 1) := dk_89 (dk_at dksX0_init_1 21 rfl rfl)
theorem dX0_init_46 : decode cX0_init 46 = .ok (.invokespecial 54, 3) := dk_183 0 54 (dk_at dksX0_init_2 0 rfl rfl)
theorem dX0_init_49 : decode cX0_init 49 = .ok (.putfield 55, 3) := dk_181 0 55 (dk_at dksX0_init_2 3 rfl rfl)
theorem dX0_init_52 : decode cX0_init 52 = .ok (.aload_n 0, 1) := dk_42 (dk_at dksX0_init_2 6 rfl rfl)
theorem dX0_init_53 : decode cX0_init 53 = .ok (.new 52, 3) := dk_187 0 52 (dk_at dksX0_init_2 7 rfl rfl)
theorem dX0_init_56 : decode cX0_init 56 = .ok (.dup, 1) := dk_89 (dk_at dksX0_init_2 10 rfl rfl)
theorem dX0_init_57 : decode cX0_init 57 = .ok (.invokespecial 54, 3) := dk_183 0 54 (dk_at dksX0_init_2 11 rfl rfl)
theorem dX0_init_60 : decode cX0_init 60 = .ok (.putfield 59, 3) := dk_181 0 59 (dk_at dksX0_init_2 14 rfl rfl)
theorem dX0_init_63 : decode cX0_init 63 = .ok (.aload_n 0, 1) := dk_42 (dk_at dksX0_init_2 17 rfl rfl)
theorem dX0_init_64 : decode cX0_init 64 = .ok (.bipush 6, 2) := dk_16 6 (dk_at dksX0_init_2 18 rfl rfl)
theorem dX0_init_66 : decode cX0_init 66 = .ok (.newarray .int, 2) := dk_188_10 (dk_at dksX0_init_2 20 rfl rfl)
theorem dX0_init_68 : decode cX0_init 68 = .ok (.putfield 62, 3) := dk_181 0 62 (dk_at dksX0_init_3 0 rfl rfl)
theorem dX0_init_71 : decode cX0_init 71 = .ok (.aload_n 0, 1) := dk_42 (dk_at dksX0_init_3 3 rfl rfl)
theorem dX0_init_72 : decode cX0_init 72 = .ok (.new 66, 3) := dk_187 0 66 (dk_at dksX0_init_3 4 rfl rfl)
theorem dX0_init_75 : decode cX0_init 75 = .ok (.dup, 1) := dk_89 (dk_at dksX0_init_3 7 rfl rfl)
theorem dX0_init_76 : decode cX0_init 76 = .ok (.aload_n 0, 1) := dk_42 (dk_at dksX0_init_3 8 rfl rfl)
theorem dX0_init_77 : decode cX0_init 77 = .ok (.invokespecial 68, 3) := dk_183 0 68 (dk_at dksX0_init_3 9 rfl rfl)
theorem dX0_init_80 : decode cX0_init 80 = .ok (.putfield 69, 3) := dk_181 0 69 (dk_at dksX0_init_3 12 rfl rfl)
theorem dX0_init_83 : decode cX0_init 83 = .ok (.aload_n 0, 1) := dk_42 (dk_at dksX0_init_3 15 rfl rfl)
theorem dX0_init_84 : decode cX0_init 84 = .ok (.new 66, 3) := dk_187 0 66 (dk_at dksX0_init_3 16 rfl rfl)
theorem dX0_init_87 : decode cX0_init 87 = .ok (.dup, 1) := dk_89 (dk_at dksX0_init_3 19 rfl rfl)
theorem dX0_init_88 : decode cX0_init 88 = .ok (.aload_n 0, 1) := dk_42 (dk_at dksX0_init_3 20 rfl rfl)
theorem dX0_init_89 : decode cX0_init 89 = .ok (.invokespecial 68, 3) := dk_183 0 68 (dk_at dksX0_init_3 21 rfl rfl)
theorem dX0_init_92 : decode cX0_init 92 = .ok (.putfield 73, 3) := dk_181 0 73 (dk_at dksX0_init_4 0 rfl rfl)
theorem dX0_init_95 : decode cX0_init 95 = .ok (.aload_n 0, 1) := dk_42 (dk_at dksX0_init_4 3 rfl rfl)
theorem dX0_init_96 : decode cX0_init 96 = .ok (.bipush 60, 2) := dk_16 60 (dk_at dksX0_init_4 4 rfl rfl)
theorem dX0_init_98 : decode cX0_init 98 = .ok (.iconst 3, 1) := dk_6 (dk_at dksX0_init_4 6 rfl rfl)
theorem dX0_init_99 : decode cX0_init 99 = .ok (.multianewarray 76 2, 4) := by decide +kernel
theorem dX0_init_103 : decode cX0_init 103 = .ok (.putfield 78, 3) := dk_181 0 78 (dk_at dksX0_init_4 11 rfl rfl)
theorem dX0_init_106 : decode cX0_init 106 = .ok (.aload_n 0, 1) := dk_42 (dk_at dksX0_init_4 14 rfl rfl)
theorem dX0_init_107 : decode cX0_init 107 = .ok (.bipush 16, 2) := dk_16 16 (dk_at dksX0_init_4 15 rfl rfl)
theorem dX0_init_109 : decode cX0_init 109 = .ok (.newarray .int, 2) := dk_188_10 (dk_at dksX0_init_4 17 rfl rfl)
theorem dX0_init_111 : decode cX0_init 111 = .ok (.putfield 81, 3) := dk_181 0 81 (dk_at dksX0_init_4 19 rfl rfl)
theorem dX0_init_114 : decode cX0_init 114 = .ok (.aload_n 0, 1) := dk_42 (dk_at dksX0_init_4 22 rfl rfl)
theorem dX0_init_115 : decode cX0_init 115 = .ok (.bipush 16, 2) := dk_16 16 (dk_at dksX0_init_5 0 rfl rfl)
theorem dX0_init_117 : decode cX0_init 117 = .ok (.newarray .int, 2) := dk_188_10 (dk_at dksX0_init_5 2 rfl rfl)
theorem dX0_init_119 : decode cX0_init 119 = .ok (.putfield 84, 3) := dk_181 0 84 (dk_at dksX0_init_5 4 rfl rfl)
theorem dX0_init_122 : decode cX0_init 122 = .ok (.aload_n 0, 1) := dk_42 (dk_at dksX0_init_5 7 rfl rfl)
theorem dX0_init_123 : decode cX0_init 123 = .ok (.bipush 16, 2) := dk_16 16 (dk_at dksX0_init_5 8 rfl rfl)
theorem dX0_init_125 : decode cX0_init 125 = .ok (.newarray .int, 2) := dk_188_10 (dk_at dksX0_init_5 10 rfl rfl)
theorem dX0_init_127 : decode cX0_init 127 = .ok (.putfield 87, 3) := dk_181 0 87 (dk_at dksX0_init_5 12 rfl rfl)
theorem dX0_init_130 : decode cX0_init 130 = .ok (.aload_n 0, 1) := dk_42 (dk_at dksX0_init_5 15 rfl rfl)
theorem dX0_init_131 : decode cX0_init 131 = .ok (.bipush 10, 2) := dk_16 10 (dk_at dksX0_init_5 16 rfl rfl)
theorem dX0_init_133 : decode cX0_init 133 = .ok (.bipush 31, 2) := dk_16 31 (dk_at dksX0_init_5 18 rfl rfl)
theorem dX0_init_135 : decode cX0_init 135 = .ok (.iconst 3, 1) := dk_6 (dk_at dksX0_init_5 20 rfl rfl)
theorem dX0_init_136 : decode cX0_init 136 = .ok (.multianewarray 90 3, 4) := by decide +kernel
theorem dX0_init_140 : decode cX0_init 140 = .ok (.putfield 92, 3) := dk_181 0 92 (dk_at dksX0_init_6 4 rfl rfl)
theorem dX0_init_143 : decode cX0_init 143 = .ok (.aload_n 0, 1) := dk_42 (dk_at dksX0_init_6 7 rfl rfl)
theorem dX0_init_144 : decode cX0_init 144 = .ok (.bipush 20, 2) := dk_16 20 (dk_at dksX0_init_6 8 rfl rfl)
theorem dX0_init_146 : decode cX0_init 146 = .ok (.anewarray 66, 3) := dk_189 0 66 (dk_at dksX0_init_6 10 rfl rfl)
theorem dX0_init_149 : decode cX0_init 149 = .ok (.putfield 95, 3) := dk_181 0 95 (dk_at dksX0_init_6 13 rfl rfl)
theorem dX0_init_152 : decode cX0_init 152 = .ok (.iconst 0, 1) := dk_3 (dk_at dksX0_init_6 16 rfl rfl)
theorem dX0_init_153 : decode cX0_init 153 = .ok (.istore_n 1, 1) := dk_60 (dk_at dksX0_init_6 17 rfl rfl)
theorem dX0_init_154 : decode cX0_init 154 = .ok (.iload_n 1, 1) := dk_27 (dk_at dksX0_init_6 18 rfl rfl)
theorem dX0_init_155 : decode cX0_init 155 = .ok (.bipush 20, 2) := dk_16 20 (dk_at dksX0_init_6 19 rfl rfl)
theorem dX0_init_157 : decode cX0_init 157 = .ok (.if_icmp .ge 23, 3) := dk_162 0 23 (dk_at dksX0_init_6 21 rfl rfl)
theorem dX0_init_160 : decode cX0_init 160 = .ok (.aload_n 0, 1) := dk_42 (dk_at dksX0_init_7 0 rfl rfl)
theorem dX0_init_161 : decode cX0_init 161 = .ok (.getfield 95, 3) := dk_180 0 95 (dk_at dksX0_init_7 1 rfl rfl)
theorem dX0_init_164 : decode cX0_init 164 = .ok (.iload_n 1, 1) := dk_27 (dk_at dksX0_init_7 4 rfl rfl)
theorem dX0_init_165 : decode cX0_init 165 = .ok (.new 66, 3) := dk_187 0 66 (dk_at dksX0_init_7 5 rfl rfl)
theorem dX0_init_168 : decode cX0_init 168 = .ok (.dup, 1) := dk_89 (dk_at dksX0_init_7 8 rfl rfl)
theorem dX0_init_169 : decode cX0_init 169 = .ok (.aload_n 0, 1) := dk_42 (dk_at dksX0_init_7 9 rfl rfl)
theorem dX0_init_170 : decode cX0_init 170 = .ok (.invokespecial 68, 3) := dk_183 0 68 (dk_at dksX0_init_7 10 rfl rfl)
theorem dX0_init_173 : decode cX0_init 173 = .ok (.aastore, 1) := dk_83 (dk_at dksX0_init_7 13 rfl rfl)
theorem dX0_init_174 : decode cX0_init 174 = .ok (.iinc 1 1, 3) := dk_132 1 1 (dk_at dksX0_init_7 14 rfl rfl)
theorem dX0_init_177 : decode cX0_init 177 = .ok (.goto (-23), 3) := dk_167 255 233 (dk_at dksX0_init_7 17 rfl rfl)
theorem dX0_init_180 : decode cX0_init 180 = .ok (.aload_n 0, 1) := dk_42 (dk_at dksX0_init_7 20 rfl rfl)
theorem dX0_init_181 : decode cX0_init 181 = .ok (.lconst 1, 1) := dk_10 (dk_at dksX0_init_7 21 rfl rfl)
theorem dX0_init_182 : decode cX0_init 182 = .ok (.putfield 99, 3) := dk_181 0 99 (dk_at dksX0_init_8 0 rfl rfl)
theorem dX0_init_185 : decode cX0_init 185 = .ok (.aload_n 0, 1) := dk_42 (dk_at dksX0_init_8 3 rfl rfl)
theorem dX0_init_186 : decode cX0_init 186 = .ok (.bipush 53, 2) := dk_16 53 (dk_at dksX0_init_8 4 rfl rfl)
theorem dX0_init_188 : decode cX0_init 188 = .ok (.newarray .byte, 2) := dk_188_8 (dk_at dksX0_init_8 6 rfl rfl)
theorem dX0_init_190 : decode cX0_init 190 = .ok (.putfield 103, 3) := dk_181 0 103 (dk_at dksX0_init_8 8 rfl rfl)
theorem dX0_init_193 : decode cX0_init 193 = .ok (.return_, 1) := dk_177 (dk_at dksX0_init_8 11 rfl rfl)
abbrev cX0_feed : ByteArray := prog_1_method_10_code
def yX0_feed : MethodName := ⟨RX0, "feed", "(IIIII)I"⟩
def dkwX0_feed_2 : List UInt8 := [180, 0, 106, 172]
abbrev dktX0_feed_2 : List UInt8 := dkwX0_feed_2 ++ []
def dkwX0_feed_1 : List UInt8 := [42, 28, 182, 0, 113, 42, 29, 182, 0, 113, 42, 21, 4, 182, 0, 113, 42, 21, 5, 182, 0, 113, 42]
abbrev dktX0_feed_1 : List UInt8 := dkwX0_feed_1 ++ dktX0_feed_2
def dkwX0_feed_0 : List UInt8 := [42, 180, 0, 106, 16, 20, 96, 17, 6, 64, 164, 0, 9, 42, 3, 182, 0, 109, 172, 42, 27, 182, 0, 113]
abbrev dktX0_feed_0 : List UInt8 := dkwX0_feed_0 ++ dktX0_feed_1
theorem dksX0_feed_0 : cX0_feed.data.toList.drop 0 = dktX0_feed_0 := by decide +kernel
theorem dksX0_feed_1 : cX0_feed.data.toList.drop 24 = dktX0_feed_1 := dk_seg dksX0_feed_0 24 rfl rfl
theorem dksX0_feed_2 : cX0_feed.data.toList.drop 47 = dktX0_feed_2 := dk_seg dksX0_feed_1 23 rfl rfl
theorem dX0_feed_0 : decode cX0_feed 0 = .ok (.aload_n 0, 1) := dk_42 (dk_at dksX0_feed_0 0 rfl rfl)
theorem dX0_feed_1 : decode cX0_feed 1 = .ok (.getfield 106, 3) := dk_180 0 106 (dk_at dksX0_feed_0 1 rfl rfl)
theorem dX0_feed_4 : decode cX0_feed 4 = .ok (.bipush 20, 2) := dk_16 20 (dk_at dksX0_feed_0 4 rfl rfl)
theorem dX0_feed_6 : decode cX0_feed 6 = .ok (.iadd, 1) := dk_96 (dk_at dksX0_feed_0 6 rfl rfl)
theorem dX0_feed_7 : decode cX0_feed 7 = .ok (.sipush 1600, 3) := dk_17 6 64 (dk_at dksX0_feed_0 7 rfl rfl)
theorem dX0_feed_10 : decode cX0_feed 10 = .ok (.if_icmp .le 9, 3) := dk_164 0 9 (dk_at dksX0_feed_0 10 rfl rfl)
theorem dX0_feed_13 : decode cX0_feed 13 = .ok (.aload_n 0, 1) := dk_42 (dk_at dksX0_feed_0 13 rfl rfl)
theorem dX0_feed_14 : decode cX0_feed 14 = .ok (.iconst 0, 1) := dk_3 (dk_at dksX0_feed_0 14 rfl rfl)
theorem dX0_feed_15 : decode cX0_feed 15 = .ok (.invokevirtual 109, 3) := dk_182 0 109 (dk_at dksX0_feed_0 15 rfl rfl)
theorem dX0_feed_18 : decode cX0_feed 18 = .ok (.ireturn, 1) := dk_172 (dk_at dksX0_feed_0 18 rfl rfl)
theorem dX0_feed_19 : decode cX0_feed 19 = .ok (.aload_n 0, 1) := dk_42 (dk_at dksX0_feed_0 19 rfl rfl)
theorem dX0_feed_20 : decode cX0_feed 20 = .ok (.iload_n 1, 1) := dk_27 (dk_at dksX0_feed_0 20 rfl rfl)
theorem dX0_feed_21 : decode cX0_feed 21 = .ok (.invokevirtual 113, 3) := dk_182 0 113 (dk_at dksX0_feed_0 21 rfl rfl)
theorem dX0_feed_24 : decode cX0_feed 24 = .ok (.aload_n 0, 1) := dk_42 (dk_at dksX0_feed_1 0 rfl rfl)
theorem dX0_feed_25 : decode cX0_feed 25 = .ok (.iload_n 2, 1) := dk_28 (dk_at dksX0_feed_1 1 rfl rfl)
theorem dX0_feed_26 : decode cX0_feed 26 = .ok (.invokevirtual 113, 3) := dk_182 0 113 (dk_at dksX0_feed_1 2 rfl rfl)
theorem dX0_feed_29 : decode cX0_feed 29 = .ok (.aload_n 0, 1) := dk_42 (dk_at dksX0_feed_1 5 rfl rfl)
theorem dX0_feed_30 : decode cX0_feed 30 = .ok (.iload_n 3, 1) := dk_29 (dk_at dksX0_feed_1 6 rfl rfl)
theorem dX0_feed_31 : decode cX0_feed 31 = .ok (.invokevirtual 113, 3) := dk_182 0 113 (dk_at dksX0_feed_1 7 rfl rfl)
theorem dX0_feed_34 : decode cX0_feed 34 = .ok (.aload_n 0, 1) := dk_42 (dk_at dksX0_feed_1 10 rfl rfl)
theorem dX0_feed_35 : decode cX0_feed 35 = .ok (.iload 4, 2) := dk_21 4 (dk_at dksX0_feed_1 11 rfl rfl)
theorem dX0_feed_37 : decode cX0_feed 37 = .ok (.invokevirtual 113, 3) := dk_182 0 113 (dk_at dksX0_feed_1 13 rfl rfl)
theorem dX0_feed_40 : decode cX0_feed 40 = .ok (.aload_n 0, 1) := dk_42 (dk_at dksX0_feed_1 16 rfl rfl)
theorem dX0_feed_41 : decode cX0_feed 41 = .ok (.iload 5, 2) := dk_21 5 (dk_at dksX0_feed_1 17 rfl rfl)
theorem dX0_feed_43 : decode cX0_feed 43 = .ok (.invokevirtual 113, 3) := dk_182 0 113 (dk_at dksX0_feed_1 19 rfl rfl)
theorem dX0_feed_46 : decode cX0_feed 46 = .ok (.aload_n 0, 1) := dk_42 (dk_at dksX0_feed_1 22 rfl rfl)
theorem dX0_feed_47 : decode cX0_feed 47 = .ok (.getfield 106, 3) := dk_180 0 106 (dk_at dksX0_feed_2 0 rfl rfl)
theorem dX0_feed_50 : decode cX0_feed 50 = .ok (.ireturn, 1) := dk_172 (dk_at dksX0_feed_2 3 rfl rfl)
abbrev cX0_refuses : ByteArray := prog_1_method_8_code
def yX0_refuses : MethodName := ⟨RX0, "refuses", "(I)I"⟩
def dkwX0_refuses_0 : List UInt8 := [42, 180, 0, 62, 27, 92, 46, 4, 96, 79, 2, 172]
abbrev dktX0_refuses_0 : List UInt8 := dkwX0_refuses_0 ++ []
theorem dksX0_refuses_0 : cX0_refuses.data.toList.drop 0 = dktX0_refuses_0 := by decide +kernel
theorem dX0_refuses_0 : decode cX0_refuses 0 = .ok (.aload_n 0, 1) := dk_42 (dk_at dksX0_refuses_0 0 rfl rfl)
theorem dX0_refuses_1 : decode cX0_refuses 1 = .ok (.getfield 62, 3) := dk_180 0 62 (dk_at dksX0_refuses_0 1 rfl rfl)
theorem dX0_refuses_4 : decode cX0_refuses 4 = .ok (.iload_n 1, 1) := dk_27 (dk_at dksX0_refuses_0 4 rfl rfl)
theorem dX0_refuses_5 : decode cX0_refuses 5 = .ok (.dup2, 1) := dk_92 (dk_at dksX0_refuses_0 5 rfl rfl)
theorem dX0_refuses_6 : decode cX0_refuses 6 = .ok (.iaload, 1) := dk_46 (dk_at dksX0_refuses_0 6 rfl rfl)
theorem dX0_refuses_7 : decode cX0_refuses 7 = .ok (.iconst 1, 1) := dk_4 (dk_at dksX0_refuses_0 7 rfl rfl)
theorem dX0_refuses_8 : decode cX0_refuses 8 = .ok (.iadd, 1) := dk_96 (dk_at dksX0_refuses_0 8 rfl rfl)
theorem dX0_refuses_9 : decode cX0_refuses 9 = .ok (.iastore, 1) := dk_79 (dk_at dksX0_refuses_0 9 rfl rfl)
theorem dX0_refuses_10 : decode cX0_refuses 10 = .ok (.iconst (-1), 1) := dk_2 (dk_at dksX0_refuses_0 10 rfl rfl)
theorem dX0_refuses_11 : decode cX0_refuses 11 = .ok (.ireturn, 1) := dk_172 (dk_at dksX0_refuses_0 11 rfl rfl)
abbrev cX0_lays : ByteArray := prog_1_method_9_code
def yX0_lays : MethodName := ⟨RX0, "lays", "(I)V"⟩
def dkwX0_lays_1 : List UInt8 := [122, 145, 84, 132, 2, 248, 167, 255, 229, 177]
abbrev dktX0_lays_1 : List UInt8 := dkwX0_lays_1 ++ []
def dkwX0_lays_0 : List UInt8 := [16, 24, 61, 28, 155, 0, 29, 42, 180, 0, 35, 42, 89, 180, 0, 106, 90, 4, 96, 181, 0, 106, 27, 28]
abbrev dktX0_lays_0 : List UInt8 := dkwX0_lays_0 ++ dktX0_lays_1
theorem dksX0_lays_0 : cX0_lays.data.toList.drop 0 = dktX0_lays_0 := by decide +kernel
theorem dksX0_lays_1 : cX0_lays.data.toList.drop 24 = dktX0_lays_1 := dk_seg dksX0_lays_0 24 rfl rfl
theorem dX0_lays_0 : decode cX0_lays 0 = .ok (.bipush 24, 2) := dk_16 24 (dk_at dksX0_lays_0 0 rfl rfl)
theorem dX0_lays_2 : decode cX0_lays 2 = .ok (.istore_n 2, 1) := dk_61 (dk_at dksX0_lays_0 2 rfl rfl)
theorem dX0_lays_3 : decode cX0_lays 3 = .ok (.iload_n 2, 1) := dk_28 (dk_at dksX0_lays_0 3 rfl rfl)
theorem dX0_lays_4 : decode cX0_lays 4 = .ok (.ifCond .lt 29, 3) := dk_155 0 29 (dk_at dksX0_lays_0 4 rfl rfl)
theorem dX0_lays_7 : decode cX0_lays 7 = .ok (.aload_n 0, 1) := dk_42 (dk_at dksX0_lays_0 7 rfl rfl)
theorem dX0_lays_8 : decode cX0_lays 8 = .ok (.getfield 35, 3) := dk_180 0 35 (dk_at dksX0_lays_0 8 rfl rfl)
theorem dX0_lays_11 : decode cX0_lays 11 = .ok (.aload_n 0, 1) := dk_42 (dk_at dksX0_lays_0 11 rfl rfl)
theorem dX0_lays_12 : decode cX0_lays 12 = .ok (.dup, 1) := dk_89 (dk_at dksX0_lays_0 12 rfl rfl)
theorem dX0_lays_13 : decode cX0_lays 13 = .ok (.getfield 106, 3) := dk_180 0 106 (dk_at dksX0_lays_0 13 rfl rfl)
theorem dX0_lays_16 : decode cX0_lays 16 = .ok (.dup_x1, 1) := dk_90 (dk_at dksX0_lays_0 16 rfl rfl)
theorem dX0_lays_17 : decode cX0_lays 17 = .ok (.iconst 1, 1) := dk_4 (dk_at dksX0_lays_0 17 rfl rfl)
theorem dX0_lays_18 : decode cX0_lays 18 = .ok (.iadd, 1) := dk_96 (dk_at dksX0_lays_0 18 rfl rfl)
theorem dX0_lays_19 : decode cX0_lays 19 = .ok (.putfield 106, 3) := dk_181 0 106 (dk_at dksX0_lays_0 19 rfl rfl)
theorem dX0_lays_22 : decode cX0_lays 22 = .ok (.iload_n 1, 1) := dk_27 (dk_at dksX0_lays_0 22 rfl rfl)
theorem dX0_lays_23 : decode cX0_lays 23 = .ok (.iload_n 2, 1) := dk_28 (dk_at dksX0_lays_0 23 rfl rfl)
theorem dX0_lays_24 : decode cX0_lays 24 = .ok (.ishr, 1) := dk_122 (dk_at dksX0_lays_1 0 rfl rfl)
theorem dX0_lays_25 : decode cX0_lays 25 = .ok (.i2b, 1) := dk_145 (dk_at dksX0_lays_1 1 rfl rfl)
theorem dX0_lays_26 : decode cX0_lays 26 = .ok (.bastore, 1) := dk_84 (dk_at dksX0_lays_1 2 rfl rfl)
theorem dX0_lays_27 : decode cX0_lays 27 = .ok (.iinc 2 (-8), 3) := dk_132 2 248 (dk_at dksX0_lays_1 3 rfl rfl)
theorem dX0_lays_30 : decode cX0_lays 30 = .ok (.goto (-27), 3) := dk_167 255 229 (dk_at dksX0_lays_1 6 rfl rfl)
theorem dX0_lays_33 : decode cX0_lays 33 = .ok (.return_, 1) := dk_177 (dk_at dksX0_lays_1 9 rfl rfl)
abbrev cX0_end : ByteArray := prog_1_method_11_code
def yX0_end : MethodName := ⟨RX0, "end", "(I)Z"⟩
def dkwX0_end_1 : List UInt8 := [3, 172, 42, 27, 181, 0, 106, 4, 172]
abbrev dktX0_end_1 : List UInt8 := dkwX0_end_1 ++ []
def dkwX0_end_0 : List UInt8 := [27, 155, 0, 11, 27, 42, 180, 0, 106, 164, 0, 17, 42, 3, 182, 0, 109, 155, 0, 7, 4, 167, 0, 4]
abbrev dktX0_end_0 : List UInt8 := dkwX0_end_0 ++ dktX0_end_1
theorem dksX0_end_0 : cX0_end.data.toList.drop 0 = dktX0_end_0 := by decide +kernel
theorem dksX0_end_1 : cX0_end.data.toList.drop 24 = dktX0_end_1 := dk_seg dksX0_end_0 24 rfl rfl
theorem dX0_end_0 : decode cX0_end 0 = .ok (.iload_n 1, 1) := dk_27 (dk_at dksX0_end_0 0 rfl rfl)
theorem dX0_end_1 : decode cX0_end 1 = .ok (.ifCond .lt 11, 3) := dk_155 0 11 (dk_at dksX0_end_0 1 rfl rfl)
theorem dX0_end_4 : decode cX0_end 4 = .ok (.iload_n 1, 1) := dk_27 (dk_at dksX0_end_0 4 rfl rfl)
theorem dX0_end_5 : decode cX0_end 5 = .ok (.aload_n 0, 1) := dk_42 (dk_at dksX0_end_0 5 rfl rfl)
theorem dX0_end_6 : decode cX0_end 6 = .ok (.getfield 106, 3) := dk_180 0 106 (dk_at dksX0_end_0 6 rfl rfl)
theorem dX0_end_9 : decode cX0_end 9 = .ok (.if_icmp .le 17, 3) := dk_164 0 17 (dk_at dksX0_end_0 9 rfl rfl)
theorem dX0_end_12 : decode cX0_end 12 = .ok (.aload_n 0, 1) := dk_42 (dk_at dksX0_end_0 12 rfl rfl)
theorem dX0_end_13 : decode cX0_end 13 = .ok (.iconst 0, 1) := dk_3 (dk_at dksX0_end_0 13 rfl rfl)
theorem dX0_end_14 : decode cX0_end 14 = .ok (.invokevirtual 109, 3) := dk_182 0 109 (dk_at dksX0_end_0 14 rfl rfl)
theorem dX0_end_17 : decode cX0_end 17 = .ok (.ifCond .lt 7, 3) := dk_155 0 7 (dk_at dksX0_end_0 17 rfl rfl)
theorem dX0_end_20 : decode cX0_end 20 = .ok (.iconst 1, 1) := dk_4 (dk_at dksX0_end_0 20 rfl rfl)
theorem dX0_end_21 : decode cX0_end 21 = .ok (.goto 4, 3) := dk_167 0 4 (dk_at dksX0_end_0 21 rfl rfl)
theorem dX0_end_24 : decode cX0_end 24 = .ok (.iconst 0, 1) := dk_3 (dk_at dksX0_end_1 0 rfl rfl)
theorem dX0_end_25 : decode cX0_end 25 = .ok (.ireturn, 1) := dk_172 (dk_at dksX0_end_1 1 rfl rfl)
theorem dX0_end_26 : decode cX0_end 26 = .ok (.aload_n 0, 1) := dk_42 (dk_at dksX0_end_1 2 rfl rfl)
theorem dX0_end_27 : decode cX0_end 27 = .ok (.iload_n 1, 1) := dk_27 (dk_at dksX0_end_1 3 rfl rfl)
theorem dX0_end_28 : decode cX0_end 28 = .ok (.putfield 106, 3) := dk_181 0 106 (dk_at dksX0_end_1 4 rfl rfl)
theorem dX0_end_31 : decode cX0_end 31 = .ok (.iconst 1, 1) := dk_4 (dk_at dksX0_end_1 7 rfl rfl)
theorem dX0_end_32 : decode cX0_end 32 = .ok (.ireturn, 1) := dk_172 (dk_at dksX0_end_1 8 rfl rfl)
abbrev cX0_coast : ByteArray := prog_1_method_13_code
def yX0_coast : MethodName := ⟨RX0, "coast", "()I"⟩
def dkwX0_coast_3 : List UInt8 := [180, 0, 31, 180, 0, 145, 172]
abbrev dktX0_coast_3 : List UInt8 := dkwX0_coast_3 ++ []
def dkwX0_coast_2 : List UInt8 := [4, 182, 0, 109, 172, 42, 180, 0, 69, 182, 0, 136, 42, 3, 181, 0, 139, 42, 3, 181, 0, 142, 42]
abbrev dktX0_coast_2 : List UInt8 := dkwX0_coast_2 ++ dktX0_coast_3
def dkwX0_coast_1 : List UInt8 := [181, 0, 31, 167, 0, 26, 76, 42, 43, 180, 0, 130, 181, 0, 117, 42, 43, 180, 0, 133, 181, 0, 39, 42]
abbrev dktX0_coast_1 : List UInt8 := dkwX0_coast_1 ++ dktX0_coast_2
def dkwX0_coast_0 : List UInt8 := [42, 3, 181, 0, 117, 42, 2, 181, 0, 39, 42, 42, 180, 0, 48, 42, 182, 0, 120, 182, 0, 124]
abbrev dktX0_coast_0 : List UInt8 := dkwX0_coast_0 ++ dktX0_coast_1
theorem dksX0_coast_0 : cX0_coast.data.toList.drop 0 = dktX0_coast_0 := by decide +kernel
theorem dksX0_coast_1 : cX0_coast.data.toList.drop 22 = dktX0_coast_1 := dk_seg dksX0_coast_0 22 rfl rfl
theorem dksX0_coast_2 : cX0_coast.data.toList.drop 46 = dktX0_coast_2 := dk_seg dksX0_coast_1 24 rfl rfl
theorem dksX0_coast_3 : cX0_coast.data.toList.drop 69 = dktX0_coast_3 := dk_seg dksX0_coast_2 23 rfl rfl
theorem dX0_coast_0 : decode cX0_coast 0 = .ok (.aload_n 0, 1) := dk_42 (dk_at dksX0_coast_0 0 rfl rfl)
theorem dX0_coast_1 : decode cX0_coast 1 = .ok (.iconst 0, 1) := dk_3 (dk_at dksX0_coast_0 1 rfl rfl)
theorem dX0_coast_2 : decode cX0_coast 2 = .ok (.putfield 117, 3) := dk_181 0 117 (dk_at dksX0_coast_0 2 rfl rfl)
theorem dX0_coast_5 : decode cX0_coast 5 = .ok (.aload_n 0, 1) := dk_42 (dk_at dksX0_coast_0 5 rfl rfl)
theorem dX0_coast_6 : decode cX0_coast 6 = .ok (.iconst (-1), 1) := dk_2 (dk_at dksX0_coast_0 6 rfl rfl)
theorem dX0_coast_7 : decode cX0_coast 7 = .ok (.putfield 39, 3) := dk_181 0 39 (dk_at dksX0_coast_0 7 rfl rfl)
theorem dX0_coast_10 : decode cX0_coast 10 = .ok (.aload_n 0, 1) := dk_42 (dk_at dksX0_coast_0 10 rfl rfl)
theorem dX0_coast_11 : decode cX0_coast 11 = .ok (.aload_n 0, 1) := dk_42 (dk_at dksX0_coast_0 11 rfl rfl)
theorem dX0_coast_12 : decode cX0_coast 12 = .ok (.getfield 48, 3) := dk_180 0 48 (dk_at dksX0_coast_0 12 rfl rfl)
theorem dX0_coast_15 : decode cX0_coast 15 = .ok (.aload_n 0, 1) := dk_42 (dk_at dksX0_coast_0 15 rfl rfl)
theorem dX0_coast_16 : decode cX0_coast 16 = .ok (.invokevirtual 120, 3) := dk_182 0 120 (dk_at dksX0_coast_0 16 rfl rfl)
theorem dX0_coast_19 : decode cX0_coast 19 = .ok (.invokevirtual 124, 3) := dk_182 0 124 (dk_at dksX0_coast_0 19 rfl rfl)
theorem dX0_coast_22 : decode cX0_coast 22 = .ok (.putfield 31, 3) := dk_181 0 31 (dk_at dksX0_coast_1 0 rfl rfl)
theorem dX0_coast_25 : decode cX0_coast 25 = .ok (.goto 26, 3) := dk_167 0 26 (dk_at dksX0_coast_1 3 rfl rfl)
theorem dX0_coast_28 : decode cX0_coast 28 = .ok (.astore_n 1, 1) := dk_76 (dk_at dksX0_coast_1 6 rfl rfl)
theorem dX0_coast_29 : decode cX0_coast 29 = .ok (.aload_n 0, 1) := dk_42 (dk_at dksX0_coast_1 7 rfl rfl)
theorem dX0_coast_30 : decode cX0_coast 30 = .ok (.aload_n 1, 1) := dk_43 (dk_at dksX0_coast_1 8 rfl rfl)
theorem dX0_coast_31 : decode cX0_coast 31 = .ok (.getfield 130, 3) := dk_180 0 130 (dk_at dksX0_coast_1 9 rfl rfl)
theorem dX0_coast_34 : decode cX0_coast 34 = .ok (.putfield 117, 3) := dk_181 0 117 (dk_at dksX0_coast_1 12 rfl rfl)
theorem dX0_coast_37 : decode cX0_coast 37 = .ok (.aload_n 0, 1) := dk_42 (dk_at dksX0_coast_1 15 rfl rfl)
theorem dX0_coast_38 : decode cX0_coast 38 = .ok (.aload_n 1, 1) := dk_43 (dk_at dksX0_coast_1 16 rfl rfl)
theorem dX0_coast_39 : decode cX0_coast 39 = .ok (.getfield 133, 3) := dk_180 0 133 (dk_at dksX0_coast_1 17 rfl rfl)
theorem dX0_coast_42 : decode cX0_coast 42 = .ok (.putfield 39, 3) := dk_181 0 39 (dk_at dksX0_coast_1 20 rfl rfl)
theorem dX0_coast_45 : decode cX0_coast 45 = .ok (.aload_n 0, 1) := dk_42 (dk_at dksX0_coast_1 23 rfl rfl)
theorem dX0_coast_46 : decode cX0_coast 46 = .ok (.iconst 1, 1) := dk_4 (dk_at dksX0_coast_2 0 rfl rfl)
theorem dX0_coast_47 : decode cX0_coast 47 = .ok (.invokevirtual 109, 3) := dk_182 0 109 (dk_at dksX0_coast_2 1 rfl rfl)
theorem dX0_coast_50 : decode cX0_coast 50 = .ok (.ireturn, 1) := dk_172 (dk_at dksX0_coast_2 4 rfl rfl)
theorem dX0_coast_51 : decode cX0_coast 51 = .ok (.aload_n 0, 1) := dk_42 (dk_at dksX0_coast_2 5 rfl rfl)
theorem dX0_coast_52 : decode cX0_coast 52 = .ok (.getfield 69, 3) := dk_180 0 69 (dk_at dksX0_coast_2 6 rfl rfl)
theorem dX0_coast_55 : decode cX0_coast 55 = .ok (.invokevirtual 136, 3) := dk_182 0 136 (dk_at dksX0_coast_2 9 rfl rfl)
theorem dX0_coast_58 : decode cX0_coast 58 = .ok (.aload_n 0, 1) := dk_42 (dk_at dksX0_coast_2 12 rfl rfl)
theorem dX0_coast_59 : decode cX0_coast 59 = .ok (.iconst 0, 1) := dk_3 (dk_at dksX0_coast_2 13 rfl rfl)
theorem dX0_coast_60 : decode cX0_coast 60 = .ok (.putfield 139, 3) := dk_181 0 139 (dk_at dksX0_coast_2 14 rfl rfl)
theorem dX0_coast_63 : decode cX0_coast 63 = .ok (.aload_n 0, 1) := dk_42 (dk_at dksX0_coast_2 17 rfl rfl)
theorem dX0_coast_64 : decode cX0_coast 64 = .ok (.iconst 0, 1) := dk_3 (dk_at dksX0_coast_2 18 rfl rfl)
theorem dX0_coast_65 : decode cX0_coast 65 = .ok (.putfield 142, 3) := dk_181 0 142 (dk_at dksX0_coast_2 19 rfl rfl)
theorem dX0_coast_68 : decode cX0_coast 68 = .ok (.aload_n 0, 1) := dk_42 (dk_at dksX0_coast_2 22 rfl rfl)
theorem dX0_coast_69 : decode cX0_coast 69 = .ok (.getfield 31, 3) := dk_180 0 31 (dk_at dksX0_coast_3 0 rfl rfl)
theorem dX0_coast_72 : decode cX0_coast 72 = .ok (.getfield 145, 3) := dk_180 0 145 (dk_at dksX0_coast_3 3 rfl rfl)
theorem dX0_coast_75 : decode cX0_coast 75 = .ok (.ireturn, 1) := dk_172 (dk_at dksX0_coast_3 6 rfl rfl)
abbrev cX0_tapeTaken : ByteArray := prog_1_method_12_code
def yX0_tapeTaken : MethodName := ⟨RX0, "tapeTaken", "()I"⟩
def dkwX0_tapeTaken_0 : List UInt8 := [42, 180, 0, 106, 60, 42, 3, 181, 0, 106, 27, 172]
abbrev dktX0_tapeTaken_0 : List UInt8 := dkwX0_tapeTaken_0 ++ []
theorem dksX0_tapeTaken_0 : cX0_tapeTaken.data.toList.drop 0 = dktX0_tapeTaken_0 := by decide +kernel
theorem dX0_tapeTaken_0 : decode cX0_tapeTaken 0 = .ok (.aload_n 0, 1) := dk_42 (dk_at dksX0_tapeTaken_0 0 rfl rfl)
theorem dX0_tapeTaken_1 : decode cX0_tapeTaken 1 = .ok (.getfield 106, 3) := dk_180 0 106 (dk_at dksX0_tapeTaken_0 1 rfl rfl)
theorem dX0_tapeTaken_4 : decode cX0_tapeTaken 4 = .ok (.istore_n 1, 1) := dk_60 (dk_at dksX0_tapeTaken_0 4 rfl rfl)
theorem dX0_tapeTaken_5 : decode cX0_tapeTaken 5 = .ok (.aload_n 0, 1) := dk_42 (dk_at dksX0_tapeTaken_0 5 rfl rfl)
theorem dX0_tapeTaken_6 : decode cX0_tapeTaken 6 = .ok (.iconst 0, 1) := dk_3 (dk_at dksX0_tapeTaken_0 6 rfl rfl)
theorem dX0_tapeTaken_7 : decode cX0_tapeTaken 7 = .ok (.putfield 106, 3) := dk_181 0 106 (dk_at dksX0_tapeTaken_0 7 rfl rfl)
theorem dX0_tapeTaken_10 : decode cX0_tapeTaken 10 = .ok (.iload_n 1, 1) := dk_27 (dk_at dksX0_tapeTaken_0 10 rfl rfl)
theorem dX0_tapeTaken_11 : decode cX0_tapeTaken 11 = .ok (.ireturn, 1) := dk_172 (dk_at dksX0_tapeTaken_0 11 rfl rfl)
abbrev cX0_isLetter : ByteArray := prog_1_method_4_code
def yX0_isLetter : MethodName := ⟨RX0, "isLetter", "(I)Z"⟩
def dkwX0_isLetter_0 : List UInt8 := [26, 16, 97, 161, 0, 13, 26, 16, 122, 163, 0, 7, 4, 167, 0, 4, 3, 172]
abbrev dktX0_isLetter_0 : List UInt8 := dkwX0_isLetter_0 ++ []
theorem dksX0_isLetter_0 : cX0_isLetter.data.toList.drop 0 = dktX0_isLetter_0 := by decide +kernel
theorem dX0_isLetter_0 : decode cX0_isLetter 0 = .ok (.iload_n 0, 1) := dk_26 (dk_at dksX0_isLetter_0 0 rfl rfl)
theorem dX0_isLetter_1 : decode cX0_isLetter 1 = .ok (.bipush 97, 2) := dk_16 97 (dk_at dksX0_isLetter_0 1 rfl rfl)
theorem dX0_isLetter_3 : decode cX0_isLetter 3 = .ok (.if_icmp .lt 13, 3) := dk_161 0 13 (dk_at dksX0_isLetter_0 3 rfl rfl)
theorem dX0_isLetter_6 : decode cX0_isLetter 6 = .ok (.iload_n 0, 1) := dk_26 (dk_at dksX0_isLetter_0 6 rfl rfl)
theorem dX0_isLetter_7 : decode cX0_isLetter 7 = .ok (.bipush 122, 2) := dk_16 122 (dk_at dksX0_isLetter_0 7 rfl rfl)
theorem dX0_isLetter_9 : decode cX0_isLetter 9 = .ok (.if_icmp .gt 7, 3) := dk_163 0 7 (dk_at dksX0_isLetter_0 9 rfl rfl)
theorem dX0_isLetter_12 : decode cX0_isLetter 12 = .ok (.iconst 1, 1) := dk_4 (dk_at dksX0_isLetter_0 12 rfl rfl)
theorem dX0_isLetter_13 : decode cX0_isLetter 13 = .ok (.goto 4, 3) := dk_167 0 4 (dk_at dksX0_isLetter_0 13 rfl rfl)
theorem dX0_isLetter_16 : decode cX0_isLetter 16 = .ok (.iconst 0, 1) := dk_3 (dk_at dksX0_isLetter_0 16 rfl rfl)
theorem dX0_isLetter_17 : decode cX0_isLetter 17 = .ok (.ireturn, 1) := dk_172 (dk_at dksX0_isLetter_0 17 rfl rfl)
abbrev cX0_isDigit : ByteArray := prog_1_method_5_code
def yX0_isDigit : MethodName := ⟨RX0, "isDigit", "(I)Z"⟩
def dkwX0_isDigit_0 : List UInt8 := [26, 16, 48, 161, 0, 13, 26, 16, 57, 163, 0, 7, 4, 167, 0, 4, 3, 172]
abbrev dktX0_isDigit_0 : List UInt8 := dkwX0_isDigit_0 ++ []
theorem dksX0_isDigit_0 : cX0_isDigit.data.toList.drop 0 = dktX0_isDigit_0 := by decide +kernel
theorem dX0_isDigit_0 : decode cX0_isDigit 0 = .ok (.iload_n 0, 1) := dk_26 (dk_at dksX0_isDigit_0 0 rfl rfl)
theorem dX0_isDigit_1 : decode cX0_isDigit 1 = .ok (.bipush 48, 2) := dk_16 48 (dk_at dksX0_isDigit_0 1 rfl rfl)
theorem dX0_isDigit_3 : decode cX0_isDigit 3 = .ok (.if_icmp .lt 13, 3) := dk_161 0 13 (dk_at dksX0_isDigit_0 3 rfl rfl)
theorem dX0_isDigit_6 : decode cX0_isDigit 6 = .ok (.iload_n 0, 1) := dk_26 (dk_at dksX0_isDigit_0 6 rfl rfl)
theorem dX0_isDigit_7 : decode cX0_isDigit 7 = .ok (.bipush 57, 2) := dk_16 57 (dk_at dksX0_isDigit_0 7 rfl rfl)
theorem dX0_isDigit_9 : decode cX0_isDigit 9 = .ok (.if_icmp .gt 7, 3) := dk_163 0 7 (dk_at dksX0_isDigit_0 9 rfl rfl)
theorem dX0_isDigit_12 : decode cX0_isDigit 12 = .ok (.iconst 1, 1) := dk_4 (dk_at dksX0_isDigit_0 12 rfl rfl)
theorem dX0_isDigit_13 : decode cX0_isDigit 13 = .ok (.goto 4, 3) := dk_167 0 4 (dk_at dksX0_isDigit_0 13 rfl rfl)
theorem dX0_isDigit_16 : decode cX0_isDigit 16 = .ok (.iconst 0, 1) := dk_3 (dk_at dksX0_isDigit_0 16 rfl rfl)
theorem dX0_isDigit_17 : decode cX0_isDigit 17 = .ok (.ireturn, 1) := dk_172 (dk_at dksX0_isDigit_0 17 rfl rfl)
abbrev cX0_find : ByteArray := prog_1_method_6_code
def yX0_find : MethodName := ⟨RX0, "find", "(Ljava/lang/String;[Ljava/lang/String;)I"⟩
def dkwX0_find_1 : List UInt8 := [167, 255, 235, 2, 172]
abbrev dktX0_find_1 : List UInt8 := dkwX0_find_1 ++ []
def dkwX0_find_0 : List UInt8 := [3, 61, 28, 43, 190, 162, 0, 21, 43, 28, 50, 42, 182, 0, 16, 153, 0, 5, 28, 172, 132, 2, 1]
abbrev dktX0_find_0 : List UInt8 := dkwX0_find_0 ++ dktX0_find_1
theorem dksX0_find_0 : cX0_find.data.toList.drop 0 = dktX0_find_0 := by decide +kernel
theorem dksX0_find_1 : cX0_find.data.toList.drop 23 = dktX0_find_1 := dk_seg dksX0_find_0 23 rfl rfl
theorem dX0_find_0 : decode cX0_find 0 = .ok (.iconst 0, 1) := dk_3 (dk_at dksX0_find_0 0 rfl rfl)
theorem dX0_find_1 : decode cX0_find 1 = .ok (.istore_n 2, 1) := dk_61 (dk_at dksX0_find_0 1 rfl rfl)
theorem dX0_find_2 : decode cX0_find 2 = .ok (.iload_n 2, 1) := dk_28 (dk_at dksX0_find_0 2 rfl rfl)
theorem dX0_find_3 : decode cX0_find 3 = .ok (.aload_n 1, 1) := dk_43 (dk_at dksX0_find_0 3 rfl rfl)
theorem dX0_find_4 : decode cX0_find 4 = .ok (.arraylength, 1) := dk_190 (dk_at dksX0_find_0 4 rfl rfl)
theorem dX0_find_5 : decode cX0_find 5 = .ok (.if_icmp .ge 21, 3) := dk_162 0 21 (dk_at dksX0_find_0 5 rfl rfl)
theorem dX0_find_8 : decode cX0_find 8 = .ok (.aload_n 1, 1) := dk_43 (dk_at dksX0_find_0 8 rfl rfl)
theorem dX0_find_9 : decode cX0_find 9 = .ok (.iload_n 2, 1) := dk_28 (dk_at dksX0_find_0 9 rfl rfl)
theorem dX0_find_10 : decode cX0_find 10 = .ok (.aaload, 1) := dk_50 (dk_at dksX0_find_0 10 rfl rfl)
theorem dX0_find_11 : decode cX0_find 11 = .ok (.aload_n 0, 1) := dk_42 (dk_at dksX0_find_0 11 rfl rfl)
theorem dX0_find_12 : decode cX0_find 12 = .ok (.invokevirtual 16, 3) := dk_182 0 16 (dk_at dksX0_find_0 12 rfl rfl)
theorem dX0_find_15 : decode cX0_find 15 = .ok (.ifCond .eq 5, 3) := dk_153 0 5 (dk_at dksX0_find_0 15 rfl rfl)
theorem dX0_find_18 : decode cX0_find 18 = .ok (.iload_n 2, 1) := dk_28 (dk_at dksX0_find_0 18 rfl rfl)
theorem dX0_find_19 : decode cX0_find 19 = .ok (.ireturn, 1) := dk_172 (dk_at dksX0_find_0 19 rfl rfl)
theorem dX0_find_20 : decode cX0_find 20 = .ok (.iinc 2 1, 3) := dk_132 2 1 (dk_at dksX0_find_0 20 rfl rfl)
theorem dX0_find_23 : decode cX0_find 23 = .ok (.goto (-21), 3) := dk_167 255 235 (dk_at dksX0_find_1 0 rfl rfl)
theorem dX0_find_26 : decode cX0_find 26 = .ok (.iconst (-1), 1) := dk_2 (dk_at dksX0_find_1 3 rfl rfl)
theorem dX0_find_27 : decode cX0_find 27 = .ok (.ireturn, 1) := dk_172 (dk_at dksX0_find_1 4 rfl rfl)
abbrev cX0_is : ByteArray := prog_1_method_1_code
def yX0_is : MethodName := ⟨RX0, "is", "(III)Z"⟩
def dkwX0_is_0 : List UInt8 := [26, 27, 161, 0, 12, 26, 28, 163, 0, 7, 4, 167, 0, 4, 3, 172]
abbrev dktX0_is_0 : List UInt8 := dkwX0_is_0 ++ []
theorem dksX0_is_0 : cX0_is.data.toList.drop 0 = dktX0_is_0 := by decide +kernel
theorem dX0_is_0 : decode cX0_is 0 = .ok (.iload_n 0, 1) := dk_26 (dk_at dksX0_is_0 0 rfl rfl)
theorem dX0_is_1 : decode cX0_is 1 = .ok (.iload_n 1, 1) := dk_27 (dk_at dksX0_is_0 1 rfl rfl)
theorem dX0_is_2 : decode cX0_is 2 = .ok (.if_icmp .lt 12, 3) := dk_161 0 12 (dk_at dksX0_is_0 2 rfl rfl)
theorem dX0_is_5 : decode cX0_is 5 = .ok (.iload_n 0, 1) := dk_26 (dk_at dksX0_is_0 5 rfl rfl)
theorem dX0_is_6 : decode cX0_is 6 = .ok (.iload_n 2, 1) := dk_28 (dk_at dksX0_is_0 6 rfl rfl)
theorem dX0_is_7 : decode cX0_is 7 = .ok (.if_icmp .gt 7, 3) := dk_163 0 7 (dk_at dksX0_is_0 7 rfl rfl)
theorem dX0_is_10 : decode cX0_is 10 = .ok (.iconst 1, 1) := dk_4 (dk_at dksX0_is_0 10 rfl rfl)
theorem dX0_is_11 : decode cX0_is 11 = .ok (.goto 4, 3) := dk_167 0 4 (dk_at dksX0_is_0 11 rfl rfl)
theorem dX0_is_14 : decode cX0_is 14 = .ok (.iconst 0, 1) := dk_3 (dk_at dksX0_is_0 14 rfl rfl)
theorem dX0_is_15 : decode cX0_is 15 = .ok (.ireturn, 1) := dk_172 (dk_at dksX0_is_0 15 rfl rfl)
abbrev cX0_has : ByteArray := prog_1_method_2_code
def yX0_has : MethodName := ⟨RX0, "has", "(II)Z"⟩
def dkwX0_has_0 : List UInt8 := [26, 27, 122, 4, 126, 4, 160, 0, 7, 4, 167, 0, 4, 3, 172]
abbrev dktX0_has_0 : List UInt8 := dkwX0_has_0 ++ []
theorem dksX0_has_0 : cX0_has.data.toList.drop 0 = dktX0_has_0 := by decide +kernel
theorem dX0_has_0 : decode cX0_has 0 = .ok (.iload_n 0, 1) := dk_26 (dk_at dksX0_has_0 0 rfl rfl)
theorem dX0_has_1 : decode cX0_has 1 = .ok (.iload_n 1, 1) := dk_27 (dk_at dksX0_has_0 1 rfl rfl)
theorem dX0_has_2 : decode cX0_has 2 = .ok (.ishr, 1) := dk_122 (dk_at dksX0_has_0 2 rfl rfl)
theorem dX0_has_3 : decode cX0_has 3 = .ok (.iconst 1, 1) := dk_4 (dk_at dksX0_has_0 3 rfl rfl)
theorem dX0_has_4 : decode cX0_has 4 = .ok (.iand, 1) := dk_126 (dk_at dksX0_has_0 4 rfl rfl)
theorem dX0_has_5 : decode cX0_has 5 = .ok (.iconst 1, 1) := dk_4 (dk_at dksX0_has_0 5 rfl rfl)
theorem dX0_has_6 : decode cX0_has 6 = .ok (.if_icmp .ne 7, 3) := dk_160 0 7 (dk_at dksX0_has_0 6 rfl rfl)
theorem dX0_has_9 : decode cX0_has 9 = .ok (.iconst 1, 1) := dk_4 (dk_at dksX0_has_0 9 rfl rfl)
theorem dX0_has_10 : decode cX0_has 10 = .ok (.goto 4, 3) := dk_167 0 4 (dk_at dksX0_has_0 10 rfl rfl)
theorem dX0_has_13 : decode cX0_has 13 = .ok (.iconst 0, 1) := dk_3 (dk_at dksX0_has_0 13 rfl rfl)
theorem dX0_has_14 : decode cX0_has 14 = .ok (.ireturn, 1) := dk_172 (dk_at dksX0_has_0 14 rfl rfl)
abbrev cX0_shoals : ByteArray := prog_1_method_17_code
def yX0_shoals : MethodName := ⟨RX0, "shoals", "()I"⟩
def dkwX0_shoals_0 : List UInt8 := [42, 180, 0, 31, 180, 0, 160, 185, 0, 152, 1, 0, 172]
abbrev dktX0_shoals_0 : List UInt8 := dkwX0_shoals_0 ++ []
theorem dksX0_shoals_0 : cX0_shoals.data.toList.drop 0 = dktX0_shoals_0 := by decide +kernel
theorem dX0_shoals_0 : decode cX0_shoals 0 = .ok (.aload_n 0, 1) := dk_42 (dk_at dksX0_shoals_0 0 rfl rfl)
theorem dX0_shoals_1 : decode cX0_shoals 1 = .ok (.getfield 31, 3) := dk_180 0 31 (dk_at dksX0_shoals_0 1 rfl rfl)
theorem dX0_shoals_4 : decode cX0_shoals 4 = .ok (.getfield 160, 3) := dk_180 0 160 (dk_at dksX0_shoals_0 4 rfl rfl)
theorem dX0_shoals_7 : decode cX0_shoals 7 = .ok (.invokeinterface 152 1, 5) := by decide +kernel
theorem dX0_shoals_12 : decode cX0_shoals 12 = .ok (.ireturn, 1) := dk_172 (dk_at dksX0_shoals_0 12 rfl rfl)
abbrev cX0_shoalOf : ByteArray := prog_1_method_23_code
def yX0_shoalOf : MethodName := ⟨RX0, "shoalOf", "(I)LMarriageHerring$Herring;"⟩
def dkwX0_shoalOf_0 : List UInt8 := [42, 180, 0, 31, 180, 0, 160, 27, 185, 0, 169, 2, 0, 192, 0, 177, 176]
abbrev dktX0_shoalOf_0 : List UInt8 := dkwX0_shoalOf_0 ++ []
theorem dksX0_shoalOf_0 : cX0_shoalOf.data.toList.drop 0 = dktX0_shoalOf_0 := by decide +kernel
theorem dX0_shoalOf_0 : decode cX0_shoalOf 0 = .ok (.aload_n 0, 1) := dk_42 (dk_at dksX0_shoalOf_0 0 rfl rfl)
theorem dX0_shoalOf_1 : decode cX0_shoalOf 1 = .ok (.getfield 31, 3) := dk_180 0 31 (dk_at dksX0_shoalOf_0 1 rfl rfl)
theorem dX0_shoalOf_4 : decode cX0_shoalOf 4 = .ok (.getfield 160, 3) := dk_180 0 160 (dk_at dksX0_shoalOf_0 4 rfl rfl)
theorem dX0_shoalOf_7 : decode cX0_shoalOf 7 = .ok (.iload_n 1, 1) := dk_27 (dk_at dksX0_shoalOf_0 7 rfl rfl)
theorem dX0_shoalOf_8 : decode cX0_shoalOf 8 = .ok (.invokeinterface 169 2, 5) := by decide +kernel
theorem dX0_shoalOf_13 : decode cX0_shoalOf 13 = .ok (.checkcast 177, 3) := dk_192 0 177 (dk_at dksX0_shoalOf_0 13 rfl rfl)
theorem dX0_shoalOf_16 : decode cX0_shoalOf 16 = .ok (.areturn, 1) := dk_176 (dk_at dksX0_shoalOf_0 16 rfl rfl)
abbrev cX0_bays : ByteArray := prog_1_method_15_code
def yX0_bays : MethodName := ⟨RX0, "bays", "()I"⟩
def dkwX0_bays_0 : List UInt8 := [42, 180, 0, 31, 180, 0, 148, 185, 0, 152, 1, 0, 172]
abbrev dktX0_bays_0 : List UInt8 := dkwX0_bays_0 ++ []
theorem dksX0_bays_0 : cX0_bays.data.toList.drop 0 = dktX0_bays_0 := by decide +kernel
theorem dX0_bays_0 : decode cX0_bays 0 = .ok (.aload_n 0, 1) := dk_42 (dk_at dksX0_bays_0 0 rfl rfl)
theorem dX0_bays_1 : decode cX0_bays 1 = .ok (.getfield 31, 3) := dk_180 0 31 (dk_at dksX0_bays_0 1 rfl rfl)
theorem dX0_bays_4 : decode cX0_bays 4 = .ok (.getfield 148, 3) := dk_180 0 148 (dk_at dksX0_bays_0 4 rfl rfl)
theorem dX0_bays_7 : decode cX0_bays 7 = .ok (.invokeinterface 152 1, 5) := by decide +kernel
theorem dX0_bays_12 : decode cX0_bays 12 = .ok (.ireturn, 1) := dk_172 (dk_at dksX0_bays_0 12 rfl rfl)
abbrev cX0_bayOf : ByteArray := prog_1_method_21_code
def yX0_bayOf : MethodName := ⟨RX0, "bayOf", "(I)LMarriageHerring$Bay;"⟩
def dkwX0_bayOf_0 : List UInt8 := [42, 180, 0, 31, 180, 0, 148, 27, 185, 0, 169, 2, 0, 192, 0, 173, 176]
abbrev dktX0_bayOf_0 : List UInt8 := dkwX0_bayOf_0 ++ []
theorem dksX0_bayOf_0 : cX0_bayOf.data.toList.drop 0 = dktX0_bayOf_0 := by decide +kernel
theorem dX0_bayOf_0 : decode cX0_bayOf 0 = .ok (.aload_n 0, 1) := dk_42 (dk_at dksX0_bayOf_0 0 rfl rfl)
theorem dX0_bayOf_1 : decode cX0_bayOf 1 = .ok (.getfield 31, 3) := dk_180 0 31 (dk_at dksX0_bayOf_0 1 rfl rfl)
theorem dX0_bayOf_4 : decode cX0_bayOf 4 = .ok (.getfield 148, 3) := dk_180 0 148 (dk_at dksX0_bayOf_0 4 rfl rfl)
theorem dX0_bayOf_7 : decode cX0_bayOf 7 = .ok (.iload_n 1, 1) := dk_27 (dk_at dksX0_bayOf_0 7 rfl rfl)
theorem dX0_bayOf_8 : decode cX0_bayOf 8 = .ok (.invokeinterface 169 2, 5) := by decide +kernel
theorem dX0_bayOf_13 : decode cX0_bayOf 13 = .ok (.checkcast 173, 3) := dk_192 0 173 (dk_at dksX0_bayOf_0 13 rfl rfl)
theorem dX0_bayOf_16 : decode cX0_bayOf 16 = .ok (.areturn, 1) := dk_176 (dk_at dksX0_bayOf_0 16 rfl rfl)
abbrev cX0_pairs : ByteArray := prog_1_method_16_code
def yX0_pairs : MethodName := ⟨RX0, "pairs", "()I"⟩
def dkwX0_pairs_0 : List UInt8 := [42, 180, 0, 31, 180, 0, 157, 185, 0, 152, 1, 0, 172]
abbrev dktX0_pairs_0 : List UInt8 := dkwX0_pairs_0 ++ []
theorem dksX0_pairs_0 : cX0_pairs.data.toList.drop 0 = dktX0_pairs_0 := by decide +kernel
theorem dX0_pairs_0 : decode cX0_pairs 0 = .ok (.aload_n 0, 1) := dk_42 (dk_at dksX0_pairs_0 0 rfl rfl)
theorem dX0_pairs_1 : decode cX0_pairs 1 = .ok (.getfield 31, 3) := dk_180 0 31 (dk_at dksX0_pairs_0 1 rfl rfl)
theorem dX0_pairs_4 : decode cX0_pairs 4 = .ok (.getfield 157, 3) := dk_180 0 157 (dk_at dksX0_pairs_0 4 rfl rfl)
theorem dX0_pairs_7 : decode cX0_pairs 7 = .ok (.invokeinterface 152 1, 5) := by decide +kernel
theorem dX0_pairs_12 : decode cX0_pairs 12 = .ok (.ireturn, 1) := dk_172 (dk_at dksX0_pairs_0 12 rfl rfl)
abbrev cX0_pairOf : ByteArray := prog_1_method_22_code
def yX0_pairOf : MethodName := ⟨RX0, "pairOf", "(I)LMarriageHerring$Couple;"⟩
def dkwX0_pairOf_0 : List UInt8 := [42, 180, 0, 31, 180, 0, 157, 27, 185, 0, 169, 2, 0, 192, 0, 175, 176]
abbrev dktX0_pairOf_0 : List UInt8 := dkwX0_pairOf_0 ++ []
theorem dksX0_pairOf_0 : cX0_pairOf.data.toList.drop 0 = dktX0_pairOf_0 := by decide +kernel
theorem dX0_pairOf_0 : decode cX0_pairOf 0 = .ok (.aload_n 0, 1) := dk_42 (dk_at dksX0_pairOf_0 0 rfl rfl)
theorem dX0_pairOf_1 : decode cX0_pairOf 1 = .ok (.getfield 31, 3) := dk_180 0 31 (dk_at dksX0_pairOf_0 1 rfl rfl)
theorem dX0_pairOf_4 : decode cX0_pairOf 4 = .ok (.getfield 157, 3) := dk_180 0 157 (dk_at dksX0_pairOf_0 4 rfl rfl)
theorem dX0_pairOf_7 : decode cX0_pairOf 7 = .ok (.iload_n 1, 1) := dk_27 (dk_at dksX0_pairOf_0 7 rfl rfl)
theorem dX0_pairOf_8 : decode cX0_pairOf 8 = .ok (.invokeinterface 169 2, 5) := by decide +kernel
theorem dX0_pairOf_13 : decode cX0_pairOf 13 = .ok (.checkcast 175, 3) := dk_192 0 175 (dk_at dksX0_pairOf_0 13 rfl rfl)
theorem dX0_pairOf_16 : decode cX0_pairOf 16 = .ok (.areturn, 1) := dk_176 (dk_at dksX0_pairOf_0 16 rfl rfl)
abbrev cX0_fault : ByteArray := prog_1_method_14_code
def yX0_fault : MethodName := ⟨RX0, "fault", "(I)I"⟩
def dkwX0_fault_1 : List UInt8 := [172]
abbrev dktX0_fault_1 : List UInt8 := dkwX0_fault_1 ++ []
def dkwX0_fault_0 : List UInt8 := [27, 154, 0, 10, 42, 180, 0, 117, 167, 0, 16, 27, 4, 160, 0, 10, 42, 180, 0, 39, 167, 0, 4, 2]
abbrev dktX0_fault_0 : List UInt8 := dkwX0_fault_0 ++ dktX0_fault_1
theorem dksX0_fault_0 : cX0_fault.data.toList.drop 0 = dktX0_fault_0 := by decide +kernel
theorem dksX0_fault_1 : cX0_fault.data.toList.drop 24 = dktX0_fault_1 := dk_seg dksX0_fault_0 24 rfl rfl
theorem dX0_fault_0 : decode cX0_fault 0 = .ok (.iload_n 1, 1) := dk_27 (dk_at dksX0_fault_0 0 rfl rfl)
theorem dX0_fault_1 : decode cX0_fault 1 = .ok (.ifCond .ne 10, 3) := dk_154 0 10 (dk_at dksX0_fault_0 1 rfl rfl)
theorem dX0_fault_4 : decode cX0_fault 4 = .ok (.aload_n 0, 1) := dk_42 (dk_at dksX0_fault_0 4 rfl rfl)
theorem dX0_fault_5 : decode cX0_fault 5 = .ok (.getfield 117, 3) := dk_180 0 117 (dk_at dksX0_fault_0 5 rfl rfl)
theorem dX0_fault_8 : decode cX0_fault 8 = .ok (.goto 16, 3) := dk_167 0 16 (dk_at dksX0_fault_0 8 rfl rfl)
theorem dX0_fault_11 : decode cX0_fault 11 = .ok (.iload_n 1, 1) := dk_27 (dk_at dksX0_fault_0 11 rfl rfl)
theorem dX0_fault_12 : decode cX0_fault 12 = .ok (.iconst 1, 1) := dk_4 (dk_at dksX0_fault_0 12 rfl rfl)
theorem dX0_fault_13 : decode cX0_fault 13 = .ok (.if_icmp .ne 10, 3) := dk_160 0 10 (dk_at dksX0_fault_0 13 rfl rfl)
theorem dX0_fault_16 : decode cX0_fault 16 = .ok (.aload_n 0, 1) := dk_42 (dk_at dksX0_fault_0 16 rfl rfl)
theorem dX0_fault_17 : decode cX0_fault 17 = .ok (.getfield 39, 3) := dk_180 0 39 (dk_at dksX0_fault_0 17 rfl rfl)
theorem dX0_fault_20 : decode cX0_fault 20 = .ok (.goto 4, 3) := dk_167 0 4 (dk_at dksX0_fault_0 20 rfl rfl)
theorem dX0_fault_23 : decode cX0_fault 23 = .ok (.iconst (-1), 1) := dk_2 (dk_at dksX0_fault_0 23 rfl rfl)
theorem dX0_fault_24 : decode cX0_fault 24 = .ok (.ireturn, 1) := dk_172 (dk_at dksX0_fault_1 0 rfl rfl)
abbrev cX0_has_2 : ByteArray := prog_1_method_25_code
def yX0_has_2 : MethodName := ⟨RX0, "has", "(I)I"⟩
def dkwX0_has_2_7 : List UInt8 := [180, 0, 142, 172, 42, 180, 0, 139, 172, 2, 172]
abbrev dktX0_has_2_7 : List UInt8 := dkwX0_has_2_7 ++ []
def dkwX0_has_2_6 : List UInt8 := [167, 255, 224, 28, 172, 42, 180, 0, 69, 182, 0, 189, 172, 42, 180, 0, 69, 180, 0, 192, 172, 42]
abbrev dktX0_has_2_6 : List UInt8 := dkwX0_has_2_6 ++ dktX0_has_2_7
def dkwX0_has_2_5 : List UInt8 := [28, 42, 180, 0, 69, 180, 0, 186, 29, 46, 2, 159, 0, 7, 4, 167, 0, 4, 3, 96, 61, 132, 3, 1]
abbrev dktX0_has_2_5 : List UInt8 := dkwX0_has_2_5 ++ dktX0_has_2_6
def dkwX0_has_2_4 : List UInt8 := [167, 0, 4, 3, 96, 61, 132, 3, 1, 167, 255, 226, 28, 172, 3, 62, 29, 42, 182, 0, 167, 162, 0, 30]
abbrev dktX0_has_2_4 : List UInt8 := dkwX0_has_2_4 ++ dktX0_has_2_5
def dkwX0_has_2_3 : List UInt8 := [62, 29, 42, 182, 0, 165, 162, 0, 28, 28, 42, 180, 0, 69, 29, 182, 0, 182, 153, 0, 7, 4]
abbrev dktX0_has_2_3 : List UInt8 := dkwX0_has_2_3 ++ dktX0_has_2_4
def dkwX0_has_2_2 : List UInt8 := [42, 182, 0, 163, 172, 42, 182, 0, 165, 172, 42, 182, 0, 167, 172, 42, 180, 0, 69, 180, 0, 179, 172, 3]
abbrev dktX0_has_2_2 : List UInt8 := dkwX0_has_2_2 ++ dktX0_has_2_3
def dkwX0_has_2_1 : List UInt8 := [170, 0, 0, 0, 178, 0, 0, 0, 0, 0, 0, 0, 9, 0, 0, 0, 53, 0, 0, 0, 58, 0, 0, 0, 63, 0, 0, 0, 68, 0, 0, 0, 76, 0, 0, 0, 113, 0, 0, 0, 152, 0, 0, 0, 160, 0, 0, 0, 168, 0, 0, 0, 173]
abbrev dktX0_has_2_1 : List UInt8 := dkwX0_has_2_1 ++ dktX0_has_2_2
def dkwX0_has_2_0 : List UInt8 := [3, 61, 27]
abbrev dktX0_has_2_0 : List UInt8 := dkwX0_has_2_0 ++ dktX0_has_2_1
theorem dksX0_has_2_0 : cX0_has_2.data.toList.drop 0 = dktX0_has_2_0 := by decide +kernel
theorem dksX0_has_2_1 : cX0_has_2.data.toList.drop 3 = dktX0_has_2_1 := dk_seg dksX0_has_2_0 3 rfl rfl
theorem dksX0_has_2_2 : cX0_has_2.data.toList.drop 56 = dktX0_has_2_2 := dk_seg dksX0_has_2_1 53 rfl rfl
theorem dksX0_has_2_3 : cX0_has_2.data.toList.drop 80 = dktX0_has_2_3 := dk_seg dksX0_has_2_2 24 rfl rfl
theorem dksX0_has_2_4 : cX0_has_2.data.toList.drop 102 = dktX0_has_2_4 := dk_seg dksX0_has_2_3 22 rfl rfl
theorem dksX0_has_2_5 : cX0_has_2.data.toList.drop 126 = dktX0_has_2_5 := dk_seg dksX0_has_2_4 24 rfl rfl
theorem dksX0_has_2_6 : cX0_has_2.data.toList.drop 150 = dktX0_has_2_6 := dk_seg dksX0_has_2_5 24 rfl rfl
theorem dksX0_has_2_7 : cX0_has_2.data.toList.drop 172 = dktX0_has_2_7 := dk_seg dksX0_has_2_6 22 rfl rfl
theorem dX0_has_2_0 : decode cX0_has_2 0 = .ok (.iconst 0, 1) := dk_3 (dk_at dksX0_has_2_0 0 rfl rfl)
theorem dX0_has_2_1 : decode cX0_has_2 1 = .ok (.istore_n 2, 1) := dk_61 (dk_at dksX0_has_2_0 1 rfl rfl)
theorem dX0_has_2_2 : decode cX0_has_2 2 = .ok (.iload_n 1, 1) := dk_27 (dk_at dksX0_has_2_0 2 rfl rfl)
theorem dX0_has_2_3 : decode cX0_has_2 3 = .ok (.tableswitch 178 0 9 #[53, 58, 63, 68, 76, 113, 152, 160, 168, 173], 53) := by decide +kernel
theorem dX0_has_2_56 : decode cX0_has_2 56 = .ok (.aload_n 0, 1) := dk_42 (dk_at dksX0_has_2_2 0 rfl rfl)
theorem dX0_has_2_57 : decode cX0_has_2 57 = .ok (.invokevirtual 163, 3) := dk_182 0 163 (dk_at dksX0_has_2_2 1 rfl rfl)
theorem dX0_has_2_60 : decode cX0_has_2 60 = .ok (.ireturn, 1) := dk_172 (dk_at dksX0_has_2_2 4 rfl rfl)
theorem dX0_has_2_61 : decode cX0_has_2 61 = .ok (.aload_n 0, 1) := dk_42 (dk_at dksX0_has_2_2 5 rfl rfl)
theorem dX0_has_2_62 : decode cX0_has_2 62 = .ok (.invokevirtual 165, 3) := dk_182 0 165 (dk_at dksX0_has_2_2 6 rfl rfl)
theorem dX0_has_2_65 : decode cX0_has_2 65 = .ok (.ireturn, 1) := dk_172 (dk_at dksX0_has_2_2 9 rfl rfl)
theorem dX0_has_2_66 : decode cX0_has_2 66 = .ok (.aload_n 0, 1) := dk_42 (dk_at dksX0_has_2_2 10 rfl rfl)
theorem dX0_has_2_67 : decode cX0_has_2 67 = .ok (.invokevirtual 167, 3) := dk_182 0 167 (dk_at dksX0_has_2_2 11 rfl rfl)
theorem dX0_has_2_70 : decode cX0_has_2 70 = .ok (.ireturn, 1) := dk_172 (dk_at dksX0_has_2_2 14 rfl rfl)
theorem dX0_has_2_71 : decode cX0_has_2 71 = .ok (.aload_n 0, 1) := dk_42 (dk_at dksX0_has_2_2 15 rfl rfl)
theorem dX0_has_2_72 : decode cX0_has_2 72 = .ok (.getfield 69, 3) := dk_180 0 69 (dk_at dksX0_has_2_2 16 rfl rfl)
theorem dX0_has_2_75 : decode cX0_has_2 75 = .ok (.getfield 179, 3) := dk_180 0 179 (dk_at dksX0_has_2_2 19 rfl rfl)
theorem dX0_has_2_78 : decode cX0_has_2 78 = .ok (.ireturn, 1) := dk_172 (dk_at dksX0_has_2_2 22 rfl rfl)
theorem dX0_has_2_79 : decode cX0_has_2 79 = .ok (.iconst 0, 1) := dk_3 (dk_at dksX0_has_2_2 23 rfl rfl)
theorem dX0_has_2_80 : decode cX0_has_2 80 = .ok (.istore_n 3, 1) := dk_62 (dk_at dksX0_has_2_3 0 rfl rfl)
theorem dX0_has_2_81 : decode cX0_has_2 81 = .ok (.iload_n 3, 1) := dk_29 (dk_at dksX0_has_2_3 1 rfl rfl)
theorem dX0_has_2_82 : decode cX0_has_2 82 = .ok (.aload_n 0, 1) := dk_42 (dk_at dksX0_has_2_3 2 rfl rfl)
theorem dX0_has_2_83 : decode cX0_has_2 83 = .ok (.invokevirtual 165, 3) := dk_182 0 165 (dk_at dksX0_has_2_3 3 rfl rfl)
theorem dX0_has_2_86 : decode cX0_has_2 86 = .ok (.if_icmp .ge 28, 3) := dk_162 0 28 (dk_at dksX0_has_2_3 6 rfl rfl)
theorem dX0_has_2_89 : decode cX0_has_2 89 = .ok (.iload_n 2, 1) := dk_28 (dk_at dksX0_has_2_3 9 rfl rfl)
theorem dX0_has_2_90 : decode cX0_has_2 90 = .ok (.aload_n 0, 1) := dk_42 (dk_at dksX0_has_2_3 10 rfl rfl)
theorem dX0_has_2_91 : decode cX0_has_2 91 = .ok (.getfield 69, 3) := dk_180 0 69 (dk_at dksX0_has_2_3 11 rfl rfl)
theorem dX0_has_2_94 : decode cX0_has_2 94 = .ok (.iload_n 3, 1) := dk_29 (dk_at dksX0_has_2_3 14 rfl rfl)
theorem dX0_has_2_95 : decode cX0_has_2 95 = .ok (.invokevirtual 182, 3) := dk_182 0 182 (dk_at dksX0_has_2_3 15 rfl rfl)
theorem dX0_has_2_98 : decode cX0_has_2 98 = .ok (.ifCond .eq 7, 3) := dk_153 0 7 (dk_at dksX0_has_2_3 18 rfl rfl)
theorem dX0_has_2_101 : decode cX0_has_2 101 = .ok (.iconst 1, 1) := dk_4 (dk_at dksX0_has_2_3 21 rfl rfl)
theorem dX0_has_2_102 : decode cX0_has_2 102 = .ok (.goto 4, 3) := dk_167 0 4 (dk_at dksX0_has_2_4 0 rfl rfl)
theorem dX0_has_2_105 : decode cX0_has_2 105 = .ok (.iconst 0, 1) := dk_3 (dk_at dksX0_has_2_4 3 rfl rfl)
theorem dX0_has_2_106 : decode cX0_has_2 106 = .ok (.iadd, 1) := dk_96 (dk_at dksX0_has_2_4 4 rfl rfl)
theorem dX0_has_2_107 : decode cX0_has_2 107 = .ok (.istore_n 2, 1) := dk_61 (dk_at dksX0_has_2_4 5 rfl rfl)
theorem dX0_has_2_108 : decode cX0_has_2 108 = .ok (.iinc 3 1, 3) := dk_132 3 1 (dk_at dksX0_has_2_4 6 rfl rfl)
theorem dX0_has_2_111 : decode cX0_has_2 111 = .ok (.goto (-30), 3) := dk_167 255 226 (dk_at dksX0_has_2_4 9 rfl rfl)
theorem dX0_has_2_114 : decode cX0_has_2 114 = .ok (.iload_n 2, 1) := dk_28 (dk_at dksX0_has_2_4 12 rfl rfl)
theorem dX0_has_2_115 : decode cX0_has_2 115 = .ok (.ireturn, 1) := dk_172 (dk_at dksX0_has_2_4 13 rfl rfl)
theorem dX0_has_2_116 : decode cX0_has_2 116 = .ok (.iconst 0, 1) := dk_3 (dk_at dksX0_has_2_4 14 rfl rfl)
theorem dX0_has_2_117 : decode cX0_has_2 117 = .ok (.istore_n 3, 1) := dk_62 (dk_at dksX0_has_2_4 15 rfl rfl)
theorem dX0_has_2_118 : decode cX0_has_2 118 = .ok (.iload_n 3, 1) := dk_29 (dk_at dksX0_has_2_4 16 rfl rfl)
theorem dX0_has_2_119 : decode cX0_has_2 119 = .ok (.aload_n 0, 1) := dk_42 (dk_at dksX0_has_2_4 17 rfl rfl)
theorem dX0_has_2_120 : decode cX0_has_2 120 = .ok (.invokevirtual 167, 3) := dk_182 0 167 (dk_at dksX0_has_2_4 18 rfl rfl)
theorem dX0_has_2_123 : decode cX0_has_2 123 = .ok (.if_icmp .ge 30, 3) := dk_162 0 30 (dk_at dksX0_has_2_4 21 rfl rfl)
theorem dX0_has_2_126 : decode cX0_has_2 126 = .ok (.iload_n 2, 1) := dk_28 (dk_at dksX0_has_2_5 0 rfl rfl)
theorem dX0_has_2_127 : decode cX0_has_2 127 = .ok (.aload_n 0, 1) := dk_42 (dk_at dksX0_has_2_5 1 rfl rfl)
theorem dX0_has_2_128 : decode cX0_has_2 128 = .ok (.getfield 69, 3) := dk_180 0 69 (dk_at dksX0_has_2_5 2 rfl rfl)
theorem dX0_has_2_131 : decode cX0_has_2 131 = .ok (.getfield 186, 3) := dk_180 0 186 (dk_at dksX0_has_2_5 5 rfl rfl)
theorem dX0_has_2_134 : decode cX0_has_2 134 = .ok (.iload_n 3, 1) := dk_29 (dk_at dksX0_has_2_5 8 rfl rfl)
theorem dX0_has_2_135 : decode cX0_has_2 135 = .ok (.iaload, 1) := dk_46 (dk_at dksX0_has_2_5 9 rfl rfl)
theorem dX0_has_2_136 : decode cX0_has_2 136 = .ok (.iconst (-1), 1) := dk_2 (dk_at dksX0_has_2_5 10 rfl rfl)
theorem dX0_has_2_137 : decode cX0_has_2 137 = .ok (.if_icmp .eq 7, 3) := dk_159 0 7 (dk_at dksX0_has_2_5 11 rfl rfl)
theorem dX0_has_2_140 : decode cX0_has_2 140 = .ok (.iconst 1, 1) := dk_4 (dk_at dksX0_has_2_5 14 rfl rfl)
theorem dX0_has_2_141 : decode cX0_has_2 141 = .ok (.goto 4, 3) := dk_167 0 4 (dk_at dksX0_has_2_5 15 rfl rfl)
theorem dX0_has_2_144 : decode cX0_has_2 144 = .ok (.iconst 0, 1) := dk_3 (dk_at dksX0_has_2_5 18 rfl rfl)
theorem dX0_has_2_145 : decode cX0_has_2 145 = .ok (.iadd, 1) := dk_96 (dk_at dksX0_has_2_5 19 rfl rfl)
theorem dX0_has_2_146 : decode cX0_has_2 146 = .ok (.istore_n 2, 1) := dk_61 (dk_at dksX0_has_2_5 20 rfl rfl)
theorem dX0_has_2_147 : decode cX0_has_2 147 = .ok (.iinc 3 1, 3) := dk_132 3 1 (dk_at dksX0_has_2_5 21 rfl rfl)
theorem dX0_has_2_150 : decode cX0_has_2 150 = .ok (.goto (-32), 3) := dk_167 255 224 (dk_at dksX0_has_2_6 0 rfl rfl)
theorem dX0_has_2_153 : decode cX0_has_2 153 = .ok (.iload_n 2, 1) := dk_28 (dk_at dksX0_has_2_6 3 rfl rfl)
theorem dX0_has_2_154 : decode cX0_has_2 154 = .ok (.ireturn, 1) := dk_172 (dk_at dksX0_has_2_6 4 rfl rfl)
theorem dX0_has_2_155 : decode cX0_has_2 155 = .ok (.aload_n 0, 1) := dk_42 (dk_at dksX0_has_2_6 5 rfl rfl)
theorem dX0_has_2_156 : decode cX0_has_2 156 = .ok (.getfield 69, 3) := dk_180 0 69 (dk_at dksX0_has_2_6 6 rfl rfl)
theorem dX0_has_2_159 : decode cX0_has_2 159 = .ok (.invokevirtual 189, 3) := dk_182 0 189 (dk_at dksX0_has_2_6 9 rfl rfl)
theorem dX0_has_2_162 : decode cX0_has_2 162 = .ok (.ireturn, 1) := dk_172 (dk_at dksX0_has_2_6 12 rfl rfl)
theorem dX0_has_2_163 : decode cX0_has_2 163 = .ok (.aload_n 0, 1) := dk_42 (dk_at dksX0_has_2_6 13 rfl rfl)
theorem dX0_has_2_164 : decode cX0_has_2 164 = .ok (.getfield 69, 3) := dk_180 0 69 (dk_at dksX0_has_2_6 14 rfl rfl)
theorem dX0_has_2_167 : decode cX0_has_2 167 = .ok (.getfield 192, 3) := dk_180 0 192 (dk_at dksX0_has_2_6 17 rfl rfl)
theorem dX0_has_2_170 : decode cX0_has_2 170 = .ok (.ireturn, 1) := dk_172 (dk_at dksX0_has_2_6 20 rfl rfl)
theorem dX0_has_2_171 : decode cX0_has_2 171 = .ok (.aload_n 0, 1) := dk_42 (dk_at dksX0_has_2_6 21 rfl rfl)
theorem dX0_has_2_172 : decode cX0_has_2 172 = .ok (.getfield 142, 3) := dk_180 0 142 (dk_at dksX0_has_2_7 0 rfl rfl)
theorem dX0_has_2_175 : decode cX0_has_2 175 = .ok (.ireturn, 1) := dk_172 (dk_at dksX0_has_2_7 3 rfl rfl)
theorem dX0_has_2_176 : decode cX0_has_2 176 = .ok (.aload_n 0, 1) := dk_42 (dk_at dksX0_has_2_7 4 rfl rfl)
theorem dX0_has_2_177 : decode cX0_has_2 177 = .ok (.getfield 139, 3) := dk_180 0 139 (dk_at dksX0_has_2_7 5 rfl rfl)
theorem dX0_has_2_180 : decode cX0_has_2 180 = .ok (.ireturn, 1) := dk_172 (dk_at dksX0_has_2_7 8 rfl rfl)
theorem dX0_has_2_181 : decode cX0_has_2 181 = .ok (.iconst (-1), 1) := dk_2 (dk_at dksX0_has_2_7 9 rfl rfl)
theorem dX0_has_2_182 : decode cX0_has_2 182 = .ok (.ireturn, 1) := dk_172 (dk_at dksX0_has_2_7 10 rfl rfl)
abbrev cX0_held : ByteArray := prog_1_method_3_code
def yX0_held : MethodName := ⟨RX0, "held", "(J)J"⟩
def dkwX0_held_0 : List UInt8 := [20, 0, 3, 20, 0, 5, 30, 184, 0, 7, 184, 0, 13, 173]
abbrev dktX0_held_0 : List UInt8 := dkwX0_held_0 ++ []
theorem dksX0_held_0 : cX0_held.data.toList.drop 0 = dktX0_held_0 := by decide +kernel
theorem dX0_held_0 : decode cX0_held 0 = .ok (.ldc2_w 3, 3) := dk_20 0 3 (dk_at dksX0_held_0 0 rfl rfl)
theorem dX0_held_3 : decode cX0_held 3 = .ok (.ldc2_w 5, 3) := dk_20 0 5 (dk_at dksX0_held_0 3 rfl rfl)
theorem dX0_held_6 : decode cX0_held 6 = .ok (.lload_n 0, 1) := dk_30 (dk_at dksX0_held_0 6 rfl rfl)
theorem dX0_held_7 : decode cX0_held 7 = .ok (.invokestatic 7, 3) := dk_184 0 7 (dk_at dksX0_held_0 7 rfl rfl)
theorem dX0_held_10 : decode cX0_held 10 = .ok (.invokestatic 13, 3) := dk_184 0 13 (dk_at dksX0_held_0 10 rfl rfl)
theorem dX0_held_13 : decode cX0_held 13 = .ok (.lreturn, 1) := dk_173 (dk_at dksX0_held_0 13 rfl rfl)
abbrev cX0_looked : ByteArray := prog_1_method_57_code
def yX0_looked : MethodName := ⟨RX0, "looked", "(IJ)J"⟩
def dkwX0_looked_1 : List UInt8 := [180, 0, 69, 32, 136, 182, 0, 217, 133, 167, 0, 14, 42, 180, 0, 69, 180, 0, 223, 32, 136, 46, 133, 173]
abbrev dktX0_looked_1 : List UInt8 := dkwX0_looked_1 ++ []
def dkwX0_looked_0 : List UInt8 := [32, 9, 148, 155, 0, 13, 32, 42, 182, 0, 163, 133, 148, 155, 0, 5, 9, 173, 27, 154, 0, 16, 42]
abbrev dktX0_looked_0 : List UInt8 := dkwX0_looked_0 ++ dktX0_looked_1
theorem dksX0_looked_0 : cX0_looked.data.toList.drop 0 = dktX0_looked_0 := by decide +kernel
theorem dksX0_looked_1 : cX0_looked.data.toList.drop 23 = dktX0_looked_1 := dk_seg dksX0_looked_0 23 rfl rfl
theorem dX0_looked_0 : decode cX0_looked 0 = .ok (.lload_n 2, 1) := dk_32 (dk_at dksX0_looked_0 0 rfl rfl)
theorem dX0_looked_1 : decode cX0_looked 1 = .ok (.lconst 0, 1) := dk_9 (dk_at dksX0_looked_0 1 rfl rfl)
theorem dX0_looked_2 : decode cX0_looked 2 = .ok (.lcmp, 1) := dk_148 (dk_at dksX0_looked_0 2 rfl rfl)
theorem dX0_looked_3 : decode cX0_looked 3 = .ok (.ifCond .lt 13, 3) := dk_155 0 13 (dk_at dksX0_looked_0 3 rfl rfl)
theorem dX0_looked_6 : decode cX0_looked 6 = .ok (.lload_n 2, 1) := dk_32 (dk_at dksX0_looked_0 6 rfl rfl)
theorem dX0_looked_7 : decode cX0_looked 7 = .ok (.aload_n 0, 1) := dk_42 (dk_at dksX0_looked_0 7 rfl rfl)
theorem dX0_looked_8 : decode cX0_looked 8 = .ok (.invokevirtual 163, 3) := dk_182 0 163 (dk_at dksX0_looked_0 8 rfl rfl)
theorem dX0_looked_11 : decode cX0_looked 11 = .ok (.i2l, 1) := dk_133 (dk_at dksX0_looked_0 11 rfl rfl)
theorem dX0_looked_12 : decode cX0_looked 12 = .ok (.lcmp, 1) := dk_148 (dk_at dksX0_looked_0 12 rfl rfl)
theorem dX0_looked_13 : decode cX0_looked 13 = .ok (.ifCond .lt 5, 3) := dk_155 0 5 (dk_at dksX0_looked_0 13 rfl rfl)
theorem dX0_looked_16 : decode cX0_looked 16 = .ok (.lconst 0, 1) := dk_9 (dk_at dksX0_looked_0 16 rfl rfl)
theorem dX0_looked_17 : decode cX0_looked 17 = .ok (.lreturn, 1) := dk_173 (dk_at dksX0_looked_0 17 rfl rfl)
theorem dX0_looked_18 : decode cX0_looked 18 = .ok (.iload_n 1, 1) := dk_27 (dk_at dksX0_looked_0 18 rfl rfl)
theorem dX0_looked_19 : decode cX0_looked 19 = .ok (.ifCond .ne 16, 3) := dk_154 0 16 (dk_at dksX0_looked_0 19 rfl rfl)
theorem dX0_looked_22 : decode cX0_looked 22 = .ok (.aload_n 0, 1) := dk_42 (dk_at dksX0_looked_0 22 rfl rfl)
theorem dX0_looked_23 : decode cX0_looked 23 = .ok (.getfield 69, 3) := dk_180 0 69 (dk_at dksX0_looked_1 0 rfl rfl)
theorem dX0_looked_26 : decode cX0_looked 26 = .ok (.lload_n 2, 1) := dk_32 (dk_at dksX0_looked_1 3 rfl rfl)
theorem dX0_looked_27 : decode cX0_looked 27 = .ok (.l2i, 1) := dk_136 (dk_at dksX0_looked_1 4 rfl rfl)
theorem dX0_looked_28 : decode cX0_looked 28 = .ok (.invokevirtual 217, 3) := dk_182 0 217 (dk_at dksX0_looked_1 5 rfl rfl)
theorem dX0_looked_31 : decode cX0_looked 31 = .ok (.i2l, 1) := dk_133 (dk_at dksX0_looked_1 8 rfl rfl)
theorem dX0_looked_32 : decode cX0_looked 32 = .ok (.goto 14, 3) := dk_167 0 14 (dk_at dksX0_looked_1 9 rfl rfl)
theorem dX0_looked_35 : decode cX0_looked 35 = .ok (.aload_n 0, 1) := dk_42 (dk_at dksX0_looked_1 12 rfl rfl)
theorem dX0_looked_36 : decode cX0_looked 36 = .ok (.getfield 69, 3) := dk_180 0 69 (dk_at dksX0_looked_1 13 rfl rfl)
theorem dX0_looked_39 : decode cX0_looked 39 = .ok (.getfield 223, 3) := dk_180 0 223 (dk_at dksX0_looked_1 16 rfl rfl)
theorem dX0_looked_42 : decode cX0_looked 42 = .ok (.lload_n 2, 1) := dk_32 (dk_at dksX0_looked_1 19 rfl rfl)
theorem dX0_looked_43 : decode cX0_looked 43 = .ok (.l2i, 1) := dk_136 (dk_at dksX0_looked_1 20 rfl rfl)
theorem dX0_looked_44 : decode cX0_looked 44 = .ok (.iaload, 1) := dk_46 (dk_at dksX0_looked_1 21 rfl rfl)
theorem dX0_looked_45 : decode cX0_looked 45 = .ok (.i2l, 1) := dk_133 (dk_at dksX0_looked_1 22 rfl rfl)
theorem dX0_looked_46 : decode cX0_looked 46 = .ok (.lreturn, 1) := dk_173 (dk_at dksX0_looked_1 23 rfl rfl)
abbrev cX0_letter : ByteArray := prog_1_method_26_code
def yX0_letter : MethodName := ⟨RX0, "letter", "(III)I"⟩
def dkwX0_letter_3 : List UInt8 := [162, 0, 21, 25, 4, 28, 185, 0, 169, 2, 0, 192, 0, 199, 29, 182, 0, 201, 167, 0, 4, 2, 172]
abbrev dktX0_letter_3 : List UInt8 := dkwX0_letter_3 ++ []
def dkwX0_letter_2 : List UInt8 := [180, 0, 157, 167, 0, 10, 42, 180, 0, 31, 180, 0, 160, 58, 4, 28, 25, 4, 185, 0, 152, 1, 0]
abbrev dktX0_letter_2 : List UInt8 := dkwX0_letter_2 ++ dktX0_letter_3
def dkwX0_letter_1 : List UInt8 := [27, 154, 0, 13, 42, 180, 0, 31, 180, 0, 148, 167, 0, 25, 27, 4, 160, 0, 13, 42, 180, 0, 31]
abbrev dktX0_letter_1 : List UInt8 := dkwX0_letter_1 ++ dktX0_letter_2
def dkwX0_letter_0 : List UInt8 := [29, 3, 8, 184, 0, 195, 153, 0, 16, 27, 3, 5, 184, 0, 195, 153, 0, 7, 28, 156, 0, 5, 2, 172]
abbrev dktX0_letter_0 : List UInt8 := dkwX0_letter_0 ++ dktX0_letter_1
theorem dksX0_letter_0 : cX0_letter.data.toList.drop 0 = dktX0_letter_0 := by decide +kernel
theorem dksX0_letter_1 : cX0_letter.data.toList.drop 24 = dktX0_letter_1 := dk_seg dksX0_letter_0 24 rfl rfl
theorem dksX0_letter_2 : cX0_letter.data.toList.drop 47 = dktX0_letter_2 := dk_seg dksX0_letter_1 23 rfl rfl
theorem dksX0_letter_3 : cX0_letter.data.toList.drop 70 = dktX0_letter_3 := dk_seg dksX0_letter_2 23 rfl rfl
theorem dX0_letter_0 : decode cX0_letter 0 = .ok (.iload_n 3, 1) := dk_29 (dk_at dksX0_letter_0 0 rfl rfl)
theorem dX0_letter_1 : decode cX0_letter 1 = .ok (.iconst 0, 1) := dk_3 (dk_at dksX0_letter_0 1 rfl rfl)
theorem dX0_letter_2 : decode cX0_letter 2 = .ok (.iconst 5, 1) := dk_8 (dk_at dksX0_letter_0 2 rfl rfl)
theorem dX0_letter_3 : decode cX0_letter 3 = .ok (.invokestatic 195, 3) := dk_184 0 195 (dk_at dksX0_letter_0 3 rfl rfl)
theorem dX0_letter_6 : decode cX0_letter 6 = .ok (.ifCond .eq 16, 3) := dk_153 0 16 (dk_at dksX0_letter_0 6 rfl rfl)
theorem dX0_letter_9 : decode cX0_letter 9 = .ok (.iload_n 1, 1) := dk_27 (dk_at dksX0_letter_0 9 rfl rfl)
theorem dX0_letter_10 : decode cX0_letter 10 = .ok (.iconst 0, 1) := dk_3 (dk_at dksX0_letter_0 10 rfl rfl)
theorem dX0_letter_11 : decode cX0_letter 11 = .ok (.iconst 2, 1) := dk_5 (dk_at dksX0_letter_0 11 rfl rfl)
theorem dX0_letter_12 : decode cX0_letter 12 = .ok (.invokestatic 195, 3) := dk_184 0 195 (dk_at dksX0_letter_0 12 rfl rfl)
theorem dX0_letter_15 : decode cX0_letter 15 = .ok (.ifCond .eq 7, 3) := dk_153 0 7 (dk_at dksX0_letter_0 15 rfl rfl)
theorem dX0_letter_18 : decode cX0_letter 18 = .ok (.iload_n 2, 1) := dk_28 (dk_at dksX0_letter_0 18 rfl rfl)
theorem dX0_letter_19 : decode cX0_letter 19 = .ok (.ifCond .ge 5, 3) := dk_156 0 5 (dk_at dksX0_letter_0 19 rfl rfl)
theorem dX0_letter_22 : decode cX0_letter 22 = .ok (.iconst (-1), 1) := dk_2 (dk_at dksX0_letter_0 22 rfl rfl)
theorem dX0_letter_23 : decode cX0_letter 23 = .ok (.ireturn, 1) := dk_172 (dk_at dksX0_letter_0 23 rfl rfl)
theorem dX0_letter_24 : decode cX0_letter 24 = .ok (.iload_n 1, 1) := dk_27 (dk_at dksX0_letter_1 0 rfl rfl)
theorem dX0_letter_25 : decode cX0_letter 25 = .ok (.ifCond .ne 13, 3) := dk_154 0 13 (dk_at dksX0_letter_1 1 rfl rfl)
theorem dX0_letter_28 : decode cX0_letter 28 = .ok (.aload_n 0, 1) := dk_42 (dk_at dksX0_letter_1 4 rfl rfl)
theorem dX0_letter_29 : decode cX0_letter 29 = .ok (.getfield 31, 3) := dk_180 0 31 (dk_at dksX0_letter_1 5 rfl rfl)
theorem dX0_letter_32 : decode cX0_letter 32 = .ok (.getfield 148, 3) := dk_180 0 148 (dk_at dksX0_letter_1 8 rfl rfl)
theorem dX0_letter_35 : decode cX0_letter 35 = .ok (.goto 25, 3) := dk_167 0 25 (dk_at dksX0_letter_1 11 rfl rfl)
theorem dX0_letter_38 : decode cX0_letter 38 = .ok (.iload_n 1, 1) := dk_27 (dk_at dksX0_letter_1 14 rfl rfl)
theorem dX0_letter_39 : decode cX0_letter 39 = .ok (.iconst 1, 1) := dk_4 (dk_at dksX0_letter_1 15 rfl rfl)
theorem dX0_letter_40 : decode cX0_letter 40 = .ok (.if_icmp .ne 13, 3) := dk_160 0 13 (dk_at dksX0_letter_1 16 rfl rfl)
theorem dX0_letter_43 : decode cX0_letter 43 = .ok (.aload_n 0, 1) := dk_42 (dk_at dksX0_letter_1 19 rfl rfl)
theorem dX0_letter_44 : decode cX0_letter 44 = .ok (.getfield 31, 3) := dk_180 0 31 (dk_at dksX0_letter_1 20 rfl rfl)
theorem dX0_letter_47 : decode cX0_letter 47 = .ok (.getfield 157, 3) := dk_180 0 157 (dk_at dksX0_letter_2 0 rfl rfl)
theorem dX0_letter_50 : decode cX0_letter 50 = .ok (.goto 10, 3) := dk_167 0 10 (dk_at dksX0_letter_2 3 rfl rfl)
theorem dX0_letter_53 : decode cX0_letter 53 = .ok (.aload_n 0, 1) := dk_42 (dk_at dksX0_letter_2 6 rfl rfl)
theorem dX0_letter_54 : decode cX0_letter 54 = .ok (.getfield 31, 3) := dk_180 0 31 (dk_at dksX0_letter_2 7 rfl rfl)
theorem dX0_letter_57 : decode cX0_letter 57 = .ok (.getfield 160, 3) := dk_180 0 160 (dk_at dksX0_letter_2 10 rfl rfl)
theorem dX0_letter_60 : decode cX0_letter 60 = .ok (.astore 4, 2) := dk_58 4 (dk_at dksX0_letter_2 13 rfl rfl)
theorem dX0_letter_62 : decode cX0_letter 62 = .ok (.iload_n 2, 1) := dk_28 (dk_at dksX0_letter_2 15 rfl rfl)
theorem dX0_letter_63 : decode cX0_letter 63 = .ok (.aload 4, 2) := dk_25 4 (dk_at dksX0_letter_2 16 rfl rfl)
theorem dX0_letter_65 : decode cX0_letter 65 = .ok (.invokeinterface 152 1, 5) := by decide +kernel
theorem dX0_letter_70 : decode cX0_letter 70 = .ok (.if_icmp .ge 21, 3) := dk_162 0 21 (dk_at dksX0_letter_3 0 rfl rfl)
theorem dX0_letter_73 : decode cX0_letter 73 = .ok (.aload 4, 2) := dk_25 4 (dk_at dksX0_letter_3 3 rfl rfl)
theorem dX0_letter_75 : decode cX0_letter 75 = .ok (.iload_n 2, 1) := dk_28 (dk_at dksX0_letter_3 5 rfl rfl)
theorem dX0_letter_76 : decode cX0_letter 76 = .ok (.invokeinterface 169 2, 5) := by decide +kernel
theorem dX0_letter_81 : decode cX0_letter 81 = .ok (.checkcast 199, 3) := dk_192 0 199 (dk_at dksX0_letter_3 11 rfl rfl)
theorem dX0_letter_84 : decode cX0_letter 84 = .ok (.iload_n 3, 1) := dk_29 (dk_at dksX0_letter_3 14 rfl rfl)
theorem dX0_letter_85 : decode cX0_letter 85 = .ok (.invokevirtual 201, 3) := dk_182 0 201 (dk_at dksX0_letter_3 15 rfl rfl)
theorem dX0_letter_88 : decode cX0_letter 88 = .ok (.goto 4, 3) := dk_167 0 4 (dk_at dksX0_letter_3 18 rfl rfl)
theorem dX0_letter_91 : decode cX0_letter 91 = .ok (.iconst (-1), 1) := dk_2 (dk_at dksX0_letter_3 21 rfl rfl)
theorem dX0_letter_92 : decode cX0_letter 92 = .ok (.ireturn, 1) := dk_172 (dk_at dksX0_letter_3 22 rfl rfl)
abbrev cX0_bay : ByteArray := prog_1_method_27_code
def yX0_bay : MethodName := ⟨RX0, "bay", "(II)I"⟩
def dkwX0_bay_4 : List UInt8 := [2, 172]
abbrev dktX0_bay_4 : List UInt8 := dkwX0_bay_4 ++ []
def dkwX0_bay_3 : List UInt8 := [182, 0, 217, 172, 42, 180, 0, 69, 180, 0, 220, 27, 46, 172, 42, 180, 0, 69, 180, 0, 223, 27, 46, 172]
abbrev dktX0_bay_3 : List UInt8 := dkwX0_bay_3 ++ dktX0_bay_4
def dkwX0_bay_2 : List UInt8 := [42, 27, 182, 0, 207, 180, 0, 211, 172, 42, 180, 0, 69, 180, 0, 214, 27, 46, 172, 42, 180, 0, 69, 27]
abbrev dktX0_bay_2 : List UInt8 := dkwX0_bay_2 ++ dktX0_bay_3
def dkwX0_bay_1 : List UInt8 := [170, 0, 0, 0, 81, 0, 0, 0, 0, 0, 0, 0, 4, 0, 0, 0, 33, 0, 0, 0, 42, 0, 0, 0, 52, 0, 0, 0, 61, 0, 0, 0, 71]
abbrev dktX0_bay_1 : List UInt8 := dkwX0_bay_1 ++ dktX0_bay_2
def dkwX0_bay_0 : List UInt8 := [42, 27, 182, 0, 204, 154, 0, 5, 2, 172, 28]
abbrev dktX0_bay_0 : List UInt8 := dkwX0_bay_0 ++ dktX0_bay_1
theorem dksX0_bay_0 : cX0_bay.data.toList.drop 0 = dktX0_bay_0 := by decide +kernel
theorem dksX0_bay_1 : cX0_bay.data.toList.drop 11 = dktX0_bay_1 := dk_seg dksX0_bay_0 11 rfl rfl
theorem dksX0_bay_2 : cX0_bay.data.toList.drop 44 = dktX0_bay_2 := dk_seg dksX0_bay_1 33 rfl rfl
theorem dksX0_bay_3 : cX0_bay.data.toList.drop 68 = dktX0_bay_3 := dk_seg dksX0_bay_2 24 rfl rfl
theorem dksX0_bay_4 : cX0_bay.data.toList.drop 92 = dktX0_bay_4 := dk_seg dksX0_bay_3 24 rfl rfl
theorem dX0_bay_0 : decode cX0_bay 0 = .ok (.aload_n 0, 1) := dk_42 (dk_at dksX0_bay_0 0 rfl rfl)
theorem dX0_bay_1 : decode cX0_bay 1 = .ok (.iload_n 1, 1) := dk_27 (dk_at dksX0_bay_0 1 rfl rfl)
theorem dX0_bay_2 : decode cX0_bay 2 = .ok (.invokevirtual 204, 3) := dk_182 0 204 (dk_at dksX0_bay_0 2 rfl rfl)
theorem dX0_bay_5 : decode cX0_bay 5 = .ok (.ifCond .ne 5, 3) := dk_154 0 5 (dk_at dksX0_bay_0 5 rfl rfl)
theorem dX0_bay_8 : decode cX0_bay 8 = .ok (.iconst (-1), 1) := dk_2 (dk_at dksX0_bay_0 8 rfl rfl)
theorem dX0_bay_9 : decode cX0_bay 9 = .ok (.ireturn, 1) := dk_172 (dk_at dksX0_bay_0 9 rfl rfl)
theorem dX0_bay_10 : decode cX0_bay 10 = .ok (.iload_n 2, 1) := dk_28 (dk_at dksX0_bay_0 10 rfl rfl)
theorem dX0_bay_11 : decode cX0_bay 11 = .ok (.tableswitch 81 0 4 #[33, 42, 52, 61, 71], 33) := by decide +kernel
theorem dX0_bay_44 : decode cX0_bay 44 = .ok (.aload_n 0, 1) := dk_42 (dk_at dksX0_bay_2 0 rfl rfl)
theorem dX0_bay_45 : decode cX0_bay 45 = .ok (.iload_n 1, 1) := dk_27 (dk_at dksX0_bay_2 1 rfl rfl)
theorem dX0_bay_46 : decode cX0_bay 46 = .ok (.invokevirtual 207, 3) := dk_182 0 207 (dk_at dksX0_bay_2 2 rfl rfl)
theorem dX0_bay_49 : decode cX0_bay 49 = .ok (.getfield 211, 3) := dk_180 0 211 (dk_at dksX0_bay_2 5 rfl rfl)
theorem dX0_bay_52 : decode cX0_bay 52 = .ok (.ireturn, 1) := dk_172 (dk_at dksX0_bay_2 8 rfl rfl)
theorem dX0_bay_53 : decode cX0_bay 53 = .ok (.aload_n 0, 1) := dk_42 (dk_at dksX0_bay_2 9 rfl rfl)
theorem dX0_bay_54 : decode cX0_bay 54 = .ok (.getfield 69, 3) := dk_180 0 69 (dk_at dksX0_bay_2 10 rfl rfl)
theorem dX0_bay_57 : decode cX0_bay 57 = .ok (.getfield 214, 3) := dk_180 0 214 (dk_at dksX0_bay_2 13 rfl rfl)
theorem dX0_bay_60 : decode cX0_bay 60 = .ok (.iload_n 1, 1) := dk_27 (dk_at dksX0_bay_2 16 rfl rfl)
theorem dX0_bay_61 : decode cX0_bay 61 = .ok (.iaload, 1) := dk_46 (dk_at dksX0_bay_2 17 rfl rfl)
theorem dX0_bay_62 : decode cX0_bay 62 = .ok (.ireturn, 1) := dk_172 (dk_at dksX0_bay_2 18 rfl rfl)
theorem dX0_bay_63 : decode cX0_bay 63 = .ok (.aload_n 0, 1) := dk_42 (dk_at dksX0_bay_2 19 rfl rfl)
theorem dX0_bay_64 : decode cX0_bay 64 = .ok (.getfield 69, 3) := dk_180 0 69 (dk_at dksX0_bay_2 20 rfl rfl)
theorem dX0_bay_67 : decode cX0_bay 67 = .ok (.iload_n 1, 1) := dk_27 (dk_at dksX0_bay_2 23 rfl rfl)
theorem dX0_bay_68 : decode cX0_bay 68 = .ok (.invokevirtual 217, 3) := dk_182 0 217 (dk_at dksX0_bay_3 0 rfl rfl)
theorem dX0_bay_71 : decode cX0_bay 71 = .ok (.ireturn, 1) := dk_172 (dk_at dksX0_bay_3 3 rfl rfl)
theorem dX0_bay_72 : decode cX0_bay 72 = .ok (.aload_n 0, 1) := dk_42 (dk_at dksX0_bay_3 4 rfl rfl)
theorem dX0_bay_73 : decode cX0_bay 73 = .ok (.getfield 69, 3) := dk_180 0 69 (dk_at dksX0_bay_3 5 rfl rfl)
theorem dX0_bay_76 : decode cX0_bay 76 = .ok (.getfield 220, 3) := dk_180 0 220 (dk_at dksX0_bay_3 8 rfl rfl)
theorem dX0_bay_79 : decode cX0_bay 79 = .ok (.iload_n 1, 1) := dk_27 (dk_at dksX0_bay_3 11 rfl rfl)
theorem dX0_bay_80 : decode cX0_bay 80 = .ok (.iaload, 1) := dk_46 (dk_at dksX0_bay_3 12 rfl rfl)
theorem dX0_bay_81 : decode cX0_bay 81 = .ok (.ireturn, 1) := dk_172 (dk_at dksX0_bay_3 13 rfl rfl)
theorem dX0_bay_82 : decode cX0_bay 82 = .ok (.aload_n 0, 1) := dk_42 (dk_at dksX0_bay_3 14 rfl rfl)
theorem dX0_bay_83 : decode cX0_bay 83 = .ok (.getfield 69, 3) := dk_180 0 69 (dk_at dksX0_bay_3 15 rfl rfl)
theorem dX0_bay_86 : decode cX0_bay 86 = .ok (.getfield 223, 3) := dk_180 0 223 (dk_at dksX0_bay_3 18 rfl rfl)
theorem dX0_bay_89 : decode cX0_bay 89 = .ok (.iload_n 1, 1) := dk_27 (dk_at dksX0_bay_3 21 rfl rfl)
theorem dX0_bay_90 : decode cX0_bay 90 = .ok (.iaload, 1) := dk_46 (dk_at dksX0_bay_3 22 rfl rfl)
theorem dX0_bay_91 : decode cX0_bay 91 = .ok (.ireturn, 1) := dk_172 (dk_at dksX0_bay_3 23 rfl rfl)
theorem dX0_bay_92 : decode cX0_bay 92 = .ok (.iconst (-1), 1) := dk_2 (dk_at dksX0_bay_4 0 rfl rfl)
theorem dX0_bay_93 : decode cX0_bay 93 = .ok (.ireturn, 1) := dk_172 (dk_at dksX0_bay_4 1 rfl rfl)
abbrev cX0_isBay : ByteArray := prog_1_method_18_code
def yX0_isBay : MethodName := ⟨RX0, "isBay", "(I)Z"⟩
def dkwX0_isBay_0 : List UInt8 := [27, 155, 0, 15, 27, 42, 182, 0, 163, 162, 0, 7, 4, 167, 0, 4, 3, 172]
abbrev dktX0_isBay_0 : List UInt8 := dkwX0_isBay_0 ++ []
theorem dksX0_isBay_0 : cX0_isBay.data.toList.drop 0 = dktX0_isBay_0 := by decide +kernel
theorem dX0_isBay_0 : decode cX0_isBay 0 = .ok (.iload_n 1, 1) := dk_27 (dk_at dksX0_isBay_0 0 rfl rfl)
theorem dX0_isBay_1 : decode cX0_isBay 1 = .ok (.ifCond .lt 15, 3) := dk_155 0 15 (dk_at dksX0_isBay_0 1 rfl rfl)
theorem dX0_isBay_4 : decode cX0_isBay 4 = .ok (.iload_n 1, 1) := dk_27 (dk_at dksX0_isBay_0 4 rfl rfl)
theorem dX0_isBay_5 : decode cX0_isBay 5 = .ok (.aload_n 0, 1) := dk_42 (dk_at dksX0_isBay_0 5 rfl rfl)
theorem dX0_isBay_6 : decode cX0_isBay 6 = .ok (.invokevirtual 163, 3) := dk_182 0 163 (dk_at dksX0_isBay_0 6 rfl rfl)
theorem dX0_isBay_9 : decode cX0_isBay 9 = .ok (.if_icmp .ge 7, 3) := dk_162 0 7 (dk_at dksX0_isBay_0 9 rfl rfl)
theorem dX0_isBay_12 : decode cX0_isBay 12 = .ok (.iconst 1, 1) := dk_4 (dk_at dksX0_isBay_0 12 rfl rfl)
theorem dX0_isBay_13 : decode cX0_isBay 13 = .ok (.goto 4, 3) := dk_167 0 4 (dk_at dksX0_isBay_0 13 rfl rfl)
theorem dX0_isBay_16 : decode cX0_isBay 16 = .ok (.iconst 0, 1) := dk_3 (dk_at dksX0_isBay_0 16 rfl rfl)
theorem dX0_isBay_17 : decode cX0_isBay 17 = .ok (.ireturn, 1) := dk_172 (dk_at dksX0_isBay_0 17 rfl rfl)
abbrev cX0_pair : ByteArray := prog_1_method_28_code
def yX0_pair : MethodName := ⟨RX0, "pair", "(II)I"⟩
def dkwX0_pair_3 : List UInt8 := [27, 182, 0, 182, 153, 0, 7, 4, 167, 0, 8, 3, 167, 0, 4, 2, 172]
abbrev dktX0_pair_3 : List UInt8 := dkwX0_pair_3 ++ []
def dkwX0_pair_2 : List UInt8 := [160, 0, 15, 42, 180, 0, 69, 180, 0, 239, 27, 46, 167, 0, 28, 28, 6, 160, 0, 22, 42, 180, 0, 69]
abbrev dktX0_pair_2 : List UInt8 := dkwX0_pair_2 ++ dktX0_pair_3
def dkwX0_pair_1 : List UInt8 := [167, 0, 62, 28, 4, 160, 0, 15, 42, 180, 0, 69, 180, 0, 236, 27, 46, 167, 0, 45, 28, 5]
abbrev dktX0_pair_1 : List UInt8 := dkwX0_pair_1 ++ dktX0_pair_2
def dkwX0_pair_0 : List UInt8 := [42, 27, 182, 0, 226, 154, 0, 5, 2, 172, 28, 154, 0, 14, 42, 27, 182, 0, 229, 180, 0, 233]
abbrev dktX0_pair_0 : List UInt8 := dkwX0_pair_0 ++ dktX0_pair_1
theorem dksX0_pair_0 : cX0_pair.data.toList.drop 0 = dktX0_pair_0 := by decide +kernel
theorem dksX0_pair_1 : cX0_pair.data.toList.drop 22 = dktX0_pair_1 := dk_seg dksX0_pair_0 22 rfl rfl
theorem dksX0_pair_2 : cX0_pair.data.toList.drop 44 = dktX0_pair_2 := dk_seg dksX0_pair_1 22 rfl rfl
theorem dksX0_pair_3 : cX0_pair.data.toList.drop 68 = dktX0_pair_3 := dk_seg dksX0_pair_2 24 rfl rfl
theorem dX0_pair_0 : decode cX0_pair 0 = .ok (.aload_n 0, 1) := dk_42 (dk_at dksX0_pair_0 0 rfl rfl)
theorem dX0_pair_1 : decode cX0_pair 1 = .ok (.iload_n 1, 1) := dk_27 (dk_at dksX0_pair_0 1 rfl rfl)
theorem dX0_pair_2 : decode cX0_pair 2 = .ok (.invokevirtual 226, 3) := dk_182 0 226 (dk_at dksX0_pair_0 2 rfl rfl)
theorem dX0_pair_5 : decode cX0_pair 5 = .ok (.ifCond .ne 5, 3) := dk_154 0 5 (dk_at dksX0_pair_0 5 rfl rfl)
theorem dX0_pair_8 : decode cX0_pair 8 = .ok (.iconst (-1), 1) := dk_2 (dk_at dksX0_pair_0 8 rfl rfl)
theorem dX0_pair_9 : decode cX0_pair 9 = .ok (.ireturn, 1) := dk_172 (dk_at dksX0_pair_0 9 rfl rfl)
theorem dX0_pair_10 : decode cX0_pair 10 = .ok (.iload_n 2, 1) := dk_28 (dk_at dksX0_pair_0 10 rfl rfl)
theorem dX0_pair_11 : decode cX0_pair 11 = .ok (.ifCond .ne 14, 3) := dk_154 0 14 (dk_at dksX0_pair_0 11 rfl rfl)
theorem dX0_pair_14 : decode cX0_pair 14 = .ok (.aload_n 0, 1) := dk_42 (dk_at dksX0_pair_0 14 rfl rfl)
theorem dX0_pair_15 : decode cX0_pair 15 = .ok (.iload_n 1, 1) := dk_27 (dk_at dksX0_pair_0 15 rfl rfl)
theorem dX0_pair_16 : decode cX0_pair 16 = .ok (.invokevirtual 229, 3) := dk_182 0 229 (dk_at dksX0_pair_0 16 rfl rfl)
theorem dX0_pair_19 : decode cX0_pair 19 = .ok (.getfield 233, 3) := dk_180 0 233 (dk_at dksX0_pair_0 19 rfl rfl)
theorem dX0_pair_22 : decode cX0_pair 22 = .ok (.goto 62, 3) := dk_167 0 62 (dk_at dksX0_pair_1 0 rfl rfl)
theorem dX0_pair_25 : decode cX0_pair 25 = .ok (.iload_n 2, 1) := dk_28 (dk_at dksX0_pair_1 3 rfl rfl)
theorem dX0_pair_26 : decode cX0_pair 26 = .ok (.iconst 1, 1) := dk_4 (dk_at dksX0_pair_1 4 rfl rfl)
theorem dX0_pair_27 : decode cX0_pair 27 = .ok (.if_icmp .ne 15, 3) := dk_160 0 15 (dk_at dksX0_pair_1 5 rfl rfl)
theorem dX0_pair_30 : decode cX0_pair 30 = .ok (.aload_n 0, 1) := dk_42 (dk_at dksX0_pair_1 8 rfl rfl)
theorem dX0_pair_31 : decode cX0_pair 31 = .ok (.getfield 69, 3) := dk_180 0 69 (dk_at dksX0_pair_1 9 rfl rfl)
theorem dX0_pair_34 : decode cX0_pair 34 = .ok (.getfield 236, 3) := dk_180 0 236 (dk_at dksX0_pair_1 12 rfl rfl)
theorem dX0_pair_37 : decode cX0_pair 37 = .ok (.iload_n 1, 1) := dk_27 (dk_at dksX0_pair_1 15 rfl rfl)
theorem dX0_pair_38 : decode cX0_pair 38 = .ok (.iaload, 1) := dk_46 (dk_at dksX0_pair_1 16 rfl rfl)
theorem dX0_pair_39 : decode cX0_pair 39 = .ok (.goto 45, 3) := dk_167 0 45 (dk_at dksX0_pair_1 17 rfl rfl)
theorem dX0_pair_42 : decode cX0_pair 42 = .ok (.iload_n 2, 1) := dk_28 (dk_at dksX0_pair_1 20 rfl rfl)
theorem dX0_pair_43 : decode cX0_pair 43 = .ok (.iconst 2, 1) := dk_5 (dk_at dksX0_pair_1 21 rfl rfl)
theorem dX0_pair_44 : decode cX0_pair 44 = .ok (.if_icmp .ne 15, 3) := dk_160 0 15 (dk_at dksX0_pair_2 0 rfl rfl)
theorem dX0_pair_47 : decode cX0_pair 47 = .ok (.aload_n 0, 1) := dk_42 (dk_at dksX0_pair_2 3 rfl rfl)
theorem dX0_pair_48 : decode cX0_pair 48 = .ok (.getfield 69, 3) := dk_180 0 69 (dk_at dksX0_pair_2 4 rfl rfl)
theorem dX0_pair_51 : decode cX0_pair 51 = .ok (.getfield 239, 3) := dk_180 0 239 (dk_at dksX0_pair_2 7 rfl rfl)
theorem dX0_pair_54 : decode cX0_pair 54 = .ok (.iload_n 1, 1) := dk_27 (dk_at dksX0_pair_2 10 rfl rfl)
theorem dX0_pair_55 : decode cX0_pair 55 = .ok (.iaload, 1) := dk_46 (dk_at dksX0_pair_2 11 rfl rfl)
theorem dX0_pair_56 : decode cX0_pair 56 = .ok (.goto 28, 3) := dk_167 0 28 (dk_at dksX0_pair_2 12 rfl rfl)
theorem dX0_pair_59 : decode cX0_pair 59 = .ok (.iload_n 2, 1) := dk_28 (dk_at dksX0_pair_2 15 rfl rfl)
theorem dX0_pair_60 : decode cX0_pair 60 = .ok (.iconst 3, 1) := dk_6 (dk_at dksX0_pair_2 16 rfl rfl)
theorem dX0_pair_61 : decode cX0_pair 61 = .ok (.if_icmp .ne 22, 3) := dk_160 0 22 (dk_at dksX0_pair_2 17 rfl rfl)
theorem dX0_pair_64 : decode cX0_pair 64 = .ok (.aload_n 0, 1) := dk_42 (dk_at dksX0_pair_2 20 rfl rfl)
theorem dX0_pair_65 : decode cX0_pair 65 = .ok (.getfield 69, 3) := dk_180 0 69 (dk_at dksX0_pair_2 21 rfl rfl)
theorem dX0_pair_68 : decode cX0_pair 68 = .ok (.iload_n 1, 1) := dk_27 (dk_at dksX0_pair_3 0 rfl rfl)
theorem dX0_pair_69 : decode cX0_pair 69 = .ok (.invokevirtual 182, 3) := dk_182 0 182 (dk_at dksX0_pair_3 1 rfl rfl)
theorem dX0_pair_72 : decode cX0_pair 72 = .ok (.ifCond .eq 7, 3) := dk_153 0 7 (dk_at dksX0_pair_3 4 rfl rfl)
theorem dX0_pair_75 : decode cX0_pair 75 = .ok (.iconst 1, 1) := dk_4 (dk_at dksX0_pair_3 7 rfl rfl)
theorem dX0_pair_76 : decode cX0_pair 76 = .ok (.goto 8, 3) := dk_167 0 8 (dk_at dksX0_pair_3 8 rfl rfl)
theorem dX0_pair_79 : decode cX0_pair 79 = .ok (.iconst 0, 1) := dk_3 (dk_at dksX0_pair_3 11 rfl rfl)
theorem dX0_pair_80 : decode cX0_pair 80 = .ok (.goto 4, 3) := dk_167 0 4 (dk_at dksX0_pair_3 12 rfl rfl)
theorem dX0_pair_83 : decode cX0_pair 83 = .ok (.iconst (-1), 1) := dk_2 (dk_at dksX0_pair_3 15 rfl rfl)
theorem dX0_pair_84 : decode cX0_pair 84 = .ok (.ireturn, 1) := dk_172 (dk_at dksX0_pair_3 16 rfl rfl)
abbrev cX0_isPair : ByteArray := prog_1_method_19_code
def yX0_isPair : MethodName := ⟨RX0, "isPair", "(I)Z"⟩
def dkwX0_isPair_0 : List UInt8 := [27, 155, 0, 15, 27, 42, 182, 0, 165, 162, 0, 7, 4, 167, 0, 4, 3, 172]
abbrev dktX0_isPair_0 : List UInt8 := dkwX0_isPair_0 ++ []
theorem dksX0_isPair_0 : cX0_isPair.data.toList.drop 0 = dktX0_isPair_0 := by decide +kernel
theorem dX0_isPair_0 : decode cX0_isPair 0 = .ok (.iload_n 1, 1) := dk_27 (dk_at dksX0_isPair_0 0 rfl rfl)
theorem dX0_isPair_1 : decode cX0_isPair 1 = .ok (.ifCond .lt 15, 3) := dk_155 0 15 (dk_at dksX0_isPair_0 1 rfl rfl)
theorem dX0_isPair_4 : decode cX0_isPair 4 = .ok (.iload_n 1, 1) := dk_27 (dk_at dksX0_isPair_0 4 rfl rfl)
theorem dX0_isPair_5 : decode cX0_isPair 5 = .ok (.aload_n 0, 1) := dk_42 (dk_at dksX0_isPair_0 5 rfl rfl)
theorem dX0_isPair_6 : decode cX0_isPair 6 = .ok (.invokevirtual 165, 3) := dk_182 0 165 (dk_at dksX0_isPair_0 6 rfl rfl)
theorem dX0_isPair_9 : decode cX0_isPair 9 = .ok (.if_icmp .ge 7, 3) := dk_162 0 7 (dk_at dksX0_isPair_0 9 rfl rfl)
theorem dX0_isPair_12 : decode cX0_isPair 12 = .ok (.iconst 1, 1) := dk_4 (dk_at dksX0_isPair_0 12 rfl rfl)
theorem dX0_isPair_13 : decode cX0_isPair 13 = .ok (.goto 4, 3) := dk_167 0 4 (dk_at dksX0_isPair_0 13 rfl rfl)
theorem dX0_isPair_16 : decode cX0_isPair 16 = .ok (.iconst 0, 1) := dk_3 (dk_at dksX0_isPair_0 16 rfl rfl)
theorem dX0_isPair_17 : decode cX0_isPair 17 = .ok (.ireturn, 1) := dk_172 (dk_at dksX0_isPair_0 17 rfl rfl)
abbrev cX0_shoal : ByteArray := prog_1_method_29_code
def yX0_shoal : MethodName := ⟨RX0, "shoal", "(II)I"⟩
def dkwX0_shoal_2 : List UInt8 := [160, 0, 15, 42, 180, 0, 69, 180, 0, 186, 27, 46, 167, 0, 4, 2, 172]
abbrev dktX0_shoal_2 : List UInt8 := dkwX0_shoal_2 ++ []
def dkwX0_shoal_1 : List UInt8 := [46, 167, 0, 37, 28, 4, 160, 0, 14, 42, 27, 182, 0, 247, 180, 0, 251, 167, 0, 21, 28, 5]
abbrev dktX0_shoal_1 : List UInt8 := dkwX0_shoal_1 ++ dktX0_shoal_2
def dkwX0_shoal_0 : List UInt8 := [42, 27, 182, 0, 242, 154, 0, 7, 2, 167, 0, 53, 28, 154, 0, 15, 42, 180, 0, 69, 180, 0, 245, 27]
abbrev dktX0_shoal_0 : List UInt8 := dkwX0_shoal_0 ++ dktX0_shoal_1
theorem dksX0_shoal_0 : cX0_shoal.data.toList.drop 0 = dktX0_shoal_0 := by decide +kernel
theorem dksX0_shoal_1 : cX0_shoal.data.toList.drop 24 = dktX0_shoal_1 := dk_seg dksX0_shoal_0 24 rfl rfl
theorem dksX0_shoal_2 : cX0_shoal.data.toList.drop 46 = dktX0_shoal_2 := dk_seg dksX0_shoal_1 22 rfl rfl
theorem dX0_shoal_0 : decode cX0_shoal 0 = .ok (.aload_n 0, 1) := dk_42 (dk_at dksX0_shoal_0 0 rfl rfl)
theorem dX0_shoal_1 : decode cX0_shoal 1 = .ok (.iload_n 1, 1) := dk_27 (dk_at dksX0_shoal_0 1 rfl rfl)
theorem dX0_shoal_2 : decode cX0_shoal 2 = .ok (.invokevirtual 242, 3) := dk_182 0 242 (dk_at dksX0_shoal_0 2 rfl rfl)
theorem dX0_shoal_5 : decode cX0_shoal 5 = .ok (.ifCond .ne 7, 3) := dk_154 0 7 (dk_at dksX0_shoal_0 5 rfl rfl)
theorem dX0_shoal_8 : decode cX0_shoal 8 = .ok (.iconst (-1), 1) := dk_2 (dk_at dksX0_shoal_0 8 rfl rfl)
theorem dX0_shoal_9 : decode cX0_shoal 9 = .ok (.goto 53, 3) := dk_167 0 53 (dk_at dksX0_shoal_0 9 rfl rfl)
theorem dX0_shoal_12 : decode cX0_shoal 12 = .ok (.iload_n 2, 1) := dk_28 (dk_at dksX0_shoal_0 12 rfl rfl)
theorem dX0_shoal_13 : decode cX0_shoal 13 = .ok (.ifCond .ne 15, 3) := dk_154 0 15 (dk_at dksX0_shoal_0 13 rfl rfl)
theorem dX0_shoal_16 : decode cX0_shoal 16 = .ok (.aload_n 0, 1) := dk_42 (dk_at dksX0_shoal_0 16 rfl rfl)
theorem dX0_shoal_17 : decode cX0_shoal 17 = .ok (.getfield 69, 3) := dk_180 0 69 (dk_at dksX0_shoal_0 17 rfl rfl)
theorem dX0_shoal_20 : decode cX0_shoal 20 = .ok (.getfield 245, 3) := dk_180 0 245 (dk_at dksX0_shoal_0 20 rfl rfl)
theorem dX0_shoal_23 : decode cX0_shoal 23 = .ok (.iload_n 1, 1) := dk_27 (dk_at dksX0_shoal_0 23 rfl rfl)
theorem dX0_shoal_24 : decode cX0_shoal 24 = .ok (.iaload, 1) := dk_46 (dk_at dksX0_shoal_1 0 rfl rfl)
theorem dX0_shoal_25 : decode cX0_shoal 25 = .ok (.goto 37, 3) := dk_167 0 37 (dk_at dksX0_shoal_1 1 rfl rfl)
theorem dX0_shoal_28 : decode cX0_shoal 28 = .ok (.iload_n 2, 1) := dk_28 (dk_at dksX0_shoal_1 4 rfl rfl)
theorem dX0_shoal_29 : decode cX0_shoal 29 = .ok (.iconst 1, 1) := dk_4 (dk_at dksX0_shoal_1 5 rfl rfl)
theorem dX0_shoal_30 : decode cX0_shoal 30 = .ok (.if_icmp .ne 14, 3) := dk_160 0 14 (dk_at dksX0_shoal_1 6 rfl rfl)
theorem dX0_shoal_33 : decode cX0_shoal 33 = .ok (.aload_n 0, 1) := dk_42 (dk_at dksX0_shoal_1 9 rfl rfl)
theorem dX0_shoal_34 : decode cX0_shoal 34 = .ok (.iload_n 1, 1) := dk_27 (dk_at dksX0_shoal_1 10 rfl rfl)
theorem dX0_shoal_35 : decode cX0_shoal 35 = .ok (.invokevirtual 247, 3) := dk_182 0 247 (dk_at dksX0_shoal_1 11 rfl rfl)
theorem dX0_shoal_38 : decode cX0_shoal 38 = .ok (.getfield 251, 3) := dk_180 0 251 (dk_at dksX0_shoal_1 14 rfl rfl)
theorem dX0_shoal_41 : decode cX0_shoal 41 = .ok (.goto 21, 3) := dk_167 0 21 (dk_at dksX0_shoal_1 17 rfl rfl)
theorem dX0_shoal_44 : decode cX0_shoal 44 = .ok (.iload_n 2, 1) := dk_28 (dk_at dksX0_shoal_1 20 rfl rfl)
theorem dX0_shoal_45 : decode cX0_shoal 45 = .ok (.iconst 2, 1) := dk_5 (dk_at dksX0_shoal_1 21 rfl rfl)
theorem dX0_shoal_46 : decode cX0_shoal 46 = .ok (.if_icmp .ne 15, 3) := dk_160 0 15 (dk_at dksX0_shoal_2 0 rfl rfl)
theorem dX0_shoal_49 : decode cX0_shoal 49 = .ok (.aload_n 0, 1) := dk_42 (dk_at dksX0_shoal_2 3 rfl rfl)
theorem dX0_shoal_50 : decode cX0_shoal 50 = .ok (.getfield 69, 3) := dk_180 0 69 (dk_at dksX0_shoal_2 4 rfl rfl)
theorem dX0_shoal_53 : decode cX0_shoal 53 = .ok (.getfield 186, 3) := dk_180 0 186 (dk_at dksX0_shoal_2 7 rfl rfl)
theorem dX0_shoal_56 : decode cX0_shoal 56 = .ok (.iload_n 1, 1) := dk_27 (dk_at dksX0_shoal_2 10 rfl rfl)
theorem dX0_shoal_57 : decode cX0_shoal 57 = .ok (.iaload, 1) := dk_46 (dk_at dksX0_shoal_2 11 rfl rfl)
theorem dX0_shoal_58 : decode cX0_shoal 58 = .ok (.goto 4, 3) := dk_167 0 4 (dk_at dksX0_shoal_2 12 rfl rfl)
theorem dX0_shoal_61 : decode cX0_shoal 61 = .ok (.iconst (-1), 1) := dk_2 (dk_at dksX0_shoal_2 15 rfl rfl)
theorem dX0_shoal_62 : decode cX0_shoal 62 = .ok (.ireturn, 1) := dk_172 (dk_at dksX0_shoal_2 16 rfl rfl)
abbrev cX0_isShoal : ByteArray := prog_1_method_20_code
def yX0_isShoal : MethodName := ⟨RX0, "isShoal", "(I)Z"⟩
def dkwX0_isShoal_0 : List UInt8 := [27, 155, 0, 15, 27, 42, 182, 0, 167, 162, 0, 7, 4, 167, 0, 4, 3, 172]
abbrev dktX0_isShoal_0 : List UInt8 := dkwX0_isShoal_0 ++ []
theorem dksX0_isShoal_0 : cX0_isShoal.data.toList.drop 0 = dktX0_isShoal_0 := by decide +kernel
theorem dX0_isShoal_0 : decode cX0_isShoal 0 = .ok (.iload_n 1, 1) := dk_27 (dk_at dksX0_isShoal_0 0 rfl rfl)
theorem dX0_isShoal_1 : decode cX0_isShoal 1 = .ok (.ifCond .lt 15, 3) := dk_155 0 15 (dk_at dksX0_isShoal_0 1 rfl rfl)
theorem dX0_isShoal_4 : decode cX0_isShoal 4 = .ok (.iload_n 1, 1) := dk_27 (dk_at dksX0_isShoal_0 4 rfl rfl)
theorem dX0_isShoal_5 : decode cX0_isShoal 5 = .ok (.aload_n 0, 1) := dk_42 (dk_at dksX0_isShoal_0 5 rfl rfl)
theorem dX0_isShoal_6 : decode cX0_isShoal 6 = .ok (.invokevirtual 167, 3) := dk_182 0 167 (dk_at dksX0_isShoal_0 6 rfl rfl)
theorem dX0_isShoal_9 : decode cX0_isShoal 9 = .ok (.if_icmp .ge 7, 3) := dk_162 0 7 (dk_at dksX0_isShoal_0 9 rfl rfl)
theorem dX0_isShoal_12 : decode cX0_isShoal 12 = .ok (.iconst 1, 1) := dk_4 (dk_at dksX0_isShoal_0 12 rfl rfl)
theorem dX0_isShoal_13 : decode cX0_isShoal 13 = .ok (.goto 4, 3) := dk_167 0 4 (dk_at dksX0_isShoal_0 13 rfl rfl)
theorem dX0_isShoal_16 : decode cX0_isShoal 16 = .ok (.iconst 0, 1) := dk_3 (dk_at dksX0_isShoal_0 16 rfl rfl)
theorem dX0_isShoal_17 : decode cX0_isShoal 17 = .ok (.ireturn, 1) := dk_172 (dk_at dksX0_isShoal_0 17 rfl rfl)
abbrev cX0_lure : ByteArray := prog_1_method_30_code
def yX0_lure : MethodName := ⟨RX0, "lure", "(II)J"⟩
def dkwX0_lure_1 : List UInt8 := [182, 0, 253, 167, 0, 6, 20, 1, 1, 173]
abbrev dktX0_lure_1 : List UInt8 := dkwX0_lure_1 ++ []
def dkwX0_lure_0 : List UInt8 := [42, 27, 182, 0, 242, 153, 0, 23, 42, 28, 182, 0, 204, 153, 0, 15, 42, 180, 0, 69, 27, 28]
abbrev dktX0_lure_0 : List UInt8 := dkwX0_lure_0 ++ dktX0_lure_1
theorem dksX0_lure_0 : cX0_lure.data.toList.drop 0 = dktX0_lure_0 := by decide +kernel
theorem dksX0_lure_1 : cX0_lure.data.toList.drop 22 = dktX0_lure_1 := dk_seg dksX0_lure_0 22 rfl rfl
theorem dX0_lure_0 : decode cX0_lure 0 = .ok (.aload_n 0, 1) := dk_42 (dk_at dksX0_lure_0 0 rfl rfl)
theorem dX0_lure_1 : decode cX0_lure 1 = .ok (.iload_n 1, 1) := dk_27 (dk_at dksX0_lure_0 1 rfl rfl)
theorem dX0_lure_2 : decode cX0_lure 2 = .ok (.invokevirtual 242, 3) := dk_182 0 242 (dk_at dksX0_lure_0 2 rfl rfl)
theorem dX0_lure_5 : decode cX0_lure 5 = .ok (.ifCond .eq 23, 3) := dk_153 0 23 (dk_at dksX0_lure_0 5 rfl rfl)
theorem dX0_lure_8 : decode cX0_lure 8 = .ok (.aload_n 0, 1) := dk_42 (dk_at dksX0_lure_0 8 rfl rfl)
theorem dX0_lure_9 : decode cX0_lure 9 = .ok (.iload_n 2, 1) := dk_28 (dk_at dksX0_lure_0 9 rfl rfl)
theorem dX0_lure_10 : decode cX0_lure 10 = .ok (.invokevirtual 204, 3) := dk_182 0 204 (dk_at dksX0_lure_0 10 rfl rfl)
theorem dX0_lure_13 : decode cX0_lure 13 = .ok (.ifCond .eq 15, 3) := dk_153 0 15 (dk_at dksX0_lure_0 13 rfl rfl)
theorem dX0_lure_16 : decode cX0_lure 16 = .ok (.aload_n 0, 1) := dk_42 (dk_at dksX0_lure_0 16 rfl rfl)
theorem dX0_lure_17 : decode cX0_lure 17 = .ok (.getfield 69, 3) := dk_180 0 69 (dk_at dksX0_lure_0 17 rfl rfl)
theorem dX0_lure_20 : decode cX0_lure 20 = .ok (.iload_n 1, 1) := dk_27 (dk_at dksX0_lure_0 20 rfl rfl)
theorem dX0_lure_21 : decode cX0_lure 21 = .ok (.iload_n 2, 1) := dk_28 (dk_at dksX0_lure_0 21 rfl rfl)
theorem dX0_lure_22 : decode cX0_lure 22 = .ok (.invokevirtual 253, 3) := dk_182 0 253 (dk_at dksX0_lure_1 0 rfl rfl)
theorem dX0_lure_25 : decode cX0_lure 25 = .ok (.goto 6, 3) := dk_167 0 6 (dk_at dksX0_lure_1 3 rfl rfl)
theorem dX0_lure_28 : decode cX0_lure 28 = .ok (.ldc2_w 257, 3) := dk_20 1 1 (dk_at dksX0_lure_1 6 rfl rfl)
theorem dX0_lure_31 : decode cX0_lure 31 = .ok (.lreturn, 1) := dk_173 (dk_at dksX0_lure_1 9 rfl rfl)
abbrev cX0_kept : ByteArray := prog_1_method_31_code
def yX0_kept : MethodName := ⟨RX0, "kept", "(II)I"⟩
def dkwX0_kept_1 : List UInt8 := [153, 0, 17, 42, 180, 0, 69, 180, 1, 3, 27, 50, 28, 46, 167, 0, 4, 2, 172]
abbrev dktX0_kept_1 : List UInt8 := dkwX0_kept_1 ++ []
def dkwX0_kept_0 : List UInt8 := [27, 3, 42, 180, 0, 69, 180, 0, 192, 4, 100, 184, 0, 195, 153, 0, 26, 28, 3, 5, 184, 0, 195]
abbrev dktX0_kept_0 : List UInt8 := dkwX0_kept_0 ++ dktX0_kept_1
theorem dksX0_kept_0 : cX0_kept.data.toList.drop 0 = dktX0_kept_0 := by decide +kernel
theorem dksX0_kept_1 : cX0_kept.data.toList.drop 23 = dktX0_kept_1 := dk_seg dksX0_kept_0 23 rfl rfl
theorem dX0_kept_0 : decode cX0_kept 0 = .ok (.iload_n 1, 1) := dk_27 (dk_at dksX0_kept_0 0 rfl rfl)
theorem dX0_kept_1 : decode cX0_kept 1 = .ok (.iconst 0, 1) := dk_3 (dk_at dksX0_kept_0 1 rfl rfl)
theorem dX0_kept_2 : decode cX0_kept 2 = .ok (.aload_n 0, 1) := dk_42 (dk_at dksX0_kept_0 2 rfl rfl)
theorem dX0_kept_3 : decode cX0_kept 3 = .ok (.getfield 69, 3) := dk_180 0 69 (dk_at dksX0_kept_0 3 rfl rfl)
theorem dX0_kept_6 : decode cX0_kept 6 = .ok (.getfield 192, 3) := dk_180 0 192 (dk_at dksX0_kept_0 6 rfl rfl)
theorem dX0_kept_9 : decode cX0_kept 9 = .ok (.iconst 1, 1) := dk_4 (dk_at dksX0_kept_0 9 rfl rfl)
theorem dX0_kept_10 : decode cX0_kept 10 = .ok (.isub, 1) := dk_100 (dk_at dksX0_kept_0 10 rfl rfl)
theorem dX0_kept_11 : decode cX0_kept 11 = .ok (.invokestatic 195, 3) := dk_184 0 195 (dk_at dksX0_kept_0 11 rfl rfl)
theorem dX0_kept_14 : decode cX0_kept 14 = .ok (.ifCond .eq 26, 3) := dk_153 0 26 (dk_at dksX0_kept_0 14 rfl rfl)
theorem dX0_kept_17 : decode cX0_kept 17 = .ok (.iload_n 2, 1) := dk_28 (dk_at dksX0_kept_0 17 rfl rfl)
theorem dX0_kept_18 : decode cX0_kept 18 = .ok (.iconst 0, 1) := dk_3 (dk_at dksX0_kept_0 18 rfl rfl)
theorem dX0_kept_19 : decode cX0_kept 19 = .ok (.iconst 2, 1) := dk_5 (dk_at dksX0_kept_0 19 rfl rfl)
theorem dX0_kept_20 : decode cX0_kept 20 = .ok (.invokestatic 195, 3) := dk_184 0 195 (dk_at dksX0_kept_0 20 rfl rfl)
theorem dX0_kept_23 : decode cX0_kept 23 = .ok (.ifCond .eq 17, 3) := dk_153 0 17 (dk_at dksX0_kept_1 0 rfl rfl)
theorem dX0_kept_26 : decode cX0_kept 26 = .ok (.aload_n 0, 1) := dk_42 (dk_at dksX0_kept_1 3 rfl rfl)
theorem dX0_kept_27 : decode cX0_kept 27 = .ok (.getfield 69, 3) := dk_180 0 69 (dk_at dksX0_kept_1 4 rfl rfl)
theorem dX0_kept_30 : decode cX0_kept 30 = .ok (.getfield 259, 3) := dk_180 1 3 (dk_at dksX0_kept_1 7 rfl rfl)
theorem dX0_kept_33 : decode cX0_kept 33 = .ok (.iload_n 1, 1) := dk_27 (dk_at dksX0_kept_1 10 rfl rfl)
theorem dX0_kept_34 : decode cX0_kept 34 = .ok (.aaload, 1) := dk_50 (dk_at dksX0_kept_1 11 rfl rfl)
theorem dX0_kept_35 : decode cX0_kept 35 = .ok (.iload_n 2, 1) := dk_28 (dk_at dksX0_kept_1 12 rfl rfl)
theorem dX0_kept_36 : decode cX0_kept 36 = .ok (.iaload, 1) := dk_46 (dk_at dksX0_kept_1 13 rfl rfl)
theorem dX0_kept_37 : decode cX0_kept 37 = .ok (.goto 4, 3) := dk_167 0 4 (dk_at dksX0_kept_1 14 rfl rfl)
theorem dX0_kept_40 : decode cX0_kept 40 = .ok (.iconst (-1), 1) := dk_2 (dk_at dksX0_kept_1 17 rfl rfl)
theorem dX0_kept_41 : decode cX0_kept 41 = .ok (.ireturn, 1) := dk_172 (dk_at dksX0_kept_1 18 rfl rfl)
abbrev cX0_later : ByteArray := prog_1_method_33_code
def yX0_later : MethodName := ⟨RX0, "later", "(II)I"⟩
def dkwX0_later_1 : List UInt8 := [180, 0, 69, 182, 1, 8, 28, 182, 1, 12, 180, 0, 186, 27, 46, 167, 0, 4, 2, 172]
abbrev dktX0_later_1 : List UInt8 := dkwX0_later_1 ++ []
def dkwX0_later_0 : List UInt8 := [42, 27, 182, 0, 242, 153, 0, 37, 42, 28, 3, 16, 60, 182, 1, 5, 153, 0, 26, 42, 180, 0, 73, 42]
abbrev dktX0_later_0 : List UInt8 := dkwX0_later_0 ++ dktX0_later_1
theorem dksX0_later_0 : cX0_later.data.toList.drop 0 = dktX0_later_0 := by decide +kernel
theorem dksX0_later_1 : cX0_later.data.toList.drop 24 = dktX0_later_1 := dk_seg dksX0_later_0 24 rfl rfl
theorem dX0_later_0 : decode cX0_later 0 = .ok (.aload_n 0, 1) := dk_42 (dk_at dksX0_later_0 0 rfl rfl)
theorem dX0_later_1 : decode cX0_later 1 = .ok (.iload_n 1, 1) := dk_27 (dk_at dksX0_later_0 1 rfl rfl)
theorem dX0_later_2 : decode cX0_later 2 = .ok (.invokevirtual 242, 3) := dk_182 0 242 (dk_at dksX0_later_0 2 rfl rfl)
theorem dX0_later_5 : decode cX0_later 5 = .ok (.ifCond .eq 37, 3) := dk_153 0 37 (dk_at dksX0_later_0 5 rfl rfl)
theorem dX0_later_8 : decode cX0_later 8 = .ok (.aload_n 0, 1) := dk_42 (dk_at dksX0_later_0 8 rfl rfl)
theorem dX0_later_9 : decode cX0_later 9 = .ok (.iload_n 2, 1) := dk_28 (dk_at dksX0_later_0 9 rfl rfl)
theorem dX0_later_10 : decode cX0_later 10 = .ok (.iconst 0, 1) := dk_3 (dk_at dksX0_later_0 10 rfl rfl)
theorem dX0_later_11 : decode cX0_later 11 = .ok (.bipush 60, 2) := dk_16 60 (dk_at dksX0_later_0 11 rfl rfl)
theorem dX0_later_13 : decode cX0_later 13 = .ok (.invokevirtual 261, 3) := dk_182 1 5 (dk_at dksX0_later_0 13 rfl rfl)
theorem dX0_later_16 : decode cX0_later 16 = .ok (.ifCond .eq 26, 3) := dk_153 0 26 (dk_at dksX0_later_0 16 rfl rfl)
theorem dX0_later_19 : decode cX0_later 19 = .ok (.aload_n 0, 1) := dk_42 (dk_at dksX0_later_0 19 rfl rfl)
theorem dX0_later_20 : decode cX0_later 20 = .ok (.getfield 73, 3) := dk_180 0 73 (dk_at dksX0_later_0 20 rfl rfl)
theorem dX0_later_23 : decode cX0_later 23 = .ok (.aload_n 0, 1) := dk_42 (dk_at dksX0_later_0 23 rfl rfl)
theorem dX0_later_24 : decode cX0_later 24 = .ok (.getfield 69, 3) := dk_180 0 69 (dk_at dksX0_later_1 0 rfl rfl)
theorem dX0_later_27 : decode cX0_later 27 = .ok (.invokevirtual 264, 3) := dk_182 1 8 (dk_at dksX0_later_1 3 rfl rfl)
theorem dX0_later_30 : decode cX0_later 30 = .ok (.iload_n 2, 1) := dk_28 (dk_at dksX0_later_1 6 rfl rfl)
theorem dX0_later_31 : decode cX0_later 31 = .ok (.invokevirtual 268, 3) := dk_182 1 12 (dk_at dksX0_later_1 7 rfl rfl)
theorem dX0_later_34 : decode cX0_later 34 = .ok (.getfield 186, 3) := dk_180 0 186 (dk_at dksX0_later_1 10 rfl rfl)
theorem dX0_later_37 : decode cX0_later 37 = .ok (.iload_n 1, 1) := dk_27 (dk_at dksX0_later_1 13 rfl rfl)
theorem dX0_later_38 : decode cX0_later 38 = .ok (.iaload, 1) := dk_46 (dk_at dksX0_later_1 14 rfl rfl)
theorem dX0_later_39 : decode cX0_later 39 = .ok (.goto 4, 3) := dk_167 0 4 (dk_at dksX0_later_1 15 rfl rfl)
theorem dX0_later_42 : decode cX0_later 42 = .ok (.iconst (-1), 1) := dk_2 (dk_at dksX0_later_1 18 rfl rfl)
theorem dX0_later_43 : decode cX0_later 43 = .ok (.ireturn, 1) := dk_172 (dk_at dksX0_later_1 19 rfl rfl)
abbrev cX0_isAhead : ByteArray := prog_1_method_32_code
def yX0_isAhead : MethodName := ⟨RX0, "isAhead", "(III)Z"⟩
def dkwX0_isAhead_1 : List UInt8 := [4, 167, 0, 4, 3, 172]
abbrev dktX0_isAhead_1 : List UInt8 := dkwX0_isAhead_1 ++ []
def dkwX0_isAhead_0 : List UInt8 := [27, 28, 29, 184, 0, 195, 153, 0, 22, 42, 180, 0, 69, 180, 0, 179, 27, 96, 17, 3, 231, 163, 0, 7]
abbrev dktX0_isAhead_0 : List UInt8 := dkwX0_isAhead_0 ++ dktX0_isAhead_1
theorem dksX0_isAhead_0 : cX0_isAhead.data.toList.drop 0 = dktX0_isAhead_0 := by decide +kernel
theorem dksX0_isAhead_1 : cX0_isAhead.data.toList.drop 24 = dktX0_isAhead_1 := dk_seg dksX0_isAhead_0 24 rfl rfl
theorem dX0_isAhead_0 : decode cX0_isAhead 0 = .ok (.iload_n 1, 1) := dk_27 (dk_at dksX0_isAhead_0 0 rfl rfl)
theorem dX0_isAhead_1 : decode cX0_isAhead 1 = .ok (.iload_n 2, 1) := dk_28 (dk_at dksX0_isAhead_0 1 rfl rfl)
theorem dX0_isAhead_2 : decode cX0_isAhead 2 = .ok (.iload_n 3, 1) := dk_29 (dk_at dksX0_isAhead_0 2 rfl rfl)
theorem dX0_isAhead_3 : decode cX0_isAhead 3 = .ok (.invokestatic 195, 3) := dk_184 0 195 (dk_at dksX0_isAhead_0 3 rfl rfl)
theorem dX0_isAhead_6 : decode cX0_isAhead 6 = .ok (.ifCond .eq 22, 3) := dk_153 0 22 (dk_at dksX0_isAhead_0 6 rfl rfl)
theorem dX0_isAhead_9 : decode cX0_isAhead 9 = .ok (.aload_n 0, 1) := dk_42 (dk_at dksX0_isAhead_0 9 rfl rfl)
theorem dX0_isAhead_10 : decode cX0_isAhead 10 = .ok (.getfield 69, 3) := dk_180 0 69 (dk_at dksX0_isAhead_0 10 rfl rfl)
theorem dX0_isAhead_13 : decode cX0_isAhead 13 = .ok (.getfield 179, 3) := dk_180 0 179 (dk_at dksX0_isAhead_0 13 rfl rfl)
theorem dX0_isAhead_16 : decode cX0_isAhead 16 = .ok (.iload_n 1, 1) := dk_27 (dk_at dksX0_isAhead_0 16 rfl rfl)
theorem dX0_isAhead_17 : decode cX0_isAhead 17 = .ok (.iadd, 1) := dk_96 (dk_at dksX0_isAhead_0 17 rfl rfl)
theorem dX0_isAhead_18 : decode cX0_isAhead 18 = .ok (.sipush 999, 3) := dk_17 3 231 (dk_at dksX0_isAhead_0 18 rfl rfl)
theorem dX0_isAhead_21 : decode cX0_isAhead 21 = .ok (.if_icmp .gt 7, 3) := dk_163 0 7 (dk_at dksX0_isAhead_0 21 rfl rfl)
theorem dX0_isAhead_24 : decode cX0_isAhead 24 = .ok (.iconst 1, 1) := dk_4 (dk_at dksX0_isAhead_1 0 rfl rfl)
theorem dX0_isAhead_25 : decode cX0_isAhead 25 = .ok (.goto 4, 3) := dk_167 0 4 (dk_at dksX0_isAhead_1 1 rfl rfl)
theorem dX0_isAhead_28 : decode cX0_isAhead 28 = .ok (.iconst 0, 1) := dk_3 (dk_at dksX0_isAhead_1 4 rfl rfl)
theorem dX0_isAhead_29 : decode cX0_isAhead 29 = .ok (.ireturn, 1) := dk_172 (dk_at dksX0_isAhead_1 5 rfl rfl)
abbrev cX0_within : ByteArray := prog_1_method_24_code
def yX0_within : MethodName := ⟨RX0, "within", "(JI)I"⟩
def dkwX0_within_0 : List UInt8 := [9, 28, 133, 30, 184, 0, 7, 184, 0, 13, 136, 172]
abbrev dktX0_within_0 : List UInt8 := dkwX0_within_0 ++ []
theorem dksX0_within_0 : cX0_within.data.toList.drop 0 = dktX0_within_0 := by decide +kernel
theorem dX0_within_0 : decode cX0_within 0 = .ok (.lconst 0, 1) := dk_9 (dk_at dksX0_within_0 0 rfl rfl)
theorem dX0_within_1 : decode cX0_within 1 = .ok (.iload_n 2, 1) := dk_28 (dk_at dksX0_within_0 1 rfl rfl)
theorem dX0_within_2 : decode cX0_within 2 = .ok (.i2l, 1) := dk_133 (dk_at dksX0_within_0 2 rfl rfl)
theorem dX0_within_3 : decode cX0_within 3 = .ok (.lload_n 0, 1) := dk_30 (dk_at dksX0_within_0 3 rfl rfl)
theorem dX0_within_4 : decode cX0_within 4 = .ok (.invokestatic 7, 3) := dk_184 0 7 (dk_at dksX0_within_0 4 rfl rfl)
theorem dX0_within_7 : decode cX0_within 7 = .ok (.invokestatic 13, 3) := dk_184 0 13 (dk_at dksX0_within_0 7 rfl rfl)
theorem dX0_within_10 : decode cX0_within 10 = .ok (.l2i, 1) := dk_136 (dk_at dksX0_within_0 10 rfl rfl)
theorem dX0_within_11 : decode cX0_within 11 = .ok (.ireturn, 1) := dk_172 (dk_at dksX0_within_0 11 rfl rfl)
abbrev cX0_caught : ByteArray := prog_1_method_34_code
def yX0_caught : MethodName := ⟨RX0, "caught", "(II)I"⟩
def dkwX0_caught_3 : List UInt8 := [167, 255, 227, 29, 172]
abbrev dktX0_caught_3 : List UInt8 := dkwX0_caught_3 ++ []
def dkwX0_caught_2 : List UInt8 := [180, 0, 73, 182, 1, 16, 87, 29, 42, 180, 0, 73, 180, 0, 223, 27, 46, 96, 62, 132, 4, 1]
abbrev dktX0_caught_2 : List UInt8 := dkwX0_caught_2 ++ dktX0_caught_3
def dkwX0_caught_1 : List UInt8 := [180, 0, 73, 42, 180, 0, 69, 182, 1, 8, 87, 3, 62, 3, 54, 4, 21, 4, 28, 162, 0, 29, 42]
abbrev dktX0_caught_1 : List UInt8 := dkwX0_caught_1 ++ dktX0_caught_2
def dkwX0_caught_0 : List UInt8 := [42, 27, 182, 0, 204, 153, 0, 14, 42, 28, 3, 16, 60, 182, 1, 5, 154, 0, 5, 2, 172, 42]
abbrev dktX0_caught_0 : List UInt8 := dkwX0_caught_0 ++ dktX0_caught_1
theorem dksX0_caught_0 : cX0_caught.data.toList.drop 0 = dktX0_caught_0 := by decide +kernel
theorem dksX0_caught_1 : cX0_caught.data.toList.drop 22 = dktX0_caught_1 := dk_seg dksX0_caught_0 22 rfl rfl
theorem dksX0_caught_2 : cX0_caught.data.toList.drop 45 = dktX0_caught_2 := dk_seg dksX0_caught_1 23 rfl rfl
theorem dksX0_caught_3 : cX0_caught.data.toList.drop 67 = dktX0_caught_3 := dk_seg dksX0_caught_2 22 rfl rfl
theorem dX0_caught_0 : decode cX0_caught 0 = .ok (.aload_n 0, 1) := dk_42 (dk_at dksX0_caught_0 0 rfl rfl)
theorem dX0_caught_1 : decode cX0_caught 1 = .ok (.iload_n 1, 1) := dk_27 (dk_at dksX0_caught_0 1 rfl rfl)
theorem dX0_caught_2 : decode cX0_caught 2 = .ok (.invokevirtual 204, 3) := dk_182 0 204 (dk_at dksX0_caught_0 2 rfl rfl)
theorem dX0_caught_5 : decode cX0_caught 5 = .ok (.ifCond .eq 14, 3) := dk_153 0 14 (dk_at dksX0_caught_0 5 rfl rfl)
theorem dX0_caught_8 : decode cX0_caught 8 = .ok (.aload_n 0, 1) := dk_42 (dk_at dksX0_caught_0 8 rfl rfl)
theorem dX0_caught_9 : decode cX0_caught 9 = .ok (.iload_n 2, 1) := dk_28 (dk_at dksX0_caught_0 9 rfl rfl)
theorem dX0_caught_10 : decode cX0_caught 10 = .ok (.iconst 0, 1) := dk_3 (dk_at dksX0_caught_0 10 rfl rfl)
theorem dX0_caught_11 : decode cX0_caught 11 = .ok (.bipush 60, 2) := dk_16 60 (dk_at dksX0_caught_0 11 rfl rfl)
theorem dX0_caught_13 : decode cX0_caught 13 = .ok (.invokevirtual 261, 3) := dk_182 1 5 (dk_at dksX0_caught_0 13 rfl rfl)
theorem dX0_caught_16 : decode cX0_caught 16 = .ok (.ifCond .ne 5, 3) := dk_154 0 5 (dk_at dksX0_caught_0 16 rfl rfl)
theorem dX0_caught_19 : decode cX0_caught 19 = .ok (.iconst (-1), 1) := dk_2 (dk_at dksX0_caught_0 19 rfl rfl)
theorem dX0_caught_20 : decode cX0_caught 20 = .ok (.ireturn, 1) := dk_172 (dk_at dksX0_caught_0 20 rfl rfl)
theorem dX0_caught_21 : decode cX0_caught 21 = .ok (.aload_n 0, 1) := dk_42 (dk_at dksX0_caught_0 21 rfl rfl)
theorem dX0_caught_22 : decode cX0_caught 22 = .ok (.getfield 73, 3) := dk_180 0 73 (dk_at dksX0_caught_1 0 rfl rfl)
theorem dX0_caught_25 : decode cX0_caught 25 = .ok (.aload_n 0, 1) := dk_42 (dk_at dksX0_caught_1 3 rfl rfl)
theorem dX0_caught_26 : decode cX0_caught 26 = .ok (.getfield 69, 3) := dk_180 0 69 (dk_at dksX0_caught_1 4 rfl rfl)
theorem dX0_caught_29 : decode cX0_caught 29 = .ok (.invokevirtual 264, 3) := dk_182 1 8 (dk_at dksX0_caught_1 7 rfl rfl)
theorem dX0_caught_32 : decode cX0_caught 32 = .ok (.pop, 1) := dk_87 (dk_at dksX0_caught_1 10 rfl rfl)
theorem dX0_caught_33 : decode cX0_caught 33 = .ok (.iconst 0, 1) := dk_3 (dk_at dksX0_caught_1 11 rfl rfl)
theorem dX0_caught_34 : decode cX0_caught 34 = .ok (.istore_n 3, 1) := dk_62 (dk_at dksX0_caught_1 12 rfl rfl)
theorem dX0_caught_35 : decode cX0_caught 35 = .ok (.iconst 0, 1) := dk_3 (dk_at dksX0_caught_1 13 rfl rfl)
theorem dX0_caught_36 : decode cX0_caught 36 = .ok (.istore 4, 2) := dk_54 4 (dk_at dksX0_caught_1 14 rfl rfl)
theorem dX0_caught_38 : decode cX0_caught 38 = .ok (.iload 4, 2) := dk_21 4 (dk_at dksX0_caught_1 16 rfl rfl)
theorem dX0_caught_40 : decode cX0_caught 40 = .ok (.iload_n 2, 1) := dk_28 (dk_at dksX0_caught_1 18 rfl rfl)
theorem dX0_caught_41 : decode cX0_caught 41 = .ok (.if_icmp .ge 29, 3) := dk_162 0 29 (dk_at dksX0_caught_1 19 rfl rfl)
theorem dX0_caught_44 : decode cX0_caught 44 = .ok (.aload_n 0, 1) := dk_42 (dk_at dksX0_caught_1 22 rfl rfl)
theorem dX0_caught_45 : decode cX0_caught 45 = .ok (.getfield 73, 3) := dk_180 0 73 (dk_at dksX0_caught_2 0 rfl rfl)
theorem dX0_caught_48 : decode cX0_caught 48 = .ok (.invokevirtual 272, 3) := dk_182 1 16 (dk_at dksX0_caught_2 3 rfl rfl)
theorem dX0_caught_51 : decode cX0_caught 51 = .ok (.pop, 1) := dk_87 (dk_at dksX0_caught_2 6 rfl rfl)
theorem dX0_caught_52 : decode cX0_caught 52 = .ok (.iload_n 3, 1) := dk_29 (dk_at dksX0_caught_2 7 rfl rfl)
theorem dX0_caught_53 : decode cX0_caught 53 = .ok (.aload_n 0, 1) := dk_42 (dk_at dksX0_caught_2 8 rfl rfl)
theorem dX0_caught_54 : decode cX0_caught 54 = .ok (.getfield 73, 3) := dk_180 0 73 (dk_at dksX0_caught_2 9 rfl rfl)
theorem dX0_caught_57 : decode cX0_caught 57 = .ok (.getfield 223, 3) := dk_180 0 223 (dk_at dksX0_caught_2 12 rfl rfl)
theorem dX0_caught_60 : decode cX0_caught 60 = .ok (.iload_n 1, 1) := dk_27 (dk_at dksX0_caught_2 15 rfl rfl)
theorem dX0_caught_61 : decode cX0_caught 61 = .ok (.iaload, 1) := dk_46 (dk_at dksX0_caught_2 16 rfl rfl)
theorem dX0_caught_62 : decode cX0_caught 62 = .ok (.iadd, 1) := dk_96 (dk_at dksX0_caught_2 17 rfl rfl)
theorem dX0_caught_63 : decode cX0_caught 63 = .ok (.istore_n 3, 1) := dk_62 (dk_at dksX0_caught_2 18 rfl rfl)
theorem dX0_caught_64 : decode cX0_caught 64 = .ok (.iinc 4 1, 3) := dk_132 4 1 (dk_at dksX0_caught_2 19 rfl rfl)
theorem dX0_caught_67 : decode cX0_caught 67 = .ok (.goto (-29), 3) := dk_167 255 227 (dk_at dksX0_caught_3 0 rfl rfl)
theorem dX0_caught_70 : decode cX0_caught 70 = .ok (.iload_n 3, 1) := dk_29 (dk_at dksX0_caught_3 3 rfl rfl)
theorem dX0_caught_71 : decode cX0_caught 71 = .ok (.ireturn, 1) := dk_172 (dk_at dksX0_caught_3 4 rfl rfl)
abbrev cX0_hungry : ByteArray := prog_1_method_35_code
def yX0_hungry : MethodName := ⟨RX0, "hungry", "(II)I"⟩
def dkwX0_hungry_1 : List UInt8 := [180, 0, 69, 182, 1, 8, 28, 182, 1, 12, 180, 0, 214, 27, 46, 167, 0, 4, 2, 172]
abbrev dktX0_hungry_1 : List UInt8 := dkwX0_hungry_1 ++ []
def dkwX0_hungry_0 : List UInt8 := [42, 27, 182, 0, 204, 153, 0, 37, 42, 28, 3, 16, 60, 182, 1, 5, 153, 0, 26, 42, 180, 0, 73, 42]
abbrev dktX0_hungry_0 : List UInt8 := dkwX0_hungry_0 ++ dktX0_hungry_1
theorem dksX0_hungry_0 : cX0_hungry.data.toList.drop 0 = dktX0_hungry_0 := by decide +kernel
theorem dksX0_hungry_1 : cX0_hungry.data.toList.drop 24 = dktX0_hungry_1 := dk_seg dksX0_hungry_0 24 rfl rfl
theorem dX0_hungry_0 : decode cX0_hungry 0 = .ok (.aload_n 0, 1) := dk_42 (dk_at dksX0_hungry_0 0 rfl rfl)
theorem dX0_hungry_1 : decode cX0_hungry 1 = .ok (.iload_n 1, 1) := dk_27 (dk_at dksX0_hungry_0 1 rfl rfl)
theorem dX0_hungry_2 : decode cX0_hungry 2 = .ok (.invokevirtual 204, 3) := dk_182 0 204 (dk_at dksX0_hungry_0 2 rfl rfl)
theorem dX0_hungry_5 : decode cX0_hungry 5 = .ok (.ifCond .eq 37, 3) := dk_153 0 37 (dk_at dksX0_hungry_0 5 rfl rfl)
theorem dX0_hungry_8 : decode cX0_hungry 8 = .ok (.aload_n 0, 1) := dk_42 (dk_at dksX0_hungry_0 8 rfl rfl)
theorem dX0_hungry_9 : decode cX0_hungry 9 = .ok (.iload_n 2, 1) := dk_28 (dk_at dksX0_hungry_0 9 rfl rfl)
theorem dX0_hungry_10 : decode cX0_hungry 10 = .ok (.iconst 0, 1) := dk_3 (dk_at dksX0_hungry_0 10 rfl rfl)
theorem dX0_hungry_11 : decode cX0_hungry 11 = .ok (.bipush 60, 2) := dk_16 60 (dk_at dksX0_hungry_0 11 rfl rfl)
theorem dX0_hungry_13 : decode cX0_hungry 13 = .ok (.invokevirtual 261, 3) := dk_182 1 5 (dk_at dksX0_hungry_0 13 rfl rfl)
theorem dX0_hungry_16 : decode cX0_hungry 16 = .ok (.ifCond .eq 26, 3) := dk_153 0 26 (dk_at dksX0_hungry_0 16 rfl rfl)
theorem dX0_hungry_19 : decode cX0_hungry 19 = .ok (.aload_n 0, 1) := dk_42 (dk_at dksX0_hungry_0 19 rfl rfl)
theorem dX0_hungry_20 : decode cX0_hungry 20 = .ok (.getfield 73, 3) := dk_180 0 73 (dk_at dksX0_hungry_0 20 rfl rfl)
theorem dX0_hungry_23 : decode cX0_hungry 23 = .ok (.aload_n 0, 1) := dk_42 (dk_at dksX0_hungry_0 23 rfl rfl)
theorem dX0_hungry_24 : decode cX0_hungry 24 = .ok (.getfield 69, 3) := dk_180 0 69 (dk_at dksX0_hungry_1 0 rfl rfl)
theorem dX0_hungry_27 : decode cX0_hungry 27 = .ok (.invokevirtual 264, 3) := dk_182 1 8 (dk_at dksX0_hungry_1 3 rfl rfl)
theorem dX0_hungry_30 : decode cX0_hungry 30 = .ok (.iload_n 2, 1) := dk_28 (dk_at dksX0_hungry_1 6 rfl rfl)
theorem dX0_hungry_31 : decode cX0_hungry 31 = .ok (.invokevirtual 268, 3) := dk_182 1 12 (dk_at dksX0_hungry_1 7 rfl rfl)
theorem dX0_hungry_34 : decode cX0_hungry 34 = .ok (.getfield 214, 3) := dk_180 0 214 (dk_at dksX0_hungry_1 10 rfl rfl)
theorem dX0_hungry_37 : decode cX0_hungry 37 = .ok (.iload_n 1, 1) := dk_27 (dk_at dksX0_hungry_1 13 rfl rfl)
theorem dX0_hungry_38 : decode cX0_hungry 38 = .ok (.iaload, 1) := dk_46 (dk_at dksX0_hungry_1 14 rfl rfl)
theorem dX0_hungry_39 : decode cX0_hungry 39 = .ok (.goto 4, 3) := dk_167 0 4 (dk_at dksX0_hungry_1 15 rfl rfl)
theorem dX0_hungry_42 : decode cX0_hungry 42 = .ok (.iconst (-1), 1) := dk_2 (dk_at dksX0_hungry_1 18 rfl rfl)
theorem dX0_hungry_43 : decode cX0_hungry 43 = .ok (.ireturn, 1) := dk_172 (dk_at dksX0_hungry_1 19 rfl rfl)
abbrev cX0_steady : ByteArray := prog_1_method_37_code
def yX0_steady : MethodName := ⟨RX0, "steady", "()I"⟩
def dkwX0_steady_4 : List UInt8 := [132, 1, 1, 167, 255, 174, 2, 172]
abbrev dktX0_steady_4 : List UInt8 := dkwX0_steady_4 ++ []
def dkwX0_steady_3 : List UInt8 := [96, 8, 161, 0, 21, 42, 27, 4, 96, 8, 100, 182, 1, 19, 153, 0, 9, 27, 4, 96, 8, 100, 172]
abbrev dktX0_steady_3 : List UInt8 := dkwX0_steady_3 ++ dktX0_steady_4
def dkwX0_steady_2 : List UInt8 := [180, 0, 78, 27, 50, 28, 42, 180, 0, 73, 180, 0, 186, 28, 46, 79, 132, 2, 1, 167, 255, 228, 27, 4]
abbrev dktX0_steady_2 : List UInt8 := dkwX0_steady_2 ++ dktX0_steady_3
def dkwX0_steady_1 : List UInt8 := [153, 0, 75, 42, 180, 0, 73, 182, 1, 16, 87, 3, 61, 28, 42, 182, 0, 167, 162, 0, 26, 42]
abbrev dktX0_steady_1 : List UInt8 := dkwX0_steady_1 ++ dktX0_steady_2
def dkwX0_steady_0 : List UInt8 := [42, 180, 0, 73, 42, 180, 0, 69, 182, 1, 8, 87, 3, 60, 42, 27, 4, 96, 4, 16, 60, 182, 1, 5]
abbrev dktX0_steady_0 : List UInt8 := dkwX0_steady_0 ++ dktX0_steady_1
theorem dksX0_steady_0 : cX0_steady.data.toList.drop 0 = dktX0_steady_0 := by decide +kernel
theorem dksX0_steady_1 : cX0_steady.data.toList.drop 24 = dktX0_steady_1 := dk_seg dksX0_steady_0 24 rfl rfl
theorem dksX0_steady_2 : cX0_steady.data.toList.drop 46 = dktX0_steady_2 := dk_seg dksX0_steady_1 22 rfl rfl
theorem dksX0_steady_3 : cX0_steady.data.toList.drop 70 = dktX0_steady_3 := dk_seg dksX0_steady_2 24 rfl rfl
theorem dksX0_steady_4 : cX0_steady.data.toList.drop 93 = dktX0_steady_4 := dk_seg dksX0_steady_3 23 rfl rfl
theorem dX0_steady_0 : decode cX0_steady 0 = .ok (.aload_n 0, 1) := dk_42 (dk_at dksX0_steady_0 0 rfl rfl)
theorem dX0_steady_1 : decode cX0_steady 1 = .ok (.getfield 73, 3) := dk_180 0 73 (dk_at dksX0_steady_0 1 rfl rfl)
theorem dX0_steady_4 : decode cX0_steady 4 = .ok (.aload_n 0, 1) := dk_42 (dk_at dksX0_steady_0 4 rfl rfl)
theorem dX0_steady_5 : decode cX0_steady 5 = .ok (.getfield 69, 3) := dk_180 0 69 (dk_at dksX0_steady_0 5 rfl rfl)
theorem dX0_steady_8 : decode cX0_steady 8 = .ok (.invokevirtual 264, 3) := dk_182 1 8 (dk_at dksX0_steady_0 8 rfl rfl)
theorem dX0_steady_11 : decode cX0_steady 11 = .ok (.pop, 1) := dk_87 (dk_at dksX0_steady_0 11 rfl rfl)
theorem dX0_steady_12 : decode cX0_steady 12 = .ok (.iconst 0, 1) := dk_3 (dk_at dksX0_steady_0 12 rfl rfl)
theorem dX0_steady_13 : decode cX0_steady 13 = .ok (.istore_n 1, 1) := dk_60 (dk_at dksX0_steady_0 13 rfl rfl)
theorem dX0_steady_14 : decode cX0_steady 14 = .ok (.aload_n 0, 1) := dk_42 (dk_at dksX0_steady_0 14 rfl rfl)
theorem dX0_steady_15 : decode cX0_steady 15 = .ok (.iload_n 1, 1) := dk_27 (dk_at dksX0_steady_0 15 rfl rfl)
theorem dX0_steady_16 : decode cX0_steady 16 = .ok (.iconst 1, 1) := dk_4 (dk_at dksX0_steady_0 16 rfl rfl)
theorem dX0_steady_17 : decode cX0_steady 17 = .ok (.iadd, 1) := dk_96 (dk_at dksX0_steady_0 17 rfl rfl)
theorem dX0_steady_18 : decode cX0_steady 18 = .ok (.iconst 1, 1) := dk_4 (dk_at dksX0_steady_0 18 rfl rfl)
theorem dX0_steady_19 : decode cX0_steady 19 = .ok (.bipush 60, 2) := dk_16 60 (dk_at dksX0_steady_0 19 rfl rfl)
theorem dX0_steady_21 : decode cX0_steady 21 = .ok (.invokevirtual 261, 3) := dk_182 1 5 (dk_at dksX0_steady_0 21 rfl rfl)
theorem dX0_steady_24 : decode cX0_steady 24 = .ok (.ifCond .eq 75, 3) := dk_153 0 75 (dk_at dksX0_steady_1 0 rfl rfl)
theorem dX0_steady_27 : decode cX0_steady 27 = .ok (.aload_n 0, 1) := dk_42 (dk_at dksX0_steady_1 3 rfl rfl)
theorem dX0_steady_28 : decode cX0_steady 28 = .ok (.getfield 73, 3) := dk_180 0 73 (dk_at dksX0_steady_1 4 rfl rfl)
theorem dX0_steady_31 : decode cX0_steady 31 = .ok (.invokevirtual 272, 3) := dk_182 1 16 (dk_at dksX0_steady_1 7 rfl rfl)
theorem dX0_steady_34 : decode cX0_steady 34 = .ok (.pop, 1) := dk_87 (dk_at dksX0_steady_1 10 rfl rfl)
theorem dX0_steady_35 : decode cX0_steady 35 = .ok (.iconst 0, 1) := dk_3 (dk_at dksX0_steady_1 11 rfl rfl)
theorem dX0_steady_36 : decode cX0_steady 36 = .ok (.istore_n 2, 1) := dk_61 (dk_at dksX0_steady_1 12 rfl rfl)
theorem dX0_steady_37 : decode cX0_steady 37 = .ok (.iload_n 2, 1) := dk_28 (dk_at dksX0_steady_1 13 rfl rfl)
theorem dX0_steady_38 : decode cX0_steady 38 = .ok (.aload_n 0, 1) := dk_42 (dk_at dksX0_steady_1 14 rfl rfl)
theorem dX0_steady_39 : decode cX0_steady 39 = .ok (.invokevirtual 167, 3) := dk_182 0 167 (dk_at dksX0_steady_1 15 rfl rfl)
theorem dX0_steady_42 : decode cX0_steady 42 = .ok (.if_icmp .ge 26, 3) := dk_162 0 26 (dk_at dksX0_steady_1 18 rfl rfl)
theorem dX0_steady_45 : decode cX0_steady 45 = .ok (.aload_n 0, 1) := dk_42 (dk_at dksX0_steady_1 21 rfl rfl)
theorem dX0_steady_46 : decode cX0_steady 46 = .ok (.getfield 78, 3) := dk_180 0 78 (dk_at dksX0_steady_2 0 rfl rfl)
theorem dX0_steady_49 : decode cX0_steady 49 = .ok (.iload_n 1, 1) := dk_27 (dk_at dksX0_steady_2 3 rfl rfl)
theorem dX0_steady_50 : decode cX0_steady 50 = .ok (.aaload, 1) := dk_50 (dk_at dksX0_steady_2 4 rfl rfl)
theorem dX0_steady_51 : decode cX0_steady 51 = .ok (.iload_n 2, 1) := dk_28 (dk_at dksX0_steady_2 5 rfl rfl)
theorem dX0_steady_52 : decode cX0_steady 52 = .ok (.aload_n 0, 1) := dk_42 (dk_at dksX0_steady_2 6 rfl rfl)
theorem dX0_steady_53 : decode cX0_steady 53 = .ok (.getfield 73, 3) := dk_180 0 73 (dk_at dksX0_steady_2 7 rfl rfl)
theorem dX0_steady_56 : decode cX0_steady 56 = .ok (.getfield 186, 3) := dk_180 0 186 (dk_at dksX0_steady_2 10 rfl rfl)
theorem dX0_steady_59 : decode cX0_steady 59 = .ok (.iload_n 2, 1) := dk_28 (dk_at dksX0_steady_2 13 rfl rfl)
theorem dX0_steady_60 : decode cX0_steady 60 = .ok (.iaload, 1) := dk_46 (dk_at dksX0_steady_2 14 rfl rfl)
theorem dX0_steady_61 : decode cX0_steady 61 = .ok (.iastore, 1) := dk_79 (dk_at dksX0_steady_2 15 rfl rfl)
theorem dX0_steady_62 : decode cX0_steady 62 = .ok (.iinc 2 1, 3) := dk_132 2 1 (dk_at dksX0_steady_2 16 rfl rfl)
theorem dX0_steady_65 : decode cX0_steady 65 = .ok (.goto (-28), 3) := dk_167 255 228 (dk_at dksX0_steady_2 19 rfl rfl)
theorem dX0_steady_68 : decode cX0_steady 68 = .ok (.iload_n 1, 1) := dk_27 (dk_at dksX0_steady_2 22 rfl rfl)
theorem dX0_steady_69 : decode cX0_steady 69 = .ok (.iconst 1, 1) := dk_4 (dk_at dksX0_steady_2 23 rfl rfl)
theorem dX0_steady_70 : decode cX0_steady 70 = .ok (.iadd, 1) := dk_96 (dk_at dksX0_steady_3 0 rfl rfl)
theorem dX0_steady_71 : decode cX0_steady 71 = .ok (.iconst 5, 1) := dk_8 (dk_at dksX0_steady_3 1 rfl rfl)
theorem dX0_steady_72 : decode cX0_steady 72 = .ok (.if_icmp .lt 21, 3) := dk_161 0 21 (dk_at dksX0_steady_3 2 rfl rfl)
theorem dX0_steady_75 : decode cX0_steady 75 = .ok (.aload_n 0, 1) := dk_42 (dk_at dksX0_steady_3 5 rfl rfl)
theorem dX0_steady_76 : decode cX0_steady 76 = .ok (.iload_n 1, 1) := dk_27 (dk_at dksX0_steady_3 6 rfl rfl)
theorem dX0_steady_77 : decode cX0_steady 77 = .ok (.iconst 1, 1) := dk_4 (dk_at dksX0_steady_3 7 rfl rfl)
theorem dX0_steady_78 : decode cX0_steady 78 = .ok (.iadd, 1) := dk_96 (dk_at dksX0_steady_3 8 rfl rfl)
theorem dX0_steady_79 : decode cX0_steady 79 = .ok (.iconst 5, 1) := dk_8 (dk_at dksX0_steady_3 9 rfl rfl)
theorem dX0_steady_80 : decode cX0_steady 80 = .ok (.isub, 1) := dk_100 (dk_at dksX0_steady_3 10 rfl rfl)
theorem dX0_steady_81 : decode cX0_steady 81 = .ok (.invokevirtual 275, 3) := dk_182 1 19 (dk_at dksX0_steady_3 11 rfl rfl)
theorem dX0_steady_84 : decode cX0_steady 84 = .ok (.ifCond .eq 9, 3) := dk_153 0 9 (dk_at dksX0_steady_3 14 rfl rfl)
theorem dX0_steady_87 : decode cX0_steady 87 = .ok (.iload_n 1, 1) := dk_27 (dk_at dksX0_steady_3 17 rfl rfl)
theorem dX0_steady_88 : decode cX0_steady 88 = .ok (.iconst 1, 1) := dk_4 (dk_at dksX0_steady_3 18 rfl rfl)
theorem dX0_steady_89 : decode cX0_steady 89 = .ok (.iadd, 1) := dk_96 (dk_at dksX0_steady_3 19 rfl rfl)
theorem dX0_steady_90 : decode cX0_steady 90 = .ok (.iconst 5, 1) := dk_8 (dk_at dksX0_steady_3 20 rfl rfl)
theorem dX0_steady_91 : decode cX0_steady 91 = .ok (.isub, 1) := dk_100 (dk_at dksX0_steady_3 21 rfl rfl)
theorem dX0_steady_92 : decode cX0_steady 92 = .ok (.ireturn, 1) := dk_172 (dk_at dksX0_steady_3 22 rfl rfl)
theorem dX0_steady_93 : decode cX0_steady 93 = .ok (.iinc 1 1, 3) := dk_132 1 1 (dk_at dksX0_steady_4 0 rfl rfl)
theorem dX0_steady_96 : decode cX0_steady 96 = .ok (.goto (-82), 3) := dk_167 255 174 (dk_at dksX0_steady_4 3 rfl rfl)
theorem dX0_steady_99 : decode cX0_steady 99 = .ok (.iconst (-1), 1) := dk_2 (dk_at dksX0_steady_4 6 rfl rfl)
theorem dX0_steady_100 : decode cX0_steady 100 = .ok (.ireturn, 1) := dk_172 (dk_at dksX0_steady_4 7 rfl rfl)
abbrev cX0_isSteadyFrom : ByteArray := prog_1_method_36_code
def yX0_isSteadyFrom : MethodName := ⟨RX0, "isSteadyFrom", "(I)Z"⟩
def dkwX0_isSteadyFrom_2 : List UInt8 := [167, 255, 224, 132, 2, 1, 167, 255, 209, 4, 172]
abbrev dktX0_isSteadyFrom_2 : List UInt8 := dkwX0_isSteadyFrom_2 ++ []
def dkwX0_isSteadyFrom_1 : List UInt8 := [180, 0, 78, 28, 50, 29, 46, 42, 180, 0, 78, 27, 50, 29, 46, 159, 0, 5, 3, 172, 132, 3, 1]
abbrev dktX0_isSteadyFrom_1 : List UInt8 := dkwX0_isSteadyFrom_1 ++ dktX0_isSteadyFrom_2
def dkwX0_isSteadyFrom_0 : List UInt8 := [27, 4, 96, 61, 28, 27, 8, 96, 162, 0, 46, 3, 62, 29, 42, 182, 0, 167, 162, 0, 30, 42]
abbrev dktX0_isSteadyFrom_0 : List UInt8 := dkwX0_isSteadyFrom_0 ++ dktX0_isSteadyFrom_1
theorem dksX0_isSteadyFrom_0 : cX0_isSteadyFrom.data.toList.drop 0 = dktX0_isSteadyFrom_0 := by decide +kernel
theorem dksX0_isSteadyFrom_1 : cX0_isSteadyFrom.data.toList.drop 22 = dktX0_isSteadyFrom_1 := dk_seg dksX0_isSteadyFrom_0 22 rfl rfl
theorem dksX0_isSteadyFrom_2 : cX0_isSteadyFrom.data.toList.drop 45 = dktX0_isSteadyFrom_2 := dk_seg dksX0_isSteadyFrom_1 23 rfl rfl
theorem dX0_isSteadyFrom_0 : decode cX0_isSteadyFrom 0 = .ok (.iload_n 1, 1) := dk_27 (dk_at dksX0_isSteadyFrom_0 0 rfl rfl)
theorem dX0_isSteadyFrom_1 : decode cX0_isSteadyFrom 1 = .ok (.iconst 1, 1) := dk_4 (dk_at dksX0_isSteadyFrom_0 1 rfl rfl)
theorem dX0_isSteadyFrom_2 : decode cX0_isSteadyFrom 2 = .ok (.iadd, 1) := dk_96 (dk_at dksX0_isSteadyFrom_0 2 rfl rfl)
theorem dX0_isSteadyFrom_3 : decode cX0_isSteadyFrom 3 = .ok (.istore_n 2, 1) := dk_61 (dk_at dksX0_isSteadyFrom_0 3 rfl rfl)
theorem dX0_isSteadyFrom_4 : decode cX0_isSteadyFrom 4 = .ok (.iload_n 2, 1) := dk_28 (dk_at dksX0_isSteadyFrom_0 4 rfl rfl)
theorem dX0_isSteadyFrom_5 : decode cX0_isSteadyFrom 5 = .ok (.iload_n 1, 1) := dk_27 (dk_at dksX0_isSteadyFrom_0 5 rfl rfl)
theorem dX0_isSteadyFrom_6 : decode cX0_isSteadyFrom 6 = .ok (.iconst 5, 1) := dk_8 (dk_at dksX0_isSteadyFrom_0 6 rfl rfl)
theorem dX0_isSteadyFrom_7 : decode cX0_isSteadyFrom 7 = .ok (.iadd, 1) := dk_96 (dk_at dksX0_isSteadyFrom_0 7 rfl rfl)
theorem dX0_isSteadyFrom_8 : decode cX0_isSteadyFrom 8 = .ok (.if_icmp .ge 46, 3) := dk_162 0 46 (dk_at dksX0_isSteadyFrom_0 8 rfl rfl)
theorem dX0_isSteadyFrom_11 : decode cX0_isSteadyFrom 11 = .ok (.iconst 0, 1) := dk_3 (dk_at dksX0_isSteadyFrom_0 11 rfl rfl)
theorem dX0_isSteadyFrom_12 : decode cX0_isSteadyFrom 12 = .ok (.istore_n 3, 1) := dk_62 (dk_at dksX0_isSteadyFrom_0 12 rfl rfl)
theorem dX0_isSteadyFrom_13 : decode cX0_isSteadyFrom 13 = .ok (.iload_n 3, 1) := dk_29 (dk_at dksX0_isSteadyFrom_0 13 rfl rfl)
theorem dX0_isSteadyFrom_14 : decode cX0_isSteadyFrom 14 = .ok (.aload_n 0, 1) := dk_42 (dk_at dksX0_isSteadyFrom_0 14 rfl rfl)
theorem dX0_isSteadyFrom_15 : decode cX0_isSteadyFrom 15 = .ok (.invokevirtual 167, 3) := dk_182 0 167 (dk_at dksX0_isSteadyFrom_0 15 rfl rfl)
theorem dX0_isSteadyFrom_18 : decode cX0_isSteadyFrom 18 = .ok (.if_icmp .ge 30, 3) := dk_162 0 30 (dk_at dksX0_isSteadyFrom_0 18 rfl rfl)
theorem dX0_isSteadyFrom_21 : decode cX0_isSteadyFrom 21 = .ok (.aload_n 0, 1) := dk_42 (dk_at dksX0_isSteadyFrom_0 21 rfl rfl)
theorem dX0_isSteadyFrom_22 : decode cX0_isSteadyFrom 22 = .ok (.getfield 78, 3) := dk_180 0 78 (dk_at dksX0_isSteadyFrom_1 0 rfl rfl)
theorem dX0_isSteadyFrom_25 : decode cX0_isSteadyFrom 25 = .ok (.iload_n 2, 1) := dk_28 (dk_at dksX0_isSteadyFrom_1 3 rfl rfl)
theorem dX0_isSteadyFrom_26 : decode cX0_isSteadyFrom 26 = .ok (.aaload, 1) := dk_50 (dk_at dksX0_isSteadyFrom_1 4 rfl rfl)
theorem dX0_isSteadyFrom_27 : decode cX0_isSteadyFrom 27 = .ok (.iload_n 3, 1) := dk_29 (dk_at dksX0_isSteadyFrom_1 5 rfl rfl)
theorem dX0_isSteadyFrom_28 : decode cX0_isSteadyFrom 28 = .ok (.iaload, 1) := dk_46 (dk_at dksX0_isSteadyFrom_1 6 rfl rfl)
theorem dX0_isSteadyFrom_29 : decode cX0_isSteadyFrom 29 = .ok (.aload_n 0, 1) := dk_42 (dk_at dksX0_isSteadyFrom_1 7 rfl rfl)
theorem dX0_isSteadyFrom_30 : decode cX0_isSteadyFrom 30 = .ok (.getfield 78, 3) := dk_180 0 78 (dk_at dksX0_isSteadyFrom_1 8 rfl rfl)
theorem dX0_isSteadyFrom_33 : decode cX0_isSteadyFrom 33 = .ok (.iload_n 1, 1) := dk_27 (dk_at dksX0_isSteadyFrom_1 11 rfl rfl)
theorem dX0_isSteadyFrom_34 : decode cX0_isSteadyFrom 34 = .ok (.aaload, 1) := dk_50 (dk_at dksX0_isSteadyFrom_1 12 rfl rfl)
theorem dX0_isSteadyFrom_35 : decode cX0_isSteadyFrom 35 = .ok (.iload_n 3, 1) := dk_29 (dk_at dksX0_isSteadyFrom_1 13 rfl rfl)
theorem dX0_isSteadyFrom_36 : decode cX0_isSteadyFrom 36 = .ok (.iaload, 1) := dk_46 (dk_at dksX0_isSteadyFrom_1 14 rfl rfl)
theorem dX0_isSteadyFrom_37 : decode cX0_isSteadyFrom 37 = .ok (.if_icmp .eq 5, 3) := dk_159 0 5 (dk_at dksX0_isSteadyFrom_1 15 rfl rfl)
theorem dX0_isSteadyFrom_40 : decode cX0_isSteadyFrom 40 = .ok (.iconst 0, 1) := dk_3 (dk_at dksX0_isSteadyFrom_1 18 rfl rfl)
theorem dX0_isSteadyFrom_41 : decode cX0_isSteadyFrom 41 = .ok (.ireturn, 1) := dk_172 (dk_at dksX0_isSteadyFrom_1 19 rfl rfl)
theorem dX0_isSteadyFrom_42 : decode cX0_isSteadyFrom 42 = .ok (.iinc 3 1, 3) := dk_132 3 1 (dk_at dksX0_isSteadyFrom_1 20 rfl rfl)
theorem dX0_isSteadyFrom_45 : decode cX0_isSteadyFrom 45 = .ok (.goto (-32), 3) := dk_167 255 224 (dk_at dksX0_isSteadyFrom_2 0 rfl rfl)
theorem dX0_isSteadyFrom_48 : decode cX0_isSteadyFrom 48 = .ok (.iinc 2 1, 3) := dk_132 2 1 (dk_at dksX0_isSteadyFrom_2 3 rfl rfl)
theorem dX0_isSteadyFrom_51 : decode cX0_isSteadyFrom 51 = .ok (.goto (-47), 3) := dk_167 255 209 (dk_at dksX0_isSteadyFrom_2 6 rfl rfl)
theorem dX0_isSteadyFrom_54 : decode cX0_isSteadyFrom 54 = .ok (.iconst 1, 1) := dk_4 (dk_at dksX0_isSteadyFrom_2 9 rfl rfl)
theorem dX0_isSteadyFrom_55 : decode cX0_isSteadyFrom 55 = .ok (.ireturn, 1) := dk_172 (dk_at dksX0_isSteadyFrom_2 10 rfl rfl)
abbrev cX0_reconcile : ByteArray := prog_1_method_39_code
def yX0_reconcile : MethodName := ⟨RX0, "reconcile", "(III)I"⟩
def dkwX0_reconcile_6 : List UInt8 := [54, 5, 132, 6, 1, 167, 255, 194, 21, 5, 172]
abbrev dktX0_reconcile_6 : List UInt8 := dkwX0_reconcile_6 ++ []
def dkwX0_reconcile_5 : List UInt8 := [184, 1, 26, 161, 0, 6, 167, 0, 19, 42, 21, 6, 27, 28, 29, 182, 1, 31, 153, 0, 7, 21, 6]
abbrev dktX0_reconcile_5 : List UInt8 := dkwX0_reconcile_5 ++ dktX0_reconcile_6
def dkwX0_reconcile_4 : List UInt8 := [21, 6, 21, 4, 2, 130, 126, 154, 0, 41, 21, 5, 2, 159, 0, 19, 21, 6, 184, 1, 26, 21, 5]
abbrev dktX0_reconcile_4 : List UInt8 := dkwX0_reconcile_4 ++ dktX0_reconcile_5
def dkwX0_reconcile_3 : List UInt8 := [132, 5, 1, 167, 255, 218, 2, 54, 5, 3, 54, 6, 21, 6, 4, 42, 182, 0, 165, 120, 162, 0, 57]
abbrev dktX0_reconcile_3 : List UInt8 := dkwX0_reconcile_3 ++ dktX0_reconcile_4
def dkwX0_reconcile_2 : List UInt8 := [21, 5, 182, 0, 229, 180, 0, 233, 27, 160, 0, 10, 4, 21, 5, 120, 167, 0, 4, 3, 128, 54, 4]
abbrev dktX0_reconcile_2 : List UInt8 := dkwX0_reconcile_2 ++ dktX0_reconcile_3
def dkwX0_reconcile_1 : List UInt8 := [154, 0, 5, 2, 172, 3, 54, 4, 3, 54, 5, 21, 5, 42, 182, 0, 165, 162, 0, 35, 21, 4, 42]
abbrev dktX0_reconcile_1 : List UInt8 := dkwX0_reconcile_1 ++ dktX0_reconcile_2
def dkwX0_reconcile_0 : List UInt8 := [42, 27, 182, 0, 204, 153, 0, 22, 42, 28, 182, 0, 242, 153, 0, 14, 42, 29, 4, 16, 20, 182, 1, 5]
abbrev dktX0_reconcile_0 : List UInt8 := dkwX0_reconcile_0 ++ dktX0_reconcile_1
theorem dksX0_reconcile_0 : cX0_reconcile.data.toList.drop 0 = dktX0_reconcile_0 := by decide +kernel
theorem dksX0_reconcile_1 : cX0_reconcile.data.toList.drop 24 = dktX0_reconcile_1 := dk_seg dksX0_reconcile_0 24 rfl rfl
theorem dksX0_reconcile_2 : cX0_reconcile.data.toList.drop 47 = dktX0_reconcile_2 := dk_seg dksX0_reconcile_1 23 rfl rfl
theorem dksX0_reconcile_3 : cX0_reconcile.data.toList.drop 70 = dktX0_reconcile_3 := dk_seg dksX0_reconcile_2 23 rfl rfl
theorem dksX0_reconcile_4 : cX0_reconcile.data.toList.drop 93 = dktX0_reconcile_4 := dk_seg dksX0_reconcile_3 23 rfl rfl
theorem dksX0_reconcile_5 : cX0_reconcile.data.toList.drop 116 = dktX0_reconcile_5 := dk_seg dksX0_reconcile_4 23 rfl rfl
theorem dksX0_reconcile_6 : cX0_reconcile.data.toList.drop 139 = dktX0_reconcile_6 := dk_seg dksX0_reconcile_5 23 rfl rfl
theorem dX0_reconcile_0 : decode cX0_reconcile 0 = .ok (.aload_n 0, 1) := dk_42 (dk_at dksX0_reconcile_0 0 rfl rfl)
theorem dX0_reconcile_1 : decode cX0_reconcile 1 = .ok (.iload_n 1, 1) := dk_27 (dk_at dksX0_reconcile_0 1 rfl rfl)
theorem dX0_reconcile_2 : decode cX0_reconcile 2 = .ok (.invokevirtual 204, 3) := dk_182 0 204 (dk_at dksX0_reconcile_0 2 rfl rfl)
theorem dX0_reconcile_5 : decode cX0_reconcile 5 = .ok (.ifCond .eq 22, 3) := dk_153 0 22 (dk_at dksX0_reconcile_0 5 rfl rfl)
theorem dX0_reconcile_8 : decode cX0_reconcile 8 = .ok (.aload_n 0, 1) := dk_42 (dk_at dksX0_reconcile_0 8 rfl rfl)
theorem dX0_reconcile_9 : decode cX0_reconcile 9 = .ok (.iload_n 2, 1) := dk_28 (dk_at dksX0_reconcile_0 9 rfl rfl)
theorem dX0_reconcile_10 : decode cX0_reconcile 10 = .ok (.invokevirtual 242, 3) := dk_182 0 242 (dk_at dksX0_reconcile_0 10 rfl rfl)
theorem dX0_reconcile_13 : decode cX0_reconcile 13 = .ok (.ifCond .eq 14, 3) := dk_153 0 14 (dk_at dksX0_reconcile_0 13 rfl rfl)
theorem dX0_reconcile_16 : decode cX0_reconcile 16 = .ok (.aload_n 0, 1) := dk_42 (dk_at dksX0_reconcile_0 16 rfl rfl)
theorem dX0_reconcile_17 : decode cX0_reconcile 17 = .ok (.iload_n 3, 1) := dk_29 (dk_at dksX0_reconcile_0 17 rfl rfl)
theorem dX0_reconcile_18 : decode cX0_reconcile 18 = .ok (.iconst 1, 1) := dk_4 (dk_at dksX0_reconcile_0 18 rfl rfl)
theorem dX0_reconcile_19 : decode cX0_reconcile 19 = .ok (.bipush 20, 2) := dk_16 20 (dk_at dksX0_reconcile_0 19 rfl rfl)
theorem dX0_reconcile_21 : decode cX0_reconcile 21 = .ok (.invokevirtual 261, 3) := dk_182 1 5 (dk_at dksX0_reconcile_0 21 rfl rfl)
theorem dX0_reconcile_24 : decode cX0_reconcile 24 = .ok (.ifCond .ne 5, 3) := dk_154 0 5 (dk_at dksX0_reconcile_1 0 rfl rfl)
theorem dX0_reconcile_27 : decode cX0_reconcile 27 = .ok (.iconst (-1), 1) := dk_2 (dk_at dksX0_reconcile_1 3 rfl rfl)
theorem dX0_reconcile_28 : decode cX0_reconcile 28 = .ok (.ireturn, 1) := dk_172 (dk_at dksX0_reconcile_1 4 rfl rfl)
theorem dX0_reconcile_29 : decode cX0_reconcile 29 = .ok (.iconst 0, 1) := dk_3 (dk_at dksX0_reconcile_1 5 rfl rfl)
theorem dX0_reconcile_30 : decode cX0_reconcile 30 = .ok (.istore 4, 2) := dk_54 4 (dk_at dksX0_reconcile_1 6 rfl rfl)
theorem dX0_reconcile_32 : decode cX0_reconcile 32 = .ok (.iconst 0, 1) := dk_3 (dk_at dksX0_reconcile_1 8 rfl rfl)
theorem dX0_reconcile_33 : decode cX0_reconcile 33 = .ok (.istore 5, 2) := dk_54 5 (dk_at dksX0_reconcile_1 9 rfl rfl)
theorem dX0_reconcile_35 : decode cX0_reconcile 35 = .ok (.iload 5, 2) := dk_21 5 (dk_at dksX0_reconcile_1 11 rfl rfl)
theorem dX0_reconcile_37 : decode cX0_reconcile 37 = .ok (.aload_n 0, 1) := dk_42 (dk_at dksX0_reconcile_1 13 rfl rfl)
theorem dX0_reconcile_38 : decode cX0_reconcile 38 = .ok (.invokevirtual 165, 3) := dk_182 0 165 (dk_at dksX0_reconcile_1 14 rfl rfl)
theorem dX0_reconcile_41 : decode cX0_reconcile 41 = .ok (.if_icmp .ge 35, 3) := dk_162 0 35 (dk_at dksX0_reconcile_1 17 rfl rfl)
theorem dX0_reconcile_44 : decode cX0_reconcile 44 = .ok (.iload 4, 2) := dk_21 4 (dk_at dksX0_reconcile_1 20 rfl rfl)
theorem dX0_reconcile_46 : decode cX0_reconcile 46 = .ok (.aload_n 0, 1) := dk_42 (dk_at dksX0_reconcile_1 22 rfl rfl)
theorem dX0_reconcile_47 : decode cX0_reconcile 47 = .ok (.iload 5, 2) := dk_21 5 (dk_at dksX0_reconcile_2 0 rfl rfl)
theorem dX0_reconcile_49 : decode cX0_reconcile 49 = .ok (.invokevirtual 229, 3) := dk_182 0 229 (dk_at dksX0_reconcile_2 2 rfl rfl)
theorem dX0_reconcile_52 : decode cX0_reconcile 52 = .ok (.getfield 233, 3) := dk_180 0 233 (dk_at dksX0_reconcile_2 5 rfl rfl)
theorem dX0_reconcile_55 : decode cX0_reconcile 55 = .ok (.iload_n 1, 1) := dk_27 (dk_at dksX0_reconcile_2 8 rfl rfl)
theorem dX0_reconcile_56 : decode cX0_reconcile 56 = .ok (.if_icmp .ne 10, 3) := dk_160 0 10 (dk_at dksX0_reconcile_2 9 rfl rfl)
theorem dX0_reconcile_59 : decode cX0_reconcile 59 = .ok (.iconst 1, 1) := dk_4 (dk_at dksX0_reconcile_2 12 rfl rfl)
theorem dX0_reconcile_60 : decode cX0_reconcile 60 = .ok (.iload 5, 2) := dk_21 5 (dk_at dksX0_reconcile_2 13 rfl rfl)
theorem dX0_reconcile_62 : decode cX0_reconcile 62 = .ok (.ishl, 1) := dk_120 (dk_at dksX0_reconcile_2 15 rfl rfl)
theorem dX0_reconcile_63 : decode cX0_reconcile 63 = .ok (.goto 4, 3) := dk_167 0 4 (dk_at dksX0_reconcile_2 16 rfl rfl)
theorem dX0_reconcile_66 : decode cX0_reconcile 66 = .ok (.iconst 0, 1) := dk_3 (dk_at dksX0_reconcile_2 19 rfl rfl)
theorem dX0_reconcile_67 : decode cX0_reconcile 67 = .ok (.ior, 1) := dk_128 (dk_at dksX0_reconcile_2 20 rfl rfl)
theorem dX0_reconcile_68 : decode cX0_reconcile 68 = .ok (.istore 4, 2) := dk_54 4 (dk_at dksX0_reconcile_2 21 rfl rfl)
theorem dX0_reconcile_70 : decode cX0_reconcile 70 = .ok (.iinc 5 1, 3) := dk_132 5 1 (dk_at dksX0_reconcile_3 0 rfl rfl)
theorem dX0_reconcile_73 : decode cX0_reconcile 73 = .ok (.goto (-38), 3) := dk_167 255 218 (dk_at dksX0_reconcile_3 3 rfl rfl)
theorem dX0_reconcile_76 : decode cX0_reconcile 76 = .ok (.iconst (-1), 1) := dk_2 (dk_at dksX0_reconcile_3 6 rfl rfl)
theorem dX0_reconcile_77 : decode cX0_reconcile 77 = .ok (.istore 5, 2) := dk_54 5 (dk_at dksX0_reconcile_3 7 rfl rfl)
theorem dX0_reconcile_79 : decode cX0_reconcile 79 = .ok (.iconst 0, 1) := dk_3 (dk_at dksX0_reconcile_3 9 rfl rfl)
theorem dX0_reconcile_80 : decode cX0_reconcile 80 = .ok (.istore 6, 2) := dk_54 6 (dk_at dksX0_reconcile_3 10 rfl rfl)
theorem dX0_reconcile_82 : decode cX0_reconcile 82 = .ok (.iload 6, 2) := dk_21 6 (dk_at dksX0_reconcile_3 12 rfl rfl)
theorem dX0_reconcile_84 : decode cX0_reconcile 84 = .ok (.iconst 1, 1) := dk_4 (dk_at dksX0_reconcile_3 14 rfl rfl)
theorem dX0_reconcile_85 : decode cX0_reconcile 85 = .ok (.aload_n 0, 1) := dk_42 (dk_at dksX0_reconcile_3 15 rfl rfl)
theorem dX0_reconcile_86 : decode cX0_reconcile 86 = .ok (.invokevirtual 165, 3) := dk_182 0 165 (dk_at dksX0_reconcile_3 16 rfl rfl)
theorem dX0_reconcile_89 : decode cX0_reconcile 89 = .ok (.ishl, 1) := dk_120 (dk_at dksX0_reconcile_3 19 rfl rfl)
theorem dX0_reconcile_90 : decode cX0_reconcile 90 = .ok (.if_icmp .ge 57, 3) := dk_162 0 57 (dk_at dksX0_reconcile_3 20 rfl rfl)
theorem dX0_reconcile_93 : decode cX0_reconcile 93 = .ok (.iload 6, 2) := dk_21 6 (dk_at dksX0_reconcile_4 0 rfl rfl)
theorem dX0_reconcile_95 : decode cX0_reconcile 95 = .ok (.iload 4, 2) := dk_21 4 (dk_at dksX0_reconcile_4 2 rfl rfl)
theorem dX0_reconcile_97 : decode cX0_reconcile 97 = .ok (.iconst (-1), 1) := dk_2 (dk_at dksX0_reconcile_4 4 rfl rfl)
theorem dX0_reconcile_98 : decode cX0_reconcile 98 = .ok (.ixor, 1) := dk_130 (dk_at dksX0_reconcile_4 5 rfl rfl)
theorem dX0_reconcile_99 : decode cX0_reconcile 99 = .ok (.iand, 1) := dk_126 (dk_at dksX0_reconcile_4 6 rfl rfl)
theorem dX0_reconcile_100 : decode cX0_reconcile 100 = .ok (.ifCond .ne 41, 3) := dk_154 0 41 (dk_at dksX0_reconcile_4 7 rfl rfl)
theorem dX0_reconcile_103 : decode cX0_reconcile 103 = .ok (.iload 5, 2) := dk_21 5 (dk_at dksX0_reconcile_4 10 rfl rfl)
theorem dX0_reconcile_105 : decode cX0_reconcile 105 = .ok (.iconst (-1), 1) := dk_2 (dk_at dksX0_reconcile_4 12 rfl rfl)
theorem dX0_reconcile_106 : decode cX0_reconcile 106 = .ok (.if_icmp .eq 19, 3) := dk_159 0 19 (dk_at dksX0_reconcile_4 13 rfl rfl)
theorem dX0_reconcile_109 : decode cX0_reconcile 109 = .ok (.iload 6, 2) := dk_21 6 (dk_at dksX0_reconcile_4 16 rfl rfl)
theorem dX0_reconcile_111 : decode cX0_reconcile 111 = .ok (.invokestatic 282, 3) := dk_184 1 26 (dk_at dksX0_reconcile_4 18 rfl rfl)
theorem dX0_reconcile_114 : decode cX0_reconcile 114 = .ok (.iload 5, 2) := dk_21 5 (dk_at dksX0_reconcile_4 21 rfl rfl)
theorem dX0_reconcile_116 : decode cX0_reconcile 116 = .ok (.invokestatic 282, 3) := dk_184 1 26 (dk_at dksX0_reconcile_5 0 rfl rfl)
theorem dX0_reconcile_119 : decode cX0_reconcile 119 = .ok (.if_icmp .lt 6, 3) := dk_161 0 6 (dk_at dksX0_reconcile_5 3 rfl rfl)
theorem dX0_reconcile_122 : decode cX0_reconcile 122 = .ok (.goto 19, 3) := dk_167 0 19 (dk_at dksX0_reconcile_5 6 rfl rfl)
theorem dX0_reconcile_125 : decode cX0_reconcile 125 = .ok (.aload_n 0, 1) := dk_42 (dk_at dksX0_reconcile_5 9 rfl rfl)
theorem dX0_reconcile_126 : decode cX0_reconcile 126 = .ok (.iload 6, 2) := dk_21 6 (dk_at dksX0_reconcile_5 10 rfl rfl)
theorem dX0_reconcile_128 : decode cX0_reconcile 128 = .ok (.iload_n 1, 1) := dk_27 (dk_at dksX0_reconcile_5 12 rfl rfl)
theorem dX0_reconcile_129 : decode cX0_reconcile 129 = .ok (.iload_n 2, 1) := dk_28 (dk_at dksX0_reconcile_5 13 rfl rfl)
theorem dX0_reconcile_130 : decode cX0_reconcile 130 = .ok (.iload_n 3, 1) := dk_29 (dk_at dksX0_reconcile_5 14 rfl rfl)
theorem dX0_reconcile_131 : decode cX0_reconcile 131 = .ok (.invokevirtual 287, 3) := dk_182 1 31 (dk_at dksX0_reconcile_5 15 rfl rfl)
theorem dX0_reconcile_134 : decode cX0_reconcile 134 = .ok (.ifCond .eq 7, 3) := dk_153 0 7 (dk_at dksX0_reconcile_5 18 rfl rfl)
theorem dX0_reconcile_137 : decode cX0_reconcile 137 = .ok (.iload 6, 2) := dk_21 6 (dk_at dksX0_reconcile_5 21 rfl rfl)
theorem dX0_reconcile_139 : decode cX0_reconcile 139 = .ok (.istore 5, 2) := dk_54 5 (dk_at dksX0_reconcile_6 0 rfl rfl)
theorem dX0_reconcile_141 : decode cX0_reconcile 141 = .ok (.iinc 6 1, 3) := dk_132 6 1 (dk_at dksX0_reconcile_6 2 rfl rfl)
theorem dX0_reconcile_144 : decode cX0_reconcile 144 = .ok (.goto (-62), 3) := dk_167 255 194 (dk_at dksX0_reconcile_6 5 rfl rfl)
theorem dX0_reconcile_147 : decode cX0_reconcile 147 = .ok (.iload 5, 2) := dk_21 5 (dk_at dksX0_reconcile_6 8 rfl rfl)
theorem dX0_reconcile_149 : decode cX0_reconcile 149 = .ok (.ireturn, 1) := dk_172 (dk_at dksX0_reconcile_6 10 rfl rfl)
abbrev cX0_comesBy : ByteArray := prog_1_method_38_code
def yX0_comesBy : MethodName := ⟨RX0, "comesBy", "(IIII)Z"⟩
def dkwX0_comesBy_4 : List UInt8 := [4, 172, 132, 5, 1, 167, 255, 223, 3, 172]
abbrev dktX0_comesBy_4 : List UInt8 := dkwX0_comesBy_4 ++ []
def dkwX0_comesBy_3 : List UInt8 := [162, 0, 32, 42, 180, 0, 73, 182, 1, 16, 87, 42, 180, 0, 73, 180, 0, 186, 29, 46, 28, 160, 0, 5]
abbrev dktX0_comesBy_3 : List UInt8 := dkwX0_comesBy_3 ++ dktX0_comesBy_4
def dkwX0_comesBy_2 : List UInt8 := [42, 180, 0, 73, 180, 0, 239, 21, 5, 3, 79, 132, 5, 1, 167, 255, 209, 3, 54, 5, 21, 5, 21, 4]
abbrev dktX0_comesBy_2 : List UInt8 := dkwX0_comesBy_2 ++ dktX0_comesBy_3
def dkwX0_comesBy_1 : List UInt8 := [27, 21, 5, 184, 1, 22, 154, 0, 6, 167, 0, 26, 42, 180, 0, 73, 180, 0, 236, 21, 5, 16, 9, 79]
abbrev dktX0_comesBy_1 : List UInt8 := dkwX0_comesBy_1 ++ dktX0_comesBy_2
def dkwX0_comesBy_0 : List UInt8 := [42, 180, 0, 73, 42, 180, 0, 69, 182, 1, 8, 87, 3, 54, 5, 21, 5, 42, 182, 0, 165, 162, 0, 44]
abbrev dktX0_comesBy_0 : List UInt8 := dkwX0_comesBy_0 ++ dktX0_comesBy_1
theorem dksX0_comesBy_0 : cX0_comesBy.data.toList.drop 0 = dktX0_comesBy_0 := by decide +kernel
theorem dksX0_comesBy_1 : cX0_comesBy.data.toList.drop 24 = dktX0_comesBy_1 := dk_seg dksX0_comesBy_0 24 rfl rfl
theorem dksX0_comesBy_2 : cX0_comesBy.data.toList.drop 48 = dktX0_comesBy_2 := dk_seg dksX0_comesBy_1 24 rfl rfl
theorem dksX0_comesBy_3 : cX0_comesBy.data.toList.drop 72 = dktX0_comesBy_3 := dk_seg dksX0_comesBy_2 24 rfl rfl
theorem dksX0_comesBy_4 : cX0_comesBy.data.toList.drop 96 = dktX0_comesBy_4 := dk_seg dksX0_comesBy_3 24 rfl rfl
theorem dX0_comesBy_0 : decode cX0_comesBy 0 = .ok (.aload_n 0, 1) := dk_42 (dk_at dksX0_comesBy_0 0 rfl rfl)
theorem dX0_comesBy_1 : decode cX0_comesBy 1 = .ok (.getfield 73, 3) := dk_180 0 73 (dk_at dksX0_comesBy_0 1 rfl rfl)
theorem dX0_comesBy_4 : decode cX0_comesBy 4 = .ok (.aload_n 0, 1) := dk_42 (dk_at dksX0_comesBy_0 4 rfl rfl)
theorem dX0_comesBy_5 : decode cX0_comesBy 5 = .ok (.getfield 69, 3) := dk_180 0 69 (dk_at dksX0_comesBy_0 5 rfl rfl)
theorem dX0_comesBy_8 : decode cX0_comesBy 8 = .ok (.invokevirtual 264, 3) := dk_182 1 8 (dk_at dksX0_comesBy_0 8 rfl rfl)
theorem dX0_comesBy_11 : decode cX0_comesBy 11 = .ok (.pop, 1) := dk_87 (dk_at dksX0_comesBy_0 11 rfl rfl)
theorem dX0_comesBy_12 : decode cX0_comesBy 12 = .ok (.iconst 0, 1) := dk_3 (dk_at dksX0_comesBy_0 12 rfl rfl)
theorem dX0_comesBy_13 : decode cX0_comesBy 13 = .ok (.istore 5, 2) := dk_54 5 (dk_at dksX0_comesBy_0 13 rfl rfl)
theorem dX0_comesBy_15 : decode cX0_comesBy 15 = .ok (.iload 5, 2) := dk_21 5 (dk_at dksX0_comesBy_0 15 rfl rfl)
theorem dX0_comesBy_17 : decode cX0_comesBy 17 = .ok (.aload_n 0, 1) := dk_42 (dk_at dksX0_comesBy_0 17 rfl rfl)
theorem dX0_comesBy_18 : decode cX0_comesBy 18 = .ok (.invokevirtual 165, 3) := dk_182 0 165 (dk_at dksX0_comesBy_0 18 rfl rfl)
theorem dX0_comesBy_21 : decode cX0_comesBy 21 = .ok (.if_icmp .ge 44, 3) := dk_162 0 44 (dk_at dksX0_comesBy_0 21 rfl rfl)
theorem dX0_comesBy_24 : decode cX0_comesBy 24 = .ok (.iload_n 1, 1) := dk_27 (dk_at dksX0_comesBy_1 0 rfl rfl)
theorem dX0_comesBy_25 : decode cX0_comesBy 25 = .ok (.iload 5, 2) := dk_21 5 (dk_at dksX0_comesBy_1 1 rfl rfl)
theorem dX0_comesBy_27 : decode cX0_comesBy 27 = .ok (.invokestatic 278, 3) := dk_184 1 22 (dk_at dksX0_comesBy_1 3 rfl rfl)
theorem dX0_comesBy_30 : decode cX0_comesBy 30 = .ok (.ifCond .ne 6, 3) := dk_154 0 6 (dk_at dksX0_comesBy_1 6 rfl rfl)
theorem dX0_comesBy_33 : decode cX0_comesBy 33 = .ok (.goto 26, 3) := dk_167 0 26 (dk_at dksX0_comesBy_1 9 rfl rfl)
theorem dX0_comesBy_36 : decode cX0_comesBy 36 = .ok (.aload_n 0, 1) := dk_42 (dk_at dksX0_comesBy_1 12 rfl rfl)
theorem dX0_comesBy_37 : decode cX0_comesBy 37 = .ok (.getfield 73, 3) := dk_180 0 73 (dk_at dksX0_comesBy_1 13 rfl rfl)
theorem dX0_comesBy_40 : decode cX0_comesBy 40 = .ok (.getfield 236, 3) := dk_180 0 236 (dk_at dksX0_comesBy_1 16 rfl rfl)
theorem dX0_comesBy_43 : decode cX0_comesBy 43 = .ok (.iload 5, 2) := dk_21 5 (dk_at dksX0_comesBy_1 19 rfl rfl)
theorem dX0_comesBy_45 : decode cX0_comesBy 45 = .ok (.bipush 9, 2) := dk_16 9 (dk_at dksX0_comesBy_1 21 rfl rfl)
theorem dX0_comesBy_47 : decode cX0_comesBy 47 = .ok (.iastore, 1) := dk_79 (dk_at dksX0_comesBy_1 23 rfl rfl)
theorem dX0_comesBy_48 : decode cX0_comesBy 48 = .ok (.aload_n 0, 1) := dk_42 (dk_at dksX0_comesBy_2 0 rfl rfl)
theorem dX0_comesBy_49 : decode cX0_comesBy 49 = .ok (.getfield 73, 3) := dk_180 0 73 (dk_at dksX0_comesBy_2 1 rfl rfl)
theorem dX0_comesBy_52 : decode cX0_comesBy 52 = .ok (.getfield 239, 3) := dk_180 0 239 (dk_at dksX0_comesBy_2 4 rfl rfl)
theorem dX0_comesBy_55 : decode cX0_comesBy 55 = .ok (.iload 5, 2) := dk_21 5 (dk_at dksX0_comesBy_2 7 rfl rfl)
theorem dX0_comesBy_57 : decode cX0_comesBy 57 = .ok (.iconst 0, 1) := dk_3 (dk_at dksX0_comesBy_2 9 rfl rfl)
theorem dX0_comesBy_58 : decode cX0_comesBy 58 = .ok (.iastore, 1) := dk_79 (dk_at dksX0_comesBy_2 10 rfl rfl)
theorem dX0_comesBy_59 : decode cX0_comesBy 59 = .ok (.iinc 5 1, 3) := dk_132 5 1 (dk_at dksX0_comesBy_2 11 rfl rfl)
theorem dX0_comesBy_62 : decode cX0_comesBy 62 = .ok (.goto (-47), 3) := dk_167 255 209 (dk_at dksX0_comesBy_2 14 rfl rfl)
theorem dX0_comesBy_65 : decode cX0_comesBy 65 = .ok (.iconst 0, 1) := dk_3 (dk_at dksX0_comesBy_2 17 rfl rfl)
theorem dX0_comesBy_66 : decode cX0_comesBy 66 = .ok (.istore 5, 2) := dk_54 5 (dk_at dksX0_comesBy_2 18 rfl rfl)
theorem dX0_comesBy_68 : decode cX0_comesBy 68 = .ok (.iload 5, 2) := dk_21 5 (dk_at dksX0_comesBy_2 20 rfl rfl)
theorem dX0_comesBy_70 : decode cX0_comesBy 70 = .ok (.iload 4, 2) := dk_21 4 (dk_at dksX0_comesBy_2 22 rfl rfl)
theorem dX0_comesBy_72 : decode cX0_comesBy 72 = .ok (.if_icmp .ge 32, 3) := dk_162 0 32 (dk_at dksX0_comesBy_3 0 rfl rfl)
theorem dX0_comesBy_75 : decode cX0_comesBy 75 = .ok (.aload_n 0, 1) := dk_42 (dk_at dksX0_comesBy_3 3 rfl rfl)
theorem dX0_comesBy_76 : decode cX0_comesBy 76 = .ok (.getfield 73, 3) := dk_180 0 73 (dk_at dksX0_comesBy_3 4 rfl rfl)
theorem dX0_comesBy_79 : decode cX0_comesBy 79 = .ok (.invokevirtual 272, 3) := dk_182 1 16 (dk_at dksX0_comesBy_3 7 rfl rfl)
theorem dX0_comesBy_82 : decode cX0_comesBy 82 = .ok (.pop, 1) := dk_87 (dk_at dksX0_comesBy_3 10 rfl rfl)
theorem dX0_comesBy_83 : decode cX0_comesBy 83 = .ok (.aload_n 0, 1) := dk_42 (dk_at dksX0_comesBy_3 11 rfl rfl)
theorem dX0_comesBy_84 : decode cX0_comesBy 84 = .ok (.getfield 73, 3) := dk_180 0 73 (dk_at dksX0_comesBy_3 12 rfl rfl)
theorem dX0_comesBy_87 : decode cX0_comesBy 87 = .ok (.getfield 186, 3) := dk_180 0 186 (dk_at dksX0_comesBy_3 15 rfl rfl)
theorem dX0_comesBy_90 : decode cX0_comesBy 90 = .ok (.iload_n 3, 1) := dk_29 (dk_at dksX0_comesBy_3 18 rfl rfl)
theorem dX0_comesBy_91 : decode cX0_comesBy 91 = .ok (.iaload, 1) := dk_46 (dk_at dksX0_comesBy_3 19 rfl rfl)
theorem dX0_comesBy_92 : decode cX0_comesBy 92 = .ok (.iload_n 2, 1) := dk_28 (dk_at dksX0_comesBy_3 20 rfl rfl)
theorem dX0_comesBy_93 : decode cX0_comesBy 93 = .ok (.if_icmp .ne 5, 3) := dk_160 0 5 (dk_at dksX0_comesBy_3 21 rfl rfl)
theorem dX0_comesBy_96 : decode cX0_comesBy 96 = .ok (.iconst 1, 1) := dk_4 (dk_at dksX0_comesBy_4 0 rfl rfl)
theorem dX0_comesBy_97 : decode cX0_comesBy 97 = .ok (.ireturn, 1) := dk_172 (dk_at dksX0_comesBy_4 1 rfl rfl)
theorem dX0_comesBy_98 : decode cX0_comesBy 98 = .ok (.iinc 5 1, 3) := dk_132 5 1 (dk_at dksX0_comesBy_4 2 rfl rfl)
theorem dX0_comesBy_101 : decode cX0_comesBy 101 = .ok (.goto (-33), 3) := dk_167 255 223 (dk_at dksX0_comesBy_4 5 rfl rfl)
theorem dX0_comesBy_104 : decode cX0_comesBy 104 = .ok (.iconst 0, 1) := dk_3 (dk_at dksX0_comesBy_4 8 rfl rfl)
theorem dX0_comesBy_105 : decode cX0_comesBy 105 = .ok (.ireturn, 1) := dk_172 (dk_at dksX0_comesBy_4 9 rfl rfl)
abbrev cX0_hinge : ByteArray := prog_1_method_40_code
def yX0_hinge : MethodName := ⟨RX0, "hinge", "(II)I"⟩
def dkwX0_hinge_6 : List UInt8 := [28, 154, 0, 7, 29, 167, 0, 5, 21, 4, 172]
abbrev dktX0_hinge_6 : List UInt8 := dkwX0_hinge_6 ++ []
def dkwX0_hinge_5 : List UInt8 := [161, 0, 6, 167, 0, 10, 21, 6, 54, 4, 21, 5, 62, 132, 5, 1, 167, 255, 155, 29, 2, 159, 0, 7]
abbrev dktX0_hinge_5 : List UInt8 := dkwX0_hinge_5 ++ dktX0_hinge_6
def dkwX0_hinge_4 : List UInt8 := [21, 6, 42, 180, 0, 73, 182, 0, 189, 96, 54, 6, 132, 7, 1, 167, 255, 227, 21, 6, 21, 4]
abbrev dktX0_hinge_4 : List UInt8 := dkwX0_hinge_4 ++ dktX0_hinge_5
def dkwX0_hinge_3 : List UInt8 := [21, 5, 3, 79, 3, 54, 6, 3, 54, 7, 21, 7, 27, 162, 0, 29, 42, 180, 0, 73, 182, 1, 16, 87]
abbrev dktX0_hinge_3 : List UInt8 := dkwX0_hinge_3 ++ dktX0_hinge_4
def dkwX0_hinge_2 : List UInt8 := [21, 5, 46, 154, 0, 6, 167, 0, 76, 42, 180, 0, 73, 42, 180, 0, 69, 182, 1, 8, 180, 0, 236]
abbrev dktX0_hinge_2 : List UInt8 := dkwX0_hinge_2 ++ dktX0_hinge_3
def dkwX0_hinge_1 : List UInt8 := [19, 1, 35, 54, 4, 3, 54, 5, 21, 5, 42, 182, 0, 165, 162, 0, 98, 42, 180, 0, 69, 180, 0, 236]
abbrev dktX0_hinge_1 : List UInt8 := dkwX0_hinge_1 ++ dktX0_hinge_2
def dkwX0_hinge_0 : List UInt8 := [42, 27, 4, 16, 40, 182, 1, 5, 153, 0, 12, 28, 3, 4, 184, 0, 195, 154, 0, 5, 2, 172, 2, 62]
abbrev dktX0_hinge_0 : List UInt8 := dkwX0_hinge_0 ++ dktX0_hinge_1
theorem dksX0_hinge_0 : cX0_hinge.data.toList.drop 0 = dktX0_hinge_0 := by decide +kernel
theorem dksX0_hinge_1 : cX0_hinge.data.toList.drop 24 = dktX0_hinge_1 := dk_seg dksX0_hinge_0 24 rfl rfl
theorem dksX0_hinge_2 : cX0_hinge.data.toList.drop 48 = dktX0_hinge_2 := dk_seg dksX0_hinge_1 24 rfl rfl
theorem dksX0_hinge_3 : cX0_hinge.data.toList.drop 71 = dktX0_hinge_3 := dk_seg dksX0_hinge_2 23 rfl rfl
theorem dksX0_hinge_4 : cX0_hinge.data.toList.drop 95 = dktX0_hinge_4 := dk_seg dksX0_hinge_3 24 rfl rfl
theorem dksX0_hinge_5 : cX0_hinge.data.toList.drop 117 = dktX0_hinge_5 := dk_seg dksX0_hinge_4 22 rfl rfl
theorem dksX0_hinge_6 : cX0_hinge.data.toList.drop 141 = dktX0_hinge_6 := dk_seg dksX0_hinge_5 24 rfl rfl
theorem dX0_hinge_0 : decode cX0_hinge 0 = .ok (.aload_n 0, 1) := dk_42 (dk_at dksX0_hinge_0 0 rfl rfl)
theorem dX0_hinge_1 : decode cX0_hinge 1 = .ok (.iload_n 1, 1) := dk_27 (dk_at dksX0_hinge_0 1 rfl rfl)
theorem dX0_hinge_2 : decode cX0_hinge 2 = .ok (.iconst 1, 1) := dk_4 (dk_at dksX0_hinge_0 2 rfl rfl)
theorem dX0_hinge_3 : decode cX0_hinge 3 = .ok (.bipush 40, 2) := dk_16 40 (dk_at dksX0_hinge_0 3 rfl rfl)
theorem dX0_hinge_5 : decode cX0_hinge 5 = .ok (.invokevirtual 261, 3) := dk_182 1 5 (dk_at dksX0_hinge_0 5 rfl rfl)
theorem dX0_hinge_8 : decode cX0_hinge 8 = .ok (.ifCond .eq 12, 3) := dk_153 0 12 (dk_at dksX0_hinge_0 8 rfl rfl)
theorem dX0_hinge_11 : decode cX0_hinge 11 = .ok (.iload_n 2, 1) := dk_28 (dk_at dksX0_hinge_0 11 rfl rfl)
theorem dX0_hinge_12 : decode cX0_hinge 12 = .ok (.iconst 0, 1) := dk_3 (dk_at dksX0_hinge_0 12 rfl rfl)
theorem dX0_hinge_13 : decode cX0_hinge 13 = .ok (.iconst 1, 1) := dk_4 (dk_at dksX0_hinge_0 13 rfl rfl)
theorem dX0_hinge_14 : decode cX0_hinge 14 = .ok (.invokestatic 195, 3) := dk_184 0 195 (dk_at dksX0_hinge_0 14 rfl rfl)
theorem dX0_hinge_17 : decode cX0_hinge 17 = .ok (.ifCond .ne 5, 3) := dk_154 0 5 (dk_at dksX0_hinge_0 17 rfl rfl)
theorem dX0_hinge_20 : decode cX0_hinge 20 = .ok (.iconst (-1), 1) := dk_2 (dk_at dksX0_hinge_0 20 rfl rfl)
theorem dX0_hinge_21 : decode cX0_hinge 21 = .ok (.ireturn, 1) := dk_172 (dk_at dksX0_hinge_0 21 rfl rfl)
theorem dX0_hinge_22 : decode cX0_hinge 22 = .ok (.iconst (-1), 1) := dk_2 (dk_at dksX0_hinge_0 22 rfl rfl)
theorem dX0_hinge_23 : decode cX0_hinge 23 = .ok (.istore_n 3, 1) := dk_62 (dk_at dksX0_hinge_0 23 rfl rfl)
theorem dX0_hinge_24 : decode cX0_hinge 24 = .ok (.ldc_w 291, 3) := dk_19 1 35 (dk_at dksX0_hinge_1 0 rfl rfl)
theorem dX0_hinge_27 : decode cX0_hinge 27 = .ok (.istore 4, 2) := dk_54 4 (dk_at dksX0_hinge_1 3 rfl rfl)
theorem dX0_hinge_29 : decode cX0_hinge 29 = .ok (.iconst 0, 1) := dk_3 (dk_at dksX0_hinge_1 5 rfl rfl)
theorem dX0_hinge_30 : decode cX0_hinge 30 = .ok (.istore 5, 2) := dk_54 5 (dk_at dksX0_hinge_1 6 rfl rfl)
theorem dX0_hinge_32 : decode cX0_hinge 32 = .ok (.iload 5, 2) := dk_21 5 (dk_at dksX0_hinge_1 8 rfl rfl)
theorem dX0_hinge_34 : decode cX0_hinge 34 = .ok (.aload_n 0, 1) := dk_42 (dk_at dksX0_hinge_1 10 rfl rfl)
theorem dX0_hinge_35 : decode cX0_hinge 35 = .ok (.invokevirtual 165, 3) := dk_182 0 165 (dk_at dksX0_hinge_1 11 rfl rfl)
theorem dX0_hinge_38 : decode cX0_hinge 38 = .ok (.if_icmp .ge 98, 3) := dk_162 0 98 (dk_at dksX0_hinge_1 14 rfl rfl)
theorem dX0_hinge_41 : decode cX0_hinge 41 = .ok (.aload_n 0, 1) := dk_42 (dk_at dksX0_hinge_1 17 rfl rfl)
theorem dX0_hinge_42 : decode cX0_hinge 42 = .ok (.getfield 69, 3) := dk_180 0 69 (dk_at dksX0_hinge_1 18 rfl rfl)
theorem dX0_hinge_45 : decode cX0_hinge 45 = .ok (.getfield 236, 3) := dk_180 0 236 (dk_at dksX0_hinge_1 21 rfl rfl)
theorem dX0_hinge_48 : decode cX0_hinge 48 = .ok (.iload 5, 2) := dk_21 5 (dk_at dksX0_hinge_2 0 rfl rfl)
theorem dX0_hinge_50 : decode cX0_hinge 50 = .ok (.iaload, 1) := dk_46 (dk_at dksX0_hinge_2 2 rfl rfl)
theorem dX0_hinge_51 : decode cX0_hinge 51 = .ok (.ifCond .ne 6, 3) := dk_154 0 6 (dk_at dksX0_hinge_2 3 rfl rfl)
theorem dX0_hinge_54 : decode cX0_hinge 54 = .ok (.goto 76, 3) := dk_167 0 76 (dk_at dksX0_hinge_2 6 rfl rfl)
theorem dX0_hinge_57 : decode cX0_hinge 57 = .ok (.aload_n 0, 1) := dk_42 (dk_at dksX0_hinge_2 9 rfl rfl)
theorem dX0_hinge_58 : decode cX0_hinge 58 = .ok (.getfield 73, 3) := dk_180 0 73 (dk_at dksX0_hinge_2 10 rfl rfl)
theorem dX0_hinge_61 : decode cX0_hinge 61 = .ok (.aload_n 0, 1) := dk_42 (dk_at dksX0_hinge_2 13 rfl rfl)
theorem dX0_hinge_62 : decode cX0_hinge 62 = .ok (.getfield 69, 3) := dk_180 0 69 (dk_at dksX0_hinge_2 14 rfl rfl)
theorem dX0_hinge_65 : decode cX0_hinge 65 = .ok (.invokevirtual 264, 3) := dk_182 1 8 (dk_at dksX0_hinge_2 17 rfl rfl)
theorem dX0_hinge_68 : decode cX0_hinge 68 = .ok (.getfield 236, 3) := dk_180 0 236 (dk_at dksX0_hinge_2 20 rfl rfl)
theorem dX0_hinge_71 : decode cX0_hinge 71 = .ok (.iload 5, 2) := dk_21 5 (dk_at dksX0_hinge_3 0 rfl rfl)
theorem dX0_hinge_73 : decode cX0_hinge 73 = .ok (.iconst 0, 1) := dk_3 (dk_at dksX0_hinge_3 2 rfl rfl)
theorem dX0_hinge_74 : decode cX0_hinge 74 = .ok (.iastore, 1) := dk_79 (dk_at dksX0_hinge_3 3 rfl rfl)
theorem dX0_hinge_75 : decode cX0_hinge 75 = .ok (.iconst 0, 1) := dk_3 (dk_at dksX0_hinge_3 4 rfl rfl)
theorem dX0_hinge_76 : decode cX0_hinge 76 = .ok (.istore 6, 2) := dk_54 6 (dk_at dksX0_hinge_3 5 rfl rfl)
theorem dX0_hinge_78 : decode cX0_hinge 78 = .ok (.iconst 0, 1) := dk_3 (dk_at dksX0_hinge_3 7 rfl rfl)
theorem dX0_hinge_79 : decode cX0_hinge 79 = .ok (.istore 7, 2) := dk_54 7 (dk_at dksX0_hinge_3 8 rfl rfl)
theorem dX0_hinge_81 : decode cX0_hinge 81 = .ok (.iload 7, 2) := dk_21 7 (dk_at dksX0_hinge_3 10 rfl rfl)
theorem dX0_hinge_83 : decode cX0_hinge 83 = .ok (.iload_n 1, 1) := dk_27 (dk_at dksX0_hinge_3 12 rfl rfl)
theorem dX0_hinge_84 : decode cX0_hinge 84 = .ok (.if_icmp .ge 29, 3) := dk_162 0 29 (dk_at dksX0_hinge_3 13 rfl rfl)
theorem dX0_hinge_87 : decode cX0_hinge 87 = .ok (.aload_n 0, 1) := dk_42 (dk_at dksX0_hinge_3 16 rfl rfl)
theorem dX0_hinge_88 : decode cX0_hinge 88 = .ok (.getfield 73, 3) := dk_180 0 73 (dk_at dksX0_hinge_3 17 rfl rfl)
theorem dX0_hinge_91 : decode cX0_hinge 91 = .ok (.invokevirtual 272, 3) := dk_182 1 16 (dk_at dksX0_hinge_3 20 rfl rfl)
theorem dX0_hinge_94 : decode cX0_hinge 94 = .ok (.pop, 1) := dk_87 (dk_at dksX0_hinge_3 23 rfl rfl)
theorem dX0_hinge_95 : decode cX0_hinge 95 = .ok (.iload 6, 2) := dk_21 6 (dk_at dksX0_hinge_4 0 rfl rfl)
theorem dX0_hinge_97 : decode cX0_hinge 97 = .ok (.aload_n 0, 1) := dk_42 (dk_at dksX0_hinge_4 2 rfl rfl)
theorem dX0_hinge_98 : decode cX0_hinge 98 = .ok (.getfield 73, 3) := dk_180 0 73 (dk_at dksX0_hinge_4 3 rfl rfl)
theorem dX0_hinge_101 : decode cX0_hinge 101 = .ok (.invokevirtual 189, 3) := dk_182 0 189 (dk_at dksX0_hinge_4 6 rfl rfl)
theorem dX0_hinge_104 : decode cX0_hinge 104 = .ok (.iadd, 1) := dk_96 (dk_at dksX0_hinge_4 9 rfl rfl)
theorem dX0_hinge_105 : decode cX0_hinge 105 = .ok (.istore 6, 2) := dk_54 6 (dk_at dksX0_hinge_4 10 rfl rfl)
theorem dX0_hinge_107 : decode cX0_hinge 107 = .ok (.iinc 7 1, 3) := dk_132 7 1 (dk_at dksX0_hinge_4 12 rfl rfl)
theorem dX0_hinge_110 : decode cX0_hinge 110 = .ok (.goto (-29), 3) := dk_167 255 227 (dk_at dksX0_hinge_4 15 rfl rfl)
theorem dX0_hinge_113 : decode cX0_hinge 113 = .ok (.iload 6, 2) := dk_21 6 (dk_at dksX0_hinge_4 18 rfl rfl)
theorem dX0_hinge_115 : decode cX0_hinge 115 = .ok (.iload 4, 2) := dk_21 4 (dk_at dksX0_hinge_4 20 rfl rfl)
theorem dX0_hinge_117 : decode cX0_hinge 117 = .ok (.if_icmp .lt 6, 3) := dk_161 0 6 (dk_at dksX0_hinge_5 0 rfl rfl)
theorem dX0_hinge_120 : decode cX0_hinge 120 = .ok (.goto 10, 3) := dk_167 0 10 (dk_at dksX0_hinge_5 3 rfl rfl)
theorem dX0_hinge_123 : decode cX0_hinge 123 = .ok (.iload 6, 2) := dk_21 6 (dk_at dksX0_hinge_5 6 rfl rfl)
theorem dX0_hinge_125 : decode cX0_hinge 125 = .ok (.istore 4, 2) := dk_54 4 (dk_at dksX0_hinge_5 8 rfl rfl)
theorem dX0_hinge_127 : decode cX0_hinge 127 = .ok (.iload 5, 2) := dk_21 5 (dk_at dksX0_hinge_5 10 rfl rfl)
theorem dX0_hinge_129 : decode cX0_hinge 129 = .ok (.istore_n 3, 1) := dk_62 (dk_at dksX0_hinge_5 12 rfl rfl)
theorem dX0_hinge_130 : decode cX0_hinge 130 = .ok (.iinc 5 1, 3) := dk_132 5 1 (dk_at dksX0_hinge_5 13 rfl rfl)
theorem dX0_hinge_133 : decode cX0_hinge 133 = .ok (.goto (-101), 3) := dk_167 255 155 (dk_at dksX0_hinge_5 16 rfl rfl)
theorem dX0_hinge_136 : decode cX0_hinge 136 = .ok (.iload_n 3, 1) := dk_29 (dk_at dksX0_hinge_5 19 rfl rfl)
theorem dX0_hinge_137 : decode cX0_hinge 137 = .ok (.iconst (-1), 1) := dk_2 (dk_at dksX0_hinge_5 20 rfl rfl)
theorem dX0_hinge_138 : decode cX0_hinge 138 = .ok (.if_icmp .eq 7, 3) := dk_159 0 7 (dk_at dksX0_hinge_5 21 rfl rfl)
theorem dX0_hinge_141 : decode cX0_hinge 141 = .ok (.iload_n 2, 1) := dk_28 (dk_at dksX0_hinge_6 0 rfl rfl)
theorem dX0_hinge_142 : decode cX0_hinge 142 = .ok (.ifCond .ne 7, 3) := dk_154 0 7 (dk_at dksX0_hinge_6 1 rfl rfl)
theorem dX0_hinge_145 : decode cX0_hinge 145 = .ok (.iload_n 3, 1) := dk_29 (dk_at dksX0_hinge_6 4 rfl rfl)
theorem dX0_hinge_146 : decode cX0_hinge 146 = .ok (.goto 5, 3) := dk_167 0 5 (dk_at dksX0_hinge_6 5 rfl rfl)
theorem dX0_hinge_149 : decode cX0_hinge 149 = .ok (.iload 4, 2) := dk_21 4 (dk_at dksX0_hinge_6 8 rfl rfl)
theorem dX0_hinge_151 : decode cX0_hinge 151 = .ok (.ireturn, 1) := dk_172 (dk_at dksX0_hinge_6 10 rfl rfl)
abbrev cX0_odds : ByteArray := prog_1_method_42_code
def yX0_odds : MethodName := ⟨RX0, "odds", "(II)I"⟩
def dkwX0_odds_8 : List UInt8 := [29, 172]
abbrev dktX0_odds_8 : List UInt8 := dkwX0_odds_8 ++ []
def dkwX0_odds_7 : List UInt8 := [180, 0, 31, 180, 1, 36, 167, 0, 4, 3, 96, 62, 132, 5, 1, 167, 255, 196, 132, 4, 1, 167, 255, 178]
abbrev dktX0_odds_7 : List UInt8 := dkwX0_odds_7 ++ dktX0_odds_8
def dkwX0_odds_6 : List UInt8 := [182, 1, 39, 29, 42, 180, 0, 73, 4, 182, 1, 12, 180, 0, 186, 27, 46, 28, 160, 0, 13, 42]
abbrev dktX0_odds_6 : List UInt8 := dkwX0_odds_6 ++ dktX0_odds_7
def dkwX0_odds_5 : List UInt8 := [21, 5, 16, 100, 162, 0, 59, 42, 42, 180, 0, 73, 42, 180, 0, 69, 182, 1, 8, 21, 4, 21, 5]
abbrev dktX0_odds_5 : List UInt8 := dkwX0_odds_5 ++ dktX0_odds_6
def dkwX0_odds_4 : List UInt8 := [182, 0, 167, 104, 167, 0, 4, 3, 62, 3, 54, 4, 21, 4, 42, 182, 0, 167, 162, 0, 75, 3, 54, 5]
abbrev dktX0_odds_4 : List UInt8 := dkwX0_odds_4 ++ dktX0_odds_5
def dkwX0_odds_3 : List UInt8 := [180, 0, 186, 27, 46, 28, 160, 0, 24, 16, 100, 42, 180, 0, 31, 180, 1, 36, 100, 16, 100, 104, 42]
abbrev dktX0_odds_3 : List UInt8 := dkwX0_odds_3 ++ dktX0_odds_4
def dkwX0_odds_2 : List UInt8 := [182, 0, 204, 154, 0, 5, 2, 172, 42, 180, 0, 73, 42, 180, 0, 69, 182, 1, 8, 4, 182, 1, 12]
abbrev dktX0_odds_2 : List UInt8 := dkwX0_odds_2 ++ dktX0_odds_3
def dkwX0_odds_1 : List UInt8 := [28, 2, 160, 0, 12, 17, 39, 16, 42, 182, 0, 167, 104, 172, 42, 27, 182, 0, 242, 153, 0, 11, 42, 28]
abbrev dktX0_odds_1 : List UInt8 := dkwX0_odds_1 ++ dktX0_odds_2
def dkwX0_odds_0 : List UInt8 := [42, 182, 0, 167, 153, 0, 13, 42, 4, 4, 4, 182, 1, 5, 154, 0, 5, 2, 172, 27, 2, 160, 0, 17]
abbrev dktX0_odds_0 : List UInt8 := dkwX0_odds_0 ++ dktX0_odds_1
theorem dksX0_odds_0 : cX0_odds.data.toList.drop 0 = dktX0_odds_0 := by decide +kernel
theorem dksX0_odds_1 : cX0_odds.data.toList.drop 24 = dktX0_odds_1 := dk_seg dksX0_odds_0 24 rfl rfl
theorem dksX0_odds_2 : cX0_odds.data.toList.drop 48 = dktX0_odds_2 := dk_seg dksX0_odds_1 24 rfl rfl
theorem dksX0_odds_3 : cX0_odds.data.toList.drop 71 = dktX0_odds_3 := dk_seg dksX0_odds_2 23 rfl rfl
theorem dksX0_odds_4 : cX0_odds.data.toList.drop 94 = dktX0_odds_4 := dk_seg dksX0_odds_3 23 rfl rfl
theorem dksX0_odds_5 : cX0_odds.data.toList.drop 118 = dktX0_odds_5 := dk_seg dksX0_odds_4 24 rfl rfl
theorem dksX0_odds_6 : cX0_odds.data.toList.drop 141 = dktX0_odds_6 := dk_seg dksX0_odds_5 23 rfl rfl
theorem dksX0_odds_7 : cX0_odds.data.toList.drop 163 = dktX0_odds_7 := dk_seg dksX0_odds_6 22 rfl rfl
theorem dksX0_odds_8 : cX0_odds.data.toList.drop 187 = dktX0_odds_8 := dk_seg dksX0_odds_7 24 rfl rfl
theorem dX0_odds_0 : decode cX0_odds 0 = .ok (.aload_n 0, 1) := dk_42 (dk_at dksX0_odds_0 0 rfl rfl)
theorem dX0_odds_1 : decode cX0_odds 1 = .ok (.invokevirtual 167, 3) := dk_182 0 167 (dk_at dksX0_odds_0 1 rfl rfl)
theorem dX0_odds_4 : decode cX0_odds 4 = .ok (.ifCond .eq 13, 3) := dk_153 0 13 (dk_at dksX0_odds_0 4 rfl rfl)
theorem dX0_odds_7 : decode cX0_odds 7 = .ok (.aload_n 0, 1) := dk_42 (dk_at dksX0_odds_0 7 rfl rfl)
theorem dX0_odds_8 : decode cX0_odds 8 = .ok (.iconst 1, 1) := dk_4 (dk_at dksX0_odds_0 8 rfl rfl)
theorem dX0_odds_9 : decode cX0_odds 9 = .ok (.iconst 1, 1) := dk_4 (dk_at dksX0_odds_0 9 rfl rfl)
theorem dX0_odds_10 : decode cX0_odds 10 = .ok (.iconst 1, 1) := dk_4 (dk_at dksX0_odds_0 10 rfl rfl)
theorem dX0_odds_11 : decode cX0_odds 11 = .ok (.invokevirtual 261, 3) := dk_182 1 5 (dk_at dksX0_odds_0 11 rfl rfl)
theorem dX0_odds_14 : decode cX0_odds 14 = .ok (.ifCond .ne 5, 3) := dk_154 0 5 (dk_at dksX0_odds_0 14 rfl rfl)
theorem dX0_odds_17 : decode cX0_odds 17 = .ok (.iconst (-1), 1) := dk_2 (dk_at dksX0_odds_0 17 rfl rfl)
theorem dX0_odds_18 : decode cX0_odds 18 = .ok (.ireturn, 1) := dk_172 (dk_at dksX0_odds_0 18 rfl rfl)
theorem dX0_odds_19 : decode cX0_odds 19 = .ok (.iload_n 1, 1) := dk_27 (dk_at dksX0_odds_0 19 rfl rfl)
theorem dX0_odds_20 : decode cX0_odds 20 = .ok (.iconst (-1), 1) := dk_2 (dk_at dksX0_odds_0 20 rfl rfl)
theorem dX0_odds_21 : decode cX0_odds 21 = .ok (.if_icmp .ne 17, 3) := dk_160 0 17 (dk_at dksX0_odds_0 21 rfl rfl)
theorem dX0_odds_24 : decode cX0_odds 24 = .ok (.iload_n 2, 1) := dk_28 (dk_at dksX0_odds_1 0 rfl rfl)
theorem dX0_odds_25 : decode cX0_odds 25 = .ok (.iconst (-1), 1) := dk_2 (dk_at dksX0_odds_1 1 rfl rfl)
theorem dX0_odds_26 : decode cX0_odds 26 = .ok (.if_icmp .ne 12, 3) := dk_160 0 12 (dk_at dksX0_odds_1 2 rfl rfl)
theorem dX0_odds_29 : decode cX0_odds 29 = .ok (.sipush 10000, 3) := dk_17 39 16 (dk_at dksX0_odds_1 5 rfl rfl)
theorem dX0_odds_32 : decode cX0_odds 32 = .ok (.aload_n 0, 1) := dk_42 (dk_at dksX0_odds_1 8 rfl rfl)
theorem dX0_odds_33 : decode cX0_odds 33 = .ok (.invokevirtual 167, 3) := dk_182 0 167 (dk_at dksX0_odds_1 9 rfl rfl)
theorem dX0_odds_36 : decode cX0_odds 36 = .ok (.imul, 1) := dk_104 (dk_at dksX0_odds_1 12 rfl rfl)
theorem dX0_odds_37 : decode cX0_odds 37 = .ok (.ireturn, 1) := dk_172 (dk_at dksX0_odds_1 13 rfl rfl)
theorem dX0_odds_38 : decode cX0_odds 38 = .ok (.aload_n 0, 1) := dk_42 (dk_at dksX0_odds_1 14 rfl rfl)
theorem dX0_odds_39 : decode cX0_odds 39 = .ok (.iload_n 1, 1) := dk_27 (dk_at dksX0_odds_1 15 rfl rfl)
theorem dX0_odds_40 : decode cX0_odds 40 = .ok (.invokevirtual 242, 3) := dk_182 0 242 (dk_at dksX0_odds_1 16 rfl rfl)
theorem dX0_odds_43 : decode cX0_odds 43 = .ok (.ifCond .eq 11, 3) := dk_153 0 11 (dk_at dksX0_odds_1 19 rfl rfl)
theorem dX0_odds_46 : decode cX0_odds 46 = .ok (.aload_n 0, 1) := dk_42 (dk_at dksX0_odds_1 22 rfl rfl)
theorem dX0_odds_47 : decode cX0_odds 47 = .ok (.iload_n 2, 1) := dk_28 (dk_at dksX0_odds_1 23 rfl rfl)
theorem dX0_odds_48 : decode cX0_odds 48 = .ok (.invokevirtual 204, 3) := dk_182 0 204 (dk_at dksX0_odds_2 0 rfl rfl)
theorem dX0_odds_51 : decode cX0_odds 51 = .ok (.ifCond .ne 5, 3) := dk_154 0 5 (dk_at dksX0_odds_2 3 rfl rfl)
theorem dX0_odds_54 : decode cX0_odds 54 = .ok (.iconst (-1), 1) := dk_2 (dk_at dksX0_odds_2 6 rfl rfl)
theorem dX0_odds_55 : decode cX0_odds 55 = .ok (.ireturn, 1) := dk_172 (dk_at dksX0_odds_2 7 rfl rfl)
theorem dX0_odds_56 : decode cX0_odds 56 = .ok (.aload_n 0, 1) := dk_42 (dk_at dksX0_odds_2 8 rfl rfl)
theorem dX0_odds_57 : decode cX0_odds 57 = .ok (.getfield 73, 3) := dk_180 0 73 (dk_at dksX0_odds_2 9 rfl rfl)
theorem dX0_odds_60 : decode cX0_odds 60 = .ok (.aload_n 0, 1) := dk_42 (dk_at dksX0_odds_2 12 rfl rfl)
theorem dX0_odds_61 : decode cX0_odds 61 = .ok (.getfield 69, 3) := dk_180 0 69 (dk_at dksX0_odds_2 13 rfl rfl)
theorem dX0_odds_64 : decode cX0_odds 64 = .ok (.invokevirtual 264, 3) := dk_182 1 8 (dk_at dksX0_odds_2 16 rfl rfl)
theorem dX0_odds_67 : decode cX0_odds 67 = .ok (.iconst 1, 1) := dk_4 (dk_at dksX0_odds_2 19 rfl rfl)
theorem dX0_odds_68 : decode cX0_odds 68 = .ok (.invokevirtual 268, 3) := dk_182 1 12 (dk_at dksX0_odds_2 20 rfl rfl)
theorem dX0_odds_71 : decode cX0_odds 71 = .ok (.getfield 186, 3) := dk_180 0 186 (dk_at dksX0_odds_3 0 rfl rfl)
theorem dX0_odds_74 : decode cX0_odds 74 = .ok (.iload_n 1, 1) := dk_27 (dk_at dksX0_odds_3 3 rfl rfl)
theorem dX0_odds_75 : decode cX0_odds 75 = .ok (.iaload, 1) := dk_46 (dk_at dksX0_odds_3 4 rfl rfl)
theorem dX0_odds_76 : decode cX0_odds 76 = .ok (.iload_n 2, 1) := dk_28 (dk_at dksX0_odds_3 5 rfl rfl)
theorem dX0_odds_77 : decode cX0_odds 77 = .ok (.if_icmp .ne 24, 3) := dk_160 0 24 (dk_at dksX0_odds_3 6 rfl rfl)
theorem dX0_odds_80 : decode cX0_odds 80 = .ok (.bipush 100, 2) := dk_16 100 (dk_at dksX0_odds_3 9 rfl rfl)
theorem dX0_odds_82 : decode cX0_odds 82 = .ok (.aload_n 0, 1) := dk_42 (dk_at dksX0_odds_3 11 rfl rfl)
theorem dX0_odds_83 : decode cX0_odds 83 = .ok (.getfield 31, 3) := dk_180 0 31 (dk_at dksX0_odds_3 12 rfl rfl)
theorem dX0_odds_86 : decode cX0_odds 86 = .ok (.getfield 292, 3) := dk_180 1 36 (dk_at dksX0_odds_3 15 rfl rfl)
theorem dX0_odds_89 : decode cX0_odds 89 = .ok (.isub, 1) := dk_100 (dk_at dksX0_odds_3 18 rfl rfl)
theorem dX0_odds_90 : decode cX0_odds 90 = .ok (.bipush 100, 2) := dk_16 100 (dk_at dksX0_odds_3 19 rfl rfl)
theorem dX0_odds_92 : decode cX0_odds 92 = .ok (.imul, 1) := dk_104 (dk_at dksX0_odds_3 21 rfl rfl)
theorem dX0_odds_93 : decode cX0_odds 93 = .ok (.aload_n 0, 1) := dk_42 (dk_at dksX0_odds_3 22 rfl rfl)
theorem dX0_odds_94 : decode cX0_odds 94 = .ok (.invokevirtual 167, 3) := dk_182 0 167 (dk_at dksX0_odds_4 0 rfl rfl)
theorem dX0_odds_97 : decode cX0_odds 97 = .ok (.imul, 1) := dk_104 (dk_at dksX0_odds_4 3 rfl rfl)
theorem dX0_odds_98 : decode cX0_odds 98 = .ok (.goto 4, 3) := dk_167 0 4 (dk_at dksX0_odds_4 4 rfl rfl)
theorem dX0_odds_101 : decode cX0_odds 101 = .ok (.iconst 0, 1) := dk_3 (dk_at dksX0_odds_4 7 rfl rfl)
theorem dX0_odds_102 : decode cX0_odds 102 = .ok (.istore_n 3, 1) := dk_62 (dk_at dksX0_odds_4 8 rfl rfl)
theorem dX0_odds_103 : decode cX0_odds 103 = .ok (.iconst 0, 1) := dk_3 (dk_at dksX0_odds_4 9 rfl rfl)
theorem dX0_odds_104 : decode cX0_odds 104 = .ok (.istore 4, 2) := dk_54 4 (dk_at dksX0_odds_4 10 rfl rfl)
theorem dX0_odds_106 : decode cX0_odds 106 = .ok (.iload 4, 2) := dk_21 4 (dk_at dksX0_odds_4 12 rfl rfl)
theorem dX0_odds_108 : decode cX0_odds 108 = .ok (.aload_n 0, 1) := dk_42 (dk_at dksX0_odds_4 14 rfl rfl)
theorem dX0_odds_109 : decode cX0_odds 109 = .ok (.invokevirtual 167, 3) := dk_182 0 167 (dk_at dksX0_odds_4 15 rfl rfl)
theorem dX0_odds_112 : decode cX0_odds 112 = .ok (.if_icmp .ge 75, 3) := dk_162 0 75 (dk_at dksX0_odds_4 18 rfl rfl)
theorem dX0_odds_115 : decode cX0_odds 115 = .ok (.iconst 0, 1) := dk_3 (dk_at dksX0_odds_4 21 rfl rfl)
theorem dX0_odds_116 : decode cX0_odds 116 = .ok (.istore 5, 2) := dk_54 5 (dk_at dksX0_odds_4 22 rfl rfl)
theorem dX0_odds_118 : decode cX0_odds 118 = .ok (.iload 5, 2) := dk_21 5 (dk_at dksX0_odds_5 0 rfl rfl)
theorem dX0_odds_120 : decode cX0_odds 120 = .ok (.bipush 100, 2) := dk_16 100 (dk_at dksX0_odds_5 2 rfl rfl)
theorem dX0_odds_122 : decode cX0_odds 122 = .ok (.if_icmp .ge 59, 3) := dk_162 0 59 (dk_at dksX0_odds_5 4 rfl rfl)
theorem dX0_odds_125 : decode cX0_odds 125 = .ok (.aload_n 0, 1) := dk_42 (dk_at dksX0_odds_5 7 rfl rfl)
theorem dX0_odds_126 : decode cX0_odds 126 = .ok (.aload_n 0, 1) := dk_42 (dk_at dksX0_odds_5 8 rfl rfl)
theorem dX0_odds_127 : decode cX0_odds 127 = .ok (.getfield 73, 3) := dk_180 0 73 (dk_at dksX0_odds_5 9 rfl rfl)
theorem dX0_odds_130 : decode cX0_odds 130 = .ok (.aload_n 0, 1) := dk_42 (dk_at dksX0_odds_5 12 rfl rfl)
theorem dX0_odds_131 : decode cX0_odds 131 = .ok (.getfield 69, 3) := dk_180 0 69 (dk_at dksX0_odds_5 13 rfl rfl)
theorem dX0_odds_134 : decode cX0_odds 134 = .ok (.invokevirtual 264, 3) := dk_182 1 8 (dk_at dksX0_odds_5 16 rfl rfl)
theorem dX0_odds_137 : decode cX0_odds 137 = .ok (.iload 4, 2) := dk_21 4 (dk_at dksX0_odds_5 19 rfl rfl)
theorem dX0_odds_139 : decode cX0_odds 139 = .ok (.iload 5, 2) := dk_21 5 (dk_at dksX0_odds_5 21 rfl rfl)
theorem dX0_odds_141 : decode cX0_odds 141 = .ok (.invokevirtual 295, 3) := dk_182 1 39 (dk_at dksX0_odds_6 0 rfl rfl)
theorem dX0_odds_144 : decode cX0_odds 144 = .ok (.iload_n 3, 1) := dk_29 (dk_at dksX0_odds_6 3 rfl rfl)
theorem dX0_odds_145 : decode cX0_odds 145 = .ok (.aload_n 0, 1) := dk_42 (dk_at dksX0_odds_6 4 rfl rfl)
theorem dX0_odds_146 : decode cX0_odds 146 = .ok (.getfield 73, 3) := dk_180 0 73 (dk_at dksX0_odds_6 5 rfl rfl)
theorem dX0_odds_149 : decode cX0_odds 149 = .ok (.iconst 1, 1) := dk_4 (dk_at dksX0_odds_6 8 rfl rfl)
theorem dX0_odds_150 : decode cX0_odds 150 = .ok (.invokevirtual 268, 3) := dk_182 1 12 (dk_at dksX0_odds_6 9 rfl rfl)
theorem dX0_odds_153 : decode cX0_odds 153 = .ok (.getfield 186, 3) := dk_180 0 186 (dk_at dksX0_odds_6 12 rfl rfl)
theorem dX0_odds_156 : decode cX0_odds 156 = .ok (.iload_n 1, 1) := dk_27 (dk_at dksX0_odds_6 15 rfl rfl)
theorem dX0_odds_157 : decode cX0_odds 157 = .ok (.iaload, 1) := dk_46 (dk_at dksX0_odds_6 16 rfl rfl)
theorem dX0_odds_158 : decode cX0_odds 158 = .ok (.iload_n 2, 1) := dk_28 (dk_at dksX0_odds_6 17 rfl rfl)
theorem dX0_odds_159 : decode cX0_odds 159 = .ok (.if_icmp .ne 13, 3) := dk_160 0 13 (dk_at dksX0_odds_6 18 rfl rfl)
theorem dX0_odds_162 : decode cX0_odds 162 = .ok (.aload_n 0, 1) := dk_42 (dk_at dksX0_odds_6 21 rfl rfl)
theorem dX0_odds_163 : decode cX0_odds 163 = .ok (.getfield 31, 3) := dk_180 0 31 (dk_at dksX0_odds_7 0 rfl rfl)
theorem dX0_odds_166 : decode cX0_odds 166 = .ok (.getfield 292, 3) := dk_180 1 36 (dk_at dksX0_odds_7 3 rfl rfl)
theorem dX0_odds_169 : decode cX0_odds 169 = .ok (.goto 4, 3) := dk_167 0 4 (dk_at dksX0_odds_7 6 rfl rfl)
theorem dX0_odds_172 : decode cX0_odds 172 = .ok (.iconst 0, 1) := dk_3 (dk_at dksX0_odds_7 9 rfl rfl)
theorem dX0_odds_173 : decode cX0_odds 173 = .ok (.iadd, 1) := dk_96 (dk_at dksX0_odds_7 10 rfl rfl)
theorem dX0_odds_174 : decode cX0_odds 174 = .ok (.istore_n 3, 1) := dk_62 (dk_at dksX0_odds_7 11 rfl rfl)
theorem dX0_odds_175 : decode cX0_odds 175 = .ok (.iinc 5 1, 3) := dk_132 5 1 (dk_at dksX0_odds_7 12 rfl rfl)
theorem dX0_odds_178 : decode cX0_odds 178 = .ok (.goto (-60), 3) := dk_167 255 196 (dk_at dksX0_odds_7 15 rfl rfl)
theorem dX0_odds_181 : decode cX0_odds 181 = .ok (.iinc 4 1, 3) := dk_132 4 1 (dk_at dksX0_odds_7 18 rfl rfl)
theorem dX0_odds_184 : decode cX0_odds 184 = .ok (.goto (-78), 3) := dk_167 255 178 (dk_at dksX0_odds_7 21 rfl rfl)
theorem dX0_odds_187 : decode cX0_odds 187 = .ok (.iload_n 3, 1) := dk_29 (dk_at dksX0_odds_8 0 rfl rfl)
theorem dX0_odds_188 : decode cX0_odds 188 = .ok (.ireturn, 1) := dk_172 (dk_at dksX0_odds_8 1 rfl rfl)
abbrev cX0_drives : ByteArray := prog_1_method_41_code
def yX0_drives : MethodName := ⟨RX0, "drives", "(LMarriageHerring$State;II)V"⟩
def dkwX0_drives_0 : List UInt8 := [43, 180, 0, 245, 28, 29, 79, 43, 180, 0, 186, 28, 2, 79, 177]
abbrev dktX0_drives_0 : List UInt8 := dkwX0_drives_0 ++ []
theorem dksX0_drives_0 : cX0_drives.data.toList.drop 0 = dktX0_drives_0 := by decide +kernel
theorem dX0_drives_0 : decode cX0_drives 0 = .ok (.aload_n 1, 1) := dk_43 (dk_at dksX0_drives_0 0 rfl rfl)
theorem dX0_drives_1 : decode cX0_drives 1 = .ok (.getfield 245, 3) := dk_180 0 245 (dk_at dksX0_drives_0 1 rfl rfl)
theorem dX0_drives_4 : decode cX0_drives 4 = .ok (.iload_n 2, 1) := dk_28 (dk_at dksX0_drives_0 4 rfl rfl)
theorem dX0_drives_5 : decode cX0_drives 5 = .ok (.iload_n 3, 1) := dk_29 (dk_at dksX0_drives_0 5 rfl rfl)
theorem dX0_drives_6 : decode cX0_drives 6 = .ok (.iastore, 1) := dk_79 (dk_at dksX0_drives_0 6 rfl rfl)
theorem dX0_drives_7 : decode cX0_drives 7 = .ok (.aload_n 1, 1) := dk_43 (dk_at dksX0_drives_0 7 rfl rfl)
theorem dX0_drives_8 : decode cX0_drives 8 = .ok (.getfield 186, 3) := dk_180 0 186 (dk_at dksX0_drives_0 8 rfl rfl)
theorem dX0_drives_11 : decode cX0_drives 11 = .ok (.iload_n 2, 1) := dk_28 (dk_at dksX0_drives_0 11 rfl rfl)
theorem dX0_drives_12 : decode cX0_drives 12 = .ok (.iconst (-1), 1) := dk_2 (dk_at dksX0_drives_0 12 rfl rfl)
theorem dX0_drives_13 : decode cX0_drives 13 = .ok (.iastore, 1) := dk_79 (dk_at dksX0_drives_0 13 rfl rfl)
theorem dX0_drives_14 : decode cX0_drives 14 = .ok (.return_, 1) := dk_177 (dk_at dksX0_drives_0 14 rfl rfl)
abbrev cX0_see : ByteArray := prog_1_method_44_code
def yX0_see : MethodName := ⟨RX0, "see", "()I"⟩
def dkwX0_see_8 : List UInt8 := [96, 182, 1, 43, 79, 132, 3, 1, 167, 255, 183, 42, 180, 0, 142, 172]
abbrev dktX0_see_8 : List UInt8 := dkwX0_see_8 ++ []
def dkwX0_see_7 : List UInt8 := [42, 6, 29, 104, 5, 96, 182, 1, 43, 17, 0, 255, 160, 0, 7, 2, 167, 0, 12, 42, 6, 29, 104, 5]
abbrev dktX0_see_7 : List UInt8 := dkwX0_see_7 ++ dktX0_see_8
def dkwX0_see_6 : List UInt8 := [182, 1, 43, 79, 42, 180, 0, 84, 29, 42, 6, 29, 104, 4, 96, 182, 1, 43, 79, 42, 180, 0, 87, 29]
abbrev dktX0_see_6 : List UInt8 := dkwX0_see_6 ++ dktX0_see_7
def dkwX0_see_5 : List UInt8 := [108, 181, 0, 142, 3, 62, 29, 42, 180, 0, 142, 162, 0, 71, 42, 180, 0, 81, 29, 42, 6, 29, 104]
abbrev dktX0_see_5 : List UInt8 := dkwX0_see_5 ++ dktX0_see_6
def dkwX0_see_4 : List UInt8 := [167, 0, 4, 3, 61, 132, 3, 3, 167, 255, 187, 28, 154, 0, 9, 42, 4, 182, 0, 109, 172, 42, 27, 6]
abbrev dktX0_see_4 : List UInt8 := dkwX0_see_4 ++ dktX0_see_5
def dkwX0_see_3 : List UInt8 := [182, 1, 43, 182, 0, 204, 154, 0, 16, 42, 29, 5, 96, 182, 1, 43, 17, 0, 255, 160, 0, 7, 4]
abbrev dktX0_see_3 : List UInt8 := dkwX0_see_3 ++ dktX0_see_4
def dkwX0_see_2 : List UInt8 := [163, 0, 48, 42, 42, 29, 4, 96, 182, 1, 43, 182, 0, 242, 153, 0, 34, 42, 42, 29, 5, 96]
abbrev dktX0_see_2 : List UInt8 := dkwX0_see_2 ++ dktX0_see_3
def dkwX0_see_1 : List UInt8 := [167, 0, 4, 3, 61, 3, 62, 29, 27, 162, 0, 70, 28, 153, 0, 66, 42, 29, 182, 1, 43, 16, 30]
abbrev dktX0_see_1 : List UInt8 := dkwX0_see_1 ++ dktX0_see_2
def dkwX0_see_0 : List UInt8 := [42, 182, 0, 120, 60, 27, 158, 0, 19, 27, 6, 112, 154, 0, 13, 27, 16, 48, 163, 0, 7, 4]
abbrev dktX0_see_0 : List UInt8 := dkwX0_see_0 ++ dktX0_see_1
theorem dksX0_see_0 : cX0_see.data.toList.drop 0 = dktX0_see_0 := by decide +kernel
theorem dksX0_see_1 : cX0_see.data.toList.drop 22 = dktX0_see_1 := dk_seg dksX0_see_0 22 rfl rfl
theorem dksX0_see_2 : cX0_see.data.toList.drop 45 = dktX0_see_2 := dk_seg dksX0_see_1 23 rfl rfl
theorem dksX0_see_3 : cX0_see.data.toList.drop 67 = dktX0_see_3 := dk_seg dksX0_see_2 22 rfl rfl
theorem dksX0_see_4 : cX0_see.data.toList.drop 90 = dktX0_see_4 := dk_seg dksX0_see_3 23 rfl rfl
theorem dksX0_see_5 : cX0_see.data.toList.drop 114 = dktX0_see_5 := dk_seg dksX0_see_4 24 rfl rfl
theorem dksX0_see_6 : cX0_see.data.toList.drop 137 = dktX0_see_6 := dk_seg dksX0_see_5 23 rfl rfl
theorem dksX0_see_7 : cX0_see.data.toList.drop 161 = dktX0_see_7 := dk_seg dksX0_see_6 24 rfl rfl
theorem dksX0_see_8 : cX0_see.data.toList.drop 185 = dktX0_see_8 := dk_seg dksX0_see_7 24 rfl rfl
theorem dX0_see_0 : decode cX0_see 0 = .ok (.aload_n 0, 1) := dk_42 (dk_at dksX0_see_0 0 rfl rfl)
theorem dX0_see_1 : decode cX0_see 1 = .ok (.invokevirtual 120, 3) := dk_182 0 120 (dk_at dksX0_see_0 1 rfl rfl)
theorem dX0_see_4 : decode cX0_see 4 = .ok (.istore_n 1, 1) := dk_60 (dk_at dksX0_see_0 4 rfl rfl)
theorem dX0_see_5 : decode cX0_see 5 = .ok (.iload_n 1, 1) := dk_27 (dk_at dksX0_see_0 5 rfl rfl)
theorem dX0_see_6 : decode cX0_see 6 = .ok (.ifCond .le 19, 3) := dk_158 0 19 (dk_at dksX0_see_0 6 rfl rfl)
theorem dX0_see_9 : decode cX0_see 9 = .ok (.iload_n 1, 1) := dk_27 (dk_at dksX0_see_0 9 rfl rfl)
theorem dX0_see_10 : decode cX0_see 10 = .ok (.iconst 3, 1) := dk_6 (dk_at dksX0_see_0 10 rfl rfl)
theorem dX0_see_11 : decode cX0_see 11 = .ok (.irem, 1) := dk_112 (dk_at dksX0_see_0 11 rfl rfl)
theorem dX0_see_12 : decode cX0_see 12 = .ok (.ifCond .ne 13, 3) := dk_154 0 13 (dk_at dksX0_see_0 12 rfl rfl)
theorem dX0_see_15 : decode cX0_see 15 = .ok (.iload_n 1, 1) := dk_27 (dk_at dksX0_see_0 15 rfl rfl)
theorem dX0_see_16 : decode cX0_see 16 = .ok (.bipush 48, 2) := dk_16 48 (dk_at dksX0_see_0 16 rfl rfl)
theorem dX0_see_18 : decode cX0_see 18 = .ok (.if_icmp .gt 7, 3) := dk_163 0 7 (dk_at dksX0_see_0 18 rfl rfl)
theorem dX0_see_21 : decode cX0_see 21 = .ok (.iconst 1, 1) := dk_4 (dk_at dksX0_see_0 21 rfl rfl)
theorem dX0_see_22 : decode cX0_see 22 = .ok (.goto 4, 3) := dk_167 0 4 (dk_at dksX0_see_1 0 rfl rfl)
theorem dX0_see_25 : decode cX0_see 25 = .ok (.iconst 0, 1) := dk_3 (dk_at dksX0_see_1 3 rfl rfl)
theorem dX0_see_26 : decode cX0_see 26 = .ok (.istore_n 2, 1) := dk_61 (dk_at dksX0_see_1 4 rfl rfl)
theorem dX0_see_27 : decode cX0_see 27 = .ok (.iconst 0, 1) := dk_3 (dk_at dksX0_see_1 5 rfl rfl)
theorem dX0_see_28 : decode cX0_see 28 = .ok (.istore_n 3, 1) := dk_62 (dk_at dksX0_see_1 6 rfl rfl)
theorem dX0_see_29 : decode cX0_see 29 = .ok (.iload_n 3, 1) := dk_29 (dk_at dksX0_see_1 7 rfl rfl)
theorem dX0_see_30 : decode cX0_see 30 = .ok (.iload_n 1, 1) := dk_27 (dk_at dksX0_see_1 8 rfl rfl)
theorem dX0_see_31 : decode cX0_see 31 = .ok (.if_icmp .ge 70, 3) := dk_162 0 70 (dk_at dksX0_see_1 9 rfl rfl)
theorem dX0_see_34 : decode cX0_see 34 = .ok (.iload_n 2, 1) := dk_28 (dk_at dksX0_see_1 12 rfl rfl)
theorem dX0_see_35 : decode cX0_see 35 = .ok (.ifCond .eq 66, 3) := dk_153 0 66 (dk_at dksX0_see_1 13 rfl rfl)
theorem dX0_see_38 : decode cX0_see 38 = .ok (.aload_n 0, 1) := dk_42 (dk_at dksX0_see_1 16 rfl rfl)
theorem dX0_see_39 : decode cX0_see 39 = .ok (.iload_n 3, 1) := dk_29 (dk_at dksX0_see_1 17 rfl rfl)
theorem dX0_see_40 : decode cX0_see 40 = .ok (.invokevirtual 299, 3) := dk_182 1 43 (dk_at dksX0_see_1 18 rfl rfl)
theorem dX0_see_43 : decode cX0_see 43 = .ok (.bipush 30, 2) := dk_16 30 (dk_at dksX0_see_1 21 rfl rfl)
theorem dX0_see_45 : decode cX0_see 45 = .ok (.if_icmp .gt 48, 3) := dk_163 0 48 (dk_at dksX0_see_2 0 rfl rfl)
theorem dX0_see_48 : decode cX0_see 48 = .ok (.aload_n 0, 1) := dk_42 (dk_at dksX0_see_2 3 rfl rfl)
theorem dX0_see_49 : decode cX0_see 49 = .ok (.aload_n 0, 1) := dk_42 (dk_at dksX0_see_2 4 rfl rfl)
theorem dX0_see_50 : decode cX0_see 50 = .ok (.iload_n 3, 1) := dk_29 (dk_at dksX0_see_2 5 rfl rfl)
theorem dX0_see_51 : decode cX0_see 51 = .ok (.iconst 1, 1) := dk_4 (dk_at dksX0_see_2 6 rfl rfl)
theorem dX0_see_52 : decode cX0_see 52 = .ok (.iadd, 1) := dk_96 (dk_at dksX0_see_2 7 rfl rfl)
theorem dX0_see_53 : decode cX0_see 53 = .ok (.invokevirtual 299, 3) := dk_182 1 43 (dk_at dksX0_see_2 8 rfl rfl)
theorem dX0_see_56 : decode cX0_see 56 = .ok (.invokevirtual 242, 3) := dk_182 0 242 (dk_at dksX0_see_2 11 rfl rfl)
theorem dX0_see_59 : decode cX0_see 59 = .ok (.ifCond .eq 34, 3) := dk_153 0 34 (dk_at dksX0_see_2 14 rfl rfl)
theorem dX0_see_62 : decode cX0_see 62 = .ok (.aload_n 0, 1) := dk_42 (dk_at dksX0_see_2 17 rfl rfl)
theorem dX0_see_63 : decode cX0_see 63 = .ok (.aload_n 0, 1) := dk_42 (dk_at dksX0_see_2 18 rfl rfl)
theorem dX0_see_64 : decode cX0_see 64 = .ok (.iload_n 3, 1) := dk_29 (dk_at dksX0_see_2 19 rfl rfl)
theorem dX0_see_65 : decode cX0_see 65 = .ok (.iconst 2, 1) := dk_5 (dk_at dksX0_see_2 20 rfl rfl)
theorem dX0_see_66 : decode cX0_see 66 = .ok (.iadd, 1) := dk_96 (dk_at dksX0_see_2 21 rfl rfl)
theorem dX0_see_67 : decode cX0_see 67 = .ok (.invokevirtual 299, 3) := dk_182 1 43 (dk_at dksX0_see_3 0 rfl rfl)
theorem dX0_see_70 : decode cX0_see 70 = .ok (.invokevirtual 204, 3) := dk_182 0 204 (dk_at dksX0_see_3 3 rfl rfl)
theorem dX0_see_73 : decode cX0_see 73 = .ok (.ifCond .ne 16, 3) := dk_154 0 16 (dk_at dksX0_see_3 6 rfl rfl)
theorem dX0_see_76 : decode cX0_see 76 = .ok (.aload_n 0, 1) := dk_42 (dk_at dksX0_see_3 9 rfl rfl)
theorem dX0_see_77 : decode cX0_see 77 = .ok (.iload_n 3, 1) := dk_29 (dk_at dksX0_see_3 10 rfl rfl)
theorem dX0_see_78 : decode cX0_see 78 = .ok (.iconst 2, 1) := dk_5 (dk_at dksX0_see_3 11 rfl rfl)
theorem dX0_see_79 : decode cX0_see 79 = .ok (.iadd, 1) := dk_96 (dk_at dksX0_see_3 12 rfl rfl)
theorem dX0_see_80 : decode cX0_see 80 = .ok (.invokevirtual 299, 3) := dk_182 1 43 (dk_at dksX0_see_3 13 rfl rfl)
theorem dX0_see_83 : decode cX0_see 83 = .ok (.sipush 255, 3) := dk_17 0 255 (dk_at dksX0_see_3 16 rfl rfl)
theorem dX0_see_86 : decode cX0_see 86 = .ok (.if_icmp .ne 7, 3) := dk_160 0 7 (dk_at dksX0_see_3 19 rfl rfl)
theorem dX0_see_89 : decode cX0_see 89 = .ok (.iconst 1, 1) := dk_4 (dk_at dksX0_see_3 22 rfl rfl)
theorem dX0_see_90 : decode cX0_see 90 = .ok (.goto 4, 3) := dk_167 0 4 (dk_at dksX0_see_4 0 rfl rfl)
theorem dX0_see_93 : decode cX0_see 93 = .ok (.iconst 0, 1) := dk_3 (dk_at dksX0_see_4 3 rfl rfl)
theorem dX0_see_94 : decode cX0_see 94 = .ok (.istore_n 2, 1) := dk_61 (dk_at dksX0_see_4 4 rfl rfl)
theorem dX0_see_95 : decode cX0_see 95 = .ok (.iinc 3 3, 3) := dk_132 3 3 (dk_at dksX0_see_4 5 rfl rfl)
theorem dX0_see_98 : decode cX0_see 98 = .ok (.goto (-69), 3) := dk_167 255 187 (dk_at dksX0_see_4 8 rfl rfl)
theorem dX0_see_101 : decode cX0_see 101 = .ok (.iload_n 2, 1) := dk_28 (dk_at dksX0_see_4 11 rfl rfl)
theorem dX0_see_102 : decode cX0_see 102 = .ok (.ifCond .ne 9, 3) := dk_154 0 9 (dk_at dksX0_see_4 12 rfl rfl)
theorem dX0_see_105 : decode cX0_see 105 = .ok (.aload_n 0, 1) := dk_42 (dk_at dksX0_see_4 15 rfl rfl)
theorem dX0_see_106 : decode cX0_see 106 = .ok (.iconst 1, 1) := dk_4 (dk_at dksX0_see_4 16 rfl rfl)
theorem dX0_see_107 : decode cX0_see 107 = .ok (.invokevirtual 109, 3) := dk_182 0 109 (dk_at dksX0_see_4 17 rfl rfl)
theorem dX0_see_110 : decode cX0_see 110 = .ok (.ireturn, 1) := dk_172 (dk_at dksX0_see_4 20 rfl rfl)
theorem dX0_see_111 : decode cX0_see 111 = .ok (.aload_n 0, 1) := dk_42 (dk_at dksX0_see_4 21 rfl rfl)
theorem dX0_see_112 : decode cX0_see 112 = .ok (.iload_n 1, 1) := dk_27 (dk_at dksX0_see_4 22 rfl rfl)
theorem dX0_see_113 : decode cX0_see 113 = .ok (.iconst 3, 1) := dk_6 (dk_at dksX0_see_4 23 rfl rfl)
theorem dX0_see_114 : decode cX0_see 114 = .ok (.idiv, 1) := dk_108 (dk_at dksX0_see_5 0 rfl rfl)
theorem dX0_see_115 : decode cX0_see 115 = .ok (.putfield 142, 3) := dk_181 0 142 (dk_at dksX0_see_5 1 rfl rfl)
theorem dX0_see_118 : decode cX0_see 118 = .ok (.iconst 0, 1) := dk_3 (dk_at dksX0_see_5 4 rfl rfl)
theorem dX0_see_119 : decode cX0_see 119 = .ok (.istore_n 3, 1) := dk_62 (dk_at dksX0_see_5 5 rfl rfl)
theorem dX0_see_120 : decode cX0_see 120 = .ok (.iload_n 3, 1) := dk_29 (dk_at dksX0_see_5 6 rfl rfl)
theorem dX0_see_121 : decode cX0_see 121 = .ok (.aload_n 0, 1) := dk_42 (dk_at dksX0_see_5 7 rfl rfl)
theorem dX0_see_122 : decode cX0_see 122 = .ok (.getfield 142, 3) := dk_180 0 142 (dk_at dksX0_see_5 8 rfl rfl)
theorem dX0_see_125 : decode cX0_see 125 = .ok (.if_icmp .ge 71, 3) := dk_162 0 71 (dk_at dksX0_see_5 11 rfl rfl)
theorem dX0_see_128 : decode cX0_see 128 = .ok (.aload_n 0, 1) := dk_42 (dk_at dksX0_see_5 14 rfl rfl)
theorem dX0_see_129 : decode cX0_see 129 = .ok (.getfield 81, 3) := dk_180 0 81 (dk_at dksX0_see_5 15 rfl rfl)
theorem dX0_see_132 : decode cX0_see 132 = .ok (.iload_n 3, 1) := dk_29 (dk_at dksX0_see_5 18 rfl rfl)
theorem dX0_see_133 : decode cX0_see 133 = .ok (.aload_n 0, 1) := dk_42 (dk_at dksX0_see_5 19 rfl rfl)
theorem dX0_see_134 : decode cX0_see 134 = .ok (.iconst 3, 1) := dk_6 (dk_at dksX0_see_5 20 rfl rfl)
theorem dX0_see_135 : decode cX0_see 135 = .ok (.iload_n 3, 1) := dk_29 (dk_at dksX0_see_5 21 rfl rfl)
theorem dX0_see_136 : decode cX0_see 136 = .ok (.imul, 1) := dk_104 (dk_at dksX0_see_5 22 rfl rfl)
theorem dX0_see_137 : decode cX0_see 137 = .ok (.invokevirtual 299, 3) := dk_182 1 43 (dk_at dksX0_see_6 0 rfl rfl)
theorem dX0_see_140 : decode cX0_see 140 = .ok (.iastore, 1) := dk_79 (dk_at dksX0_see_6 3 rfl rfl)
theorem dX0_see_141 : decode cX0_see 141 = .ok (.aload_n 0, 1) := dk_42 (dk_at dksX0_see_6 4 rfl rfl)
theorem dX0_see_142 : decode cX0_see 142 = .ok (.getfield 84, 3) := dk_180 0 84 (dk_at dksX0_see_6 5 rfl rfl)
theorem dX0_see_145 : decode cX0_see 145 = .ok (.iload_n 3, 1) := dk_29 (dk_at dksX0_see_6 8 rfl rfl)
theorem dX0_see_146 : decode cX0_see 146 = .ok (.aload_n 0, 1) := dk_42 (dk_at dksX0_see_6 9 rfl rfl)
theorem dX0_see_147 : decode cX0_see 147 = .ok (.iconst 3, 1) := dk_6 (dk_at dksX0_see_6 10 rfl rfl)
theorem dX0_see_148 : decode cX0_see 148 = .ok (.iload_n 3, 1) := dk_29 (dk_at dksX0_see_6 11 rfl rfl)
theorem dX0_see_149 : decode cX0_see 149 = .ok (.imul, 1) := dk_104 (dk_at dksX0_see_6 12 rfl rfl)
theorem dX0_see_150 : decode cX0_see 150 = .ok (.iconst 1, 1) := dk_4 (dk_at dksX0_see_6 13 rfl rfl)
theorem dX0_see_151 : decode cX0_see 151 = .ok (.iadd, 1) := dk_96 (dk_at dksX0_see_6 14 rfl rfl)
theorem dX0_see_152 : decode cX0_see 152 = .ok (.invokevirtual 299, 3) := dk_182 1 43 (dk_at dksX0_see_6 15 rfl rfl)
theorem dX0_see_155 : decode cX0_see 155 = .ok (.iastore, 1) := dk_79 (dk_at dksX0_see_6 18 rfl rfl)
theorem dX0_see_156 : decode cX0_see 156 = .ok (.aload_n 0, 1) := dk_42 (dk_at dksX0_see_6 19 rfl rfl)
theorem dX0_see_157 : decode cX0_see 157 = .ok (.getfield 87, 3) := dk_180 0 87 (dk_at dksX0_see_6 20 rfl rfl)
theorem dX0_see_160 : decode cX0_see 160 = .ok (.iload_n 3, 1) := dk_29 (dk_at dksX0_see_6 23 rfl rfl)
theorem dX0_see_161 : decode cX0_see 161 = .ok (.aload_n 0, 1) := dk_42 (dk_at dksX0_see_7 0 rfl rfl)
theorem dX0_see_162 : decode cX0_see 162 = .ok (.iconst 3, 1) := dk_6 (dk_at dksX0_see_7 1 rfl rfl)
theorem dX0_see_163 : decode cX0_see 163 = .ok (.iload_n 3, 1) := dk_29 (dk_at dksX0_see_7 2 rfl rfl)
theorem dX0_see_164 : decode cX0_see 164 = .ok (.imul, 1) := dk_104 (dk_at dksX0_see_7 3 rfl rfl)
theorem dX0_see_165 : decode cX0_see 165 = .ok (.iconst 2, 1) := dk_5 (dk_at dksX0_see_7 4 rfl rfl)
theorem dX0_see_166 : decode cX0_see 166 = .ok (.iadd, 1) := dk_96 (dk_at dksX0_see_7 5 rfl rfl)
theorem dX0_see_167 : decode cX0_see 167 = .ok (.invokevirtual 299, 3) := dk_182 1 43 (dk_at dksX0_see_7 6 rfl rfl)
theorem dX0_see_170 : decode cX0_see 170 = .ok (.sipush 255, 3) := dk_17 0 255 (dk_at dksX0_see_7 9 rfl rfl)
theorem dX0_see_173 : decode cX0_see 173 = .ok (.if_icmp .ne 7, 3) := dk_160 0 7 (dk_at dksX0_see_7 12 rfl rfl)
theorem dX0_see_176 : decode cX0_see 176 = .ok (.iconst (-1), 1) := dk_2 (dk_at dksX0_see_7 15 rfl rfl)
theorem dX0_see_177 : decode cX0_see 177 = .ok (.goto 12, 3) := dk_167 0 12 (dk_at dksX0_see_7 16 rfl rfl)
theorem dX0_see_180 : decode cX0_see 180 = .ok (.aload_n 0, 1) := dk_42 (dk_at dksX0_see_7 19 rfl rfl)
theorem dX0_see_181 : decode cX0_see 181 = .ok (.iconst 3, 1) := dk_6 (dk_at dksX0_see_7 20 rfl rfl)
theorem dX0_see_182 : decode cX0_see 182 = .ok (.iload_n 3, 1) := dk_29 (dk_at dksX0_see_7 21 rfl rfl)
theorem dX0_see_183 : decode cX0_see 183 = .ok (.imul, 1) := dk_104 (dk_at dksX0_see_7 22 rfl rfl)
theorem dX0_see_184 : decode cX0_see 184 = .ok (.iconst 2, 1) := dk_5 (dk_at dksX0_see_7 23 rfl rfl)
theorem dX0_see_185 : decode cX0_see 185 = .ok (.iadd, 1) := dk_96 (dk_at dksX0_see_8 0 rfl rfl)
theorem dX0_see_186 : decode cX0_see 186 = .ok (.invokevirtual 299, 3) := dk_182 1 43 (dk_at dksX0_see_8 1 rfl rfl)
theorem dX0_see_189 : decode cX0_see 189 = .ok (.iastore, 1) := dk_79 (dk_at dksX0_see_8 4 rfl rfl)
theorem dX0_see_190 : decode cX0_see 190 = .ok (.iinc 3 1, 3) := dk_132 3 1 (dk_at dksX0_see_8 5 rfl rfl)
theorem dX0_see_193 : decode cX0_see 193 = .ok (.goto (-73), 3) := dk_167 255 183 (dk_at dksX0_see_8 8 rfl rfl)
theorem dX0_see_196 : decode cX0_see 196 = .ok (.aload_n 0, 1) := dk_42 (dk_at dksX0_see_8 11 rfl rfl)
theorem dX0_see_197 : decode cX0_see 197 = .ok (.getfield 142, 3) := dk_180 0 142 (dk_at dksX0_see_8 12 rfl rfl)
theorem dX0_see_200 : decode cX0_see 200 = .ok (.ireturn, 1) := dk_172 (dk_at dksX0_see_8 15 rfl rfl)
abbrev cX0_byteAt : ByteArray := prog_1_method_43_code
def yX0_byteAt : MethodName := ⟨RX0, "byteAt", "(I)I"⟩
def dkwX0_byteAt_0 : List UInt8 := [42, 180, 0, 35, 27, 51, 17, 0, 255, 126, 172]
abbrev dktX0_byteAt_0 : List UInt8 := dkwX0_byteAt_0 ++ []
theorem dksX0_byteAt_0 : cX0_byteAt.data.toList.drop 0 = dktX0_byteAt_0 := by decide +kernel
theorem dX0_byteAt_0 : decode cX0_byteAt 0 = .ok (.aload_n 0, 1) := dk_42 (dk_at dksX0_byteAt_0 0 rfl rfl)
theorem dX0_byteAt_1 : decode cX0_byteAt 1 = .ok (.getfield 35, 3) := dk_180 0 35 (dk_at dksX0_byteAt_0 1 rfl rfl)
theorem dX0_byteAt_4 : decode cX0_byteAt 4 = .ok (.iload_n 1, 1) := dk_27 (dk_at dksX0_byteAt_0 4 rfl rfl)
theorem dX0_byteAt_5 : decode cX0_byteAt 5 = .ok (.baload, 1) := dk_51 (dk_at dksX0_byteAt_0 5 rfl rfl)
theorem dX0_byteAt_6 : decode cX0_byteAt 6 = .ok (.sipush 255, 3) := dk_17 0 255 (dk_at dksX0_byteAt_0 6 rfl rfl)
theorem dX0_byteAt_9 : decode cX0_byteAt 9 = .ok (.iand, 1) := dk_126 (dk_at dksX0_byteAt_0 9 rfl rfl)
theorem dX0_byteAt_10 : decode cX0_byteAt 10 = .ok (.ireturn, 1) := dk_172 (dk_at dksX0_byteAt_0 10 rfl rfl)
abbrev cX0_trues : ByteArray := prog_1_method_46_code
def yX0_trues : MethodName := ⟨RX0, "trues", "(I)I"⟩
def dkwX0_trues_1 : List UInt8 := [182, 1, 46, 153, 0, 9, 4, 29, 120, 167, 0, 4, 3, 128, 61, 132, 3, 1, 167, 255, 228, 28, 172]
abbrev dktX0_trues_1 : List UInt8 := dkwX0_trues_1 ++ []
def dkwX0_trues_0 : List UInt8 := [42, 27, 182, 0, 226, 154, 0, 5, 2, 172, 3, 61, 3, 62, 29, 16, 10, 162, 0, 28, 28, 42, 27, 29]
abbrev dktX0_trues_0 : List UInt8 := dkwX0_trues_0 ++ dktX0_trues_1
theorem dksX0_trues_0 : cX0_trues.data.toList.drop 0 = dktX0_trues_0 := by decide +kernel
theorem dksX0_trues_1 : cX0_trues.data.toList.drop 24 = dktX0_trues_1 := dk_seg dksX0_trues_0 24 rfl rfl
theorem dX0_trues_0 : decode cX0_trues 0 = .ok (.aload_n 0, 1) := dk_42 (dk_at dksX0_trues_0 0 rfl rfl)
theorem dX0_trues_1 : decode cX0_trues 1 = .ok (.iload_n 1, 1) := dk_27 (dk_at dksX0_trues_0 1 rfl rfl)
theorem dX0_trues_2 : decode cX0_trues 2 = .ok (.invokevirtual 226, 3) := dk_182 0 226 (dk_at dksX0_trues_0 2 rfl rfl)
theorem dX0_trues_5 : decode cX0_trues 5 = .ok (.ifCond .ne 5, 3) := dk_154 0 5 (dk_at dksX0_trues_0 5 rfl rfl)
theorem dX0_trues_8 : decode cX0_trues 8 = .ok (.iconst (-1), 1) := dk_2 (dk_at dksX0_trues_0 8 rfl rfl)
theorem dX0_trues_9 : decode cX0_trues 9 = .ok (.ireturn, 1) := dk_172 (dk_at dksX0_trues_0 9 rfl rfl)
theorem dX0_trues_10 : decode cX0_trues 10 = .ok (.iconst 0, 1) := dk_3 (dk_at dksX0_trues_0 10 rfl rfl)
theorem dX0_trues_11 : decode cX0_trues 11 = .ok (.istore_n 2, 1) := dk_61 (dk_at dksX0_trues_0 11 rfl rfl)
theorem dX0_trues_12 : decode cX0_trues 12 = .ok (.iconst 0, 1) := dk_3 (dk_at dksX0_trues_0 12 rfl rfl)
theorem dX0_trues_13 : decode cX0_trues 13 = .ok (.istore_n 3, 1) := dk_62 (dk_at dksX0_trues_0 13 rfl rfl)
theorem dX0_trues_14 : decode cX0_trues 14 = .ok (.iload_n 3, 1) := dk_29 (dk_at dksX0_trues_0 14 rfl rfl)
theorem dX0_trues_15 : decode cX0_trues 15 = .ok (.bipush 10, 2) := dk_16 10 (dk_at dksX0_trues_0 15 rfl rfl)
theorem dX0_trues_17 : decode cX0_trues 17 = .ok (.if_icmp .ge 28, 3) := dk_162 0 28 (dk_at dksX0_trues_0 17 rfl rfl)
theorem dX0_trues_20 : decode cX0_trues 20 = .ok (.iload_n 2, 1) := dk_28 (dk_at dksX0_trues_0 20 rfl rfl)
theorem dX0_trues_21 : decode cX0_trues 21 = .ok (.aload_n 0, 1) := dk_42 (dk_at dksX0_trues_0 21 rfl rfl)
theorem dX0_trues_22 : decode cX0_trues 22 = .ok (.iload_n 1, 1) := dk_27 (dk_at dksX0_trues_0 22 rfl rfl)
theorem dX0_trues_23 : decode cX0_trues 23 = .ok (.iload_n 3, 1) := dk_29 (dk_at dksX0_trues_0 23 rfl rfl)
theorem dX0_trues_24 : decode cX0_trues 24 = .ok (.invokevirtual 302, 3) := dk_182 1 46 (dk_at dksX0_trues_1 0 rfl rfl)
theorem dX0_trues_27 : decode cX0_trues 27 = .ok (.ifCond .eq 9, 3) := dk_153 0 9 (dk_at dksX0_trues_1 3 rfl rfl)
theorem dX0_trues_30 : decode cX0_trues 30 = .ok (.iconst 1, 1) := dk_4 (dk_at dksX0_trues_1 6 rfl rfl)
theorem dX0_trues_31 : decode cX0_trues 31 = .ok (.iload_n 3, 1) := dk_29 (dk_at dksX0_trues_1 7 rfl rfl)
theorem dX0_trues_32 : decode cX0_trues 32 = .ok (.ishl, 1) := dk_120 (dk_at dksX0_trues_1 8 rfl rfl)
theorem dX0_trues_33 : decode cX0_trues 33 = .ok (.goto 4, 3) := dk_167 0 4 (dk_at dksX0_trues_1 9 rfl rfl)
theorem dX0_trues_36 : decode cX0_trues 36 = .ok (.iconst 0, 1) := dk_3 (dk_at dksX0_trues_1 12 rfl rfl)
theorem dX0_trues_37 : decode cX0_trues 37 = .ok (.ior, 1) := dk_128 (dk_at dksX0_trues_1 13 rfl rfl)
theorem dX0_trues_38 : decode cX0_trues 38 = .ok (.istore_n 2, 1) := dk_61 (dk_at dksX0_trues_1 14 rfl rfl)
theorem dX0_trues_39 : decode cX0_trues 39 = .ok (.iinc 3 1, 3) := dk_132 3 1 (dk_at dksX0_trues_1 15 rfl rfl)
theorem dX0_trues_42 : decode cX0_trues 42 = .ok (.goto (-28), 3) := dk_167 255 228 (dk_at dksX0_trues_1 18 rfl rfl)
theorem dX0_trues_45 : decode cX0_trues 45 = .ok (.iload_n 2, 1) := dk_28 (dk_at dksX0_trues_1 21 rfl rfl)
theorem dX0_trues_46 : decode cX0_trues 46 = .ok (.ireturn, 1) := dk_172 (dk_at dksX0_trues_1 22 rfl rfl)
abbrev cX0_canBe : ByteArray := prog_1_method_45_code
def yX0_canBe : MethodName := ⟨RX0, "canBe", "(II)Z"⟩
def dkwX0_canBe_7 : List UInt8 := [3, 172]
abbrev dktX0_canBe_7 : List UInt8 := dkwX0_canBe_7 ++ []
def dkwX0_canBe_6 : List UInt8 := [132, 5, 1, 167, 255, 199, 132, 4, 1, 167, 255, 128, 29, 42, 180, 0, 142, 160, 0, 7, 4, 167, 0, 4]
abbrev dktX0_canBe_6 : List UInt8 := dkwX0_canBe_6 ++ dktX0_canBe_7
def dkwX0_canBe_5 : List UInt8 := [180, 0, 84, 21, 5, 46, 46, 42, 180, 0, 87, 21, 5, 46, 160, 0, 7, 4, 167, 0, 4, 3, 96, 62]
abbrev dktX0_canBe_5 : List UInt8 := dkwX0_canBe_5 ++ dktX0_canBe_6
def dkwX0_canBe_4 : List UInt8 := [162, 0, 54, 29, 42, 180, 0, 81, 21, 5, 46, 21, 4, 160, 0, 32, 42, 180, 0, 73, 180, 0, 186, 42]
abbrev dktX0_canBe_4 : List UInt8 := dkwX0_canBe_4 ++ dktX0_canBe_5
def dkwX0_canBe_3 : List UInt8 := [180, 0, 186, 21, 5, 46, 79, 132, 5, 1, 167, 255, 222, 3, 54, 5, 21, 5, 42, 180, 0, 142]
abbrev dktX0_canBe_3 : List UInt8 := dkwX0_canBe_3 ++ dktX0_canBe_4
def dkwX0_canBe_2 : List UInt8 := [21, 5, 42, 182, 0, 167, 162, 0, 31, 42, 180, 0, 92, 28, 50, 21, 4, 50, 21, 5, 42, 180, 0, 73]
abbrev dktX0_canBe_2 : List UInt8 := dkwX0_canBe_2 ++ dktX0_canBe_3
def dkwX0_canBe_1 : List UInt8 := [21, 4, 4, 96, 4, 16, 31, 182, 1, 5, 153, 0, 120, 42, 180, 0, 73, 182, 1, 16, 87, 3, 54, 5]
abbrev dktX0_canBe_1 : List UInt8 := dkwX0_canBe_1 ++ dktX0_canBe_2
def dkwX0_canBe_0 : List UInt8 := [42, 180, 0, 73, 42, 180, 0, 69, 182, 1, 8, 180, 0, 236, 27, 28, 79, 3, 62, 3, 54, 4, 42]
abbrev dktX0_canBe_0 : List UInt8 := dkwX0_canBe_0 ++ dktX0_canBe_1
theorem dksX0_canBe_0 : cX0_canBe.data.toList.drop 0 = dktX0_canBe_0 := by decide +kernel
theorem dksX0_canBe_1 : cX0_canBe.data.toList.drop 23 = dktX0_canBe_1 := dk_seg dksX0_canBe_0 23 rfl rfl
theorem dksX0_canBe_2 : cX0_canBe.data.toList.drop 47 = dktX0_canBe_2 := dk_seg dksX0_canBe_1 24 rfl rfl
theorem dksX0_canBe_3 : cX0_canBe.data.toList.drop 71 = dktX0_canBe_3 := dk_seg dksX0_canBe_2 24 rfl rfl
theorem dksX0_canBe_4 : cX0_canBe.data.toList.drop 93 = dktX0_canBe_4 := dk_seg dksX0_canBe_3 22 rfl rfl
theorem dksX0_canBe_5 : cX0_canBe.data.toList.drop 117 = dktX0_canBe_5 := dk_seg dksX0_canBe_4 24 rfl rfl
theorem dksX0_canBe_6 : cX0_canBe.data.toList.drop 141 = dktX0_canBe_6 := dk_seg dksX0_canBe_5 24 rfl rfl
theorem dksX0_canBe_7 : cX0_canBe.data.toList.drop 165 = dktX0_canBe_7 := dk_seg dksX0_canBe_6 24 rfl rfl
theorem dX0_canBe_0 : decode cX0_canBe 0 = .ok (.aload_n 0, 1) := dk_42 (dk_at dksX0_canBe_0 0 rfl rfl)
theorem dX0_canBe_1 : decode cX0_canBe 1 = .ok (.getfield 73, 3) := dk_180 0 73 (dk_at dksX0_canBe_0 1 rfl rfl)
theorem dX0_canBe_4 : decode cX0_canBe 4 = .ok (.aload_n 0, 1) := dk_42 (dk_at dksX0_canBe_0 4 rfl rfl)
theorem dX0_canBe_5 : decode cX0_canBe 5 = .ok (.getfield 69, 3) := dk_180 0 69 (dk_at dksX0_canBe_0 5 rfl rfl)
theorem dX0_canBe_8 : decode cX0_canBe 8 = .ok (.invokevirtual 264, 3) := dk_182 1 8 (dk_at dksX0_canBe_0 8 rfl rfl)
theorem dX0_canBe_11 : decode cX0_canBe 11 = .ok (.getfield 236, 3) := dk_180 0 236 (dk_at dksX0_canBe_0 11 rfl rfl)
theorem dX0_canBe_14 : decode cX0_canBe 14 = .ok (.iload_n 1, 1) := dk_27 (dk_at dksX0_canBe_0 14 rfl rfl)
theorem dX0_canBe_15 : decode cX0_canBe 15 = .ok (.iload_n 2, 1) := dk_28 (dk_at dksX0_canBe_0 15 rfl rfl)
theorem dX0_canBe_16 : decode cX0_canBe 16 = .ok (.iastore, 1) := dk_79 (dk_at dksX0_canBe_0 16 rfl rfl)
theorem dX0_canBe_17 : decode cX0_canBe 17 = .ok (.iconst 0, 1) := dk_3 (dk_at dksX0_canBe_0 17 rfl rfl)
theorem dX0_canBe_18 : decode cX0_canBe 18 = .ok (.istore_n 3, 1) := dk_62 (dk_at dksX0_canBe_0 18 rfl rfl)
theorem dX0_canBe_19 : decode cX0_canBe 19 = .ok (.iconst 0, 1) := dk_3 (dk_at dksX0_canBe_0 19 rfl rfl)
theorem dX0_canBe_20 : decode cX0_canBe 20 = .ok (.istore 4, 2) := dk_54 4 (dk_at dksX0_canBe_0 20 rfl rfl)
theorem dX0_canBe_22 : decode cX0_canBe 22 = .ok (.aload_n 0, 1) := dk_42 (dk_at dksX0_canBe_0 22 rfl rfl)
theorem dX0_canBe_23 : decode cX0_canBe 23 = .ok (.iload 4, 2) := dk_21 4 (dk_at dksX0_canBe_1 0 rfl rfl)
theorem dX0_canBe_25 : decode cX0_canBe 25 = .ok (.iconst 1, 1) := dk_4 (dk_at dksX0_canBe_1 2 rfl rfl)
theorem dX0_canBe_26 : decode cX0_canBe 26 = .ok (.iadd, 1) := dk_96 (dk_at dksX0_canBe_1 3 rfl rfl)
theorem dX0_canBe_27 : decode cX0_canBe 27 = .ok (.iconst 1, 1) := dk_4 (dk_at dksX0_canBe_1 4 rfl rfl)
theorem dX0_canBe_28 : decode cX0_canBe 28 = .ok (.bipush 31, 2) := dk_16 31 (dk_at dksX0_canBe_1 5 rfl rfl)
theorem dX0_canBe_30 : decode cX0_canBe 30 = .ok (.invokevirtual 261, 3) := dk_182 1 5 (dk_at dksX0_canBe_1 7 rfl rfl)
theorem dX0_canBe_33 : decode cX0_canBe 33 = .ok (.ifCond .eq 120, 3) := dk_153 0 120 (dk_at dksX0_canBe_1 10 rfl rfl)
theorem dX0_canBe_36 : decode cX0_canBe 36 = .ok (.aload_n 0, 1) := dk_42 (dk_at dksX0_canBe_1 13 rfl rfl)
theorem dX0_canBe_37 : decode cX0_canBe 37 = .ok (.getfield 73, 3) := dk_180 0 73 (dk_at dksX0_canBe_1 14 rfl rfl)
theorem dX0_canBe_40 : decode cX0_canBe 40 = .ok (.invokevirtual 272, 3) := dk_182 1 16 (dk_at dksX0_canBe_1 17 rfl rfl)
theorem dX0_canBe_43 : decode cX0_canBe 43 = .ok (.pop, 1) := dk_87 (dk_at dksX0_canBe_1 20 rfl rfl)
theorem dX0_canBe_44 : decode cX0_canBe 44 = .ok (.iconst 0, 1) := dk_3 (dk_at dksX0_canBe_1 21 rfl rfl)
theorem dX0_canBe_45 : decode cX0_canBe 45 = .ok (.istore 5, 2) := dk_54 5 (dk_at dksX0_canBe_1 22 rfl rfl)
theorem dX0_canBe_47 : decode cX0_canBe 47 = .ok (.iload 5, 2) := dk_21 5 (dk_at dksX0_canBe_2 0 rfl rfl)
theorem dX0_canBe_49 : decode cX0_canBe 49 = .ok (.aload_n 0, 1) := dk_42 (dk_at dksX0_canBe_2 2 rfl rfl)
theorem dX0_canBe_50 : decode cX0_canBe 50 = .ok (.invokevirtual 167, 3) := dk_182 0 167 (dk_at dksX0_canBe_2 3 rfl rfl)
theorem dX0_canBe_53 : decode cX0_canBe 53 = .ok (.if_icmp .ge 31, 3) := dk_162 0 31 (dk_at dksX0_canBe_2 6 rfl rfl)
theorem dX0_canBe_56 : decode cX0_canBe 56 = .ok (.aload_n 0, 1) := dk_42 (dk_at dksX0_canBe_2 9 rfl rfl)
theorem dX0_canBe_57 : decode cX0_canBe 57 = .ok (.getfield 92, 3) := dk_180 0 92 (dk_at dksX0_canBe_2 10 rfl rfl)
theorem dX0_canBe_60 : decode cX0_canBe 60 = .ok (.iload_n 2, 1) := dk_28 (dk_at dksX0_canBe_2 13 rfl rfl)
theorem dX0_canBe_61 : decode cX0_canBe 61 = .ok (.aaload, 1) := dk_50 (dk_at dksX0_canBe_2 14 rfl rfl)
theorem dX0_canBe_62 : decode cX0_canBe 62 = .ok (.iload 4, 2) := dk_21 4 (dk_at dksX0_canBe_2 15 rfl rfl)
theorem dX0_canBe_64 : decode cX0_canBe 64 = .ok (.aaload, 1) := dk_50 (dk_at dksX0_canBe_2 17 rfl rfl)
theorem dX0_canBe_65 : decode cX0_canBe 65 = .ok (.iload 5, 2) := dk_21 5 (dk_at dksX0_canBe_2 18 rfl rfl)
theorem dX0_canBe_67 : decode cX0_canBe 67 = .ok (.aload_n 0, 1) := dk_42 (dk_at dksX0_canBe_2 20 rfl rfl)
theorem dX0_canBe_68 : decode cX0_canBe 68 = .ok (.getfield 73, 3) := dk_180 0 73 (dk_at dksX0_canBe_2 21 rfl rfl)
theorem dX0_canBe_71 : decode cX0_canBe 71 = .ok (.getfield 186, 3) := dk_180 0 186 (dk_at dksX0_canBe_3 0 rfl rfl)
theorem dX0_canBe_74 : decode cX0_canBe 74 = .ok (.iload 5, 2) := dk_21 5 (dk_at dksX0_canBe_3 3 rfl rfl)
theorem dX0_canBe_76 : decode cX0_canBe 76 = .ok (.iaload, 1) := dk_46 (dk_at dksX0_canBe_3 5 rfl rfl)
theorem dX0_canBe_77 : decode cX0_canBe 77 = .ok (.iastore, 1) := dk_79 (dk_at dksX0_canBe_3 6 rfl rfl)
theorem dX0_canBe_78 : decode cX0_canBe 78 = .ok (.iinc 5 1, 3) := dk_132 5 1 (dk_at dksX0_canBe_3 7 rfl rfl)
theorem dX0_canBe_81 : decode cX0_canBe 81 = .ok (.goto (-34), 3) := dk_167 255 222 (dk_at dksX0_canBe_3 10 rfl rfl)
theorem dX0_canBe_84 : decode cX0_canBe 84 = .ok (.iconst 0, 1) := dk_3 (dk_at dksX0_canBe_3 13 rfl rfl)
theorem dX0_canBe_85 : decode cX0_canBe 85 = .ok (.istore 5, 2) := dk_54 5 (dk_at dksX0_canBe_3 14 rfl rfl)
theorem dX0_canBe_87 : decode cX0_canBe 87 = .ok (.iload 5, 2) := dk_21 5 (dk_at dksX0_canBe_3 16 rfl rfl)
theorem dX0_canBe_89 : decode cX0_canBe 89 = .ok (.aload_n 0, 1) := dk_42 (dk_at dksX0_canBe_3 18 rfl rfl)
theorem dX0_canBe_90 : decode cX0_canBe 90 = .ok (.getfield 142, 3) := dk_180 0 142 (dk_at dksX0_canBe_3 19 rfl rfl)
theorem dX0_canBe_93 : decode cX0_canBe 93 = .ok (.if_icmp .ge 54, 3) := dk_162 0 54 (dk_at dksX0_canBe_4 0 rfl rfl)
theorem dX0_canBe_96 : decode cX0_canBe 96 = .ok (.iload_n 3, 1) := dk_29 (dk_at dksX0_canBe_4 3 rfl rfl)
theorem dX0_canBe_97 : decode cX0_canBe 97 = .ok (.aload_n 0, 1) := dk_42 (dk_at dksX0_canBe_4 4 rfl rfl)
theorem dX0_canBe_98 : decode cX0_canBe 98 = .ok (.getfield 81, 3) := dk_180 0 81 (dk_at dksX0_canBe_4 5 rfl rfl)
theorem dX0_canBe_101 : decode cX0_canBe 101 = .ok (.iload 5, 2) := dk_21 5 (dk_at dksX0_canBe_4 8 rfl rfl)
theorem dX0_canBe_103 : decode cX0_canBe 103 = .ok (.iaload, 1) := dk_46 (dk_at dksX0_canBe_4 10 rfl rfl)
theorem dX0_canBe_104 : decode cX0_canBe 104 = .ok (.iload 4, 2) := dk_21 4 (dk_at dksX0_canBe_4 11 rfl rfl)
theorem dX0_canBe_106 : decode cX0_canBe 106 = .ok (.if_icmp .ne 32, 3) := dk_160 0 32 (dk_at dksX0_canBe_4 13 rfl rfl)
theorem dX0_canBe_109 : decode cX0_canBe 109 = .ok (.aload_n 0, 1) := dk_42 (dk_at dksX0_canBe_4 16 rfl rfl)
theorem dX0_canBe_110 : decode cX0_canBe 110 = .ok (.getfield 73, 3) := dk_180 0 73 (dk_at dksX0_canBe_4 17 rfl rfl)
theorem dX0_canBe_113 : decode cX0_canBe 113 = .ok (.getfield 186, 3) := dk_180 0 186 (dk_at dksX0_canBe_4 20 rfl rfl)
theorem dX0_canBe_116 : decode cX0_canBe 116 = .ok (.aload_n 0, 1) := dk_42 (dk_at dksX0_canBe_4 23 rfl rfl)
theorem dX0_canBe_117 : decode cX0_canBe 117 = .ok (.getfield 84, 3) := dk_180 0 84 (dk_at dksX0_canBe_5 0 rfl rfl)
theorem dX0_canBe_120 : decode cX0_canBe 120 = .ok (.iload 5, 2) := dk_21 5 (dk_at dksX0_canBe_5 3 rfl rfl)
theorem dX0_canBe_122 : decode cX0_canBe 122 = .ok (.iaload, 1) := dk_46 (dk_at dksX0_canBe_5 5 rfl rfl)
theorem dX0_canBe_123 : decode cX0_canBe 123 = .ok (.iaload, 1) := dk_46 (dk_at dksX0_canBe_5 6 rfl rfl)
theorem dX0_canBe_124 : decode cX0_canBe 124 = .ok (.aload_n 0, 1) := dk_42 (dk_at dksX0_canBe_5 7 rfl rfl)
theorem dX0_canBe_125 : decode cX0_canBe 125 = .ok (.getfield 87, 3) := dk_180 0 87 (dk_at dksX0_canBe_5 8 rfl rfl)
theorem dX0_canBe_128 : decode cX0_canBe 128 = .ok (.iload 5, 2) := dk_21 5 (dk_at dksX0_canBe_5 11 rfl rfl)
theorem dX0_canBe_130 : decode cX0_canBe 130 = .ok (.iaload, 1) := dk_46 (dk_at dksX0_canBe_5 13 rfl rfl)
theorem dX0_canBe_131 : decode cX0_canBe 131 = .ok (.if_icmp .ne 7, 3) := dk_160 0 7 (dk_at dksX0_canBe_5 14 rfl rfl)
theorem dX0_canBe_134 : decode cX0_canBe 134 = .ok (.iconst 1, 1) := dk_4 (dk_at dksX0_canBe_5 17 rfl rfl)
theorem dX0_canBe_135 : decode cX0_canBe 135 = .ok (.goto 4, 3) := dk_167 0 4 (dk_at dksX0_canBe_5 18 rfl rfl)
theorem dX0_canBe_138 : decode cX0_canBe 138 = .ok (.iconst 0, 1) := dk_3 (dk_at dksX0_canBe_5 21 rfl rfl)
theorem dX0_canBe_139 : decode cX0_canBe 139 = .ok (.iadd, 1) := dk_96 (dk_at dksX0_canBe_5 22 rfl rfl)
theorem dX0_canBe_140 : decode cX0_canBe 140 = .ok (.istore_n 3, 1) := dk_62 (dk_at dksX0_canBe_5 23 rfl rfl)
theorem dX0_canBe_141 : decode cX0_canBe 141 = .ok (.iinc 5 1, 3) := dk_132 5 1 (dk_at dksX0_canBe_6 0 rfl rfl)
theorem dX0_canBe_144 : decode cX0_canBe 144 = .ok (.goto (-57), 3) := dk_167 255 199 (dk_at dksX0_canBe_6 3 rfl rfl)
theorem dX0_canBe_147 : decode cX0_canBe 147 = .ok (.iinc 4 1, 3) := dk_132 4 1 (dk_at dksX0_canBe_6 6 rfl rfl)
theorem dX0_canBe_150 : decode cX0_canBe 150 = .ok (.goto (-128), 3) := dk_167 255 128 (dk_at dksX0_canBe_6 9 rfl rfl)
theorem dX0_canBe_153 : decode cX0_canBe 153 = .ok (.iload_n 3, 1) := dk_29 (dk_at dksX0_canBe_6 12 rfl rfl)
theorem dX0_canBe_154 : decode cX0_canBe 154 = .ok (.aload_n 0, 1) := dk_42 (dk_at dksX0_canBe_6 13 rfl rfl)
theorem dX0_canBe_155 : decode cX0_canBe 155 = .ok (.getfield 142, 3) := dk_180 0 142 (dk_at dksX0_canBe_6 14 rfl rfl)
theorem dX0_canBe_158 : decode cX0_canBe 158 = .ok (.if_icmp .ne 7, 3) := dk_160 0 7 (dk_at dksX0_canBe_6 17 rfl rfl)
theorem dX0_canBe_161 : decode cX0_canBe 161 = .ok (.iconst 1, 1) := dk_4 (dk_at dksX0_canBe_6 20 rfl rfl)
theorem dX0_canBe_162 : decode cX0_canBe 162 = .ok (.goto 4, 3) := dk_167 0 4 (dk_at dksX0_canBe_6 21 rfl rfl)
theorem dX0_canBe_165 : decode cX0_canBe 165 = .ok (.iconst 0, 1) := dk_3 (dk_at dksX0_canBe_7 0 rfl rfl)
theorem dX0_canBe_166 : decode cX0_canBe 166 = .ok (.ireturn, 1) := dk_172 (dk_at dksX0_canBe_7 1 rfl rfl)
abbrev cX0_tells : ByteArray := prog_1_method_48_code
def yX0_tells : MethodName := ⟨RX0, "tells", "(II)I"⟩
def dkwX0_tells_5 : List UInt8 := [21, 4, 6, 108, 167, 0, 17, 28, 4, 160, 0, 10, 21, 4, 6, 112, 167, 0, 5, 21, 5, 172]
abbrev dktX0_tells_5 : List UInt8 := dkwX0_tells_5 ++ []
def dkwX0_tells_4 : List UInt8 := [167, 255, 210, 132, 6, 1, 167, 255, 187, 21, 4, 2, 160, 0, 7, 2, 167, 0, 28, 28, 154, 0, 10]
abbrev dktX0_tells_4 : List UInt8 := dkwX0_tells_4 ++ dktX0_tells_5
def dkwX0_tells_3 : List UInt8 := [21, 5, 161, 0, 6, 167, 0, 16, 21, 8, 54, 5, 6, 21, 6, 104, 21, 7, 96, 54, 4, 132, 7, 1]
abbrev dktX0_tells_3 : List UInt8 := dkwX0_tells_3 ++ dktX0_tells_4
def dkwX0_tells_2 : List UInt8 := [54, 7, 21, 7, 42, 182, 0, 167, 162, 0, 43, 42, 29, 21, 6, 21, 7, 182, 1, 55, 54, 8, 21, 8]
abbrev dktX0_tells_2 : List UInt8 := dkwX0_tells_2 ++ dktX0_tells_3
def dkwX0_tells_1 : List UInt8 := [19, 1, 35, 54, 5, 3, 54, 6, 42, 21, 6, 4, 96, 4, 16, 31, 182, 1, 5, 153, 0, 61, 3]
abbrev dktX0_tells_1 : List UInt8 := dkwX0_tells_1 ++ dktX0_tells_2
def dkwX0_tells_0 : List UInt8 := [42, 27, 182, 1, 52, 62, 29, 158, 0, 12, 28, 3, 5, 184, 0, 195, 154, 0, 5, 2, 172, 2, 54, 4]
abbrev dktX0_tells_0 : List UInt8 := dkwX0_tells_0 ++ dktX0_tells_1
theorem dksX0_tells_0 : cX0_tells.data.toList.drop 0 = dktX0_tells_0 := by decide +kernel
theorem dksX0_tells_1 : cX0_tells.data.toList.drop 24 = dktX0_tells_1 := dk_seg dksX0_tells_0 24 rfl rfl
theorem dksX0_tells_2 : cX0_tells.data.toList.drop 47 = dktX0_tells_2 := dk_seg dksX0_tells_1 23 rfl rfl
theorem dksX0_tells_3 : cX0_tells.data.toList.drop 71 = dktX0_tells_3 := dk_seg dksX0_tells_2 24 rfl rfl
theorem dksX0_tells_4 : cX0_tells.data.toList.drop 95 = dktX0_tells_4 := dk_seg dksX0_tells_3 24 rfl rfl
theorem dksX0_tells_5 : cX0_tells.data.toList.drop 118 = dktX0_tells_5 := dk_seg dksX0_tells_4 23 rfl rfl
theorem dX0_tells_0 : decode cX0_tells 0 = .ok (.aload_n 0, 1) := dk_42 (dk_at dksX0_tells_0 0 rfl rfl)
theorem dX0_tells_1 : decode cX0_tells 1 = .ok (.iload_n 1, 1) := dk_27 (dk_at dksX0_tells_0 1 rfl rfl)
theorem dX0_tells_2 : decode cX0_tells 2 = .ok (.invokevirtual 308, 3) := dk_182 1 52 (dk_at dksX0_tells_0 2 rfl rfl)
theorem dX0_tells_5 : decode cX0_tells 5 = .ok (.istore_n 3, 1) := dk_62 (dk_at dksX0_tells_0 5 rfl rfl)
theorem dX0_tells_6 : decode cX0_tells 6 = .ok (.iload_n 3, 1) := dk_29 (dk_at dksX0_tells_0 6 rfl rfl)
theorem dX0_tells_7 : decode cX0_tells 7 = .ok (.ifCond .le 12, 3) := dk_158 0 12 (dk_at dksX0_tells_0 7 rfl rfl)
theorem dX0_tells_10 : decode cX0_tells 10 = .ok (.iload_n 2, 1) := dk_28 (dk_at dksX0_tells_0 10 rfl rfl)
theorem dX0_tells_11 : decode cX0_tells 11 = .ok (.iconst 0, 1) := dk_3 (dk_at dksX0_tells_0 11 rfl rfl)
theorem dX0_tells_12 : decode cX0_tells 12 = .ok (.iconst 2, 1) := dk_5 (dk_at dksX0_tells_0 12 rfl rfl)
theorem dX0_tells_13 : decode cX0_tells 13 = .ok (.invokestatic 195, 3) := dk_184 0 195 (dk_at dksX0_tells_0 13 rfl rfl)
theorem dX0_tells_16 : decode cX0_tells 16 = .ok (.ifCond .ne 5, 3) := dk_154 0 5 (dk_at dksX0_tells_0 16 rfl rfl)
theorem dX0_tells_19 : decode cX0_tells 19 = .ok (.iconst (-1), 1) := dk_2 (dk_at dksX0_tells_0 19 rfl rfl)
theorem dX0_tells_20 : decode cX0_tells 20 = .ok (.ireturn, 1) := dk_172 (dk_at dksX0_tells_0 20 rfl rfl)
theorem dX0_tells_21 : decode cX0_tells 21 = .ok (.iconst (-1), 1) := dk_2 (dk_at dksX0_tells_0 21 rfl rfl)
theorem dX0_tells_22 : decode cX0_tells 22 = .ok (.istore 4, 2) := dk_54 4 (dk_at dksX0_tells_0 22 rfl rfl)
theorem dX0_tells_24 : decode cX0_tells 24 = .ok (.ldc_w 291, 3) := dk_19 1 35 (dk_at dksX0_tells_1 0 rfl rfl)
theorem dX0_tells_27 : decode cX0_tells 27 = .ok (.istore 5, 2) := dk_54 5 (dk_at dksX0_tells_1 3 rfl rfl)
theorem dX0_tells_29 : decode cX0_tells 29 = .ok (.iconst 0, 1) := dk_3 (dk_at dksX0_tells_1 5 rfl rfl)
theorem dX0_tells_30 : decode cX0_tells 30 = .ok (.istore 6, 2) := dk_54 6 (dk_at dksX0_tells_1 6 rfl rfl)
theorem dX0_tells_32 : decode cX0_tells 32 = .ok (.aload_n 0, 1) := dk_42 (dk_at dksX0_tells_1 8 rfl rfl)
theorem dX0_tells_33 : decode cX0_tells 33 = .ok (.iload 6, 2) := dk_21 6 (dk_at dksX0_tells_1 9 rfl rfl)
theorem dX0_tells_35 : decode cX0_tells 35 = .ok (.iconst 1, 1) := dk_4 (dk_at dksX0_tells_1 11 rfl rfl)
theorem dX0_tells_36 : decode cX0_tells 36 = .ok (.iadd, 1) := dk_96 (dk_at dksX0_tells_1 12 rfl rfl)
theorem dX0_tells_37 : decode cX0_tells 37 = .ok (.iconst 1, 1) := dk_4 (dk_at dksX0_tells_1 13 rfl rfl)
theorem dX0_tells_38 : decode cX0_tells 38 = .ok (.bipush 31, 2) := dk_16 31 (dk_at dksX0_tells_1 14 rfl rfl)
theorem dX0_tells_40 : decode cX0_tells 40 = .ok (.invokevirtual 261, 3) := dk_182 1 5 (dk_at dksX0_tells_1 16 rfl rfl)
theorem dX0_tells_43 : decode cX0_tells 43 = .ok (.ifCond .eq 61, 3) := dk_153 0 61 (dk_at dksX0_tells_1 19 rfl rfl)
theorem dX0_tells_46 : decode cX0_tells 46 = .ok (.iconst 0, 1) := dk_3 (dk_at dksX0_tells_1 22 rfl rfl)
theorem dX0_tells_47 : decode cX0_tells 47 = .ok (.istore 7, 2) := dk_54 7 (dk_at dksX0_tells_2 0 rfl rfl)
theorem dX0_tells_49 : decode cX0_tells 49 = .ok (.iload 7, 2) := dk_21 7 (dk_at dksX0_tells_2 2 rfl rfl)
theorem dX0_tells_51 : decode cX0_tells 51 = .ok (.aload_n 0, 1) := dk_42 (dk_at dksX0_tells_2 4 rfl rfl)
theorem dX0_tells_52 : decode cX0_tells 52 = .ok (.invokevirtual 167, 3) := dk_182 0 167 (dk_at dksX0_tells_2 5 rfl rfl)
theorem dX0_tells_55 : decode cX0_tells 55 = .ok (.if_icmp .ge 43, 3) := dk_162 0 43 (dk_at dksX0_tells_2 8 rfl rfl)
theorem dX0_tells_58 : decode cX0_tells 58 = .ok (.aload_n 0, 1) := dk_42 (dk_at dksX0_tells_2 11 rfl rfl)
theorem dX0_tells_59 : decode cX0_tells 59 = .ok (.iload_n 3, 1) := dk_29 (dk_at dksX0_tells_2 12 rfl rfl)
theorem dX0_tells_60 : decode cX0_tells 60 = .ok (.iload 6, 2) := dk_21 6 (dk_at dksX0_tells_2 13 rfl rfl)
theorem dX0_tells_62 : decode cX0_tells 62 = .ok (.iload 7, 2) := dk_21 7 (dk_at dksX0_tells_2 15 rfl rfl)
theorem dX0_tells_64 : decode cX0_tells 64 = .ok (.invokevirtual 311, 3) := dk_182 1 55 (dk_at dksX0_tells_2 17 rfl rfl)
theorem dX0_tells_67 : decode cX0_tells 67 = .ok (.istore 8, 2) := dk_54 8 (dk_at dksX0_tells_2 20 rfl rfl)
theorem dX0_tells_69 : decode cX0_tells 69 = .ok (.iload 8, 2) := dk_21 8 (dk_at dksX0_tells_2 22 rfl rfl)
theorem dX0_tells_71 : decode cX0_tells 71 = .ok (.iload 5, 2) := dk_21 5 (dk_at dksX0_tells_3 0 rfl rfl)
theorem dX0_tells_73 : decode cX0_tells 73 = .ok (.if_icmp .lt 6, 3) := dk_161 0 6 (dk_at dksX0_tells_3 2 rfl rfl)
theorem dX0_tells_76 : decode cX0_tells 76 = .ok (.goto 16, 3) := dk_167 0 16 (dk_at dksX0_tells_3 5 rfl rfl)
theorem dX0_tells_79 : decode cX0_tells 79 = .ok (.iload 8, 2) := dk_21 8 (dk_at dksX0_tells_3 8 rfl rfl)
theorem dX0_tells_81 : decode cX0_tells 81 = .ok (.istore 5, 2) := dk_54 5 (dk_at dksX0_tells_3 10 rfl rfl)
theorem dX0_tells_83 : decode cX0_tells 83 = .ok (.iconst 3, 1) := dk_6 (dk_at dksX0_tells_3 12 rfl rfl)
theorem dX0_tells_84 : decode cX0_tells 84 = .ok (.iload 6, 2) := dk_21 6 (dk_at dksX0_tells_3 13 rfl rfl)
theorem dX0_tells_86 : decode cX0_tells 86 = .ok (.imul, 1) := dk_104 (dk_at dksX0_tells_3 15 rfl rfl)
theorem dX0_tells_87 : decode cX0_tells 87 = .ok (.iload 7, 2) := dk_21 7 (dk_at dksX0_tells_3 16 rfl rfl)
theorem dX0_tells_89 : decode cX0_tells 89 = .ok (.iadd, 1) := dk_96 (dk_at dksX0_tells_3 18 rfl rfl)
theorem dX0_tells_90 : decode cX0_tells 90 = .ok (.istore 4, 2) := dk_54 4 (dk_at dksX0_tells_3 19 rfl rfl)
theorem dX0_tells_92 : decode cX0_tells 92 = .ok (.iinc 7 1, 3) := dk_132 7 1 (dk_at dksX0_tells_3 21 rfl rfl)
theorem dX0_tells_95 : decode cX0_tells 95 = .ok (.goto (-46), 3) := dk_167 255 210 (dk_at dksX0_tells_4 0 rfl rfl)
theorem dX0_tells_98 : decode cX0_tells 98 = .ok (.iinc 6 1, 3) := dk_132 6 1 (dk_at dksX0_tells_4 3 rfl rfl)
theorem dX0_tells_101 : decode cX0_tells 101 = .ok (.goto (-69), 3) := dk_167 255 187 (dk_at dksX0_tells_4 6 rfl rfl)
theorem dX0_tells_104 : decode cX0_tells 104 = .ok (.iload 4, 2) := dk_21 4 (dk_at dksX0_tells_4 9 rfl rfl)
theorem dX0_tells_106 : decode cX0_tells 106 = .ok (.iconst (-1), 1) := dk_2 (dk_at dksX0_tells_4 11 rfl rfl)
theorem dX0_tells_107 : decode cX0_tells 107 = .ok (.if_icmp .ne 7, 3) := dk_160 0 7 (dk_at dksX0_tells_4 12 rfl rfl)
theorem dX0_tells_110 : decode cX0_tells 110 = .ok (.iconst (-1), 1) := dk_2 (dk_at dksX0_tells_4 15 rfl rfl)
theorem dX0_tells_111 : decode cX0_tells 111 = .ok (.goto 28, 3) := dk_167 0 28 (dk_at dksX0_tells_4 16 rfl rfl)
theorem dX0_tells_114 : decode cX0_tells 114 = .ok (.iload_n 2, 1) := dk_28 (dk_at dksX0_tells_4 19 rfl rfl)
theorem dX0_tells_115 : decode cX0_tells 115 = .ok (.ifCond .ne 10, 3) := dk_154 0 10 (dk_at dksX0_tells_4 20 rfl rfl)
theorem dX0_tells_118 : decode cX0_tells 118 = .ok (.iload 4, 2) := dk_21 4 (dk_at dksX0_tells_5 0 rfl rfl)
theorem dX0_tells_120 : decode cX0_tells 120 = .ok (.iconst 3, 1) := dk_6 (dk_at dksX0_tells_5 2 rfl rfl)
theorem dX0_tells_121 : decode cX0_tells 121 = .ok (.idiv, 1) := dk_108 (dk_at dksX0_tells_5 3 rfl rfl)
theorem dX0_tells_122 : decode cX0_tells 122 = .ok (.goto 17, 3) := dk_167 0 17 (dk_at dksX0_tells_5 4 rfl rfl)
theorem dX0_tells_125 : decode cX0_tells 125 = .ok (.iload_n 2, 1) := dk_28 (dk_at dksX0_tells_5 7 rfl rfl)
theorem dX0_tells_126 : decode cX0_tells 126 = .ok (.iconst 1, 1) := dk_4 (dk_at dksX0_tells_5 8 rfl rfl)
theorem dX0_tells_127 : decode cX0_tells 127 = .ok (.if_icmp .ne 10, 3) := dk_160 0 10 (dk_at dksX0_tells_5 9 rfl rfl)
theorem dX0_tells_130 : decode cX0_tells 130 = .ok (.iload 4, 2) := dk_21 4 (dk_at dksX0_tells_5 12 rfl rfl)
theorem dX0_tells_132 : decode cX0_tells 132 = .ok (.iconst 3, 1) := dk_6 (dk_at dksX0_tells_5 14 rfl rfl)
theorem dX0_tells_133 : decode cX0_tells 133 = .ok (.irem, 1) := dk_112 (dk_at dksX0_tells_5 15 rfl rfl)
theorem dX0_tells_134 : decode cX0_tells 134 = .ok (.goto 5, 3) := dk_167 0 5 (dk_at dksX0_tells_5 16 rfl rfl)
theorem dX0_tells_137 : decode cX0_tells 137 = .ok (.iload 5, 2) := dk_21 5 (dk_at dksX0_tells_5 19 rfl rfl)
theorem dX0_tells_139 : decode cX0_tells 139 = .ok (.ireturn, 1) := dk_172 (dk_at dksX0_tells_5 21 rfl rfl)
abbrev cX0_mostBy : ByteArray := prog_1_method_47_code
def yX0_mostBy : MethodName := ⟨RX0, "mostBy", "(III)I"⟩
def dkwX0_mostBy_4 : List UInt8 := [132, 5, 1, 167, 255, 165, 21, 4, 172]
abbrev dktX0_mostBy_4 : List UInt8 := dkwX0_mostBy_4 ++ []
def dkwX0_mostBy_3 : List UInt8 := [4, 167, 0, 4, 3, 96, 54, 6, 132, 7, 1, 167, 255, 193, 21, 4, 21, 6, 184, 1, 49, 54, 4]
abbrev dktX0_mostBy_3 : List UInt8 := dkwX0_mostBy_3 ++ dktX0_mostBy_4
def dkwX0_mostBy_2 : List UInt8 := [180, 0, 92, 21, 5, 50, 28, 50, 29, 46, 42, 180, 0, 92, 21, 7, 50, 28, 50, 29, 46, 160, 0, 7]
abbrev dktX0_mostBy_2 : List UInt8 := dkwX0_mostBy_2 ++ dktX0_mostBy_3
def dkwX0_mostBy_1 : List UInt8 := [162, 0, 62, 21, 6, 27, 21, 5, 184, 1, 22, 153, 0, 41, 27, 21, 7, 184, 1, 22, 153, 0, 32, 42]
abbrev dktX0_mostBy_1 : List UInt8 := dkwX0_mostBy_1 ++ dktX0_mostBy_2
def dkwX0_mostBy_0 : List UInt8 := [3, 54, 4, 3, 54, 5, 21, 5, 16, 10, 162, 0, 90, 3, 54, 6, 3, 54, 7, 21, 7, 16, 10]
abbrev dktX0_mostBy_0 : List UInt8 := dkwX0_mostBy_0 ++ dktX0_mostBy_1
theorem dksX0_mostBy_0 : cX0_mostBy.data.toList.drop 0 = dktX0_mostBy_0 := by decide +kernel
theorem dksX0_mostBy_1 : cX0_mostBy.data.toList.drop 23 = dktX0_mostBy_1 := dk_seg dksX0_mostBy_0 23 rfl rfl
theorem dksX0_mostBy_2 : cX0_mostBy.data.toList.drop 47 = dktX0_mostBy_2 := dk_seg dksX0_mostBy_1 24 rfl rfl
theorem dksX0_mostBy_3 : cX0_mostBy.data.toList.drop 71 = dktX0_mostBy_3 := dk_seg dksX0_mostBy_2 24 rfl rfl
theorem dksX0_mostBy_4 : cX0_mostBy.data.toList.drop 94 = dktX0_mostBy_4 := dk_seg dksX0_mostBy_3 23 rfl rfl
theorem dX0_mostBy_0 : decode cX0_mostBy 0 = .ok (.iconst 0, 1) := dk_3 (dk_at dksX0_mostBy_0 0 rfl rfl)
theorem dX0_mostBy_1 : decode cX0_mostBy 1 = .ok (.istore 4, 2) := dk_54 4 (dk_at dksX0_mostBy_0 1 rfl rfl)
theorem dX0_mostBy_3 : decode cX0_mostBy 3 = .ok (.iconst 0, 1) := dk_3 (dk_at dksX0_mostBy_0 3 rfl rfl)
theorem dX0_mostBy_4 : decode cX0_mostBy 4 = .ok (.istore 5, 2) := dk_54 5 (dk_at dksX0_mostBy_0 4 rfl rfl)
theorem dX0_mostBy_6 : decode cX0_mostBy 6 = .ok (.iload 5, 2) := dk_21 5 (dk_at dksX0_mostBy_0 6 rfl rfl)
theorem dX0_mostBy_8 : decode cX0_mostBy 8 = .ok (.bipush 10, 2) := dk_16 10 (dk_at dksX0_mostBy_0 8 rfl rfl)
theorem dX0_mostBy_10 : decode cX0_mostBy 10 = .ok (.if_icmp .ge 90, 3) := dk_162 0 90 (dk_at dksX0_mostBy_0 10 rfl rfl)
theorem dX0_mostBy_13 : decode cX0_mostBy 13 = .ok (.iconst 0, 1) := dk_3 (dk_at dksX0_mostBy_0 13 rfl rfl)
theorem dX0_mostBy_14 : decode cX0_mostBy 14 = .ok (.istore 6, 2) := dk_54 6 (dk_at dksX0_mostBy_0 14 rfl rfl)
theorem dX0_mostBy_16 : decode cX0_mostBy 16 = .ok (.iconst 0, 1) := dk_3 (dk_at dksX0_mostBy_0 16 rfl rfl)
theorem dX0_mostBy_17 : decode cX0_mostBy 17 = .ok (.istore 7, 2) := dk_54 7 (dk_at dksX0_mostBy_0 17 rfl rfl)
theorem dX0_mostBy_19 : decode cX0_mostBy 19 = .ok (.iload 7, 2) := dk_21 7 (dk_at dksX0_mostBy_0 19 rfl rfl)
theorem dX0_mostBy_21 : decode cX0_mostBy 21 = .ok (.bipush 10, 2) := dk_16 10 (dk_at dksX0_mostBy_0 21 rfl rfl)
theorem dX0_mostBy_23 : decode cX0_mostBy 23 = .ok (.if_icmp .ge 62, 3) := dk_162 0 62 (dk_at dksX0_mostBy_1 0 rfl rfl)
theorem dX0_mostBy_26 : decode cX0_mostBy 26 = .ok (.iload 6, 2) := dk_21 6 (dk_at dksX0_mostBy_1 3 rfl rfl)
theorem dX0_mostBy_28 : decode cX0_mostBy 28 = .ok (.iload_n 1, 1) := dk_27 (dk_at dksX0_mostBy_1 5 rfl rfl)
theorem dX0_mostBy_29 : decode cX0_mostBy 29 = .ok (.iload 5, 2) := dk_21 5 (dk_at dksX0_mostBy_1 6 rfl rfl)
theorem dX0_mostBy_31 : decode cX0_mostBy 31 = .ok (.invokestatic 278, 3) := dk_184 1 22 (dk_at dksX0_mostBy_1 8 rfl rfl)
theorem dX0_mostBy_34 : decode cX0_mostBy 34 = .ok (.ifCond .eq 41, 3) := dk_153 0 41 (dk_at dksX0_mostBy_1 11 rfl rfl)
theorem dX0_mostBy_37 : decode cX0_mostBy 37 = .ok (.iload_n 1, 1) := dk_27 (dk_at dksX0_mostBy_1 14 rfl rfl)
theorem dX0_mostBy_38 : decode cX0_mostBy 38 = .ok (.iload 7, 2) := dk_21 7 (dk_at dksX0_mostBy_1 15 rfl rfl)
theorem dX0_mostBy_40 : decode cX0_mostBy 40 = .ok (.invokestatic 278, 3) := dk_184 1 22 (dk_at dksX0_mostBy_1 17 rfl rfl)
theorem dX0_mostBy_43 : decode cX0_mostBy 43 = .ok (.ifCond .eq 32, 3) := dk_153 0 32 (dk_at dksX0_mostBy_1 20 rfl rfl)
theorem dX0_mostBy_46 : decode cX0_mostBy 46 = .ok (.aload_n 0, 1) := dk_42 (dk_at dksX0_mostBy_1 23 rfl rfl)
theorem dX0_mostBy_47 : decode cX0_mostBy 47 = .ok (.getfield 92, 3) := dk_180 0 92 (dk_at dksX0_mostBy_2 0 rfl rfl)
theorem dX0_mostBy_50 : decode cX0_mostBy 50 = .ok (.iload 5, 2) := dk_21 5 (dk_at dksX0_mostBy_2 3 rfl rfl)
theorem dX0_mostBy_52 : decode cX0_mostBy 52 = .ok (.aaload, 1) := dk_50 (dk_at dksX0_mostBy_2 5 rfl rfl)
theorem dX0_mostBy_53 : decode cX0_mostBy 53 = .ok (.iload_n 2, 1) := dk_28 (dk_at dksX0_mostBy_2 6 rfl rfl)
theorem dX0_mostBy_54 : decode cX0_mostBy 54 = .ok (.aaload, 1) := dk_50 (dk_at dksX0_mostBy_2 7 rfl rfl)
theorem dX0_mostBy_55 : decode cX0_mostBy 55 = .ok (.iload_n 3, 1) := dk_29 (dk_at dksX0_mostBy_2 8 rfl rfl)
theorem dX0_mostBy_56 : decode cX0_mostBy 56 = .ok (.iaload, 1) := dk_46 (dk_at dksX0_mostBy_2 9 rfl rfl)
theorem dX0_mostBy_57 : decode cX0_mostBy 57 = .ok (.aload_n 0, 1) := dk_42 (dk_at dksX0_mostBy_2 10 rfl rfl)
theorem dX0_mostBy_58 : decode cX0_mostBy 58 = .ok (.getfield 92, 3) := dk_180 0 92 (dk_at dksX0_mostBy_2 11 rfl rfl)
theorem dX0_mostBy_61 : decode cX0_mostBy 61 = .ok (.iload 7, 2) := dk_21 7 (dk_at dksX0_mostBy_2 14 rfl rfl)
theorem dX0_mostBy_63 : decode cX0_mostBy 63 = .ok (.aaload, 1) := dk_50 (dk_at dksX0_mostBy_2 16 rfl rfl)
theorem dX0_mostBy_64 : decode cX0_mostBy 64 = .ok (.iload_n 2, 1) := dk_28 (dk_at dksX0_mostBy_2 17 rfl rfl)
theorem dX0_mostBy_65 : decode cX0_mostBy 65 = .ok (.aaload, 1) := dk_50 (dk_at dksX0_mostBy_2 18 rfl rfl)
theorem dX0_mostBy_66 : decode cX0_mostBy 66 = .ok (.iload_n 3, 1) := dk_29 (dk_at dksX0_mostBy_2 19 rfl rfl)
theorem dX0_mostBy_67 : decode cX0_mostBy 67 = .ok (.iaload, 1) := dk_46 (dk_at dksX0_mostBy_2 20 rfl rfl)
theorem dX0_mostBy_68 : decode cX0_mostBy 68 = .ok (.if_icmp .ne 7, 3) := dk_160 0 7 (dk_at dksX0_mostBy_2 21 rfl rfl)
theorem dX0_mostBy_71 : decode cX0_mostBy 71 = .ok (.iconst 1, 1) := dk_4 (dk_at dksX0_mostBy_3 0 rfl rfl)
theorem dX0_mostBy_72 : decode cX0_mostBy 72 = .ok (.goto 4, 3) := dk_167 0 4 (dk_at dksX0_mostBy_3 1 rfl rfl)
theorem dX0_mostBy_75 : decode cX0_mostBy 75 = .ok (.iconst 0, 1) := dk_3 (dk_at dksX0_mostBy_3 4 rfl rfl)
theorem dX0_mostBy_76 : decode cX0_mostBy 76 = .ok (.iadd, 1) := dk_96 (dk_at dksX0_mostBy_3 5 rfl rfl)
theorem dX0_mostBy_77 : decode cX0_mostBy 77 = .ok (.istore 6, 2) := dk_54 6 (dk_at dksX0_mostBy_3 6 rfl rfl)
theorem dX0_mostBy_79 : decode cX0_mostBy 79 = .ok (.iinc 7 1, 3) := dk_132 7 1 (dk_at dksX0_mostBy_3 8 rfl rfl)
theorem dX0_mostBy_82 : decode cX0_mostBy 82 = .ok (.goto (-63), 3) := dk_167 255 193 (dk_at dksX0_mostBy_3 11 rfl rfl)
theorem dX0_mostBy_85 : decode cX0_mostBy 85 = .ok (.iload 4, 2) := dk_21 4 (dk_at dksX0_mostBy_3 14 rfl rfl)
theorem dX0_mostBy_87 : decode cX0_mostBy 87 = .ok (.iload 6, 2) := dk_21 6 (dk_at dksX0_mostBy_3 16 rfl rfl)
theorem dX0_mostBy_89 : decode cX0_mostBy 89 = .ok (.invokestatic 305, 3) := dk_184 1 49 (dk_at dksX0_mostBy_3 18 rfl rfl)
theorem dX0_mostBy_92 : decode cX0_mostBy 92 = .ok (.istore 4, 2) := dk_54 4 (dk_at dksX0_mostBy_3 21 rfl rfl)
theorem dX0_mostBy_94 : decode cX0_mostBy 94 = .ok (.iinc 5 1, 3) := dk_132 5 1 (dk_at dksX0_mostBy_4 0 rfl rfl)
theorem dX0_mostBy_97 : decode cX0_mostBy 97 = .ok (.goto (-91), 3) := dk_167 255 165 (dk_at dksX0_mostBy_4 3 rfl rfl)
theorem dX0_mostBy_100 : decode cX0_mostBy 100 = .ok (.iload 4, 2) := dk_21 4 (dk_at dksX0_mostBy_4 6 rfl rfl)
theorem dX0_mostBy_102 : decode cX0_mostBy 102 = .ok (.ireturn, 1) := dk_172 (dk_at dksX0_mostBy_4 8 rfl rfl)
abbrev cX0_undo : ByteArray := prog_1_method_50_code
def yX0_undo : MethodName := ⟨RX0, "undo", "()Z"⟩
def dkwX0_undo_2 : List UInt8 := [87, 4, 172]
abbrev dktX0_undo_2 : List UInt8 := dkwX0_undo_2 ++ []
def dkwX0_undo_1 : List UInt8 := [180, 0, 139, 4, 100, 181, 0, 139, 42, 180, 0, 69, 42, 180, 0, 95, 42, 180, 0, 139, 50, 182, 1, 8]
abbrev dktX0_undo_1 : List UInt8 := dkwX0_undo_1 ++ dktX0_undo_2
def dkwX0_undo_0 : List UInt8 := [42, 180, 0, 139, 154, 0, 17, 42, 7, 182, 0, 109, 155, 0, 7, 4, 167, 0, 4, 3, 172, 42, 89]
abbrev dktX0_undo_0 : List UInt8 := dkwX0_undo_0 ++ dktX0_undo_1
theorem dksX0_undo_0 : cX0_undo.data.toList.drop 0 = dktX0_undo_0 := by decide +kernel
theorem dksX0_undo_1 : cX0_undo.data.toList.drop 23 = dktX0_undo_1 := dk_seg dksX0_undo_0 23 rfl rfl
theorem dksX0_undo_2 : cX0_undo.data.toList.drop 47 = dktX0_undo_2 := dk_seg dksX0_undo_1 24 rfl rfl
theorem dX0_undo_0 : decode cX0_undo 0 = .ok (.aload_n 0, 1) := dk_42 (dk_at dksX0_undo_0 0 rfl rfl)
theorem dX0_undo_1 : decode cX0_undo 1 = .ok (.getfield 139, 3) := dk_180 0 139 (dk_at dksX0_undo_0 1 rfl rfl)
theorem dX0_undo_4 : decode cX0_undo 4 = .ok (.ifCond .ne 17, 3) := dk_154 0 17 (dk_at dksX0_undo_0 4 rfl rfl)
theorem dX0_undo_7 : decode cX0_undo 7 = .ok (.aload_n 0, 1) := dk_42 (dk_at dksX0_undo_0 7 rfl rfl)
theorem dX0_undo_8 : decode cX0_undo 8 = .ok (.iconst 4, 1) := dk_7 (dk_at dksX0_undo_0 8 rfl rfl)
theorem dX0_undo_9 : decode cX0_undo 9 = .ok (.invokevirtual 109, 3) := dk_182 0 109 (dk_at dksX0_undo_0 9 rfl rfl)
theorem dX0_undo_12 : decode cX0_undo 12 = .ok (.ifCond .lt 7, 3) := dk_155 0 7 (dk_at dksX0_undo_0 12 rfl rfl)
theorem dX0_undo_15 : decode cX0_undo 15 = .ok (.iconst 1, 1) := dk_4 (dk_at dksX0_undo_0 15 rfl rfl)
theorem dX0_undo_16 : decode cX0_undo 16 = .ok (.goto 4, 3) := dk_167 0 4 (dk_at dksX0_undo_0 16 rfl rfl)
theorem dX0_undo_19 : decode cX0_undo 19 = .ok (.iconst 0, 1) := dk_3 (dk_at dksX0_undo_0 19 rfl rfl)
theorem dX0_undo_20 : decode cX0_undo 20 = .ok (.ireturn, 1) := dk_172 (dk_at dksX0_undo_0 20 rfl rfl)
theorem dX0_undo_21 : decode cX0_undo 21 = .ok (.aload_n 0, 1) := dk_42 (dk_at dksX0_undo_0 21 rfl rfl)
theorem dX0_undo_22 : decode cX0_undo 22 = .ok (.dup, 1) := dk_89 (dk_at dksX0_undo_0 22 rfl rfl)
theorem dX0_undo_23 : decode cX0_undo 23 = .ok (.getfield 139, 3) := dk_180 0 139 (dk_at dksX0_undo_1 0 rfl rfl)
theorem dX0_undo_26 : decode cX0_undo 26 = .ok (.iconst 1, 1) := dk_4 (dk_at dksX0_undo_1 3 rfl rfl)
theorem dX0_undo_27 : decode cX0_undo 27 = .ok (.isub, 1) := dk_100 (dk_at dksX0_undo_1 4 rfl rfl)
theorem dX0_undo_28 : decode cX0_undo 28 = .ok (.putfield 139, 3) := dk_181 0 139 (dk_at dksX0_undo_1 5 rfl rfl)
theorem dX0_undo_31 : decode cX0_undo 31 = .ok (.aload_n 0, 1) := dk_42 (dk_at dksX0_undo_1 8 rfl rfl)
theorem dX0_undo_32 : decode cX0_undo 32 = .ok (.getfield 69, 3) := dk_180 0 69 (dk_at dksX0_undo_1 9 rfl rfl)
theorem dX0_undo_35 : decode cX0_undo 35 = .ok (.aload_n 0, 1) := dk_42 (dk_at dksX0_undo_1 12 rfl rfl)
theorem dX0_undo_36 : decode cX0_undo 36 = .ok (.getfield 95, 3) := dk_180 0 95 (dk_at dksX0_undo_1 13 rfl rfl)
theorem dX0_undo_39 : decode cX0_undo 39 = .ok (.aload_n 0, 1) := dk_42 (dk_at dksX0_undo_1 16 rfl rfl)
theorem dX0_undo_40 : decode cX0_undo 40 = .ok (.getfield 139, 3) := dk_180 0 139 (dk_at dksX0_undo_1 17 rfl rfl)
theorem dX0_undo_43 : decode cX0_undo 43 = .ok (.aaload, 1) := dk_50 (dk_at dksX0_undo_1 20 rfl rfl)
theorem dX0_undo_44 : decode cX0_undo 44 = .ok (.invokevirtual 264, 3) := dk_182 1 8 (dk_at dksX0_undo_1 21 rfl rfl)
theorem dX0_undo_47 : decode cX0_undo 47 = .ok (.pop, 1) := dk_87 (dk_at dksX0_undo_2 0 rfl rfl)
theorem dX0_undo_48 : decode cX0_undo 48 = .ok (.iconst 1, 1) := dk_4 (dk_at dksX0_undo_2 1 rfl rfl)
theorem dX0_undo_49 : decode cX0_undo 49 = .ok (.ireturn, 1) := dk_172 (dk_at dksX0_undo_2 2 rfl rfl)
abbrev cX0_sit : ByteArray := prog_1_method_51_code
def yX0_sit : MethodName := ⟨RX0, "sit", "(II)Z"⟩
def dkwX0_sit_4 : List UInt8 := [172]
abbrev dktX0_sit_4 : List UInt8 := dkwX0_sit_4 ++ []
def dkwX0_sit_3 : List UInt8 := [180, 0, 69, 180, 0, 236, 27, 28, 79, 28, 158, 0, 13, 42, 180, 0, 69, 180, 0, 239, 27, 3, 79, 4]
abbrev dktX0_sit_3 : List UInt8 := dkwX0_sit_3 ++ dktX0_sit_4
def dkwX0_sit_2 : List UInt8 := [154, 0, 17, 42, 5, 182, 0, 109, 155, 0, 7, 4, 167, 0, 4, 3, 172, 42, 182, 1, 59, 42]
abbrev dktX0_sit_2 : List UInt8 := dkwX0_sit_2 ++ dktX0_sit_3
def dkwX0_sit_1 : List UInt8 := [180, 0, 236, 27, 46, 28, 160, 0, 33, 28, 153, 0, 15, 42, 180, 0, 69, 180, 0, 239, 27, 46]
abbrev dktX0_sit_1 : List UInt8 := dkwX0_sit_1 ++ dktX0_sit_2
def dkwX0_sit_0 : List UInt8 := [42, 27, 182, 0, 226, 153, 0, 42, 28, 3, 16, 9, 184, 0, 195, 153, 0, 32, 42, 180, 0, 69]
abbrev dktX0_sit_0 : List UInt8 := dkwX0_sit_0 ++ dktX0_sit_1
theorem dksX0_sit_0 : cX0_sit.data.toList.drop 0 = dktX0_sit_0 := by decide +kernel
theorem dksX0_sit_1 : cX0_sit.data.toList.drop 22 = dktX0_sit_1 := dk_seg dksX0_sit_0 22 rfl rfl
theorem dksX0_sit_2 : cX0_sit.data.toList.drop 44 = dktX0_sit_2 := dk_seg dksX0_sit_1 22 rfl rfl
theorem dksX0_sit_3 : cX0_sit.data.toList.drop 66 = dktX0_sit_3 := dk_seg dksX0_sit_2 22 rfl rfl
theorem dksX0_sit_4 : cX0_sit.data.toList.drop 90 = dktX0_sit_4 := dk_seg dksX0_sit_3 24 rfl rfl
theorem dX0_sit_0 : decode cX0_sit 0 = .ok (.aload_n 0, 1) := dk_42 (dk_at dksX0_sit_0 0 rfl rfl)
theorem dX0_sit_1 : decode cX0_sit 1 = .ok (.iload_n 1, 1) := dk_27 (dk_at dksX0_sit_0 1 rfl rfl)
theorem dX0_sit_2 : decode cX0_sit 2 = .ok (.invokevirtual 226, 3) := dk_182 0 226 (dk_at dksX0_sit_0 2 rfl rfl)
theorem dX0_sit_5 : decode cX0_sit 5 = .ok (.ifCond .eq 42, 3) := dk_153 0 42 (dk_at dksX0_sit_0 5 rfl rfl)
theorem dX0_sit_8 : decode cX0_sit 8 = .ok (.iload_n 2, 1) := dk_28 (dk_at dksX0_sit_0 8 rfl rfl)
theorem dX0_sit_9 : decode cX0_sit 9 = .ok (.iconst 0, 1) := dk_3 (dk_at dksX0_sit_0 9 rfl rfl)
theorem dX0_sit_10 : decode cX0_sit 10 = .ok (.bipush 9, 2) := dk_16 9 (dk_at dksX0_sit_0 10 rfl rfl)
theorem dX0_sit_12 : decode cX0_sit 12 = .ok (.invokestatic 195, 3) := dk_184 0 195 (dk_at dksX0_sit_0 12 rfl rfl)
theorem dX0_sit_15 : decode cX0_sit 15 = .ok (.ifCond .eq 32, 3) := dk_153 0 32 (dk_at dksX0_sit_0 15 rfl rfl)
theorem dX0_sit_18 : decode cX0_sit 18 = .ok (.aload_n 0, 1) := dk_42 (dk_at dksX0_sit_0 18 rfl rfl)
theorem dX0_sit_19 : decode cX0_sit 19 = .ok (.getfield 69, 3) := dk_180 0 69 (dk_at dksX0_sit_0 19 rfl rfl)
theorem dX0_sit_22 : decode cX0_sit 22 = .ok (.getfield 236, 3) := dk_180 0 236 (dk_at dksX0_sit_1 0 rfl rfl)
theorem dX0_sit_25 : decode cX0_sit 25 = .ok (.iload_n 1, 1) := dk_27 (dk_at dksX0_sit_1 3 rfl rfl)
theorem dX0_sit_26 : decode cX0_sit 26 = .ok (.iaload, 1) := dk_46 (dk_at dksX0_sit_1 4 rfl rfl)
theorem dX0_sit_27 : decode cX0_sit 27 = .ok (.iload_n 2, 1) := dk_28 (dk_at dksX0_sit_1 5 rfl rfl)
theorem dX0_sit_28 : decode cX0_sit 28 = .ok (.if_icmp .ne 33, 3) := dk_160 0 33 (dk_at dksX0_sit_1 6 rfl rfl)
theorem dX0_sit_31 : decode cX0_sit 31 = .ok (.iload_n 2, 1) := dk_28 (dk_at dksX0_sit_1 9 rfl rfl)
theorem dX0_sit_32 : decode cX0_sit 32 = .ok (.ifCond .eq 15, 3) := dk_153 0 15 (dk_at dksX0_sit_1 10 rfl rfl)
theorem dX0_sit_35 : decode cX0_sit 35 = .ok (.aload_n 0, 1) := dk_42 (dk_at dksX0_sit_1 13 rfl rfl)
theorem dX0_sit_36 : decode cX0_sit 36 = .ok (.getfield 69, 3) := dk_180 0 69 (dk_at dksX0_sit_1 14 rfl rfl)
theorem dX0_sit_39 : decode cX0_sit 39 = .ok (.getfield 239, 3) := dk_180 0 239 (dk_at dksX0_sit_1 17 rfl rfl)
theorem dX0_sit_42 : decode cX0_sit 42 = .ok (.iload_n 1, 1) := dk_27 (dk_at dksX0_sit_1 20 rfl rfl)
theorem dX0_sit_43 : decode cX0_sit 43 = .ok (.iaload, 1) := dk_46 (dk_at dksX0_sit_1 21 rfl rfl)
theorem dX0_sit_44 : decode cX0_sit 44 = .ok (.ifCond .ne 17, 3) := dk_154 0 17 (dk_at dksX0_sit_2 0 rfl rfl)
theorem dX0_sit_47 : decode cX0_sit 47 = .ok (.aload_n 0, 1) := dk_42 (dk_at dksX0_sit_2 3 rfl rfl)
theorem dX0_sit_48 : decode cX0_sit 48 = .ok (.iconst 2, 1) := dk_5 (dk_at dksX0_sit_2 4 rfl rfl)
theorem dX0_sit_49 : decode cX0_sit 49 = .ok (.invokevirtual 109, 3) := dk_182 0 109 (dk_at dksX0_sit_2 5 rfl rfl)
theorem dX0_sit_52 : decode cX0_sit 52 = .ok (.ifCond .lt 7, 3) := dk_155 0 7 (dk_at dksX0_sit_2 8 rfl rfl)
theorem dX0_sit_55 : decode cX0_sit 55 = .ok (.iconst 1, 1) := dk_4 (dk_at dksX0_sit_2 11 rfl rfl)
theorem dX0_sit_56 : decode cX0_sit 56 = .ok (.goto 4, 3) := dk_167 0 4 (dk_at dksX0_sit_2 12 rfl rfl)
theorem dX0_sit_59 : decode cX0_sit 59 = .ok (.iconst 0, 1) := dk_3 (dk_at dksX0_sit_2 15 rfl rfl)
theorem dX0_sit_60 : decode cX0_sit 60 = .ok (.ireturn, 1) := dk_172 (dk_at dksX0_sit_2 16 rfl rfl)
theorem dX0_sit_61 : decode cX0_sit 61 = .ok (.aload_n 0, 1) := dk_42 (dk_at dksX0_sit_2 17 rfl rfl)
theorem dX0_sit_62 : decode cX0_sit 62 = .ok (.invokevirtual 315, 3) := dk_182 1 59 (dk_at dksX0_sit_2 18 rfl rfl)
theorem dX0_sit_65 : decode cX0_sit 65 = .ok (.aload_n 0, 1) := dk_42 (dk_at dksX0_sit_2 21 rfl rfl)
theorem dX0_sit_66 : decode cX0_sit 66 = .ok (.getfield 69, 3) := dk_180 0 69 (dk_at dksX0_sit_3 0 rfl rfl)
theorem dX0_sit_69 : decode cX0_sit 69 = .ok (.getfield 236, 3) := dk_180 0 236 (dk_at dksX0_sit_3 3 rfl rfl)
theorem dX0_sit_72 : decode cX0_sit 72 = .ok (.iload_n 1, 1) := dk_27 (dk_at dksX0_sit_3 6 rfl rfl)
theorem dX0_sit_73 : decode cX0_sit 73 = .ok (.iload_n 2, 1) := dk_28 (dk_at dksX0_sit_3 7 rfl rfl)
theorem dX0_sit_74 : decode cX0_sit 74 = .ok (.iastore, 1) := dk_79 (dk_at dksX0_sit_3 8 rfl rfl)
theorem dX0_sit_75 : decode cX0_sit 75 = .ok (.iload_n 2, 1) := dk_28 (dk_at dksX0_sit_3 9 rfl rfl)
theorem dX0_sit_76 : decode cX0_sit 76 = .ok (.ifCond .le 13, 3) := dk_158 0 13 (dk_at dksX0_sit_3 10 rfl rfl)
theorem dX0_sit_79 : decode cX0_sit 79 = .ok (.aload_n 0, 1) := dk_42 (dk_at dksX0_sit_3 13 rfl rfl)
theorem dX0_sit_80 : decode cX0_sit 80 = .ok (.getfield 69, 3) := dk_180 0 69 (dk_at dksX0_sit_3 14 rfl rfl)
theorem dX0_sit_83 : decode cX0_sit 83 = .ok (.getfield 239, 3) := dk_180 0 239 (dk_at dksX0_sit_3 17 rfl rfl)
theorem dX0_sit_86 : decode cX0_sit 86 = .ok (.iload_n 1, 1) := dk_27 (dk_at dksX0_sit_3 20 rfl rfl)
theorem dX0_sit_87 : decode cX0_sit 87 = .ok (.iconst 0, 1) := dk_3 (dk_at dksX0_sit_3 21 rfl rfl)
theorem dX0_sit_88 : decode cX0_sit 88 = .ok (.iastore, 1) := dk_79 (dk_at dksX0_sit_3 22 rfl rfl)
theorem dX0_sit_89 : decode cX0_sit 89 = .ok (.iconst 1, 1) := dk_4 (dk_at dksX0_sit_3 23 rfl rfl)
theorem dX0_sit_90 : decode cX0_sit 90 = .ok (.ireturn, 1) := dk_172 (dk_at dksX0_sit_4 0 rfl rfl)
abbrev cX0_remembers : ByteArray := prog_1_method_49_code
def yX0_remembers : MethodName := ⟨RX0, "remembers", "()V"⟩
def dkwX0_remembers_3 : List UInt8 := [180, 0, 69, 182, 1, 8, 87, 42, 89, 180, 0, 139, 4, 96, 181, 0, 139, 177]
abbrev dktX0_remembers_3 : List UInt8 := dkwX0_remembers_3 ++ []
def dkwX0_remembers_2 : List UInt8 := [16, 19, 43, 83, 42, 89, 180, 0, 139, 4, 100, 181, 0, 139, 42, 180, 0, 95, 42, 180, 0, 139, 50, 42]
abbrev dktX0_remembers_2 : List UInt8 := dkwX0_remembers_2 ++ dktX0_remembers_3
def dkwX0_remembers_1 : List UInt8 := [42, 180, 0, 95, 28, 4, 100, 42, 180, 0, 95, 28, 50, 83, 132, 2, 1, 167, 255, 233, 42, 180, 0, 95]
abbrev dktX0_remembers_1 : List UInt8 := dkwX0_remembers_1 ++ dktX0_remembers_2
def dkwX0_remembers_0 : List UInt8 := [42, 180, 0, 139, 16, 20, 160, 0, 56, 42, 180, 0, 95, 3, 50, 76, 4, 61, 28, 16, 20, 162, 0, 23]
abbrev dktX0_remembers_0 : List UInt8 := dkwX0_remembers_0 ++ dktX0_remembers_1
theorem dksX0_remembers_0 : cX0_remembers.data.toList.drop 0 = dktX0_remembers_0 := by decide +kernel
theorem dksX0_remembers_1 : cX0_remembers.data.toList.drop 24 = dktX0_remembers_1 := dk_seg dksX0_remembers_0 24 rfl rfl
theorem dksX0_remembers_2 : cX0_remembers.data.toList.drop 48 = dktX0_remembers_2 := dk_seg dksX0_remembers_1 24 rfl rfl
theorem dksX0_remembers_3 : cX0_remembers.data.toList.drop 72 = dktX0_remembers_3 := dk_seg dksX0_remembers_2 24 rfl rfl
theorem dX0_remembers_0 : decode cX0_remembers 0 = .ok (.aload_n 0, 1) := dk_42 (dk_at dksX0_remembers_0 0 rfl rfl)
theorem dX0_remembers_1 : decode cX0_remembers 1 = .ok (.getfield 139, 3) := dk_180 0 139 (dk_at dksX0_remembers_0 1 rfl rfl)
theorem dX0_remembers_4 : decode cX0_remembers 4 = .ok (.bipush 20, 2) := dk_16 20 (dk_at dksX0_remembers_0 4 rfl rfl)
theorem dX0_remembers_6 : decode cX0_remembers 6 = .ok (.if_icmp .ne 56, 3) := dk_160 0 56 (dk_at dksX0_remembers_0 6 rfl rfl)
theorem dX0_remembers_9 : decode cX0_remembers 9 = .ok (.aload_n 0, 1) := dk_42 (dk_at dksX0_remembers_0 9 rfl rfl)
theorem dX0_remembers_10 : decode cX0_remembers 10 = .ok (.getfield 95, 3) := dk_180 0 95 (dk_at dksX0_remembers_0 10 rfl rfl)
theorem dX0_remembers_13 : decode cX0_remembers 13 = .ok (.iconst 0, 1) := dk_3 (dk_at dksX0_remembers_0 13 rfl rfl)
theorem dX0_remembers_14 : decode cX0_remembers 14 = .ok (.aaload, 1) := dk_50 (dk_at dksX0_remembers_0 14 rfl rfl)
theorem dX0_remembers_15 : decode cX0_remembers 15 = .ok (.astore_n 1, 1) := dk_76 (dk_at dksX0_remembers_0 15 rfl rfl)
theorem dX0_remembers_16 : decode cX0_remembers 16 = .ok (.iconst 1, 1) := dk_4 (dk_at dksX0_remembers_0 16 rfl rfl)
theorem dX0_remembers_17 : decode cX0_remembers 17 = .ok (.istore_n 2, 1) := dk_61 (dk_at dksX0_remembers_0 17 rfl rfl)
theorem dX0_remembers_18 : decode cX0_remembers 18 = .ok (.iload_n 2, 1) := dk_28 (dk_at dksX0_remembers_0 18 rfl rfl)
theorem dX0_remembers_19 : decode cX0_remembers 19 = .ok (.bipush 20, 2) := dk_16 20 (dk_at dksX0_remembers_0 19 rfl rfl)
theorem dX0_remembers_21 : decode cX0_remembers 21 = .ok (.if_icmp .ge 23, 3) := dk_162 0 23 (dk_at dksX0_remembers_0 21 rfl rfl)
theorem dX0_remembers_24 : decode cX0_remembers 24 = .ok (.aload_n 0, 1) := dk_42 (dk_at dksX0_remembers_1 0 rfl rfl)
theorem dX0_remembers_25 : decode cX0_remembers 25 = .ok (.getfield 95, 3) := dk_180 0 95 (dk_at dksX0_remembers_1 1 rfl rfl)
theorem dX0_remembers_28 : decode cX0_remembers 28 = .ok (.iload_n 2, 1) := dk_28 (dk_at dksX0_remembers_1 4 rfl rfl)
theorem dX0_remembers_29 : decode cX0_remembers 29 = .ok (.iconst 1, 1) := dk_4 (dk_at dksX0_remembers_1 5 rfl rfl)
theorem dX0_remembers_30 : decode cX0_remembers 30 = .ok (.isub, 1) := dk_100 (dk_at dksX0_remembers_1 6 rfl rfl)
theorem dX0_remembers_31 : decode cX0_remembers 31 = .ok (.aload_n 0, 1) := dk_42 (dk_at dksX0_remembers_1 7 rfl rfl)
theorem dX0_remembers_32 : decode cX0_remembers 32 = .ok (.getfield 95, 3) := dk_180 0 95 (dk_at dksX0_remembers_1 8 rfl rfl)
theorem dX0_remembers_35 : decode cX0_remembers 35 = .ok (.iload_n 2, 1) := dk_28 (dk_at dksX0_remembers_1 11 rfl rfl)
theorem dX0_remembers_36 : decode cX0_remembers 36 = .ok (.aaload, 1) := dk_50 (dk_at dksX0_remembers_1 12 rfl rfl)
theorem dX0_remembers_37 : decode cX0_remembers 37 = .ok (.aastore, 1) := dk_83 (dk_at dksX0_remembers_1 13 rfl rfl)
theorem dX0_remembers_38 : decode cX0_remembers 38 = .ok (.iinc 2 1, 3) := dk_132 2 1 (dk_at dksX0_remembers_1 14 rfl rfl)
theorem dX0_remembers_41 : decode cX0_remembers 41 = .ok (.goto (-23), 3) := dk_167 255 233 (dk_at dksX0_remembers_1 17 rfl rfl)
theorem dX0_remembers_44 : decode cX0_remembers 44 = .ok (.aload_n 0, 1) := dk_42 (dk_at dksX0_remembers_1 20 rfl rfl)
theorem dX0_remembers_45 : decode cX0_remembers 45 = .ok (.getfield 95, 3) := dk_180 0 95 (dk_at dksX0_remembers_1 21 rfl rfl)
theorem dX0_remembers_48 : decode cX0_remembers 48 = .ok (.bipush 19, 2) := dk_16 19 (dk_at dksX0_remembers_2 0 rfl rfl)
theorem dX0_remembers_50 : decode cX0_remembers 50 = .ok (.aload_n 1, 1) := dk_43 (dk_at dksX0_remembers_2 2 rfl rfl)
theorem dX0_remembers_51 : decode cX0_remembers 51 = .ok (.aastore, 1) := dk_83 (dk_at dksX0_remembers_2 3 rfl rfl)
theorem dX0_remembers_52 : decode cX0_remembers 52 = .ok (.aload_n 0, 1) := dk_42 (dk_at dksX0_remembers_2 4 rfl rfl)
theorem dX0_remembers_53 : decode cX0_remembers 53 = .ok (.dup, 1) := dk_89 (dk_at dksX0_remembers_2 5 rfl rfl)
theorem dX0_remembers_54 : decode cX0_remembers 54 = .ok (.getfield 139, 3) := dk_180 0 139 (dk_at dksX0_remembers_2 6 rfl rfl)
theorem dX0_remembers_57 : decode cX0_remembers 57 = .ok (.iconst 1, 1) := dk_4 (dk_at dksX0_remembers_2 9 rfl rfl)
theorem dX0_remembers_58 : decode cX0_remembers 58 = .ok (.isub, 1) := dk_100 (dk_at dksX0_remembers_2 10 rfl rfl)
theorem dX0_remembers_59 : decode cX0_remembers 59 = .ok (.putfield 139, 3) := dk_181 0 139 (dk_at dksX0_remembers_2 11 rfl rfl)
theorem dX0_remembers_62 : decode cX0_remembers 62 = .ok (.aload_n 0, 1) := dk_42 (dk_at dksX0_remembers_2 14 rfl rfl)
theorem dX0_remembers_63 : decode cX0_remembers 63 = .ok (.getfield 95, 3) := dk_180 0 95 (dk_at dksX0_remembers_2 15 rfl rfl)
theorem dX0_remembers_66 : decode cX0_remembers 66 = .ok (.aload_n 0, 1) := dk_42 (dk_at dksX0_remembers_2 18 rfl rfl)
theorem dX0_remembers_67 : decode cX0_remembers 67 = .ok (.getfield 139, 3) := dk_180 0 139 (dk_at dksX0_remembers_2 19 rfl rfl)
theorem dX0_remembers_70 : decode cX0_remembers 70 = .ok (.aaload, 1) := dk_50 (dk_at dksX0_remembers_2 22 rfl rfl)
theorem dX0_remembers_71 : decode cX0_remembers 71 = .ok (.aload_n 0, 1) := dk_42 (dk_at dksX0_remembers_2 23 rfl rfl)
theorem dX0_remembers_72 : decode cX0_remembers 72 = .ok (.getfield 69, 3) := dk_180 0 69 (dk_at dksX0_remembers_3 0 rfl rfl)
theorem dX0_remembers_75 : decode cX0_remembers 75 = .ok (.invokevirtual 264, 3) := dk_182 1 8 (dk_at dksX0_remembers_3 3 rfl rfl)
theorem dX0_remembers_78 : decode cX0_remembers 78 = .ok (.pop, 1) := dk_87 (dk_at dksX0_remembers_3 6 rfl rfl)
theorem dX0_remembers_79 : decode cX0_remembers 79 = .ok (.aload_n 0, 1) := dk_42 (dk_at dksX0_remembers_3 7 rfl rfl)
theorem dX0_remembers_80 : decode cX0_remembers 80 = .ok (.dup, 1) := dk_89 (dk_at dksX0_remembers_3 8 rfl rfl)
theorem dX0_remembers_81 : decode cX0_remembers 81 = .ok (.getfield 139, 3) := dk_180 0 139 (dk_at dksX0_remembers_3 9 rfl rfl)
theorem dX0_remembers_84 : decode cX0_remembers 84 = .ok (.iconst 1, 1) := dk_4 (dk_at dksX0_remembers_3 12 rfl rfl)
theorem dX0_remembers_85 : decode cX0_remembers 85 = .ok (.iadd, 1) := dk_96 (dk_at dksX0_remembers_3 13 rfl rfl)
theorem dX0_remembers_86 : decode cX0_remembers 86 = .ok (.putfield 139, 3) := dk_181 0 139 (dk_at dksX0_remembers_3 14 rfl rfl)
theorem dX0_remembers_89 : decode cX0_remembers 89 = .ok (.return_, 1) := dk_177 (dk_at dksX0_remembers_3 17 rfl rfl)
abbrev cX0_give : ByteArray := prog_1_method_52_code
def yX0_give : MethodName := ⟨RX0, "give", "(II)Z"⟩
def dkwX0_give_2 : List UInt8 := [182, 1, 59, 42, 180, 0, 69, 180, 0, 214, 27, 28, 79, 4, 172]
abbrev dktX0_give_2 : List UInt8 := dkwX0_give_2 ++ []
def dkwX0_give_1 : List UInt8 := [180, 0, 214, 27, 46, 28, 160, 0, 17, 42, 5, 182, 0, 109, 155, 0, 7, 4, 167, 0, 4, 3, 172, 42]
abbrev dktX0_give_1 : List UInt8 := dkwX0_give_1 ++ dktX0_give_2
def dkwX0_give_0 : List UInt8 := [42, 27, 182, 0, 204, 153, 0, 26, 28, 3, 16, 99, 184, 0, 195, 153, 0, 16, 42, 180, 0, 69]
abbrev dktX0_give_0 : List UInt8 := dkwX0_give_0 ++ dktX0_give_1
theorem dksX0_give_0 : cX0_give.data.toList.drop 0 = dktX0_give_0 := by decide +kernel
theorem dksX0_give_1 : cX0_give.data.toList.drop 22 = dktX0_give_1 := dk_seg dksX0_give_0 22 rfl rfl
theorem dksX0_give_2 : cX0_give.data.toList.drop 46 = dktX0_give_2 := dk_seg dksX0_give_1 24 rfl rfl
theorem dX0_give_0 : decode cX0_give 0 = .ok (.aload_n 0, 1) := dk_42 (dk_at dksX0_give_0 0 rfl rfl)
theorem dX0_give_1 : decode cX0_give 1 = .ok (.iload_n 1, 1) := dk_27 (dk_at dksX0_give_0 1 rfl rfl)
theorem dX0_give_2 : decode cX0_give 2 = .ok (.invokevirtual 204, 3) := dk_182 0 204 (dk_at dksX0_give_0 2 rfl rfl)
theorem dX0_give_5 : decode cX0_give 5 = .ok (.ifCond .eq 26, 3) := dk_153 0 26 (dk_at dksX0_give_0 5 rfl rfl)
theorem dX0_give_8 : decode cX0_give 8 = .ok (.iload_n 2, 1) := dk_28 (dk_at dksX0_give_0 8 rfl rfl)
theorem dX0_give_9 : decode cX0_give 9 = .ok (.iconst 0, 1) := dk_3 (dk_at dksX0_give_0 9 rfl rfl)
theorem dX0_give_10 : decode cX0_give 10 = .ok (.bipush 99, 2) := dk_16 99 (dk_at dksX0_give_0 10 rfl rfl)
theorem dX0_give_12 : decode cX0_give 12 = .ok (.invokestatic 195, 3) := dk_184 0 195 (dk_at dksX0_give_0 12 rfl rfl)
theorem dX0_give_15 : decode cX0_give 15 = .ok (.ifCond .eq 16, 3) := dk_153 0 16 (dk_at dksX0_give_0 15 rfl rfl)
theorem dX0_give_18 : decode cX0_give 18 = .ok (.aload_n 0, 1) := dk_42 (dk_at dksX0_give_0 18 rfl rfl)
theorem dX0_give_19 : decode cX0_give 19 = .ok (.getfield 69, 3) := dk_180 0 69 (dk_at dksX0_give_0 19 rfl rfl)
theorem dX0_give_22 : decode cX0_give 22 = .ok (.getfield 214, 3) := dk_180 0 214 (dk_at dksX0_give_1 0 rfl rfl)
theorem dX0_give_25 : decode cX0_give 25 = .ok (.iload_n 1, 1) := dk_27 (dk_at dksX0_give_1 3 rfl rfl)
theorem dX0_give_26 : decode cX0_give 26 = .ok (.iaload, 1) := dk_46 (dk_at dksX0_give_1 4 rfl rfl)
theorem dX0_give_27 : decode cX0_give 27 = .ok (.iload_n 2, 1) := dk_28 (dk_at dksX0_give_1 5 rfl rfl)
theorem dX0_give_28 : decode cX0_give 28 = .ok (.if_icmp .ne 17, 3) := dk_160 0 17 (dk_at dksX0_give_1 6 rfl rfl)
theorem dX0_give_31 : decode cX0_give 31 = .ok (.aload_n 0, 1) := dk_42 (dk_at dksX0_give_1 9 rfl rfl)
theorem dX0_give_32 : decode cX0_give 32 = .ok (.iconst 2, 1) := dk_5 (dk_at dksX0_give_1 10 rfl rfl)
theorem dX0_give_33 : decode cX0_give 33 = .ok (.invokevirtual 109, 3) := dk_182 0 109 (dk_at dksX0_give_1 11 rfl rfl)
theorem dX0_give_36 : decode cX0_give 36 = .ok (.ifCond .lt 7, 3) := dk_155 0 7 (dk_at dksX0_give_1 14 rfl rfl)
theorem dX0_give_39 : decode cX0_give 39 = .ok (.iconst 1, 1) := dk_4 (dk_at dksX0_give_1 17 rfl rfl)
theorem dX0_give_40 : decode cX0_give 40 = .ok (.goto 4, 3) := dk_167 0 4 (dk_at dksX0_give_1 18 rfl rfl)
theorem dX0_give_43 : decode cX0_give 43 = .ok (.iconst 0, 1) := dk_3 (dk_at dksX0_give_1 21 rfl rfl)
theorem dX0_give_44 : decode cX0_give 44 = .ok (.ireturn, 1) := dk_172 (dk_at dksX0_give_1 22 rfl rfl)
theorem dX0_give_45 : decode cX0_give 45 = .ok (.aload_n 0, 1) := dk_42 (dk_at dksX0_give_1 23 rfl rfl)
theorem dX0_give_46 : decode cX0_give 46 = .ok (.invokevirtual 315, 3) := dk_182 1 59 (dk_at dksX0_give_2 0 rfl rfl)
theorem dX0_give_49 : decode cX0_give 49 = .ok (.aload_n 0, 1) := dk_42 (dk_at dksX0_give_2 3 rfl rfl)
theorem dX0_give_50 : decode cX0_give 50 = .ok (.getfield 69, 3) := dk_180 0 69 (dk_at dksX0_give_2 4 rfl rfl)
theorem dX0_give_53 : decode cX0_give 53 = .ok (.getfield 214, 3) := dk_180 0 214 (dk_at dksX0_give_2 7 rfl rfl)
theorem dX0_give_56 : decode cX0_give 56 = .ok (.iload_n 1, 1) := dk_27 (dk_at dksX0_give_2 10 rfl rfl)
theorem dX0_give_57 : decode cX0_give 57 = .ok (.iload_n 2, 1) := dk_28 (dk_at dksX0_give_2 11 rfl rfl)
theorem dX0_give_58 : decode cX0_give 58 = .ok (.iastore, 1) := dk_79 (dk_at dksX0_give_2 12 rfl rfl)
theorem dX0_give_59 : decode cX0_give 59 = .ok (.iconst 1, 1) := dk_4 (dk_at dksX0_give_2 13 rfl rfl)
theorem dX0_give_60 : decode cX0_give 60 = .ok (.ireturn, 1) := dk_172 (dk_at dksX0_give_2 14 rfl rfl)
abbrev cX0_years : ByteArray := prog_1_method_53_code
def yX0_years : MethodName := ⟨RX0, "years", "(I)I"⟩
def dkwX0_years_1 : List UInt8 := [62, 29, 27, 162, 0, 19, 28, 42, 180, 0, 69, 182, 1, 16, 96, 61, 132, 3, 1, 167, 255, 238, 28, 172]
abbrev dktX0_years_1 : List UInt8 := dkwX0_years_1 ++ []
def dkwX0_years_0 : List UInt8 := [42, 27, 4, 16, 100, 182, 1, 5, 154, 0, 9, 42, 6, 182, 0, 109, 172, 42, 182, 1, 59, 3, 61, 3]
abbrev dktX0_years_0 : List UInt8 := dkwX0_years_0 ++ dktX0_years_1
theorem dksX0_years_0 : cX0_years.data.toList.drop 0 = dktX0_years_0 := by decide +kernel
theorem dksX0_years_1 : cX0_years.data.toList.drop 24 = dktX0_years_1 := dk_seg dksX0_years_0 24 rfl rfl
theorem dX0_years_0 : decode cX0_years 0 = .ok (.aload_n 0, 1) := dk_42 (dk_at dksX0_years_0 0 rfl rfl)
theorem dX0_years_1 : decode cX0_years 1 = .ok (.iload_n 1, 1) := dk_27 (dk_at dksX0_years_0 1 rfl rfl)
theorem dX0_years_2 : decode cX0_years 2 = .ok (.iconst 1, 1) := dk_4 (dk_at dksX0_years_0 2 rfl rfl)
theorem dX0_years_3 : decode cX0_years 3 = .ok (.bipush 100, 2) := dk_16 100 (dk_at dksX0_years_0 3 rfl rfl)
theorem dX0_years_5 : decode cX0_years 5 = .ok (.invokevirtual 261, 3) := dk_182 1 5 (dk_at dksX0_years_0 5 rfl rfl)
theorem dX0_years_8 : decode cX0_years 8 = .ok (.ifCond .ne 9, 3) := dk_154 0 9 (dk_at dksX0_years_0 8 rfl rfl)
theorem dX0_years_11 : decode cX0_years 11 = .ok (.aload_n 0, 1) := dk_42 (dk_at dksX0_years_0 11 rfl rfl)
theorem dX0_years_12 : decode cX0_years 12 = .ok (.iconst 3, 1) := dk_6 (dk_at dksX0_years_0 12 rfl rfl)
theorem dX0_years_13 : decode cX0_years 13 = .ok (.invokevirtual 109, 3) := dk_182 0 109 (dk_at dksX0_years_0 13 rfl rfl)
theorem dX0_years_16 : decode cX0_years 16 = .ok (.ireturn, 1) := dk_172 (dk_at dksX0_years_0 16 rfl rfl)
theorem dX0_years_17 : decode cX0_years 17 = .ok (.aload_n 0, 1) := dk_42 (dk_at dksX0_years_0 17 rfl rfl)
theorem dX0_years_18 : decode cX0_years 18 = .ok (.invokevirtual 315, 3) := dk_182 1 59 (dk_at dksX0_years_0 18 rfl rfl)
theorem dX0_years_21 : decode cX0_years 21 = .ok (.iconst 0, 1) := dk_3 (dk_at dksX0_years_0 21 rfl rfl)
theorem dX0_years_22 : decode cX0_years 22 = .ok (.istore_n 2, 1) := dk_61 (dk_at dksX0_years_0 22 rfl rfl)
theorem dX0_years_23 : decode cX0_years 23 = .ok (.iconst 0, 1) := dk_3 (dk_at dksX0_years_0 23 rfl rfl)
theorem dX0_years_24 : decode cX0_years 24 = .ok (.istore_n 3, 1) := dk_62 (dk_at dksX0_years_1 0 rfl rfl)
theorem dX0_years_25 : decode cX0_years 25 = .ok (.iload_n 3, 1) := dk_29 (dk_at dksX0_years_1 1 rfl rfl)
theorem dX0_years_26 : decode cX0_years 26 = .ok (.iload_n 1, 1) := dk_27 (dk_at dksX0_years_1 2 rfl rfl)
theorem dX0_years_27 : decode cX0_years 27 = .ok (.if_icmp .ge 19, 3) := dk_162 0 19 (dk_at dksX0_years_1 3 rfl rfl)
theorem dX0_years_30 : decode cX0_years 30 = .ok (.iload_n 2, 1) := dk_28 (dk_at dksX0_years_1 6 rfl rfl)
theorem dX0_years_31 : decode cX0_years 31 = .ok (.aload_n 0, 1) := dk_42 (dk_at dksX0_years_1 7 rfl rfl)
theorem dX0_years_32 : decode cX0_years 32 = .ok (.getfield 69, 3) := dk_180 0 69 (dk_at dksX0_years_1 8 rfl rfl)
theorem dX0_years_35 : decode cX0_years 35 = .ok (.invokevirtual 272, 3) := dk_182 1 16 (dk_at dksX0_years_1 11 rfl rfl)
theorem dX0_years_38 : decode cX0_years 38 = .ok (.iadd, 1) := dk_96 (dk_at dksX0_years_1 14 rfl rfl)
theorem dX0_years_39 : decode cX0_years 39 = .ok (.istore_n 2, 1) := dk_61 (dk_at dksX0_years_1 15 rfl rfl)
theorem dX0_years_40 : decode cX0_years 40 = .ok (.iinc 3 1, 3) := dk_132 3 1 (dk_at dksX0_years_1 16 rfl rfl)
theorem dX0_years_43 : decode cX0_years 43 = .ok (.goto (-18), 3) := dk_167 255 238 (dk_at dksX0_years_1 19 rfl rfl)
theorem dX0_years_46 : decode cX0_years 46 = .ok (.iload_n 2, 1) := dk_28 (dk_at dksX0_years_1 22 rfl rfl)
theorem dX0_years_47 : decode cX0_years 47 = .ok (.ireturn, 1) := dk_172 (dk_at dksX0_years_1 23 rfl rfl)
abbrev cX0_chance : ByteArray := prog_1_method_55_code
def yX0_chance : MethodName := ⟨RX0, "chance", "(I)I"⟩
def dkwX0_chance_4 : List UInt8 := [167, 255, 188, 28, 172]
abbrev dktX0_chance_4 : List UInt8 := dkwX0_chance_4 ++ []
def dkwX0_chance_3 : List UInt8 := [16, 100, 182, 1, 70, 182, 1, 39, 132, 2, 1, 42, 180, 0, 69, 182, 1, 16, 87, 132, 3, 1]
abbrev dktX0_chance_3 : List UInt8 := dkwX0_chance_3 ++ dktX0_chance_4
def dkwX0_chance_2 : List UInt8 := [182, 0, 167, 158, 0, 32, 42, 42, 182, 0, 167, 182, 1, 70, 54, 4, 42, 42, 180, 0, 69, 21, 4, 42]
abbrev dktX0_chance_2 : List UInt8 := dkwX0_chance_2 ++ dktX0_chance_3
def dkwX0_chance_1 : List UInt8 := [62, 29, 27, 162, 0, 69, 42, 16, 100, 182, 1, 70, 42, 180, 0, 31, 180, 1, 36, 162, 0, 39, 42]
abbrev dktX0_chance_1 : List UInt8 := dkwX0_chance_1 ++ dktX0_chance_2
def dkwX0_chance_0 : List UInt8 := [42, 27, 4, 16, 100, 182, 1, 5, 154, 0, 9, 42, 6, 182, 0, 109, 172, 42, 182, 1, 59, 3, 61, 3]
abbrev dktX0_chance_0 : List UInt8 := dkwX0_chance_0 ++ dktX0_chance_1
theorem dksX0_chance_0 : cX0_chance.data.toList.drop 0 = dktX0_chance_0 := by decide +kernel
theorem dksX0_chance_1 : cX0_chance.data.toList.drop 24 = dktX0_chance_1 := dk_seg dksX0_chance_0 24 rfl rfl
theorem dksX0_chance_2 : cX0_chance.data.toList.drop 47 = dktX0_chance_2 := dk_seg dksX0_chance_1 23 rfl rfl
theorem dksX0_chance_3 : cX0_chance.data.toList.drop 71 = dktX0_chance_3 := dk_seg dksX0_chance_2 24 rfl rfl
theorem dksX0_chance_4 : cX0_chance.data.toList.drop 93 = dktX0_chance_4 := dk_seg dksX0_chance_3 22 rfl rfl
theorem dX0_chance_0 : decode cX0_chance 0 = .ok (.aload_n 0, 1) := dk_42 (dk_at dksX0_chance_0 0 rfl rfl)
theorem dX0_chance_1 : decode cX0_chance 1 = .ok (.iload_n 1, 1) := dk_27 (dk_at dksX0_chance_0 1 rfl rfl)
theorem dX0_chance_2 : decode cX0_chance 2 = .ok (.iconst 1, 1) := dk_4 (dk_at dksX0_chance_0 2 rfl rfl)
theorem dX0_chance_3 : decode cX0_chance 3 = .ok (.bipush 100, 2) := dk_16 100 (dk_at dksX0_chance_0 3 rfl rfl)
theorem dX0_chance_5 : decode cX0_chance 5 = .ok (.invokevirtual 261, 3) := dk_182 1 5 (dk_at dksX0_chance_0 5 rfl rfl)
theorem dX0_chance_8 : decode cX0_chance 8 = .ok (.ifCond .ne 9, 3) := dk_154 0 9 (dk_at dksX0_chance_0 8 rfl rfl)
theorem dX0_chance_11 : decode cX0_chance 11 = .ok (.aload_n 0, 1) := dk_42 (dk_at dksX0_chance_0 11 rfl rfl)
theorem dX0_chance_12 : decode cX0_chance 12 = .ok (.iconst 3, 1) := dk_6 (dk_at dksX0_chance_0 12 rfl rfl)
theorem dX0_chance_13 : decode cX0_chance 13 = .ok (.invokevirtual 109, 3) := dk_182 0 109 (dk_at dksX0_chance_0 13 rfl rfl)
theorem dX0_chance_16 : decode cX0_chance 16 = .ok (.ireturn, 1) := dk_172 (dk_at dksX0_chance_0 16 rfl rfl)
theorem dX0_chance_17 : decode cX0_chance 17 = .ok (.aload_n 0, 1) := dk_42 (dk_at dksX0_chance_0 17 rfl rfl)
theorem dX0_chance_18 : decode cX0_chance 18 = .ok (.invokevirtual 315, 3) := dk_182 1 59 (dk_at dksX0_chance_0 18 rfl rfl)
theorem dX0_chance_21 : decode cX0_chance 21 = .ok (.iconst 0, 1) := dk_3 (dk_at dksX0_chance_0 21 rfl rfl)
theorem dX0_chance_22 : decode cX0_chance 22 = .ok (.istore_n 2, 1) := dk_61 (dk_at dksX0_chance_0 22 rfl rfl)
theorem dX0_chance_23 : decode cX0_chance 23 = .ok (.iconst 0, 1) := dk_3 (dk_at dksX0_chance_0 23 rfl rfl)
theorem dX0_chance_24 : decode cX0_chance 24 = .ok (.istore_n 3, 1) := dk_62 (dk_at dksX0_chance_1 0 rfl rfl)
theorem dX0_chance_25 : decode cX0_chance 25 = .ok (.iload_n 3, 1) := dk_29 (dk_at dksX0_chance_1 1 rfl rfl)
theorem dX0_chance_26 : decode cX0_chance 26 = .ok (.iload_n 1, 1) := dk_27 (dk_at dksX0_chance_1 2 rfl rfl)
theorem dX0_chance_27 : decode cX0_chance 27 = .ok (.if_icmp .ge 69, 3) := dk_162 0 69 (dk_at dksX0_chance_1 3 rfl rfl)
theorem dX0_chance_30 : decode cX0_chance 30 = .ok (.aload_n 0, 1) := dk_42 (dk_at dksX0_chance_1 6 rfl rfl)
theorem dX0_chance_31 : decode cX0_chance 31 = .ok (.bipush 100, 2) := dk_16 100 (dk_at dksX0_chance_1 7 rfl rfl)
theorem dX0_chance_33 : decode cX0_chance 33 = .ok (.invokevirtual 326, 3) := dk_182 1 70 (dk_at dksX0_chance_1 9 rfl rfl)
theorem dX0_chance_36 : decode cX0_chance 36 = .ok (.aload_n 0, 1) := dk_42 (dk_at dksX0_chance_1 12 rfl rfl)
theorem dX0_chance_37 : decode cX0_chance 37 = .ok (.getfield 31, 3) := dk_180 0 31 (dk_at dksX0_chance_1 13 rfl rfl)
theorem dX0_chance_40 : decode cX0_chance 40 = .ok (.getfield 292, 3) := dk_180 1 36 (dk_at dksX0_chance_1 16 rfl rfl)
theorem dX0_chance_43 : decode cX0_chance 43 = .ok (.if_icmp .ge 39, 3) := dk_162 0 39 (dk_at dksX0_chance_1 19 rfl rfl)
theorem dX0_chance_46 : decode cX0_chance 46 = .ok (.aload_n 0, 1) := dk_42 (dk_at dksX0_chance_1 22 rfl rfl)
theorem dX0_chance_47 : decode cX0_chance 47 = .ok (.invokevirtual 167, 3) := dk_182 0 167 (dk_at dksX0_chance_2 0 rfl rfl)
theorem dX0_chance_50 : decode cX0_chance 50 = .ok (.ifCond .le 32, 3) := dk_158 0 32 (dk_at dksX0_chance_2 3 rfl rfl)
theorem dX0_chance_53 : decode cX0_chance 53 = .ok (.aload_n 0, 1) := dk_42 (dk_at dksX0_chance_2 6 rfl rfl)
theorem dX0_chance_54 : decode cX0_chance 54 = .ok (.aload_n 0, 1) := dk_42 (dk_at dksX0_chance_2 7 rfl rfl)
theorem dX0_chance_55 : decode cX0_chance 55 = .ok (.invokevirtual 167, 3) := dk_182 0 167 (dk_at dksX0_chance_2 8 rfl rfl)
theorem dX0_chance_58 : decode cX0_chance 58 = .ok (.invokevirtual 326, 3) := dk_182 1 70 (dk_at dksX0_chance_2 11 rfl rfl)
theorem dX0_chance_61 : decode cX0_chance 61 = .ok (.istore 4, 2) := dk_54 4 (dk_at dksX0_chance_2 14 rfl rfl)
theorem dX0_chance_63 : decode cX0_chance 63 = .ok (.aload_n 0, 1) := dk_42 (dk_at dksX0_chance_2 16 rfl rfl)
theorem dX0_chance_64 : decode cX0_chance 64 = .ok (.aload_n 0, 1) := dk_42 (dk_at dksX0_chance_2 17 rfl rfl)
theorem dX0_chance_65 : decode cX0_chance 65 = .ok (.getfield 69, 3) := dk_180 0 69 (dk_at dksX0_chance_2 18 rfl rfl)
theorem dX0_chance_68 : decode cX0_chance 68 = .ok (.iload 4, 2) := dk_21 4 (dk_at dksX0_chance_2 21 rfl rfl)
theorem dX0_chance_70 : decode cX0_chance 70 = .ok (.aload_n 0, 1) := dk_42 (dk_at dksX0_chance_2 23 rfl rfl)
theorem dX0_chance_71 : decode cX0_chance 71 = .ok (.bipush 100, 2) := dk_16 100 (dk_at dksX0_chance_3 0 rfl rfl)
theorem dX0_chance_73 : decode cX0_chance 73 = .ok (.invokevirtual 326, 3) := dk_182 1 70 (dk_at dksX0_chance_3 2 rfl rfl)
theorem dX0_chance_76 : decode cX0_chance 76 = .ok (.invokevirtual 295, 3) := dk_182 1 39 (dk_at dksX0_chance_3 5 rfl rfl)
theorem dX0_chance_79 : decode cX0_chance 79 = .ok (.iinc 2 1, 3) := dk_132 2 1 (dk_at dksX0_chance_3 8 rfl rfl)
theorem dX0_chance_82 : decode cX0_chance 82 = .ok (.aload_n 0, 1) := dk_42 (dk_at dksX0_chance_3 11 rfl rfl)
theorem dX0_chance_83 : decode cX0_chance 83 = .ok (.getfield 69, 3) := dk_180 0 69 (dk_at dksX0_chance_3 12 rfl rfl)
theorem dX0_chance_86 : decode cX0_chance 86 = .ok (.invokevirtual 272, 3) := dk_182 1 16 (dk_at dksX0_chance_3 15 rfl rfl)
theorem dX0_chance_89 : decode cX0_chance 89 = .ok (.pop, 1) := dk_87 (dk_at dksX0_chance_3 18 rfl rfl)
theorem dX0_chance_90 : decode cX0_chance 90 = .ok (.iinc 3 1, 3) := dk_132 3 1 (dk_at dksX0_chance_3 19 rfl rfl)
theorem dX0_chance_93 : decode cX0_chance 93 = .ok (.goto (-68), 3) := dk_167 255 188 (dk_at dksX0_chance_4 0 rfl rfl)
theorem dX0_chance_96 : decode cX0_chance 96 = .ok (.iload_n 2, 1) := dk_28 (dk_at dksX0_chance_4 3 rfl rfl)
theorem dX0_chance_97 : decode cX0_chance 97 = .ok (.ireturn, 1) := dk_172 (dk_at dksX0_chance_4 4 rfl rfl)
abbrev cX0_draw : ByteArray := prog_1_method_54_code
def yX0_draw : MethodName := ⟨RX0, "draw", "(I)I"⟩
def dkwX0_draw_1 : List UInt8 := [20, 1, 68, 109, 27, 133, 113, 136, 172]
abbrev dktX0_draw_1 : List UInt8 := dkwX0_draw_1 ++ []
def dkwX0_draw_0 : List UInt8 := [42, 20, 1, 62, 42, 180, 0, 99, 105, 20, 1, 64, 97, 20, 1, 66, 113, 181, 0, 99, 42, 180, 0, 99]
abbrev dktX0_draw_0 : List UInt8 := dkwX0_draw_0 ++ dktX0_draw_1
theorem dksX0_draw_0 : cX0_draw.data.toList.drop 0 = dktX0_draw_0 := by decide +kernel
theorem dksX0_draw_1 : cX0_draw.data.toList.drop 24 = dktX0_draw_1 := dk_seg dksX0_draw_0 24 rfl rfl
theorem dX0_draw_0 : decode cX0_draw 0 = .ok (.aload_n 0, 1) := dk_42 (dk_at dksX0_draw_0 0 rfl rfl)
theorem dX0_draw_1 : decode cX0_draw 1 = .ok (.ldc2_w 318, 3) := dk_20 1 62 (dk_at dksX0_draw_0 1 rfl rfl)
theorem dX0_draw_4 : decode cX0_draw 4 = .ok (.aload_n 0, 1) := dk_42 (dk_at dksX0_draw_0 4 rfl rfl)
theorem dX0_draw_5 : decode cX0_draw 5 = .ok (.getfield 99, 3) := dk_180 0 99 (dk_at dksX0_draw_0 5 rfl rfl)
theorem dX0_draw_8 : decode cX0_draw 8 = .ok (.lmul, 1) := dk_105 (dk_at dksX0_draw_0 8 rfl rfl)
theorem dX0_draw_9 : decode cX0_draw 9 = .ok (.ldc2_w 320, 3) := dk_20 1 64 (dk_at dksX0_draw_0 9 rfl rfl)
theorem dX0_draw_12 : decode cX0_draw 12 = .ok (.ladd, 1) := dk_97 (dk_at dksX0_draw_0 12 rfl rfl)
theorem dX0_draw_13 : decode cX0_draw 13 = .ok (.ldc2_w 322, 3) := dk_20 1 66 (dk_at dksX0_draw_0 13 rfl rfl)
theorem dX0_draw_16 : decode cX0_draw 16 = .ok (.lrem, 1) := dk_113 (dk_at dksX0_draw_0 16 rfl rfl)
theorem dX0_draw_17 : decode cX0_draw 17 = .ok (.putfield 99, 3) := dk_181 0 99 (dk_at dksX0_draw_0 17 rfl rfl)
theorem dX0_draw_20 : decode cX0_draw 20 = .ok (.aload_n 0, 1) := dk_42 (dk_at dksX0_draw_0 20 rfl rfl)
theorem dX0_draw_21 : decode cX0_draw 21 = .ok (.getfield 99, 3) := dk_180 0 99 (dk_at dksX0_draw_0 21 rfl rfl)
theorem dX0_draw_24 : decode cX0_draw 24 = .ok (.ldc2_w 324, 3) := dk_20 1 68 (dk_at dksX0_draw_1 0 rfl rfl)
theorem dX0_draw_27 : decode cX0_draw 27 = .ok (.ldiv, 1) := dk_109 (dk_at dksX0_draw_1 3 rfl rfl)
theorem dX0_draw_28 : decode cX0_draw 28 = .ok (.iload_n 1, 1) := dk_27 (dk_at dksX0_draw_1 4 rfl rfl)
theorem dX0_draw_29 : decode cX0_draw 29 = .ok (.i2l, 1) := dk_133 (dk_at dksX0_draw_1 5 rfl rfl)
theorem dX0_draw_30 : decode cX0_draw 30 = .ok (.lrem, 1) := dk_113 (dk_at dksX0_draw_1 6 rfl rfl)
theorem dX0_draw_31 : decode cX0_draw 31 = .ok (.l2i, 1) := dk_136 (dk_at dksX0_draw_1 7 rfl rfl)
theorem dX0_draw_32 : decode cX0_draw 32 = .ok (.ireturn, 1) := dk_172 (dk_at dksX0_draw_1 8 rfl rfl)
abbrev cX0_seed : ByteArray := prog_1_method_56_code
def yX0_seed : MethodName := ⟨RX0, "seed", "(I)Z"⟩
def dkwX0_seed_1 : List UInt8 := [4, 172]
abbrev dktX0_seed_1 : List UInt8 := dkwX0_seed_1 ++ []
def dkwX0_seed_0 : List UInt8 := [27, 156, 0, 17, 42, 8, 182, 0, 109, 155, 0, 7, 4, 167, 0, 4, 3, 172, 42, 27, 133, 181, 0, 99]
abbrev dktX0_seed_0 : List UInt8 := dkwX0_seed_0 ++ dktX0_seed_1
theorem dksX0_seed_0 : cX0_seed.data.toList.drop 0 = dktX0_seed_0 := by decide +kernel
theorem dksX0_seed_1 : cX0_seed.data.toList.drop 24 = dktX0_seed_1 := dk_seg dksX0_seed_0 24 rfl rfl
theorem dX0_seed_0 : decode cX0_seed 0 = .ok (.iload_n 1, 1) := dk_27 (dk_at dksX0_seed_0 0 rfl rfl)
theorem dX0_seed_1 : decode cX0_seed 1 = .ok (.ifCond .ge 17, 3) := dk_156 0 17 (dk_at dksX0_seed_0 1 rfl rfl)
theorem dX0_seed_4 : decode cX0_seed 4 = .ok (.aload_n 0, 1) := dk_42 (dk_at dksX0_seed_0 4 rfl rfl)
theorem dX0_seed_5 : decode cX0_seed 5 = .ok (.iconst 5, 1) := dk_8 (dk_at dksX0_seed_0 5 rfl rfl)
theorem dX0_seed_6 : decode cX0_seed 6 = .ok (.invokevirtual 109, 3) := dk_182 0 109 (dk_at dksX0_seed_0 6 rfl rfl)
theorem dX0_seed_9 : decode cX0_seed 9 = .ok (.ifCond .lt 7, 3) := dk_155 0 7 (dk_at dksX0_seed_0 9 rfl rfl)
theorem dX0_seed_12 : decode cX0_seed 12 = .ok (.iconst 1, 1) := dk_4 (dk_at dksX0_seed_0 12 rfl rfl)
theorem dX0_seed_13 : decode cX0_seed 13 = .ok (.goto 4, 3) := dk_167 0 4 (dk_at dksX0_seed_0 13 rfl rfl)
theorem dX0_seed_16 : decode cX0_seed 16 = .ok (.iconst 0, 1) := dk_3 (dk_at dksX0_seed_0 16 rfl rfl)
theorem dX0_seed_17 : decode cX0_seed 17 = .ok (.ireturn, 1) := dk_172 (dk_at dksX0_seed_0 17 rfl rfl)
theorem dX0_seed_18 : decode cX0_seed 18 = .ok (.aload_n 0, 1) := dk_42 (dk_at dksX0_seed_0 18 rfl rfl)
theorem dX0_seed_19 : decode cX0_seed 19 = .ok (.iload_n 1, 1) := dk_27 (dk_at dksX0_seed_0 19 rfl rfl)
theorem dX0_seed_20 : decode cX0_seed 20 = .ok (.i2l, 1) := dk_133 (dk_at dksX0_seed_0 20 rfl rfl)
theorem dX0_seed_21 : decode cX0_seed 21 = .ok (.putfield 99, 3) := dk_181 0 99 (dk_at dksX0_seed_0 21 rfl rfl)
theorem dX0_seed_24 : decode cX0_seed 24 = .ok (.iconst 1, 1) := dk_4 (dk_at dksX0_seed_1 0 rfl rfl)
theorem dX0_seed_25 : decode cX0_seed 25 = .ok (.ireturn, 1) := dk_172 (dk_at dksX0_seed_1 1 rfl rfl)
abbrev cX0_ask : ByteArray := prog_1_method_58_code
def yX0_ask : MethodName := ⟨RX0, "ask", "()J"⟩
def dkwX0_ask_8 : List UInt8 := [182, 1, 87, 173]
abbrev dktX0_ask_8 : List UInt8 := dkwX0_ask_8 ++ []
def dkwX0_ask_7 : List UInt8 := [182, 0, 229, 180, 0, 233, 133, 80, 44, 29, 42, 180, 0, 59, 182, 1, 81, 132, 3, 1, 167, 255, 122, 44]
abbrev dktX0_ask_7 : List UInt8 := dkwX0_ask_7 ++ dktX0_ask_8
def dkwX0_ask_6 : List UInt8 := [42, 180, 0, 59, 180, 1, 77, 16, 9, 29, 133, 80, 42, 180, 0, 59, 180, 1, 77, 16, 10, 42, 29]
abbrev dktX0_ask_6 : List UInt8 := dkwX0_ask_6 ++ dktX0_ask_7
def dkwX0_ask_5 : List UInt8 := [29, 46, 133, 80, 42, 180, 0, 59, 180, 1, 77, 16, 8, 42, 180, 0, 69, 180, 0, 239, 29, 46, 133, 80]
abbrev dktX0_ask_5 : List UInt8 := dkwX0_ask_5 ++ dktX0_ask_6
def dkwX0_ask_4 : List UInt8 := [180, 0, 69, 180, 0, 179, 133, 80, 42, 180, 0, 59, 180, 1, 77, 16, 6, 42, 180, 0, 69, 180, 0, 236]
abbrev dktX0_ask_4 : List UInt8 := dkwX0_ask_4 ++ dktX0_ask_5
def dkwX0_ask_3 : List UInt8 := [180, 0, 214, 42, 29, 182, 0, 229, 180, 0, 233, 46, 133, 80, 42, 180, 0, 59, 180, 1, 77, 7, 42]
abbrev dktX0_ask_3 : List UInt8 := dkwX0_ask_3 ++ dktX0_ask_4
def dkwX0_ask_2 : List UInt8 := [3, 62, 29, 42, 182, 0, 165, 162, 0, 132, 42, 180, 0, 59, 180, 1, 77, 4, 42, 180, 0, 69]
abbrev dktX0_ask_2 : List UInt8 := dkwX0_ask_2 ++ dktX0_ask_3
def dkwX0_ask_1 : List UInt8 := [167, 0, 24, 78, 42, 45, 180, 0, 130, 181, 0, 117, 42, 45, 180, 0, 133, 181, 0, 39, 20, 1, 1, 173]
abbrev dktX0_ask_1 : List UInt8 := dkwX0_ask_1 ++ dktX0_ask_2
def dkwX0_ask_0 : List UInt8 := [42, 182, 0, 120, 60, 42, 3, 181, 0, 117, 42, 2, 181, 0, 39, 42, 180, 0, 48, 27, 182, 1, 73, 77]
abbrev dktX0_ask_0 : List UInt8 := dkwX0_ask_0 ++ dktX0_ask_1
theorem dksX0_ask_0 : cX0_ask.data.toList.drop 0 = dktX0_ask_0 := by decide +kernel
theorem dksX0_ask_1 : cX0_ask.data.toList.drop 24 = dktX0_ask_1 := dk_seg dksX0_ask_0 24 rfl rfl
theorem dksX0_ask_2 : cX0_ask.data.toList.drop 48 = dktX0_ask_2 := dk_seg dksX0_ask_1 24 rfl rfl
theorem dksX0_ask_3 : cX0_ask.data.toList.drop 70 = dktX0_ask_3 := dk_seg dksX0_ask_2 22 rfl rfl
theorem dksX0_ask_4 : cX0_ask.data.toList.drop 93 = dktX0_ask_4 := dk_seg dksX0_ask_3 23 rfl rfl
theorem dksX0_ask_5 : cX0_ask.data.toList.drop 117 = dktX0_ask_5 := dk_seg dksX0_ask_4 24 rfl rfl
theorem dksX0_ask_6 : cX0_ask.data.toList.drop 141 = dktX0_ask_6 := dk_seg dksX0_ask_5 24 rfl rfl
theorem dksX0_ask_7 : cX0_ask.data.toList.drop 164 = dktX0_ask_7 := dk_seg dksX0_ask_6 23 rfl rfl
theorem dksX0_ask_8 : cX0_ask.data.toList.drop 188 = dktX0_ask_8 := dk_seg dksX0_ask_7 24 rfl rfl
theorem dX0_ask_0 : decode cX0_ask 0 = .ok (.aload_n 0, 1) := dk_42 (dk_at dksX0_ask_0 0 rfl rfl)
theorem dX0_ask_1 : decode cX0_ask 1 = .ok (.invokevirtual 120, 3) := dk_182 0 120 (dk_at dksX0_ask_0 1 rfl rfl)
theorem dX0_ask_4 : decode cX0_ask 4 = .ok (.istore_n 1, 1) := dk_60 (dk_at dksX0_ask_0 4 rfl rfl)
theorem dX0_ask_5 : decode cX0_ask 5 = .ok (.aload_n 0, 1) := dk_42 (dk_at dksX0_ask_0 5 rfl rfl)
theorem dX0_ask_6 : decode cX0_ask 6 = .ok (.iconst 0, 1) := dk_3 (dk_at dksX0_ask_0 6 rfl rfl)
theorem dX0_ask_7 : decode cX0_ask 7 = .ok (.putfield 117, 3) := dk_181 0 117 (dk_at dksX0_ask_0 7 rfl rfl)
theorem dX0_ask_10 : decode cX0_ask 10 = .ok (.aload_n 0, 1) := dk_42 (dk_at dksX0_ask_0 10 rfl rfl)
theorem dX0_ask_11 : decode cX0_ask 11 = .ok (.iconst (-1), 1) := dk_2 (dk_at dksX0_ask_0 11 rfl rfl)
theorem dX0_ask_12 : decode cX0_ask 12 = .ok (.putfield 39, 3) := dk_181 0 39 (dk_at dksX0_ask_0 12 rfl rfl)
theorem dX0_ask_15 : decode cX0_ask 15 = .ok (.aload_n 0, 1) := dk_42 (dk_at dksX0_ask_0 15 rfl rfl)
theorem dX0_ask_16 : decode cX0_ask 16 = .ok (.getfield 48, 3) := dk_180 0 48 (dk_at dksX0_ask_0 16 rfl rfl)
theorem dX0_ask_19 : decode cX0_ask 19 = .ok (.iload_n 1, 1) := dk_27 (dk_at dksX0_ask_0 19 rfl rfl)
theorem dX0_ask_20 : decode cX0_ask 20 = .ok (.invokevirtual 329, 3) := dk_182 1 73 (dk_at dksX0_ask_0 20 rfl rfl)
theorem dX0_ask_23 : decode cX0_ask 23 = .ok (.astore_n 2, 1) := dk_77 (dk_at dksX0_ask_0 23 rfl rfl)
theorem dX0_ask_24 : decode cX0_ask 24 = .ok (.goto 24, 3) := dk_167 0 24 (dk_at dksX0_ask_1 0 rfl rfl)
theorem dX0_ask_27 : decode cX0_ask 27 = .ok (.astore_n 3, 1) := dk_78 (dk_at dksX0_ask_1 3 rfl rfl)
theorem dX0_ask_28 : decode cX0_ask 28 = .ok (.aload_n 0, 1) := dk_42 (dk_at dksX0_ask_1 4 rfl rfl)
theorem dX0_ask_29 : decode cX0_ask 29 = .ok (.aload_n 3, 1) := dk_45 (dk_at dksX0_ask_1 5 rfl rfl)
theorem dX0_ask_30 : decode cX0_ask 30 = .ok (.getfield 130, 3) := dk_180 0 130 (dk_at dksX0_ask_1 6 rfl rfl)
theorem dX0_ask_33 : decode cX0_ask 33 = .ok (.putfield 117, 3) := dk_181 0 117 (dk_at dksX0_ask_1 9 rfl rfl)
theorem dX0_ask_36 : decode cX0_ask 36 = .ok (.aload_n 0, 1) := dk_42 (dk_at dksX0_ask_1 12 rfl rfl)
theorem dX0_ask_37 : decode cX0_ask 37 = .ok (.aload_n 3, 1) := dk_45 (dk_at dksX0_ask_1 13 rfl rfl)
theorem dX0_ask_38 : decode cX0_ask 38 = .ok (.getfield 133, 3) := dk_180 0 133 (dk_at dksX0_ask_1 14 rfl rfl)
theorem dX0_ask_41 : decode cX0_ask 41 = .ok (.putfield 39, 3) := dk_181 0 39 (dk_at dksX0_ask_1 17 rfl rfl)
theorem dX0_ask_44 : decode cX0_ask 44 = .ok (.ldc2_w 257, 3) := dk_20 1 1 (dk_at dksX0_ask_1 20 rfl rfl)
theorem dX0_ask_47 : decode cX0_ask 47 = .ok (.lreturn, 1) := dk_173 (dk_at dksX0_ask_1 23 rfl rfl)
theorem dX0_ask_48 : decode cX0_ask 48 = .ok (.iconst 0, 1) := dk_3 (dk_at dksX0_ask_2 0 rfl rfl)
theorem dX0_ask_49 : decode cX0_ask 49 = .ok (.istore_n 3, 1) := dk_62 (dk_at dksX0_ask_2 1 rfl rfl)
theorem dX0_ask_50 : decode cX0_ask 50 = .ok (.iload_n 3, 1) := dk_29 (dk_at dksX0_ask_2 2 rfl rfl)
theorem dX0_ask_51 : decode cX0_ask 51 = .ok (.aload_n 0, 1) := dk_42 (dk_at dksX0_ask_2 3 rfl rfl)
theorem dX0_ask_52 : decode cX0_ask 52 = .ok (.invokevirtual 165, 3) := dk_182 0 165 (dk_at dksX0_ask_2 4 rfl rfl)
theorem dX0_ask_55 : decode cX0_ask 55 = .ok (.if_icmp .ge 132, 3) := dk_162 0 132 (dk_at dksX0_ask_2 7 rfl rfl)
theorem dX0_ask_58 : decode cX0_ask 58 = .ok (.aload_n 0, 1) := dk_42 (dk_at dksX0_ask_2 10 rfl rfl)
theorem dX0_ask_59 : decode cX0_ask 59 = .ok (.getfield 59, 3) := dk_180 0 59 (dk_at dksX0_ask_2 11 rfl rfl)
theorem dX0_ask_62 : decode cX0_ask 62 = .ok (.getfield 333, 3) := dk_180 1 77 (dk_at dksX0_ask_2 14 rfl rfl)
theorem dX0_ask_65 : decode cX0_ask 65 = .ok (.iconst 1, 1) := dk_4 (dk_at dksX0_ask_2 17 rfl rfl)
theorem dX0_ask_66 : decode cX0_ask 66 = .ok (.aload_n 0, 1) := dk_42 (dk_at dksX0_ask_2 18 rfl rfl)
theorem dX0_ask_67 : decode cX0_ask 67 = .ok (.getfield 69, 3) := dk_180 0 69 (dk_at dksX0_ask_2 19 rfl rfl)
theorem dX0_ask_70 : decode cX0_ask 70 = .ok (.getfield 214, 3) := dk_180 0 214 (dk_at dksX0_ask_3 0 rfl rfl)
theorem dX0_ask_73 : decode cX0_ask 73 = .ok (.aload_n 0, 1) := dk_42 (dk_at dksX0_ask_3 3 rfl rfl)
theorem dX0_ask_74 : decode cX0_ask 74 = .ok (.iload_n 3, 1) := dk_29 (dk_at dksX0_ask_3 4 rfl rfl)
theorem dX0_ask_75 : decode cX0_ask 75 = .ok (.invokevirtual 229, 3) := dk_182 0 229 (dk_at dksX0_ask_3 5 rfl rfl)
theorem dX0_ask_78 : decode cX0_ask 78 = .ok (.getfield 233, 3) := dk_180 0 233 (dk_at dksX0_ask_3 8 rfl rfl)
theorem dX0_ask_81 : decode cX0_ask 81 = .ok (.iaload, 1) := dk_46 (dk_at dksX0_ask_3 11 rfl rfl)
theorem dX0_ask_82 : decode cX0_ask 82 = .ok (.i2l, 1) := dk_133 (dk_at dksX0_ask_3 12 rfl rfl)
theorem dX0_ask_83 : decode cX0_ask 83 = .ok (.lastore, 1) := dk_80 (dk_at dksX0_ask_3 13 rfl rfl)
theorem dX0_ask_84 : decode cX0_ask 84 = .ok (.aload_n 0, 1) := dk_42 (dk_at dksX0_ask_3 14 rfl rfl)
theorem dX0_ask_85 : decode cX0_ask 85 = .ok (.getfield 59, 3) := dk_180 0 59 (dk_at dksX0_ask_3 15 rfl rfl)
theorem dX0_ask_88 : decode cX0_ask 88 = .ok (.getfield 333, 3) := dk_180 1 77 (dk_at dksX0_ask_3 18 rfl rfl)
theorem dX0_ask_91 : decode cX0_ask 91 = .ok (.iconst 4, 1) := dk_7 (dk_at dksX0_ask_3 21 rfl rfl)
theorem dX0_ask_92 : decode cX0_ask 92 = .ok (.aload_n 0, 1) := dk_42 (dk_at dksX0_ask_3 22 rfl rfl)
theorem dX0_ask_93 : decode cX0_ask 93 = .ok (.getfield 69, 3) := dk_180 0 69 (dk_at dksX0_ask_4 0 rfl rfl)
theorem dX0_ask_96 : decode cX0_ask 96 = .ok (.getfield 179, 3) := dk_180 0 179 (dk_at dksX0_ask_4 3 rfl rfl)
theorem dX0_ask_99 : decode cX0_ask 99 = .ok (.i2l, 1) := dk_133 (dk_at dksX0_ask_4 6 rfl rfl)
theorem dX0_ask_100 : decode cX0_ask 100 = .ok (.lastore, 1) := dk_80 (dk_at dksX0_ask_4 7 rfl rfl)
theorem dX0_ask_101 : decode cX0_ask 101 = .ok (.aload_n 0, 1) := dk_42 (dk_at dksX0_ask_4 8 rfl rfl)
theorem dX0_ask_102 : decode cX0_ask 102 = .ok (.getfield 59, 3) := dk_180 0 59 (dk_at dksX0_ask_4 9 rfl rfl)
theorem dX0_ask_105 : decode cX0_ask 105 = .ok (.getfield 333, 3) := dk_180 1 77 (dk_at dksX0_ask_4 12 rfl rfl)
theorem dX0_ask_108 : decode cX0_ask 108 = .ok (.bipush 6, 2) := dk_16 6 (dk_at dksX0_ask_4 15 rfl rfl)
theorem dX0_ask_110 : decode cX0_ask 110 = .ok (.aload_n 0, 1) := dk_42 (dk_at dksX0_ask_4 17 rfl rfl)
theorem dX0_ask_111 : decode cX0_ask 111 = .ok (.getfield 69, 3) := dk_180 0 69 (dk_at dksX0_ask_4 18 rfl rfl)
theorem dX0_ask_114 : decode cX0_ask 114 = .ok (.getfield 236, 3) := dk_180 0 236 (dk_at dksX0_ask_4 21 rfl rfl)
theorem dX0_ask_117 : decode cX0_ask 117 = .ok (.iload_n 3, 1) := dk_29 (dk_at dksX0_ask_5 0 rfl rfl)
theorem dX0_ask_118 : decode cX0_ask 118 = .ok (.iaload, 1) := dk_46 (dk_at dksX0_ask_5 1 rfl rfl)
theorem dX0_ask_119 : decode cX0_ask 119 = .ok (.i2l, 1) := dk_133 (dk_at dksX0_ask_5 2 rfl rfl)
theorem dX0_ask_120 : decode cX0_ask 120 = .ok (.lastore, 1) := dk_80 (dk_at dksX0_ask_5 3 rfl rfl)
theorem dX0_ask_121 : decode cX0_ask 121 = .ok (.aload_n 0, 1) := dk_42 (dk_at dksX0_ask_5 4 rfl rfl)
theorem dX0_ask_122 : decode cX0_ask 122 = .ok (.getfield 59, 3) := dk_180 0 59 (dk_at dksX0_ask_5 5 rfl rfl)
theorem dX0_ask_125 : decode cX0_ask 125 = .ok (.getfield 333, 3) := dk_180 1 77 (dk_at dksX0_ask_5 8 rfl rfl)
theorem dX0_ask_128 : decode cX0_ask 128 = .ok (.bipush 8, 2) := dk_16 8 (dk_at dksX0_ask_5 11 rfl rfl)
theorem dX0_ask_130 : decode cX0_ask 130 = .ok (.aload_n 0, 1) := dk_42 (dk_at dksX0_ask_5 13 rfl rfl)
theorem dX0_ask_131 : decode cX0_ask 131 = .ok (.getfield 69, 3) := dk_180 0 69 (dk_at dksX0_ask_5 14 rfl rfl)
theorem dX0_ask_134 : decode cX0_ask 134 = .ok (.getfield 239, 3) := dk_180 0 239 (dk_at dksX0_ask_5 17 rfl rfl)
theorem dX0_ask_137 : decode cX0_ask 137 = .ok (.iload_n 3, 1) := dk_29 (dk_at dksX0_ask_5 20 rfl rfl)
theorem dX0_ask_138 : decode cX0_ask 138 = .ok (.iaload, 1) := dk_46 (dk_at dksX0_ask_5 21 rfl rfl)
theorem dX0_ask_139 : decode cX0_ask 139 = .ok (.i2l, 1) := dk_133 (dk_at dksX0_ask_5 22 rfl rfl)
theorem dX0_ask_140 : decode cX0_ask 140 = .ok (.lastore, 1) := dk_80 (dk_at dksX0_ask_5 23 rfl rfl)
theorem dX0_ask_141 : decode cX0_ask 141 = .ok (.aload_n 0, 1) := dk_42 (dk_at dksX0_ask_6 0 rfl rfl)
theorem dX0_ask_142 : decode cX0_ask 142 = .ok (.getfield 59, 3) := dk_180 0 59 (dk_at dksX0_ask_6 1 rfl rfl)
theorem dX0_ask_145 : decode cX0_ask 145 = .ok (.getfield 333, 3) := dk_180 1 77 (dk_at dksX0_ask_6 4 rfl rfl)
theorem dX0_ask_148 : decode cX0_ask 148 = .ok (.bipush 9, 2) := dk_16 9 (dk_at dksX0_ask_6 7 rfl rfl)
theorem dX0_ask_150 : decode cX0_ask 150 = .ok (.iload_n 3, 1) := dk_29 (dk_at dksX0_ask_6 9 rfl rfl)
theorem dX0_ask_151 : decode cX0_ask 151 = .ok (.i2l, 1) := dk_133 (dk_at dksX0_ask_6 10 rfl rfl)
theorem dX0_ask_152 : decode cX0_ask 152 = .ok (.lastore, 1) := dk_80 (dk_at dksX0_ask_6 11 rfl rfl)
theorem dX0_ask_153 : decode cX0_ask 153 = .ok (.aload_n 0, 1) := dk_42 (dk_at dksX0_ask_6 12 rfl rfl)
theorem dX0_ask_154 : decode cX0_ask 154 = .ok (.getfield 59, 3) := dk_180 0 59 (dk_at dksX0_ask_6 13 rfl rfl)
theorem dX0_ask_157 : decode cX0_ask 157 = .ok (.getfield 333, 3) := dk_180 1 77 (dk_at dksX0_ask_6 16 rfl rfl)
theorem dX0_ask_160 : decode cX0_ask 160 = .ok (.bipush 10, 2) := dk_16 10 (dk_at dksX0_ask_6 19 rfl rfl)
theorem dX0_ask_162 : decode cX0_ask 162 = .ok (.aload_n 0, 1) := dk_42 (dk_at dksX0_ask_6 21 rfl rfl)
theorem dX0_ask_163 : decode cX0_ask 163 = .ok (.iload_n 3, 1) := dk_29 (dk_at dksX0_ask_6 22 rfl rfl)
theorem dX0_ask_164 : decode cX0_ask 164 = .ok (.invokevirtual 229, 3) := dk_182 0 229 (dk_at dksX0_ask_7 0 rfl rfl)
theorem dX0_ask_167 : decode cX0_ask 167 = .ok (.getfield 233, 3) := dk_180 0 233 (dk_at dksX0_ask_7 3 rfl rfl)
theorem dX0_ask_170 : decode cX0_ask 170 = .ok (.i2l, 1) := dk_133 (dk_at dksX0_ask_7 6 rfl rfl)
theorem dX0_ask_171 : decode cX0_ask 171 = .ok (.lastore, 1) := dk_80 (dk_at dksX0_ask_7 7 rfl rfl)
theorem dX0_ask_172 : decode cX0_ask 172 = .ok (.aload_n 2, 1) := dk_44 (dk_at dksX0_ask_7 8 rfl rfl)
theorem dX0_ask_173 : decode cX0_ask 173 = .ok (.iload_n 3, 1) := dk_29 (dk_at dksX0_ask_7 9 rfl rfl)
theorem dX0_ask_174 : decode cX0_ask 174 = .ok (.aload_n 0, 1) := dk_42 (dk_at dksX0_ask_7 10 rfl rfl)
theorem dX0_ask_175 : decode cX0_ask 175 = .ok (.getfield 59, 3) := dk_180 0 59 (dk_at dksX0_ask_7 11 rfl rfl)
theorem dX0_ask_178 : decode cX0_ask 178 = .ok (.invokevirtual 337, 3) := dk_182 1 81 (dk_at dksX0_ask_7 14 rfl rfl)
theorem dX0_ask_181 : decode cX0_ask 181 = .ok (.iinc 3 1, 3) := dk_132 3 1 (dk_at dksX0_ask_7 17 rfl rfl)
theorem dX0_ask_184 : decode cX0_ask 184 = .ok (.goto (-134), 3) := dk_167 255 122 (dk_at dksX0_ask_7 20 rfl rfl)
theorem dX0_ask_187 : decode cX0_ask 187 = .ok (.aload_n 2, 1) := dk_44 (dk_at dksX0_ask_7 23 rfl rfl)
theorem dX0_ask_188 : decode cX0_ask 188 = .ok (.invokevirtual 343, 3) := dk_182 1 87 (dk_at dksX0_ask_8 0 rfl rfl)
theorem dX0_ask_191 : decode cX0_ask 191 = .ok (.lreturn, 1) := dk_173 (dk_at dksX0_ask_8 3 rfl rfl)
abbrev cX0_image : ByteArray := prog_1_method_61_code
def yX0_image : MethodName := ⟨RX0, "image", "()I"⟩
def dkwX0_image_8 : List UInt8 := [180, 1, 91, 184, 1, 97, 182, 1, 94, 42, 180, 1, 91, 172]
abbrev dktX0_image_8 : List UInt8 := dkwX0_image_8 ++ []
def dkwX0_image_7 : List UInt8 := [180, 0, 69, 180, 0, 239, 27, 46, 182, 1, 94, 132, 1, 1, 167, 255, 219, 42, 42, 180, 0, 103, 42]
abbrev dktX0_image_7 : List UInt8 := dkwX0_image_7 ++ dktX0_image_8
def dkwX0_image_6 : List UInt8 := [60, 27, 42, 182, 0, 165, 162, 0, 35, 42, 42, 180, 0, 69, 180, 0, 236, 27, 46, 182, 1, 94, 42, 42]
abbrev dktX0_image_6 : List UInt8 := dkwX0_image_6 ++ dktX0_image_7
def dkwX0_image_5 : List UInt8 := [46, 182, 1, 94, 42, 42, 180, 0, 69, 180, 0, 220, 27, 46, 182, 1, 94, 132, 1, 1, 167, 255, 190, 3]
abbrev dktX0_image_5 : List UInt8 := dkwX0_image_5 ++ dktX0_image_6
def dkwX0_image_4 : List UInt8 := [42, 180, 0, 69, 180, 0, 223, 27, 46, 16, 8, 122, 182, 1, 94, 42, 42, 180, 0, 69, 180, 0, 223, 27]
abbrev dktX0_image_4 : List UInt8 := dkwX0_image_4 ++ dktX0_image_5
def dkwX0_image_3 : List UInt8 := [3, 60, 27, 42, 182, 0, 163, 162, 0, 64, 42, 42, 180, 0, 69, 180, 0, 214, 27, 46, 182, 1, 94, 42]
abbrev dktX0_image_3 : List UInt8 := dkwX0_image_3 ++ dktX0_image_4
def dkwX0_image_2 : List UInt8 := [27, 46, 182, 1, 94, 42, 42, 180, 0, 69, 180, 0, 186, 27, 46, 182, 1, 94, 132, 1, 1, 167, 255, 219]
abbrev dktX0_image_2 : List UInt8 := dkwX0_image_2 ++ dktX0_image_3
def dkwX0_image_1 : List UInt8 := [180, 0, 179, 182, 1, 94, 3, 60, 27, 42, 182, 0, 167, 162, 0, 35, 42, 42, 180, 0, 69, 180, 0, 245]
abbrev dktX0_image_1 : List UInt8 := dkwX0_image_1 ++ dktX0_image_2
def dkwX0_image_0 : List UInt8 := [42, 3, 181, 1, 91, 42, 42, 180, 0, 69, 180, 0, 179, 16, 8, 122, 182, 1, 94, 42, 42, 180, 0, 69]
abbrev dktX0_image_0 : List UInt8 := dkwX0_image_0 ++ dktX0_image_1
theorem dksX0_image_0 : cX0_image.data.toList.drop 0 = dktX0_image_0 := by decide +kernel
theorem dksX0_image_1 : cX0_image.data.toList.drop 24 = dktX0_image_1 := dk_seg dksX0_image_0 24 rfl rfl
theorem dksX0_image_2 : cX0_image.data.toList.drop 48 = dktX0_image_2 := dk_seg dksX0_image_1 24 rfl rfl
theorem dksX0_image_3 : cX0_image.data.toList.drop 72 = dktX0_image_3 := dk_seg dksX0_image_2 24 rfl rfl
theorem dksX0_image_4 : cX0_image.data.toList.drop 96 = dktX0_image_4 := dk_seg dksX0_image_3 24 rfl rfl
theorem dksX0_image_5 : cX0_image.data.toList.drop 120 = dktX0_image_5 := dk_seg dksX0_image_4 24 rfl rfl
theorem dksX0_image_6 : cX0_image.data.toList.drop 144 = dktX0_image_6 := dk_seg dksX0_image_5 24 rfl rfl
theorem dksX0_image_7 : cX0_image.data.toList.drop 168 = dktX0_image_7 := dk_seg dksX0_image_6 24 rfl rfl
theorem dksX0_image_8 : cX0_image.data.toList.drop 191 = dktX0_image_8 := dk_seg dksX0_image_7 23 rfl rfl
theorem dX0_image_0 : decode cX0_image 0 = .ok (.aload_n 0, 1) := dk_42 (dk_at dksX0_image_0 0 rfl rfl)
theorem dX0_image_1 : decode cX0_image 1 = .ok (.iconst 0, 1) := dk_3 (dk_at dksX0_image_0 1 rfl rfl)
theorem dX0_image_2 : decode cX0_image 2 = .ok (.putfield 347, 3) := dk_181 1 91 (dk_at dksX0_image_0 2 rfl rfl)
theorem dX0_image_5 : decode cX0_image 5 = .ok (.aload_n 0, 1) := dk_42 (dk_at dksX0_image_0 5 rfl rfl)
theorem dX0_image_6 : decode cX0_image 6 = .ok (.aload_n 0, 1) := dk_42 (dk_at dksX0_image_0 6 rfl rfl)
theorem dX0_image_7 : decode cX0_image 7 = .ok (.getfield 69, 3) := dk_180 0 69 (dk_at dksX0_image_0 7 rfl rfl)
theorem dX0_image_10 : decode cX0_image 10 = .ok (.getfield 179, 3) := dk_180 0 179 (dk_at dksX0_image_0 10 rfl rfl)
theorem dX0_image_13 : decode cX0_image 13 = .ok (.bipush 8, 2) := dk_16 8 (dk_at dksX0_image_0 13 rfl rfl)
theorem dX0_image_15 : decode cX0_image 15 = .ok (.ishr, 1) := dk_122 (dk_at dksX0_image_0 15 rfl rfl)
theorem dX0_image_16 : decode cX0_image 16 = .ok (.invokevirtual 350, 3) := dk_182 1 94 (dk_at dksX0_image_0 16 rfl rfl)
theorem dX0_image_19 : decode cX0_image 19 = .ok (.aload_n 0, 1) := dk_42 (dk_at dksX0_image_0 19 rfl rfl)
theorem dX0_image_20 : decode cX0_image 20 = .ok (.aload_n 0, 1) := dk_42 (dk_at dksX0_image_0 20 rfl rfl)
theorem dX0_image_21 : decode cX0_image 21 = .ok (.getfield 69, 3) := dk_180 0 69 (dk_at dksX0_image_0 21 rfl rfl)
theorem dX0_image_24 : decode cX0_image 24 = .ok (.getfield 179, 3) := dk_180 0 179 (dk_at dksX0_image_1 0 rfl rfl)
theorem dX0_image_27 : decode cX0_image 27 = .ok (.invokevirtual 350, 3) := dk_182 1 94 (dk_at dksX0_image_1 3 rfl rfl)
theorem dX0_image_30 : decode cX0_image 30 = .ok (.iconst 0, 1) := dk_3 (dk_at dksX0_image_1 6 rfl rfl)
theorem dX0_image_31 : decode cX0_image 31 = .ok (.istore_n 1, 1) := dk_60 (dk_at dksX0_image_1 7 rfl rfl)
theorem dX0_image_32 : decode cX0_image 32 = .ok (.iload_n 1, 1) := dk_27 (dk_at dksX0_image_1 8 rfl rfl)
theorem dX0_image_33 : decode cX0_image 33 = .ok (.aload_n 0, 1) := dk_42 (dk_at dksX0_image_1 9 rfl rfl)
theorem dX0_image_34 : decode cX0_image 34 = .ok (.invokevirtual 167, 3) := dk_182 0 167 (dk_at dksX0_image_1 10 rfl rfl)
theorem dX0_image_37 : decode cX0_image 37 = .ok (.if_icmp .ge 35, 3) := dk_162 0 35 (dk_at dksX0_image_1 13 rfl rfl)
theorem dX0_image_40 : decode cX0_image 40 = .ok (.aload_n 0, 1) := dk_42 (dk_at dksX0_image_1 16 rfl rfl)
theorem dX0_image_41 : decode cX0_image 41 = .ok (.aload_n 0, 1) := dk_42 (dk_at dksX0_image_1 17 rfl rfl)
theorem dX0_image_42 : decode cX0_image 42 = .ok (.getfield 69, 3) := dk_180 0 69 (dk_at dksX0_image_1 18 rfl rfl)
theorem dX0_image_45 : decode cX0_image 45 = .ok (.getfield 245, 3) := dk_180 0 245 (dk_at dksX0_image_1 21 rfl rfl)
theorem dX0_image_48 : decode cX0_image 48 = .ok (.iload_n 1, 1) := dk_27 (dk_at dksX0_image_2 0 rfl rfl)
theorem dX0_image_49 : decode cX0_image 49 = .ok (.iaload, 1) := dk_46 (dk_at dksX0_image_2 1 rfl rfl)
theorem dX0_image_50 : decode cX0_image 50 = .ok (.invokevirtual 350, 3) := dk_182 1 94 (dk_at dksX0_image_2 2 rfl rfl)
theorem dX0_image_53 : decode cX0_image 53 = .ok (.aload_n 0, 1) := dk_42 (dk_at dksX0_image_2 5 rfl rfl)
theorem dX0_image_54 : decode cX0_image 54 = .ok (.aload_n 0, 1) := dk_42 (dk_at dksX0_image_2 6 rfl rfl)
theorem dX0_image_55 : decode cX0_image 55 = .ok (.getfield 69, 3) := dk_180 0 69 (dk_at dksX0_image_2 7 rfl rfl)
theorem dX0_image_58 : decode cX0_image 58 = .ok (.getfield 186, 3) := dk_180 0 186 (dk_at dksX0_image_2 10 rfl rfl)
theorem dX0_image_61 : decode cX0_image 61 = .ok (.iload_n 1, 1) := dk_27 (dk_at dksX0_image_2 13 rfl rfl)
theorem dX0_image_62 : decode cX0_image 62 = .ok (.iaload, 1) := dk_46 (dk_at dksX0_image_2 14 rfl rfl)
theorem dX0_image_63 : decode cX0_image 63 = .ok (.invokevirtual 350, 3) := dk_182 1 94 (dk_at dksX0_image_2 15 rfl rfl)
theorem dX0_image_66 : decode cX0_image 66 = .ok (.iinc 1 1, 3) := dk_132 1 1 (dk_at dksX0_image_2 18 rfl rfl)
theorem dX0_image_69 : decode cX0_image 69 = .ok (.goto (-37), 3) := dk_167 255 219 (dk_at dksX0_image_2 21 rfl rfl)
theorem dX0_image_72 : decode cX0_image 72 = .ok (.iconst 0, 1) := dk_3 (dk_at dksX0_image_3 0 rfl rfl)
theorem dX0_image_73 : decode cX0_image 73 = .ok (.istore_n 1, 1) := dk_60 (dk_at dksX0_image_3 1 rfl rfl)
theorem dX0_image_74 : decode cX0_image 74 = .ok (.iload_n 1, 1) := dk_27 (dk_at dksX0_image_3 2 rfl rfl)
theorem dX0_image_75 : decode cX0_image 75 = .ok (.aload_n 0, 1) := dk_42 (dk_at dksX0_image_3 3 rfl rfl)
theorem dX0_image_76 : decode cX0_image 76 = .ok (.invokevirtual 163, 3) := dk_182 0 163 (dk_at dksX0_image_3 4 rfl rfl)
theorem dX0_image_79 : decode cX0_image 79 = .ok (.if_icmp .ge 64, 3) := dk_162 0 64 (dk_at dksX0_image_3 7 rfl rfl)
theorem dX0_image_82 : decode cX0_image 82 = .ok (.aload_n 0, 1) := dk_42 (dk_at dksX0_image_3 10 rfl rfl)
theorem dX0_image_83 : decode cX0_image 83 = .ok (.aload_n 0, 1) := dk_42 (dk_at dksX0_image_3 11 rfl rfl)
theorem dX0_image_84 : decode cX0_image 84 = .ok (.getfield 69, 3) := dk_180 0 69 (dk_at dksX0_image_3 12 rfl rfl)
theorem dX0_image_87 : decode cX0_image 87 = .ok (.getfield 214, 3) := dk_180 0 214 (dk_at dksX0_image_3 15 rfl rfl)
theorem dX0_image_90 : decode cX0_image 90 = .ok (.iload_n 1, 1) := dk_27 (dk_at dksX0_image_3 18 rfl rfl)
theorem dX0_image_91 : decode cX0_image 91 = .ok (.iaload, 1) := dk_46 (dk_at dksX0_image_3 19 rfl rfl)
theorem dX0_image_92 : decode cX0_image 92 = .ok (.invokevirtual 350, 3) := dk_182 1 94 (dk_at dksX0_image_3 20 rfl rfl)
theorem dX0_image_95 : decode cX0_image 95 = .ok (.aload_n 0, 1) := dk_42 (dk_at dksX0_image_3 23 rfl rfl)
theorem dX0_image_96 : decode cX0_image 96 = .ok (.aload_n 0, 1) := dk_42 (dk_at dksX0_image_4 0 rfl rfl)
theorem dX0_image_97 : decode cX0_image 97 = .ok (.getfield 69, 3) := dk_180 0 69 (dk_at dksX0_image_4 1 rfl rfl)
theorem dX0_image_100 : decode cX0_image 100 = .ok (.getfield 223, 3) := dk_180 0 223 (dk_at dksX0_image_4 4 rfl rfl)
theorem dX0_image_103 : decode cX0_image 103 = .ok (.iload_n 1, 1) := dk_27 (dk_at dksX0_image_4 7 rfl rfl)
theorem dX0_image_104 : decode cX0_image 104 = .ok (.iaload, 1) := dk_46 (dk_at dksX0_image_4 8 rfl rfl)
theorem dX0_image_105 : decode cX0_image 105 = .ok (.bipush 8, 2) := dk_16 8 (dk_at dksX0_image_4 9 rfl rfl)
theorem dX0_image_107 : decode cX0_image 107 = .ok (.ishr, 1) := dk_122 (dk_at dksX0_image_4 11 rfl rfl)
theorem dX0_image_108 : decode cX0_image 108 = .ok (.invokevirtual 350, 3) := dk_182 1 94 (dk_at dksX0_image_4 12 rfl rfl)
theorem dX0_image_111 : decode cX0_image 111 = .ok (.aload_n 0, 1) := dk_42 (dk_at dksX0_image_4 15 rfl rfl)
theorem dX0_image_112 : decode cX0_image 112 = .ok (.aload_n 0, 1) := dk_42 (dk_at dksX0_image_4 16 rfl rfl)
theorem dX0_image_113 : decode cX0_image 113 = .ok (.getfield 69, 3) := dk_180 0 69 (dk_at dksX0_image_4 17 rfl rfl)
theorem dX0_image_116 : decode cX0_image 116 = .ok (.getfield 223, 3) := dk_180 0 223 (dk_at dksX0_image_4 20 rfl rfl)
theorem dX0_image_119 : decode cX0_image 119 = .ok (.iload_n 1, 1) := dk_27 (dk_at dksX0_image_4 23 rfl rfl)
theorem dX0_image_120 : decode cX0_image 120 = .ok (.iaload, 1) := dk_46 (dk_at dksX0_image_5 0 rfl rfl)
theorem dX0_image_121 : decode cX0_image 121 = .ok (.invokevirtual 350, 3) := dk_182 1 94 (dk_at dksX0_image_5 1 rfl rfl)
theorem dX0_image_124 : decode cX0_image 124 = .ok (.aload_n 0, 1) := dk_42 (dk_at dksX0_image_5 4 rfl rfl)
theorem dX0_image_125 : decode cX0_image 125 = .ok (.aload_n 0, 1) := dk_42 (dk_at dksX0_image_5 5 rfl rfl)
theorem dX0_image_126 : decode cX0_image 126 = .ok (.getfield 69, 3) := dk_180 0 69 (dk_at dksX0_image_5 6 rfl rfl)
theorem dX0_image_129 : decode cX0_image 129 = .ok (.getfield 220, 3) := dk_180 0 220 (dk_at dksX0_image_5 9 rfl rfl)
theorem dX0_image_132 : decode cX0_image 132 = .ok (.iload_n 1, 1) := dk_27 (dk_at dksX0_image_5 12 rfl rfl)
theorem dX0_image_133 : decode cX0_image 133 = .ok (.iaload, 1) := dk_46 (dk_at dksX0_image_5 13 rfl rfl)
theorem dX0_image_134 : decode cX0_image 134 = .ok (.invokevirtual 350, 3) := dk_182 1 94 (dk_at dksX0_image_5 14 rfl rfl)
theorem dX0_image_137 : decode cX0_image 137 = .ok (.iinc 1 1, 3) := dk_132 1 1 (dk_at dksX0_image_5 17 rfl rfl)
theorem dX0_image_140 : decode cX0_image 140 = .ok (.goto (-66), 3) := dk_167 255 190 (dk_at dksX0_image_5 20 rfl rfl)
theorem dX0_image_143 : decode cX0_image 143 = .ok (.iconst 0, 1) := dk_3 (dk_at dksX0_image_5 23 rfl rfl)
theorem dX0_image_144 : decode cX0_image 144 = .ok (.istore_n 1, 1) := dk_60 (dk_at dksX0_image_6 0 rfl rfl)
theorem dX0_image_145 : decode cX0_image 145 = .ok (.iload_n 1, 1) := dk_27 (dk_at dksX0_image_6 1 rfl rfl)
theorem dX0_image_146 : decode cX0_image 146 = .ok (.aload_n 0, 1) := dk_42 (dk_at dksX0_image_6 2 rfl rfl)
theorem dX0_image_147 : decode cX0_image 147 = .ok (.invokevirtual 165, 3) := dk_182 0 165 (dk_at dksX0_image_6 3 rfl rfl)
theorem dX0_image_150 : decode cX0_image 150 = .ok (.if_icmp .ge 35, 3) := dk_162 0 35 (dk_at dksX0_image_6 6 rfl rfl)
theorem dX0_image_153 : decode cX0_image 153 = .ok (.aload_n 0, 1) := dk_42 (dk_at dksX0_image_6 9 rfl rfl)
theorem dX0_image_154 : decode cX0_image 154 = .ok (.aload_n 0, 1) := dk_42 (dk_at dksX0_image_6 10 rfl rfl)
theorem dX0_image_155 : decode cX0_image 155 = .ok (.getfield 69, 3) := dk_180 0 69 (dk_at dksX0_image_6 11 rfl rfl)
theorem dX0_image_158 : decode cX0_image 158 = .ok (.getfield 236, 3) := dk_180 0 236 (dk_at dksX0_image_6 14 rfl rfl)
theorem dX0_image_161 : decode cX0_image 161 = .ok (.iload_n 1, 1) := dk_27 (dk_at dksX0_image_6 17 rfl rfl)
theorem dX0_image_162 : decode cX0_image 162 = .ok (.iaload, 1) := dk_46 (dk_at dksX0_image_6 18 rfl rfl)
theorem dX0_image_163 : decode cX0_image 163 = .ok (.invokevirtual 350, 3) := dk_182 1 94 (dk_at dksX0_image_6 19 rfl rfl)
theorem dX0_image_166 : decode cX0_image 166 = .ok (.aload_n 0, 1) := dk_42 (dk_at dksX0_image_6 22 rfl rfl)
theorem dX0_image_167 : decode cX0_image 167 = .ok (.aload_n 0, 1) := dk_42 (dk_at dksX0_image_6 23 rfl rfl)
theorem dX0_image_168 : decode cX0_image 168 = .ok (.getfield 69, 3) := dk_180 0 69 (dk_at dksX0_image_7 0 rfl rfl)
theorem dX0_image_171 : decode cX0_image 171 = .ok (.getfield 239, 3) := dk_180 0 239 (dk_at dksX0_image_7 3 rfl rfl)
theorem dX0_image_174 : decode cX0_image 174 = .ok (.iload_n 1, 1) := dk_27 (dk_at dksX0_image_7 6 rfl rfl)
theorem dX0_image_175 : decode cX0_image 175 = .ok (.iaload, 1) := dk_46 (dk_at dksX0_image_7 7 rfl rfl)
theorem dX0_image_176 : decode cX0_image 176 = .ok (.invokevirtual 350, 3) := dk_182 1 94 (dk_at dksX0_image_7 8 rfl rfl)
theorem dX0_image_179 : decode cX0_image 179 = .ok (.iinc 1 1, 3) := dk_132 1 1 (dk_at dksX0_image_7 11 rfl rfl)
theorem dX0_image_182 : decode cX0_image 182 = .ok (.goto (-37), 3) := dk_167 255 219 (dk_at dksX0_image_7 14 rfl rfl)
theorem dX0_image_185 : decode cX0_image 185 = .ok (.aload_n 0, 1) := dk_42 (dk_at dksX0_image_7 17 rfl rfl)
theorem dX0_image_186 : decode cX0_image 186 = .ok (.aload_n 0, 1) := dk_42 (dk_at dksX0_image_7 18 rfl rfl)
theorem dX0_image_187 : decode cX0_image 187 = .ok (.getfield 103, 3) := dk_180 0 103 (dk_at dksX0_image_7 19 rfl rfl)
theorem dX0_image_190 : decode cX0_image 190 = .ok (.aload_n 0, 1) := dk_42 (dk_at dksX0_image_7 22 rfl rfl)
theorem dX0_image_191 : decode cX0_image 191 = .ok (.getfield 347, 3) := dk_180 1 91 (dk_at dksX0_image_8 0 rfl rfl)
theorem dX0_image_194 : decode cX0_image 194 = .ok (.invokestatic 353, 3) := dk_184 1 97 (dk_at dksX0_image_8 3 rfl rfl)
theorem dX0_image_197 : decode cX0_image 197 = .ok (.invokevirtual 350, 3) := dk_182 1 94 (dk_at dksX0_image_8 6 rfl rfl)
theorem dX0_image_200 : decode cX0_image 200 = .ok (.aload_n 0, 1) := dk_42 (dk_at dksX0_image_8 9 rfl rfl)
theorem dX0_image_201 : decode cX0_image 201 = .ok (.getfield 347, 3) := dk_180 1 91 (dk_at dksX0_image_8 10 rfl rfl)
theorem dX0_image_204 : decode cX0_image 204 = .ok (.ireturn, 1) := dk_172 (dk_at dksX0_image_8 13 rfl rfl)
abbrev cX0_writes : ByteArray := prog_1_method_59_code
def yX0_writes : MethodName := ⟨RX0, "writes", "(I)V"⟩
def dkwX0_writes_0 : List UInt8 := [42, 180, 0, 103, 42, 89, 180, 1, 91, 90, 4, 96, 181, 1, 91, 27, 145, 84, 177]
abbrev dktX0_writes_0 : List UInt8 := dkwX0_writes_0 ++ []
theorem dksX0_writes_0 : cX0_writes.data.toList.drop 0 = dktX0_writes_0 := by decide +kernel
theorem dX0_writes_0 : decode cX0_writes 0 = .ok (.aload_n 0, 1) := dk_42 (dk_at dksX0_writes_0 0 rfl rfl)
theorem dX0_writes_1 : decode cX0_writes 1 = .ok (.getfield 103, 3) := dk_180 0 103 (dk_at dksX0_writes_0 1 rfl rfl)
theorem dX0_writes_4 : decode cX0_writes 4 = .ok (.aload_n 0, 1) := dk_42 (dk_at dksX0_writes_0 4 rfl rfl)
theorem dX0_writes_5 : decode cX0_writes 5 = .ok (.dup, 1) := dk_89 (dk_at dksX0_writes_0 5 rfl rfl)
theorem dX0_writes_6 : decode cX0_writes 6 = .ok (.getfield 347, 3) := dk_180 1 91 (dk_at dksX0_writes_0 6 rfl rfl)
theorem dX0_writes_9 : decode cX0_writes 9 = .ok (.dup_x1, 1) := dk_90 (dk_at dksX0_writes_0 9 rfl rfl)
theorem dX0_writes_10 : decode cX0_writes 10 = .ok (.iconst 1, 1) := dk_4 (dk_at dksX0_writes_0 10 rfl rfl)
theorem dX0_writes_11 : decode cX0_writes 11 = .ok (.iadd, 1) := dk_96 (dk_at dksX0_writes_0 11 rfl rfl)
theorem dX0_writes_12 : decode cX0_writes 12 = .ok (.putfield 347, 3) := dk_181 1 91 (dk_at dksX0_writes_0 12 rfl rfl)
theorem dX0_writes_15 : decode cX0_writes 15 = .ok (.iload_n 1, 1) := dk_27 (dk_at dksX0_writes_0 15 rfl rfl)
theorem dX0_writes_16 : decode cX0_writes 16 = .ok (.i2b, 1) := dk_145 (dk_at dksX0_writes_0 16 rfl rfl)
theorem dX0_writes_17 : decode cX0_writes 17 = .ok (.bastore, 1) := dk_84 (dk_at dksX0_writes_0 17 rfl rfl)
theorem dX0_writes_18 : decode cX0_writes 18 = .ok (.return_, 1) := dk_177 (dk_at dksX0_writes_0 18 rfl rfl)
abbrev cX0_check : ByteArray := prog_1_method_60_code
def yX0_check : MethodName := ⟨RX0, "check", "([BI)I"⟩
def dkwX0_check_1 : List UInt8 := [17, 0, 251, 112, 61, 132, 3, 1, 167, 255, 232, 28, 172]
abbrev dktX0_check_1 : List UInt8 := dkwX0_check_1 ++ []
def dkwX0_check_0 : List UInt8 := [17, 0, 233, 61, 3, 62, 29, 27, 162, 0, 25, 6, 28, 104, 42, 29, 51, 17, 0, 255, 126, 96]
abbrev dktX0_check_0 : List UInt8 := dkwX0_check_0 ++ dktX0_check_1
theorem dksX0_check_0 : cX0_check.data.toList.drop 0 = dktX0_check_0 := by decide +kernel
theorem dksX0_check_1 : cX0_check.data.toList.drop 22 = dktX0_check_1 := dk_seg dksX0_check_0 22 rfl rfl
theorem dX0_check_0 : decode cX0_check 0 = .ok (.sipush 233, 3) := dk_17 0 233 (dk_at dksX0_check_0 0 rfl rfl)
theorem dX0_check_3 : decode cX0_check 3 = .ok (.istore_n 2, 1) := dk_61 (dk_at dksX0_check_0 3 rfl rfl)
theorem dX0_check_4 : decode cX0_check 4 = .ok (.iconst 0, 1) := dk_3 (dk_at dksX0_check_0 4 rfl rfl)
theorem dX0_check_5 : decode cX0_check 5 = .ok (.istore_n 3, 1) := dk_62 (dk_at dksX0_check_0 5 rfl rfl)
theorem dX0_check_6 : decode cX0_check 6 = .ok (.iload_n 3, 1) := dk_29 (dk_at dksX0_check_0 6 rfl rfl)
theorem dX0_check_7 : decode cX0_check 7 = .ok (.iload_n 1, 1) := dk_27 (dk_at dksX0_check_0 7 rfl rfl)
theorem dX0_check_8 : decode cX0_check 8 = .ok (.if_icmp .ge 25, 3) := dk_162 0 25 (dk_at dksX0_check_0 8 rfl rfl)
theorem dX0_check_11 : decode cX0_check 11 = .ok (.iconst 3, 1) := dk_6 (dk_at dksX0_check_0 11 rfl rfl)
theorem dX0_check_12 : decode cX0_check 12 = .ok (.iload_n 2, 1) := dk_28 (dk_at dksX0_check_0 12 rfl rfl)
theorem dX0_check_13 : decode cX0_check 13 = .ok (.imul, 1) := dk_104 (dk_at dksX0_check_0 13 rfl rfl)
theorem dX0_check_14 : decode cX0_check 14 = .ok (.aload_n 0, 1) := dk_42 (dk_at dksX0_check_0 14 rfl rfl)
theorem dX0_check_15 : decode cX0_check 15 = .ok (.iload_n 3, 1) := dk_29 (dk_at dksX0_check_0 15 rfl rfl)
theorem dX0_check_16 : decode cX0_check 16 = .ok (.baload, 1) := dk_51 (dk_at dksX0_check_0 16 rfl rfl)
theorem dX0_check_17 : decode cX0_check 17 = .ok (.sipush 255, 3) := dk_17 0 255 (dk_at dksX0_check_0 17 rfl rfl)
theorem dX0_check_20 : decode cX0_check 20 = .ok (.iand, 1) := dk_126 (dk_at dksX0_check_0 20 rfl rfl)
theorem dX0_check_21 : decode cX0_check 21 = .ok (.iadd, 1) := dk_96 (dk_at dksX0_check_0 21 rfl rfl)
theorem dX0_check_22 : decode cX0_check 22 = .ok (.sipush 251, 3) := dk_17 0 251 (dk_at dksX0_check_1 0 rfl rfl)
theorem dX0_check_25 : decode cX0_check 25 = .ok (.irem, 1) := dk_112 (dk_at dksX0_check_1 3 rfl rfl)
theorem dX0_check_26 : decode cX0_check 26 = .ok (.istore_n 2, 1) := dk_61 (dk_at dksX0_check_1 4 rfl rfl)
theorem dX0_check_27 : decode cX0_check 27 = .ok (.iinc 3 1, 3) := dk_132 3 1 (dk_at dksX0_check_1 5 rfl rfl)
theorem dX0_check_30 : decode cX0_check 30 = .ok (.goto (-24), 3) := dk_167 255 232 (dk_at dksX0_check_1 8 rfl rfl)
theorem dX0_check_33 : decode cX0_check 33 = .ok (.iload_n 2, 1) := dk_28 (dk_at dksX0_check_1 11 rfl rfl)
theorem dX0_check_34 : decode cX0_check 34 = .ok (.ireturn, 1) := dk_172 (dk_at dksX0_check_1 12 rfl rfl)
abbrev cX0_octet : ByteArray := prog_1_method_62_code
def yX0_octet : MethodName := ⟨RX0, "octet", "(I)I"⟩
def dkwX0_octet_1 : List UInt8 := [17, 0, 255, 126, 172]
abbrev dktX0_octet_1 : List UInt8 := dkwX0_octet_1 ++ []
def dkwX0_octet_0 : List UInt8 := [27, 155, 0, 11, 27, 42, 180, 1, 91, 161, 0, 7, 2, 167, 0, 13, 42, 180, 0, 103, 27, 51]
abbrev dktX0_octet_0 : List UInt8 := dkwX0_octet_0 ++ dktX0_octet_1
theorem dksX0_octet_0 : cX0_octet.data.toList.drop 0 = dktX0_octet_0 := by decide +kernel
theorem dksX0_octet_1 : cX0_octet.data.toList.drop 22 = dktX0_octet_1 := dk_seg dksX0_octet_0 22 rfl rfl
theorem dX0_octet_0 : decode cX0_octet 0 = .ok (.iload_n 1, 1) := dk_27 (dk_at dksX0_octet_0 0 rfl rfl)
theorem dX0_octet_1 : decode cX0_octet 1 = .ok (.ifCond .lt 11, 3) := dk_155 0 11 (dk_at dksX0_octet_0 1 rfl rfl)
theorem dX0_octet_4 : decode cX0_octet 4 = .ok (.iload_n 1, 1) := dk_27 (dk_at dksX0_octet_0 4 rfl rfl)
theorem dX0_octet_5 : decode cX0_octet 5 = .ok (.aload_n 0, 1) := dk_42 (dk_at dksX0_octet_0 5 rfl rfl)
theorem dX0_octet_6 : decode cX0_octet 6 = .ok (.getfield 347, 3) := dk_180 1 91 (dk_at dksX0_octet_0 6 rfl rfl)
theorem dX0_octet_9 : decode cX0_octet 9 = .ok (.if_icmp .lt 7, 3) := dk_161 0 7 (dk_at dksX0_octet_0 9 rfl rfl)
theorem dX0_octet_12 : decode cX0_octet 12 = .ok (.iconst (-1), 1) := dk_2 (dk_at dksX0_octet_0 12 rfl rfl)
theorem dX0_octet_13 : decode cX0_octet 13 = .ok (.goto 13, 3) := dk_167 0 13 (dk_at dksX0_octet_0 13 rfl rfl)
theorem dX0_octet_16 : decode cX0_octet 16 = .ok (.aload_n 0, 1) := dk_42 (dk_at dksX0_octet_0 16 rfl rfl)
theorem dX0_octet_17 : decode cX0_octet 17 = .ok (.getfield 103, 3) := dk_180 0 103 (dk_at dksX0_octet_0 17 rfl rfl)
theorem dX0_octet_20 : decode cX0_octet 20 = .ok (.iload_n 1, 1) := dk_27 (dk_at dksX0_octet_0 20 rfl rfl)
theorem dX0_octet_21 : decode cX0_octet 21 = .ok (.baload, 1) := dk_51 (dk_at dksX0_octet_0 21 rfl rfl)
theorem dX0_octet_22 : decode cX0_octet 22 = .ok (.sipush 255, 3) := dk_17 0 255 (dk_at dksX0_octet_1 0 rfl rfl)
theorem dX0_octet_25 : decode cX0_octet 25 = .ok (.iand, 1) := dk_126 (dk_at dksX0_octet_1 3 rfl rfl)
theorem dX0_octet_26 : decode cX0_octet 26 = .ok (.ireturn, 1) := dk_172 (dk_at dksX0_octet_1 4 rfl rfl)
abbrev cX0_on : ByteArray := prog_1_method_67_code
def yX0_on : MethodName := ⟨RX0, "on", "()Z"⟩
def dkwX0_on_1 : List UInt8 := [172, 42, 180, 0, 69, 42, 180, 0, 73, 182, 1, 8, 87, 42, 3, 181, 0, 139, 4, 172]
abbrev dktX0_on_1 : List UInt8 := dkwX0_on_1 ++ []
def dkwX0_on_0 : List UInt8 := [42, 42, 182, 0, 120, 182, 1, 110, 154, 0, 17, 42, 8, 182, 0, 109, 155, 0, 7, 4, 167, 0, 4, 3]
abbrev dktX0_on_0 : List UInt8 := dkwX0_on_0 ++ dktX0_on_1
theorem dksX0_on_0 : cX0_on.data.toList.drop 0 = dktX0_on_0 := by decide +kernel
theorem dksX0_on_1 : cX0_on.data.toList.drop 24 = dktX0_on_1 := dk_seg dksX0_on_0 24 rfl rfl
theorem dX0_on_0 : decode cX0_on 0 = .ok (.aload_n 0, 1) := dk_42 (dk_at dksX0_on_0 0 rfl rfl)
theorem dX0_on_1 : decode cX0_on 1 = .ok (.aload_n 0, 1) := dk_42 (dk_at dksX0_on_0 1 rfl rfl)
theorem dX0_on_2 : decode cX0_on 2 = .ok (.invokevirtual 120, 3) := dk_182 0 120 (dk_at dksX0_on_0 2 rfl rfl)
theorem dX0_on_5 : decode cX0_on 5 = .ok (.invokevirtual 366, 3) := dk_182 1 110 (dk_at dksX0_on_0 5 rfl rfl)
theorem dX0_on_8 : decode cX0_on 8 = .ok (.ifCond .ne 17, 3) := dk_154 0 17 (dk_at dksX0_on_0 8 rfl rfl)
theorem dX0_on_11 : decode cX0_on 11 = .ok (.aload_n 0, 1) := dk_42 (dk_at dksX0_on_0 11 rfl rfl)
theorem dX0_on_12 : decode cX0_on 12 = .ok (.iconst 5, 1) := dk_8 (dk_at dksX0_on_0 12 rfl rfl)
theorem dX0_on_13 : decode cX0_on 13 = .ok (.invokevirtual 109, 3) := dk_182 0 109 (dk_at dksX0_on_0 13 rfl rfl)
theorem dX0_on_16 : decode cX0_on 16 = .ok (.ifCond .lt 7, 3) := dk_155 0 7 (dk_at dksX0_on_0 16 rfl rfl)
theorem dX0_on_19 : decode cX0_on 19 = .ok (.iconst 1, 1) := dk_4 (dk_at dksX0_on_0 19 rfl rfl)
theorem dX0_on_20 : decode cX0_on 20 = .ok (.goto 4, 3) := dk_167 0 4 (dk_at dksX0_on_0 20 rfl rfl)
theorem dX0_on_23 : decode cX0_on 23 = .ok (.iconst 0, 1) := dk_3 (dk_at dksX0_on_0 23 rfl rfl)
theorem dX0_on_24 : decode cX0_on 24 = .ok (.ireturn, 1) := dk_172 (dk_at dksX0_on_1 0 rfl rfl)
theorem dX0_on_25 : decode cX0_on 25 = .ok (.aload_n 0, 1) := dk_42 (dk_at dksX0_on_1 1 rfl rfl)
theorem dX0_on_26 : decode cX0_on 26 = .ok (.getfield 69, 3) := dk_180 0 69 (dk_at dksX0_on_1 2 rfl rfl)
theorem dX0_on_29 : decode cX0_on 29 = .ok (.aload_n 0, 1) := dk_42 (dk_at dksX0_on_1 5 rfl rfl)
theorem dX0_on_30 : decode cX0_on 30 = .ok (.getfield 73, 3) := dk_180 0 73 (dk_at dksX0_on_1 6 rfl rfl)
theorem dX0_on_33 : decode cX0_on 33 = .ok (.invokevirtual 264, 3) := dk_182 1 8 (dk_at dksX0_on_1 9 rfl rfl)
theorem dX0_on_36 : decode cX0_on 36 = .ok (.pop, 1) := dk_87 (dk_at dksX0_on_1 12 rfl rfl)
theorem dX0_on_37 : decode cX0_on 37 = .ok (.aload_n 0, 1) := dk_42 (dk_at dksX0_on_1 13 rfl rfl)
theorem dX0_on_38 : decode cX0_on 38 = .ok (.iconst 0, 1) := dk_3 (dk_at dksX0_on_1 14 rfl rfl)
theorem dX0_on_39 : decode cX0_on 39 = .ok (.putfield 139, 3) := dk_181 0 139 (dk_at dksX0_on_1 15 rfl rfl)
theorem dX0_on_42 : decode cX0_on 42 = .ok (.iconst 1, 1) := dk_4 (dk_at dksX0_on_1 18 rfl rfl)
theorem dX0_on_43 : decode cX0_on 43 = .ok (.ireturn, 1) := dk_172 (dk_at dksX0_on_1 19 rfl rfl)
abbrev cX0_comesOn : ByteArray := prog_1_method_66_code
def yX0_comesOn : MethodName := ⟨RX0, "comesOn", "(I)Z"⟩
def dkwX0_comesOn_9 : List UInt8 := [167, 255, 227, 21, 5, 172]
abbrev dktX0_comesOn_9 : List UInt8 := dkwX0_comesOn_9 ++ []
def dkwX0_comesOn_8 : List UInt8 := [162, 0, 26, 21, 5, 42, 21, 6, 29, 5, 21, 6, 104, 96, 182, 1, 107, 126, 54, 5, 132, 6, 1]
abbrev dktX0_comesOn_8 : List UInt8 := dkwX0_comesOn_8 ++ dktX0_comesOn_9
def dkwX0_comesOn_7 : List UInt8 := [104, 96, 182, 1, 104, 126, 54, 5, 132, 6, 1, 167, 255, 227, 3, 54, 6, 21, 6, 42, 182, 0, 165]
abbrev dktX0_comesOn_7 : List UInt8 := dkwX0_comesOn_7 ++ dktX0_comesOn_8
def dkwX0_comesOn_6 : List UInt8 := [167, 255, 227, 3, 54, 6, 21, 6, 42, 182, 0, 163, 162, 0, 26, 21, 5, 42, 21, 6, 28, 7, 21, 6]
abbrev dktX0_comesOn_6 : List UInt8 := dkwX0_comesOn_6 ++ dktX0_comesOn_7
def dkwX0_comesOn_5 : List UInt8 := [162, 0, 26, 21, 5, 42, 21, 6, 5, 5, 21, 6, 104, 96, 182, 1, 101, 126, 54, 5, 132, 6, 1]
abbrev dktX0_comesOn_5 : List UInt8 := dkwX0_comesOn_5 ++ dktX0_comesOn_6
def dkwX0_comesOn_4 : List UInt8 := [181, 0, 179, 42, 180, 0, 73, 3, 181, 0, 192, 4, 54, 5, 3, 54, 6, 21, 6, 42, 182, 0, 167]
abbrev dktX0_comesOn_4 : List UInt8 := dkwX0_comesOn_4 ++ dktX0_comesOn_5
def dkwX0_comesOn_3 : List UInt8 := [21, 4, 17, 3, 231, 164, 0, 5, 3, 172, 42, 180, 0, 73, 42, 180, 0, 69, 182, 1, 8, 21, 4]
abbrev dktX0_comesOn_3 : List UInt8 := dkwX0_comesOn_3 ++ dktX0_comesOn_4
def dkwX0_comesOn_2 : List UInt8 := [160, 0, 31, 42, 27, 4, 100, 182, 1, 43, 42, 180, 0, 35, 27, 4, 100, 184, 1, 97, 160, 0, 11]
abbrev dktX0_comesOn_2 : List UInt8 := dkwX0_comesOn_2 ++ dktX0_comesOn_3
def dkwX0_comesOn_1 : List UInt8 := [16, 8, 120, 42, 4, 182, 1, 43, 128, 54, 4, 27, 29, 5, 42, 182, 0, 165, 104, 96, 4, 96]
abbrev dktX0_comesOn_1 : List UInt8 := dkwX0_comesOn_1 ++ dktX0_comesOn_2
def dkwX0_comesOn_0 : List UInt8 := [5, 5, 42, 182, 0, 167, 104, 96, 61, 28, 7, 42, 182, 0, 163, 104, 96, 62, 42, 3, 182, 1, 43]
abbrev dktX0_comesOn_0 : List UInt8 := dkwX0_comesOn_0 ++ dktX0_comesOn_1
theorem dksX0_comesOn_0 : cX0_comesOn.data.toList.drop 0 = dktX0_comesOn_0 := by decide +kernel
theorem dksX0_comesOn_1 : cX0_comesOn.data.toList.drop 23 = dktX0_comesOn_1 := dk_seg dksX0_comesOn_0 23 rfl rfl
theorem dksX0_comesOn_2 : cX0_comesOn.data.toList.drop 45 = dktX0_comesOn_2 := dk_seg dksX0_comesOn_1 22 rfl rfl
theorem dksX0_comesOn_3 : cX0_comesOn.data.toList.drop 68 = dktX0_comesOn_3 := dk_seg dksX0_comesOn_2 23 rfl rfl
theorem dksX0_comesOn_4 : cX0_comesOn.data.toList.drop 91 = dktX0_comesOn_4 := dk_seg dksX0_comesOn_3 23 rfl rfl
theorem dksX0_comesOn_5 : cX0_comesOn.data.toList.drop 114 = dktX0_comesOn_5 := dk_seg dksX0_comesOn_4 23 rfl rfl
theorem dksX0_comesOn_6 : cX0_comesOn.data.toList.drop 137 = dktX0_comesOn_6 := dk_seg dksX0_comesOn_5 23 rfl rfl
theorem dksX0_comesOn_7 : cX0_comesOn.data.toList.drop 161 = dktX0_comesOn_7 := dk_seg dksX0_comesOn_6 24 rfl rfl
theorem dksX0_comesOn_8 : cX0_comesOn.data.toList.drop 184 = dktX0_comesOn_8 := dk_seg dksX0_comesOn_7 23 rfl rfl
theorem dksX0_comesOn_9 : cX0_comesOn.data.toList.drop 207 = dktX0_comesOn_9 := dk_seg dksX0_comesOn_8 23 rfl rfl
theorem dX0_comesOn_0 : decode cX0_comesOn 0 = .ok (.iconst 2, 1) := dk_5 (dk_at dksX0_comesOn_0 0 rfl rfl)
theorem dX0_comesOn_1 : decode cX0_comesOn 1 = .ok (.iconst 2, 1) := dk_5 (dk_at dksX0_comesOn_0 1 rfl rfl)
theorem dX0_comesOn_2 : decode cX0_comesOn 2 = .ok (.aload_n 0, 1) := dk_42 (dk_at dksX0_comesOn_0 2 rfl rfl)
theorem dX0_comesOn_3 : decode cX0_comesOn 3 = .ok (.invokevirtual 167, 3) := dk_182 0 167 (dk_at dksX0_comesOn_0 3 rfl rfl)
theorem dX0_comesOn_6 : decode cX0_comesOn 6 = .ok (.imul, 1) := dk_104 (dk_at dksX0_comesOn_0 6 rfl rfl)
theorem dX0_comesOn_7 : decode cX0_comesOn 7 = .ok (.iadd, 1) := dk_96 (dk_at dksX0_comesOn_0 7 rfl rfl)
theorem dX0_comesOn_8 : decode cX0_comesOn 8 = .ok (.istore_n 2, 1) := dk_61 (dk_at dksX0_comesOn_0 8 rfl rfl)
theorem dX0_comesOn_9 : decode cX0_comesOn 9 = .ok (.iload_n 2, 1) := dk_28 (dk_at dksX0_comesOn_0 9 rfl rfl)
theorem dX0_comesOn_10 : decode cX0_comesOn 10 = .ok (.iconst 4, 1) := dk_7 (dk_at dksX0_comesOn_0 10 rfl rfl)
theorem dX0_comesOn_11 : decode cX0_comesOn 11 = .ok (.aload_n 0, 1) := dk_42 (dk_at dksX0_comesOn_0 11 rfl rfl)
theorem dX0_comesOn_12 : decode cX0_comesOn 12 = .ok (.invokevirtual 163, 3) := dk_182 0 163 (dk_at dksX0_comesOn_0 12 rfl rfl)
theorem dX0_comesOn_15 : decode cX0_comesOn 15 = .ok (.imul, 1) := dk_104 (dk_at dksX0_comesOn_0 15 rfl rfl)
theorem dX0_comesOn_16 : decode cX0_comesOn 16 = .ok (.iadd, 1) := dk_96 (dk_at dksX0_comesOn_0 16 rfl rfl)
theorem dX0_comesOn_17 : decode cX0_comesOn 17 = .ok (.istore_n 3, 1) := dk_62 (dk_at dksX0_comesOn_0 17 rfl rfl)
theorem dX0_comesOn_18 : decode cX0_comesOn 18 = .ok (.aload_n 0, 1) := dk_42 (dk_at dksX0_comesOn_0 18 rfl rfl)
theorem dX0_comesOn_19 : decode cX0_comesOn 19 = .ok (.iconst 0, 1) := dk_3 (dk_at dksX0_comesOn_0 19 rfl rfl)
theorem dX0_comesOn_20 : decode cX0_comesOn 20 = .ok (.invokevirtual 299, 3) := dk_182 1 43 (dk_at dksX0_comesOn_0 20 rfl rfl)
theorem dX0_comesOn_23 : decode cX0_comesOn 23 = .ok (.bipush 8, 2) := dk_16 8 (dk_at dksX0_comesOn_1 0 rfl rfl)
theorem dX0_comesOn_25 : decode cX0_comesOn 25 = .ok (.ishl, 1) := dk_120 (dk_at dksX0_comesOn_1 2 rfl rfl)
theorem dX0_comesOn_26 : decode cX0_comesOn 26 = .ok (.aload_n 0, 1) := dk_42 (dk_at dksX0_comesOn_1 3 rfl rfl)
theorem dX0_comesOn_27 : decode cX0_comesOn 27 = .ok (.iconst 1, 1) := dk_4 (dk_at dksX0_comesOn_1 4 rfl rfl)
theorem dX0_comesOn_28 : decode cX0_comesOn 28 = .ok (.invokevirtual 299, 3) := dk_182 1 43 (dk_at dksX0_comesOn_1 5 rfl rfl)
theorem dX0_comesOn_31 : decode cX0_comesOn 31 = .ok (.ior, 1) := dk_128 (dk_at dksX0_comesOn_1 8 rfl rfl)
theorem dX0_comesOn_32 : decode cX0_comesOn 32 = .ok (.istore 4, 2) := dk_54 4 (dk_at dksX0_comesOn_1 9 rfl rfl)
theorem dX0_comesOn_34 : decode cX0_comesOn 34 = .ok (.iload_n 1, 1) := dk_27 (dk_at dksX0_comesOn_1 11 rfl rfl)
theorem dX0_comesOn_35 : decode cX0_comesOn 35 = .ok (.iload_n 3, 1) := dk_29 (dk_at dksX0_comesOn_1 12 rfl rfl)
theorem dX0_comesOn_36 : decode cX0_comesOn 36 = .ok (.iconst 2, 1) := dk_5 (dk_at dksX0_comesOn_1 13 rfl rfl)
theorem dX0_comesOn_37 : decode cX0_comesOn 37 = .ok (.aload_n 0, 1) := dk_42 (dk_at dksX0_comesOn_1 14 rfl rfl)
theorem dX0_comesOn_38 : decode cX0_comesOn 38 = .ok (.invokevirtual 165, 3) := dk_182 0 165 (dk_at dksX0_comesOn_1 15 rfl rfl)
theorem dX0_comesOn_41 : decode cX0_comesOn 41 = .ok (.imul, 1) := dk_104 (dk_at dksX0_comesOn_1 18 rfl rfl)
theorem dX0_comesOn_42 : decode cX0_comesOn 42 = .ok (.iadd, 1) := dk_96 (dk_at dksX0_comesOn_1 19 rfl rfl)
theorem dX0_comesOn_43 : decode cX0_comesOn 43 = .ok (.iconst 1, 1) := dk_4 (dk_at dksX0_comesOn_1 20 rfl rfl)
theorem dX0_comesOn_44 : decode cX0_comesOn 44 = .ok (.iadd, 1) := dk_96 (dk_at dksX0_comesOn_1 21 rfl rfl)
theorem dX0_comesOn_45 : decode cX0_comesOn 45 = .ok (.if_icmp .ne 31, 3) := dk_160 0 31 (dk_at dksX0_comesOn_2 0 rfl rfl)
theorem dX0_comesOn_48 : decode cX0_comesOn 48 = .ok (.aload_n 0, 1) := dk_42 (dk_at dksX0_comesOn_2 3 rfl rfl)
theorem dX0_comesOn_49 : decode cX0_comesOn 49 = .ok (.iload_n 1, 1) := dk_27 (dk_at dksX0_comesOn_2 4 rfl rfl)
theorem dX0_comesOn_50 : decode cX0_comesOn 50 = .ok (.iconst 1, 1) := dk_4 (dk_at dksX0_comesOn_2 5 rfl rfl)
theorem dX0_comesOn_51 : decode cX0_comesOn 51 = .ok (.isub, 1) := dk_100 (dk_at dksX0_comesOn_2 6 rfl rfl)
theorem dX0_comesOn_52 : decode cX0_comesOn 52 = .ok (.invokevirtual 299, 3) := dk_182 1 43 (dk_at dksX0_comesOn_2 7 rfl rfl)
theorem dX0_comesOn_55 : decode cX0_comesOn 55 = .ok (.aload_n 0, 1) := dk_42 (dk_at dksX0_comesOn_2 10 rfl rfl)
theorem dX0_comesOn_56 : decode cX0_comesOn 56 = .ok (.getfield 35, 3) := dk_180 0 35 (dk_at dksX0_comesOn_2 11 rfl rfl)
theorem dX0_comesOn_59 : decode cX0_comesOn 59 = .ok (.iload_n 1, 1) := dk_27 (dk_at dksX0_comesOn_2 14 rfl rfl)
theorem dX0_comesOn_60 : decode cX0_comesOn 60 = .ok (.iconst 1, 1) := dk_4 (dk_at dksX0_comesOn_2 15 rfl rfl)
theorem dX0_comesOn_61 : decode cX0_comesOn 61 = .ok (.isub, 1) := dk_100 (dk_at dksX0_comesOn_2 16 rfl rfl)
theorem dX0_comesOn_62 : decode cX0_comesOn 62 = .ok (.invokestatic 353, 3) := dk_184 1 97 (dk_at dksX0_comesOn_2 17 rfl rfl)
theorem dX0_comesOn_65 : decode cX0_comesOn 65 = .ok (.if_icmp .ne 11, 3) := dk_160 0 11 (dk_at dksX0_comesOn_2 20 rfl rfl)
theorem dX0_comesOn_68 : decode cX0_comesOn 68 = .ok (.iload 4, 2) := dk_21 4 (dk_at dksX0_comesOn_3 0 rfl rfl)
theorem dX0_comesOn_70 : decode cX0_comesOn 70 = .ok (.sipush 999, 3) := dk_17 3 231 (dk_at dksX0_comesOn_3 2 rfl rfl)
theorem dX0_comesOn_73 : decode cX0_comesOn 73 = .ok (.if_icmp .le 5, 3) := dk_164 0 5 (dk_at dksX0_comesOn_3 5 rfl rfl)
theorem dX0_comesOn_76 : decode cX0_comesOn 76 = .ok (.iconst 0, 1) := dk_3 (dk_at dksX0_comesOn_3 8 rfl rfl)
theorem dX0_comesOn_77 : decode cX0_comesOn 77 = .ok (.ireturn, 1) := dk_172 (dk_at dksX0_comesOn_3 9 rfl rfl)
theorem dX0_comesOn_78 : decode cX0_comesOn 78 = .ok (.aload_n 0, 1) := dk_42 (dk_at dksX0_comesOn_3 10 rfl rfl)
theorem dX0_comesOn_79 : decode cX0_comesOn 79 = .ok (.getfield 73, 3) := dk_180 0 73 (dk_at dksX0_comesOn_3 11 rfl rfl)
theorem dX0_comesOn_82 : decode cX0_comesOn 82 = .ok (.aload_n 0, 1) := dk_42 (dk_at dksX0_comesOn_3 14 rfl rfl)
theorem dX0_comesOn_83 : decode cX0_comesOn 83 = .ok (.getfield 69, 3) := dk_180 0 69 (dk_at dksX0_comesOn_3 15 rfl rfl)
theorem dX0_comesOn_86 : decode cX0_comesOn 86 = .ok (.invokevirtual 264, 3) := dk_182 1 8 (dk_at dksX0_comesOn_3 18 rfl rfl)
theorem dX0_comesOn_89 : decode cX0_comesOn 89 = .ok (.iload 4, 2) := dk_21 4 (dk_at dksX0_comesOn_3 21 rfl rfl)
theorem dX0_comesOn_91 : decode cX0_comesOn 91 = .ok (.putfield 179, 3) := dk_181 0 179 (dk_at dksX0_comesOn_4 0 rfl rfl)
theorem dX0_comesOn_94 : decode cX0_comesOn 94 = .ok (.aload_n 0, 1) := dk_42 (dk_at dksX0_comesOn_4 3 rfl rfl)
theorem dX0_comesOn_95 : decode cX0_comesOn 95 = .ok (.getfield 73, 3) := dk_180 0 73 (dk_at dksX0_comesOn_4 4 rfl rfl)
theorem dX0_comesOn_98 : decode cX0_comesOn 98 = .ok (.iconst 0, 1) := dk_3 (dk_at dksX0_comesOn_4 7 rfl rfl)
theorem dX0_comesOn_99 : decode cX0_comesOn 99 = .ok (.putfield 192, 3) := dk_181 0 192 (dk_at dksX0_comesOn_4 8 rfl rfl)
theorem dX0_comesOn_102 : decode cX0_comesOn 102 = .ok (.iconst 1, 1) := dk_4 (dk_at dksX0_comesOn_4 11 rfl rfl)
theorem dX0_comesOn_103 : decode cX0_comesOn 103 = .ok (.istore 5, 2) := dk_54 5 (dk_at dksX0_comesOn_4 12 rfl rfl)
theorem dX0_comesOn_105 : decode cX0_comesOn 105 = .ok (.iconst 0, 1) := dk_3 (dk_at dksX0_comesOn_4 14 rfl rfl)
theorem dX0_comesOn_106 : decode cX0_comesOn 106 = .ok (.istore 6, 2) := dk_54 6 (dk_at dksX0_comesOn_4 15 rfl rfl)
theorem dX0_comesOn_108 : decode cX0_comesOn 108 = .ok (.iload 6, 2) := dk_21 6 (dk_at dksX0_comesOn_4 17 rfl rfl)
theorem dX0_comesOn_110 : decode cX0_comesOn 110 = .ok (.aload_n 0, 1) := dk_42 (dk_at dksX0_comesOn_4 19 rfl rfl)
theorem dX0_comesOn_111 : decode cX0_comesOn 111 = .ok (.invokevirtual 167, 3) := dk_182 0 167 (dk_at dksX0_comesOn_4 20 rfl rfl)
theorem dX0_comesOn_114 : decode cX0_comesOn 114 = .ok (.if_icmp .ge 26, 3) := dk_162 0 26 (dk_at dksX0_comesOn_5 0 rfl rfl)
theorem dX0_comesOn_117 : decode cX0_comesOn 117 = .ok (.iload 5, 2) := dk_21 5 (dk_at dksX0_comesOn_5 3 rfl rfl)
theorem dX0_comesOn_119 : decode cX0_comesOn 119 = .ok (.aload_n 0, 1) := dk_42 (dk_at dksX0_comesOn_5 5 rfl rfl)
theorem dX0_comesOn_120 : decode cX0_comesOn 120 = .ok (.iload 6, 2) := dk_21 6 (dk_at dksX0_comesOn_5 6 rfl rfl)
theorem dX0_comesOn_122 : decode cX0_comesOn 122 = .ok (.iconst 2, 1) := dk_5 (dk_at dksX0_comesOn_5 8 rfl rfl)
theorem dX0_comesOn_123 : decode cX0_comesOn 123 = .ok (.iconst 2, 1) := dk_5 (dk_at dksX0_comesOn_5 9 rfl rfl)
theorem dX0_comesOn_124 : decode cX0_comesOn 124 = .ok (.iload 6, 2) := dk_21 6 (dk_at dksX0_comesOn_5 10 rfl rfl)
theorem dX0_comesOn_126 : decode cX0_comesOn 126 = .ok (.imul, 1) := dk_104 (dk_at dksX0_comesOn_5 12 rfl rfl)
theorem dX0_comesOn_127 : decode cX0_comesOn 127 = .ok (.iadd, 1) := dk_96 (dk_at dksX0_comesOn_5 13 rfl rfl)
theorem dX0_comesOn_128 : decode cX0_comesOn 128 = .ok (.invokevirtual 357, 3) := dk_182 1 101 (dk_at dksX0_comesOn_5 14 rfl rfl)
theorem dX0_comesOn_131 : decode cX0_comesOn 131 = .ok (.iand, 1) := dk_126 (dk_at dksX0_comesOn_5 17 rfl rfl)
theorem dX0_comesOn_132 : decode cX0_comesOn 132 = .ok (.istore 5, 2) := dk_54 5 (dk_at dksX0_comesOn_5 18 rfl rfl)
theorem dX0_comesOn_134 : decode cX0_comesOn 134 = .ok (.iinc 6 1, 3) := dk_132 6 1 (dk_at dksX0_comesOn_5 20 rfl rfl)
theorem dX0_comesOn_137 : decode cX0_comesOn 137 = .ok (.goto (-29), 3) := dk_167 255 227 (dk_at dksX0_comesOn_6 0 rfl rfl)
theorem dX0_comesOn_140 : decode cX0_comesOn 140 = .ok (.iconst 0, 1) := dk_3 (dk_at dksX0_comesOn_6 3 rfl rfl)
theorem dX0_comesOn_141 : decode cX0_comesOn 141 = .ok (.istore 6, 2) := dk_54 6 (dk_at dksX0_comesOn_6 4 rfl rfl)
theorem dX0_comesOn_143 : decode cX0_comesOn 143 = .ok (.iload 6, 2) := dk_21 6 (dk_at dksX0_comesOn_6 6 rfl rfl)
theorem dX0_comesOn_145 : decode cX0_comesOn 145 = .ok (.aload_n 0, 1) := dk_42 (dk_at dksX0_comesOn_6 8 rfl rfl)
theorem dX0_comesOn_146 : decode cX0_comesOn 146 = .ok (.invokevirtual 163, 3) := dk_182 0 163 (dk_at dksX0_comesOn_6 9 rfl rfl)
theorem dX0_comesOn_149 : decode cX0_comesOn 149 = .ok (.if_icmp .ge 26, 3) := dk_162 0 26 (dk_at dksX0_comesOn_6 12 rfl rfl)
theorem dX0_comesOn_152 : decode cX0_comesOn 152 = .ok (.iload 5, 2) := dk_21 5 (dk_at dksX0_comesOn_6 15 rfl rfl)
theorem dX0_comesOn_154 : decode cX0_comesOn 154 = .ok (.aload_n 0, 1) := dk_42 (dk_at dksX0_comesOn_6 17 rfl rfl)
theorem dX0_comesOn_155 : decode cX0_comesOn 155 = .ok (.iload 6, 2) := dk_21 6 (dk_at dksX0_comesOn_6 18 rfl rfl)
theorem dX0_comesOn_157 : decode cX0_comesOn 157 = .ok (.iload_n 2, 1) := dk_28 (dk_at dksX0_comesOn_6 20 rfl rfl)
theorem dX0_comesOn_158 : decode cX0_comesOn 158 = .ok (.iconst 4, 1) := dk_7 (dk_at dksX0_comesOn_6 21 rfl rfl)
theorem dX0_comesOn_159 : decode cX0_comesOn 159 = .ok (.iload 6, 2) := dk_21 6 (dk_at dksX0_comesOn_6 22 rfl rfl)
theorem dX0_comesOn_161 : decode cX0_comesOn 161 = .ok (.imul, 1) := dk_104 (dk_at dksX0_comesOn_7 0 rfl rfl)
theorem dX0_comesOn_162 : decode cX0_comesOn 162 = .ok (.iadd, 1) := dk_96 (dk_at dksX0_comesOn_7 1 rfl rfl)
theorem dX0_comesOn_163 : decode cX0_comesOn 163 = .ok (.invokevirtual 360, 3) := dk_182 1 104 (dk_at dksX0_comesOn_7 2 rfl rfl)
theorem dX0_comesOn_166 : decode cX0_comesOn 166 = .ok (.iand, 1) := dk_126 (dk_at dksX0_comesOn_7 5 rfl rfl)
theorem dX0_comesOn_167 : decode cX0_comesOn 167 = .ok (.istore 5, 2) := dk_54 5 (dk_at dksX0_comesOn_7 6 rfl rfl)
theorem dX0_comesOn_169 : decode cX0_comesOn 169 = .ok (.iinc 6 1, 3) := dk_132 6 1 (dk_at dksX0_comesOn_7 8 rfl rfl)
theorem dX0_comesOn_172 : decode cX0_comesOn 172 = .ok (.goto (-29), 3) := dk_167 255 227 (dk_at dksX0_comesOn_7 11 rfl rfl)
theorem dX0_comesOn_175 : decode cX0_comesOn 175 = .ok (.iconst 0, 1) := dk_3 (dk_at dksX0_comesOn_7 14 rfl rfl)
theorem dX0_comesOn_176 : decode cX0_comesOn 176 = .ok (.istore 6, 2) := dk_54 6 (dk_at dksX0_comesOn_7 15 rfl rfl)
theorem dX0_comesOn_178 : decode cX0_comesOn 178 = .ok (.iload 6, 2) := dk_21 6 (dk_at dksX0_comesOn_7 17 rfl rfl)
theorem dX0_comesOn_180 : decode cX0_comesOn 180 = .ok (.aload_n 0, 1) := dk_42 (dk_at dksX0_comesOn_7 19 rfl rfl)
theorem dX0_comesOn_181 : decode cX0_comesOn 181 = .ok (.invokevirtual 165, 3) := dk_182 0 165 (dk_at dksX0_comesOn_7 20 rfl rfl)
theorem dX0_comesOn_184 : decode cX0_comesOn 184 = .ok (.if_icmp .ge 26, 3) := dk_162 0 26 (dk_at dksX0_comesOn_8 0 rfl rfl)
theorem dX0_comesOn_187 : decode cX0_comesOn 187 = .ok (.iload 5, 2) := dk_21 5 (dk_at dksX0_comesOn_8 3 rfl rfl)
theorem dX0_comesOn_189 : decode cX0_comesOn 189 = .ok (.aload_n 0, 1) := dk_42 (dk_at dksX0_comesOn_8 5 rfl rfl)
theorem dX0_comesOn_190 : decode cX0_comesOn 190 = .ok (.iload 6, 2) := dk_21 6 (dk_at dksX0_comesOn_8 6 rfl rfl)
theorem dX0_comesOn_192 : decode cX0_comesOn 192 = .ok (.iload_n 3, 1) := dk_29 (dk_at dksX0_comesOn_8 8 rfl rfl)
theorem dX0_comesOn_193 : decode cX0_comesOn 193 = .ok (.iconst 2, 1) := dk_5 (dk_at dksX0_comesOn_8 9 rfl rfl)
theorem dX0_comesOn_194 : decode cX0_comesOn 194 = .ok (.iload 6, 2) := dk_21 6 (dk_at dksX0_comesOn_8 10 rfl rfl)
theorem dX0_comesOn_196 : decode cX0_comesOn 196 = .ok (.imul, 1) := dk_104 (dk_at dksX0_comesOn_8 12 rfl rfl)
theorem dX0_comesOn_197 : decode cX0_comesOn 197 = .ok (.iadd, 1) := dk_96 (dk_at dksX0_comesOn_8 13 rfl rfl)
theorem dX0_comesOn_198 : decode cX0_comesOn 198 = .ok (.invokevirtual 363, 3) := dk_182 1 107 (dk_at dksX0_comesOn_8 14 rfl rfl)
theorem dX0_comesOn_201 : decode cX0_comesOn 201 = .ok (.iand, 1) := dk_126 (dk_at dksX0_comesOn_8 17 rfl rfl)
theorem dX0_comesOn_202 : decode cX0_comesOn 202 = .ok (.istore 5, 2) := dk_54 5 (dk_at dksX0_comesOn_8 18 rfl rfl)
theorem dX0_comesOn_204 : decode cX0_comesOn 204 = .ok (.iinc 6 1, 3) := dk_132 6 1 (dk_at dksX0_comesOn_8 20 rfl rfl)
theorem dX0_comesOn_207 : decode cX0_comesOn 207 = .ok (.goto (-29), 3) := dk_167 255 227 (dk_at dksX0_comesOn_9 0 rfl rfl)
theorem dX0_comesOn_210 : decode cX0_comesOn 210 = .ok (.iload 5, 2) := dk_21 5 (dk_at dksX0_comesOn_9 3 rfl rfl)
theorem dX0_comesOn_212 : decode cX0_comesOn 212 = .ok (.ireturn, 1) := dk_172 (dk_at dksX0_comesOn_9 5 rfl rfl)
abbrev cX0_shoalOn : ByteArray := prog_1_method_63_code
def yX0_shoalOn : MethodName := ⟨RX0, "shoalOn", "(II)Z"⟩
def dkwX0_shoalOn_3 : List UInt8 := [28, 4, 96, 182, 1, 43, 182, 0, 204, 153, 0, 7, 4, 167, 0, 4, 3, 172]
abbrev dktX0_shoalOn_3 : List UInt8 := dkwX0_shoalOn_3 ++ []
def dkwX0_shoalOn_2 : List UInt8 := [28, 182, 1, 43, 16, 99, 163, 0, 34, 42, 28, 4, 96, 182, 1, 43, 17, 0, 255, 159, 0, 17, 42, 42]
abbrev dktX0_shoalOn_2 : List UInt8 := dkwX0_shoalOn_2 ++ dktX0_shoalOn_3
def dkwX0_shoalOn_1 : List UInt8 := [4, 96, 182, 1, 43, 17, 0, 255, 160, 0, 7, 2, 167, 0, 10, 42, 28, 4, 96, 182, 1, 43, 79, 42]
abbrev dktX0_shoalOn_1 : List UInt8 := dkwX0_shoalOn_1 ++ dktX0_shoalOn_2
def dkwX0_shoalOn_0 : List UInt8 := [42, 180, 0, 73, 180, 0, 245, 27, 42, 28, 182, 1, 43, 79, 42, 180, 0, 73, 180, 0, 186, 27, 42, 28]
abbrev dktX0_shoalOn_0 : List UInt8 := dkwX0_shoalOn_0 ++ dktX0_shoalOn_1
theorem dksX0_shoalOn_0 : cX0_shoalOn.data.toList.drop 0 = dktX0_shoalOn_0 := by decide +kernel
theorem dksX0_shoalOn_1 : cX0_shoalOn.data.toList.drop 24 = dktX0_shoalOn_1 := dk_seg dksX0_shoalOn_0 24 rfl rfl
theorem dksX0_shoalOn_2 : cX0_shoalOn.data.toList.drop 48 = dktX0_shoalOn_2 := dk_seg dksX0_shoalOn_1 24 rfl rfl
theorem dksX0_shoalOn_3 : cX0_shoalOn.data.toList.drop 72 = dktX0_shoalOn_3 := dk_seg dksX0_shoalOn_2 24 rfl rfl
theorem dX0_shoalOn_0 : decode cX0_shoalOn 0 = .ok (.aload_n 0, 1) := dk_42 (dk_at dksX0_shoalOn_0 0 rfl rfl)
theorem dX0_shoalOn_1 : decode cX0_shoalOn 1 = .ok (.getfield 73, 3) := dk_180 0 73 (dk_at dksX0_shoalOn_0 1 rfl rfl)
theorem dX0_shoalOn_4 : decode cX0_shoalOn 4 = .ok (.getfield 245, 3) := dk_180 0 245 (dk_at dksX0_shoalOn_0 4 rfl rfl)
theorem dX0_shoalOn_7 : decode cX0_shoalOn 7 = .ok (.iload_n 1, 1) := dk_27 (dk_at dksX0_shoalOn_0 7 rfl rfl)
theorem dX0_shoalOn_8 : decode cX0_shoalOn 8 = .ok (.aload_n 0, 1) := dk_42 (dk_at dksX0_shoalOn_0 8 rfl rfl)
theorem dX0_shoalOn_9 : decode cX0_shoalOn 9 = .ok (.iload_n 2, 1) := dk_28 (dk_at dksX0_shoalOn_0 9 rfl rfl)
theorem dX0_shoalOn_10 : decode cX0_shoalOn 10 = .ok (.invokevirtual 299, 3) := dk_182 1 43 (dk_at dksX0_shoalOn_0 10 rfl rfl)
theorem dX0_shoalOn_13 : decode cX0_shoalOn 13 = .ok (.iastore, 1) := dk_79 (dk_at dksX0_shoalOn_0 13 rfl rfl)
theorem dX0_shoalOn_14 : decode cX0_shoalOn 14 = .ok (.aload_n 0, 1) := dk_42 (dk_at dksX0_shoalOn_0 14 rfl rfl)
theorem dX0_shoalOn_15 : decode cX0_shoalOn 15 = .ok (.getfield 73, 3) := dk_180 0 73 (dk_at dksX0_shoalOn_0 15 rfl rfl)
theorem dX0_shoalOn_18 : decode cX0_shoalOn 18 = .ok (.getfield 186, 3) := dk_180 0 186 (dk_at dksX0_shoalOn_0 18 rfl rfl)
theorem dX0_shoalOn_21 : decode cX0_shoalOn 21 = .ok (.iload_n 1, 1) := dk_27 (dk_at dksX0_shoalOn_0 21 rfl rfl)
theorem dX0_shoalOn_22 : decode cX0_shoalOn 22 = .ok (.aload_n 0, 1) := dk_42 (dk_at dksX0_shoalOn_0 22 rfl rfl)
theorem dX0_shoalOn_23 : decode cX0_shoalOn 23 = .ok (.iload_n 2, 1) := dk_28 (dk_at dksX0_shoalOn_0 23 rfl rfl)
theorem dX0_shoalOn_24 : decode cX0_shoalOn 24 = .ok (.iconst 1, 1) := dk_4 (dk_at dksX0_shoalOn_1 0 rfl rfl)
theorem dX0_shoalOn_25 : decode cX0_shoalOn 25 = .ok (.iadd, 1) := dk_96 (dk_at dksX0_shoalOn_1 1 rfl rfl)
theorem dX0_shoalOn_26 : decode cX0_shoalOn 26 = .ok (.invokevirtual 299, 3) := dk_182 1 43 (dk_at dksX0_shoalOn_1 2 rfl rfl)
theorem dX0_shoalOn_29 : decode cX0_shoalOn 29 = .ok (.sipush 255, 3) := dk_17 0 255 (dk_at dksX0_shoalOn_1 5 rfl rfl)
theorem dX0_shoalOn_32 : decode cX0_shoalOn 32 = .ok (.if_icmp .ne 7, 3) := dk_160 0 7 (dk_at dksX0_shoalOn_1 8 rfl rfl)
theorem dX0_shoalOn_35 : decode cX0_shoalOn 35 = .ok (.iconst (-1), 1) := dk_2 (dk_at dksX0_shoalOn_1 11 rfl rfl)
theorem dX0_shoalOn_36 : decode cX0_shoalOn 36 = .ok (.goto 10, 3) := dk_167 0 10 (dk_at dksX0_shoalOn_1 12 rfl rfl)
theorem dX0_shoalOn_39 : decode cX0_shoalOn 39 = .ok (.aload_n 0, 1) := dk_42 (dk_at dksX0_shoalOn_1 15 rfl rfl)
theorem dX0_shoalOn_40 : decode cX0_shoalOn 40 = .ok (.iload_n 2, 1) := dk_28 (dk_at dksX0_shoalOn_1 16 rfl rfl)
theorem dX0_shoalOn_41 : decode cX0_shoalOn 41 = .ok (.iconst 1, 1) := dk_4 (dk_at dksX0_shoalOn_1 17 rfl rfl)
theorem dX0_shoalOn_42 : decode cX0_shoalOn 42 = .ok (.iadd, 1) := dk_96 (dk_at dksX0_shoalOn_1 18 rfl rfl)
theorem dX0_shoalOn_43 : decode cX0_shoalOn 43 = .ok (.invokevirtual 299, 3) := dk_182 1 43 (dk_at dksX0_shoalOn_1 19 rfl rfl)
theorem dX0_shoalOn_46 : decode cX0_shoalOn 46 = .ok (.iastore, 1) := dk_79 (dk_at dksX0_shoalOn_1 22 rfl rfl)
theorem dX0_shoalOn_47 : decode cX0_shoalOn 47 = .ok (.aload_n 0, 1) := dk_42 (dk_at dksX0_shoalOn_1 23 rfl rfl)
theorem dX0_shoalOn_48 : decode cX0_shoalOn 48 = .ok (.iload_n 2, 1) := dk_28 (dk_at dksX0_shoalOn_2 0 rfl rfl)
theorem dX0_shoalOn_49 : decode cX0_shoalOn 49 = .ok (.invokevirtual 299, 3) := dk_182 1 43 (dk_at dksX0_shoalOn_2 1 rfl rfl)
theorem dX0_shoalOn_52 : decode cX0_shoalOn 52 = .ok (.bipush 99, 2) := dk_16 99 (dk_at dksX0_shoalOn_2 4 rfl rfl)
theorem dX0_shoalOn_54 : decode cX0_shoalOn 54 = .ok (.if_icmp .gt 34, 3) := dk_163 0 34 (dk_at dksX0_shoalOn_2 6 rfl rfl)
theorem dX0_shoalOn_57 : decode cX0_shoalOn 57 = .ok (.aload_n 0, 1) := dk_42 (dk_at dksX0_shoalOn_2 9 rfl rfl)
theorem dX0_shoalOn_58 : decode cX0_shoalOn 58 = .ok (.iload_n 2, 1) := dk_28 (dk_at dksX0_shoalOn_2 10 rfl rfl)
theorem dX0_shoalOn_59 : decode cX0_shoalOn 59 = .ok (.iconst 1, 1) := dk_4 (dk_at dksX0_shoalOn_2 11 rfl rfl)
theorem dX0_shoalOn_60 : decode cX0_shoalOn 60 = .ok (.iadd, 1) := dk_96 (dk_at dksX0_shoalOn_2 12 rfl rfl)
theorem dX0_shoalOn_61 : decode cX0_shoalOn 61 = .ok (.invokevirtual 299, 3) := dk_182 1 43 (dk_at dksX0_shoalOn_2 13 rfl rfl)
theorem dX0_shoalOn_64 : decode cX0_shoalOn 64 = .ok (.sipush 255, 3) := dk_17 0 255 (dk_at dksX0_shoalOn_2 16 rfl rfl)
theorem dX0_shoalOn_67 : decode cX0_shoalOn 67 = .ok (.if_icmp .eq 17, 3) := dk_159 0 17 (dk_at dksX0_shoalOn_2 19 rfl rfl)
theorem dX0_shoalOn_70 : decode cX0_shoalOn 70 = .ok (.aload_n 0, 1) := dk_42 (dk_at dksX0_shoalOn_2 22 rfl rfl)
theorem dX0_shoalOn_71 : decode cX0_shoalOn 71 = .ok (.aload_n 0, 1) := dk_42 (dk_at dksX0_shoalOn_2 23 rfl rfl)
theorem dX0_shoalOn_72 : decode cX0_shoalOn 72 = .ok (.iload_n 2, 1) := dk_28 (dk_at dksX0_shoalOn_3 0 rfl rfl)
theorem dX0_shoalOn_73 : decode cX0_shoalOn 73 = .ok (.iconst 1, 1) := dk_4 (dk_at dksX0_shoalOn_3 1 rfl rfl)
theorem dX0_shoalOn_74 : decode cX0_shoalOn 74 = .ok (.iadd, 1) := dk_96 (dk_at dksX0_shoalOn_3 2 rfl rfl)
theorem dX0_shoalOn_75 : decode cX0_shoalOn 75 = .ok (.invokevirtual 299, 3) := dk_182 1 43 (dk_at dksX0_shoalOn_3 3 rfl rfl)
theorem dX0_shoalOn_78 : decode cX0_shoalOn 78 = .ok (.invokevirtual 204, 3) := dk_182 0 204 (dk_at dksX0_shoalOn_3 6 rfl rfl)
theorem dX0_shoalOn_81 : decode cX0_shoalOn 81 = .ok (.ifCond .eq 7, 3) := dk_153 0 7 (dk_at dksX0_shoalOn_3 9 rfl rfl)
theorem dX0_shoalOn_84 : decode cX0_shoalOn 84 = .ok (.iconst 1, 1) := dk_4 (dk_at dksX0_shoalOn_3 12 rfl rfl)
theorem dX0_shoalOn_85 : decode cX0_shoalOn 85 = .ok (.goto 4, 3) := dk_167 0 4 (dk_at dksX0_shoalOn_3 13 rfl rfl)
theorem dX0_shoalOn_88 : decode cX0_shoalOn 88 = .ok (.iconst 0, 1) := dk_3 (dk_at dksX0_shoalOn_3 16 rfl rfl)
theorem dX0_shoalOn_89 : decode cX0_shoalOn 89 = .ok (.ireturn, 1) := dk_172 (dk_at dksX0_shoalOn_3 17 rfl rfl)
abbrev cX0_bayOn : ByteArray := prog_1_method_64_code
def yX0_bayOn : MethodName := ⟨RX0, "bayOn", "(II)Z"⟩
def dkwX0_bayOn_4 : List UInt8 := [167, 0, 4, 3, 172]
abbrev dktX0_bayOn_4 : List UInt8 := dkwX0_bayOn_4 ++ []
def dkwX0_bayOn_3 : List UInt8 := [180, 0, 223, 27, 46, 17, 1, 41, 163, 0, 19, 42, 28, 6, 96, 182, 1, 43, 16, 99, 163, 0, 7, 4]
abbrev dktX0_bayOn_3 : List UInt8 := dkwX0_bayOn_3 ++ dktX0_bayOn_4
def dkwX0_bayOn_2 : List UInt8 := [27, 42, 28, 6, 96, 182, 1, 43, 79, 42, 28, 182, 1, 43, 16, 99, 163, 0, 34, 42, 180, 0, 73]
abbrev dktX0_bayOn_2 : List UInt8 := dkwX0_bayOn_2 ++ dktX0_bayOn_3
def dkwX0_bayOn_1 : List UInt8 := [4, 96, 182, 1, 43, 16, 8, 120, 42, 28, 5, 96, 182, 1, 43, 128, 79, 42, 180, 0, 73, 180, 0, 220]
abbrev dktX0_bayOn_1 : List UInt8 := dkwX0_bayOn_1 ++ dktX0_bayOn_2
def dkwX0_bayOn_0 : List UInt8 := [42, 180, 0, 73, 180, 0, 214, 27, 42, 28, 182, 1, 43, 79, 42, 180, 0, 73, 180, 0, 223, 27, 42, 28]
abbrev dktX0_bayOn_0 : List UInt8 := dkwX0_bayOn_0 ++ dktX0_bayOn_1
theorem dksX0_bayOn_0 : cX0_bayOn.data.toList.drop 0 = dktX0_bayOn_0 := by decide +kernel
theorem dksX0_bayOn_1 : cX0_bayOn.data.toList.drop 24 = dktX0_bayOn_1 := dk_seg dksX0_bayOn_0 24 rfl rfl
theorem dksX0_bayOn_2 : cX0_bayOn.data.toList.drop 48 = dktX0_bayOn_2 := dk_seg dksX0_bayOn_1 24 rfl rfl
theorem dksX0_bayOn_3 : cX0_bayOn.data.toList.drop 71 = dktX0_bayOn_3 := dk_seg dksX0_bayOn_2 23 rfl rfl
theorem dksX0_bayOn_4 : cX0_bayOn.data.toList.drop 95 = dktX0_bayOn_4 := dk_seg dksX0_bayOn_3 24 rfl rfl
theorem dX0_bayOn_0 : decode cX0_bayOn 0 = .ok (.aload_n 0, 1) := dk_42 (dk_at dksX0_bayOn_0 0 rfl rfl)
theorem dX0_bayOn_1 : decode cX0_bayOn 1 = .ok (.getfield 73, 3) := dk_180 0 73 (dk_at dksX0_bayOn_0 1 rfl rfl)
theorem dX0_bayOn_4 : decode cX0_bayOn 4 = .ok (.getfield 214, 3) := dk_180 0 214 (dk_at dksX0_bayOn_0 4 rfl rfl)
theorem dX0_bayOn_7 : decode cX0_bayOn 7 = .ok (.iload_n 1, 1) := dk_27 (dk_at dksX0_bayOn_0 7 rfl rfl)
theorem dX0_bayOn_8 : decode cX0_bayOn 8 = .ok (.aload_n 0, 1) := dk_42 (dk_at dksX0_bayOn_0 8 rfl rfl)
theorem dX0_bayOn_9 : decode cX0_bayOn 9 = .ok (.iload_n 2, 1) := dk_28 (dk_at dksX0_bayOn_0 9 rfl rfl)
theorem dX0_bayOn_10 : decode cX0_bayOn 10 = .ok (.invokevirtual 299, 3) := dk_182 1 43 (dk_at dksX0_bayOn_0 10 rfl rfl)
theorem dX0_bayOn_13 : decode cX0_bayOn 13 = .ok (.iastore, 1) := dk_79 (dk_at dksX0_bayOn_0 13 rfl rfl)
theorem dX0_bayOn_14 : decode cX0_bayOn 14 = .ok (.aload_n 0, 1) := dk_42 (dk_at dksX0_bayOn_0 14 rfl rfl)
theorem dX0_bayOn_15 : decode cX0_bayOn 15 = .ok (.getfield 73, 3) := dk_180 0 73 (dk_at dksX0_bayOn_0 15 rfl rfl)
theorem dX0_bayOn_18 : decode cX0_bayOn 18 = .ok (.getfield 223, 3) := dk_180 0 223 (dk_at dksX0_bayOn_0 18 rfl rfl)
theorem dX0_bayOn_21 : decode cX0_bayOn 21 = .ok (.iload_n 1, 1) := dk_27 (dk_at dksX0_bayOn_0 21 rfl rfl)
theorem dX0_bayOn_22 : decode cX0_bayOn 22 = .ok (.aload_n 0, 1) := dk_42 (dk_at dksX0_bayOn_0 22 rfl rfl)
theorem dX0_bayOn_23 : decode cX0_bayOn 23 = .ok (.iload_n 2, 1) := dk_28 (dk_at dksX0_bayOn_0 23 rfl rfl)
theorem dX0_bayOn_24 : decode cX0_bayOn 24 = .ok (.iconst 1, 1) := dk_4 (dk_at dksX0_bayOn_1 0 rfl rfl)
theorem dX0_bayOn_25 : decode cX0_bayOn 25 = .ok (.iadd, 1) := dk_96 (dk_at dksX0_bayOn_1 1 rfl rfl)
theorem dX0_bayOn_26 : decode cX0_bayOn 26 = .ok (.invokevirtual 299, 3) := dk_182 1 43 (dk_at dksX0_bayOn_1 2 rfl rfl)
theorem dX0_bayOn_29 : decode cX0_bayOn 29 = .ok (.bipush 8, 2) := dk_16 8 (dk_at dksX0_bayOn_1 5 rfl rfl)
theorem dX0_bayOn_31 : decode cX0_bayOn 31 = .ok (.ishl, 1) := dk_120 (dk_at dksX0_bayOn_1 7 rfl rfl)
theorem dX0_bayOn_32 : decode cX0_bayOn 32 = .ok (.aload_n 0, 1) := dk_42 (dk_at dksX0_bayOn_1 8 rfl rfl)
theorem dX0_bayOn_33 : decode cX0_bayOn 33 = .ok (.iload_n 2, 1) := dk_28 (dk_at dksX0_bayOn_1 9 rfl rfl)
theorem dX0_bayOn_34 : decode cX0_bayOn 34 = .ok (.iconst 2, 1) := dk_5 (dk_at dksX0_bayOn_1 10 rfl rfl)
theorem dX0_bayOn_35 : decode cX0_bayOn 35 = .ok (.iadd, 1) := dk_96 (dk_at dksX0_bayOn_1 11 rfl rfl)
theorem dX0_bayOn_36 : decode cX0_bayOn 36 = .ok (.invokevirtual 299, 3) := dk_182 1 43 (dk_at dksX0_bayOn_1 12 rfl rfl)
theorem dX0_bayOn_39 : decode cX0_bayOn 39 = .ok (.ior, 1) := dk_128 (dk_at dksX0_bayOn_1 15 rfl rfl)
theorem dX0_bayOn_40 : decode cX0_bayOn 40 = .ok (.iastore, 1) := dk_79 (dk_at dksX0_bayOn_1 16 rfl rfl)
theorem dX0_bayOn_41 : decode cX0_bayOn 41 = .ok (.aload_n 0, 1) := dk_42 (dk_at dksX0_bayOn_1 17 rfl rfl)
theorem dX0_bayOn_42 : decode cX0_bayOn 42 = .ok (.getfield 73, 3) := dk_180 0 73 (dk_at dksX0_bayOn_1 18 rfl rfl)
theorem dX0_bayOn_45 : decode cX0_bayOn 45 = .ok (.getfield 220, 3) := dk_180 0 220 (dk_at dksX0_bayOn_1 21 rfl rfl)
theorem dX0_bayOn_48 : decode cX0_bayOn 48 = .ok (.iload_n 1, 1) := dk_27 (dk_at dksX0_bayOn_2 0 rfl rfl)
theorem dX0_bayOn_49 : decode cX0_bayOn 49 = .ok (.aload_n 0, 1) := dk_42 (dk_at dksX0_bayOn_2 1 rfl rfl)
theorem dX0_bayOn_50 : decode cX0_bayOn 50 = .ok (.iload_n 2, 1) := dk_28 (dk_at dksX0_bayOn_2 2 rfl rfl)
theorem dX0_bayOn_51 : decode cX0_bayOn 51 = .ok (.iconst 3, 1) := dk_6 (dk_at dksX0_bayOn_2 3 rfl rfl)
theorem dX0_bayOn_52 : decode cX0_bayOn 52 = .ok (.iadd, 1) := dk_96 (dk_at dksX0_bayOn_2 4 rfl rfl)
theorem dX0_bayOn_53 : decode cX0_bayOn 53 = .ok (.invokevirtual 299, 3) := dk_182 1 43 (dk_at dksX0_bayOn_2 5 rfl rfl)
theorem dX0_bayOn_56 : decode cX0_bayOn 56 = .ok (.iastore, 1) := dk_79 (dk_at dksX0_bayOn_2 8 rfl rfl)
theorem dX0_bayOn_57 : decode cX0_bayOn 57 = .ok (.aload_n 0, 1) := dk_42 (dk_at dksX0_bayOn_2 9 rfl rfl)
theorem dX0_bayOn_58 : decode cX0_bayOn 58 = .ok (.iload_n 2, 1) := dk_28 (dk_at dksX0_bayOn_2 10 rfl rfl)
theorem dX0_bayOn_59 : decode cX0_bayOn 59 = .ok (.invokevirtual 299, 3) := dk_182 1 43 (dk_at dksX0_bayOn_2 11 rfl rfl)
theorem dX0_bayOn_62 : decode cX0_bayOn 62 = .ok (.bipush 99, 2) := dk_16 99 (dk_at dksX0_bayOn_2 14 rfl rfl)
theorem dX0_bayOn_64 : decode cX0_bayOn 64 = .ok (.if_icmp .gt 34, 3) := dk_163 0 34 (dk_at dksX0_bayOn_2 16 rfl rfl)
theorem dX0_bayOn_67 : decode cX0_bayOn 67 = .ok (.aload_n 0, 1) := dk_42 (dk_at dksX0_bayOn_2 19 rfl rfl)
theorem dX0_bayOn_68 : decode cX0_bayOn 68 = .ok (.getfield 73, 3) := dk_180 0 73 (dk_at dksX0_bayOn_2 20 rfl rfl)
theorem dX0_bayOn_71 : decode cX0_bayOn 71 = .ok (.getfield 223, 3) := dk_180 0 223 (dk_at dksX0_bayOn_3 0 rfl rfl)
theorem dX0_bayOn_74 : decode cX0_bayOn 74 = .ok (.iload_n 1, 1) := dk_27 (dk_at dksX0_bayOn_3 3 rfl rfl)
theorem dX0_bayOn_75 : decode cX0_bayOn 75 = .ok (.iaload, 1) := dk_46 (dk_at dksX0_bayOn_3 4 rfl rfl)
theorem dX0_bayOn_76 : decode cX0_bayOn 76 = .ok (.sipush 297, 3) := dk_17 1 41 (dk_at dksX0_bayOn_3 5 rfl rfl)
theorem dX0_bayOn_79 : decode cX0_bayOn 79 = .ok (.if_icmp .gt 19, 3) := dk_163 0 19 (dk_at dksX0_bayOn_3 8 rfl rfl)
theorem dX0_bayOn_82 : decode cX0_bayOn 82 = .ok (.aload_n 0, 1) := dk_42 (dk_at dksX0_bayOn_3 11 rfl rfl)
theorem dX0_bayOn_83 : decode cX0_bayOn 83 = .ok (.iload_n 2, 1) := dk_28 (dk_at dksX0_bayOn_3 12 rfl rfl)
theorem dX0_bayOn_84 : decode cX0_bayOn 84 = .ok (.iconst 3, 1) := dk_6 (dk_at dksX0_bayOn_3 13 rfl rfl)
theorem dX0_bayOn_85 : decode cX0_bayOn 85 = .ok (.iadd, 1) := dk_96 (dk_at dksX0_bayOn_3 14 rfl rfl)
theorem dX0_bayOn_86 : decode cX0_bayOn 86 = .ok (.invokevirtual 299, 3) := dk_182 1 43 (dk_at dksX0_bayOn_3 15 rfl rfl)
theorem dX0_bayOn_89 : decode cX0_bayOn 89 = .ok (.bipush 99, 2) := dk_16 99 (dk_at dksX0_bayOn_3 18 rfl rfl)
theorem dX0_bayOn_91 : decode cX0_bayOn 91 = .ok (.if_icmp .gt 7, 3) := dk_163 0 7 (dk_at dksX0_bayOn_3 20 rfl rfl)
theorem dX0_bayOn_94 : decode cX0_bayOn 94 = .ok (.iconst 1, 1) := dk_4 (dk_at dksX0_bayOn_3 23 rfl rfl)
theorem dX0_bayOn_95 : decode cX0_bayOn 95 = .ok (.goto 4, 3) := dk_167 0 4 (dk_at dksX0_bayOn_4 0 rfl rfl)
theorem dX0_bayOn_98 : decode cX0_bayOn 98 = .ok (.iconst 0, 1) := dk_3 (dk_at dksX0_bayOn_4 3 rfl rfl)
theorem dX0_bayOn_99 : decode cX0_bayOn 99 = .ok (.ireturn, 1) := dk_172 (dk_at dksX0_bayOn_4 4 rfl rfl)
abbrev cX0_pairOn : ByteArray := prog_1_method_65_code
def yX0_pairOn : MethodName := ⟨RX0, "pairOn", "(II)Z"⟩
def dkwX0_pairOn_2 : List UInt8 := [16, 99, 163, 0, 7, 4, 167, 0, 4, 3, 172]
abbrev dktX0_pairOn_2 : List UInt8 := dkwX0_pairOn_2 ++ []
def dkwX0_pairOn_1 : List UInt8 := [4, 96, 182, 1, 43, 79, 42, 28, 182, 1, 43, 16, 9, 163, 0, 19, 42, 28, 4, 96, 182, 1, 43]
abbrev dktX0_pairOn_1 : List UInt8 := dkwX0_pairOn_1 ++ dktX0_pairOn_2
def dkwX0_pairOn_0 : List UInt8 := [42, 180, 0, 73, 180, 0, 236, 27, 42, 28, 182, 1, 43, 79, 42, 180, 0, 73, 180, 0, 239, 27, 42, 28]
abbrev dktX0_pairOn_0 : List UInt8 := dkwX0_pairOn_0 ++ dktX0_pairOn_1
theorem dksX0_pairOn_0 : cX0_pairOn.data.toList.drop 0 = dktX0_pairOn_0 := by decide +kernel
theorem dksX0_pairOn_1 : cX0_pairOn.data.toList.drop 24 = dktX0_pairOn_1 := dk_seg dksX0_pairOn_0 24 rfl rfl
theorem dksX0_pairOn_2 : cX0_pairOn.data.toList.drop 47 = dktX0_pairOn_2 := dk_seg dksX0_pairOn_1 23 rfl rfl
theorem dX0_pairOn_0 : decode cX0_pairOn 0 = .ok (.aload_n 0, 1) := dk_42 (dk_at dksX0_pairOn_0 0 rfl rfl)
theorem dX0_pairOn_1 : decode cX0_pairOn 1 = .ok (.getfield 73, 3) := dk_180 0 73 (dk_at dksX0_pairOn_0 1 rfl rfl)
theorem dX0_pairOn_4 : decode cX0_pairOn 4 = .ok (.getfield 236, 3) := dk_180 0 236 (dk_at dksX0_pairOn_0 4 rfl rfl)
theorem dX0_pairOn_7 : decode cX0_pairOn 7 = .ok (.iload_n 1, 1) := dk_27 (dk_at dksX0_pairOn_0 7 rfl rfl)
theorem dX0_pairOn_8 : decode cX0_pairOn 8 = .ok (.aload_n 0, 1) := dk_42 (dk_at dksX0_pairOn_0 8 rfl rfl)
theorem dX0_pairOn_9 : decode cX0_pairOn 9 = .ok (.iload_n 2, 1) := dk_28 (dk_at dksX0_pairOn_0 9 rfl rfl)
theorem dX0_pairOn_10 : decode cX0_pairOn 10 = .ok (.invokevirtual 299, 3) := dk_182 1 43 (dk_at dksX0_pairOn_0 10 rfl rfl)
theorem dX0_pairOn_13 : decode cX0_pairOn 13 = .ok (.iastore, 1) := dk_79 (dk_at dksX0_pairOn_0 13 rfl rfl)
theorem dX0_pairOn_14 : decode cX0_pairOn 14 = .ok (.aload_n 0, 1) := dk_42 (dk_at dksX0_pairOn_0 14 rfl rfl)
theorem dX0_pairOn_15 : decode cX0_pairOn 15 = .ok (.getfield 73, 3) := dk_180 0 73 (dk_at dksX0_pairOn_0 15 rfl rfl)
theorem dX0_pairOn_18 : decode cX0_pairOn 18 = .ok (.getfield 239, 3) := dk_180 0 239 (dk_at dksX0_pairOn_0 18 rfl rfl)
theorem dX0_pairOn_21 : decode cX0_pairOn 21 = .ok (.iload_n 1, 1) := dk_27 (dk_at dksX0_pairOn_0 21 rfl rfl)
theorem dX0_pairOn_22 : decode cX0_pairOn 22 = .ok (.aload_n 0, 1) := dk_42 (dk_at dksX0_pairOn_0 22 rfl rfl)
theorem dX0_pairOn_23 : decode cX0_pairOn 23 = .ok (.iload_n 2, 1) := dk_28 (dk_at dksX0_pairOn_0 23 rfl rfl)
theorem dX0_pairOn_24 : decode cX0_pairOn 24 = .ok (.iconst 1, 1) := dk_4 (dk_at dksX0_pairOn_1 0 rfl rfl)
theorem dX0_pairOn_25 : decode cX0_pairOn 25 = .ok (.iadd, 1) := dk_96 (dk_at dksX0_pairOn_1 1 rfl rfl)
theorem dX0_pairOn_26 : decode cX0_pairOn 26 = .ok (.invokevirtual 299, 3) := dk_182 1 43 (dk_at dksX0_pairOn_1 2 rfl rfl)
theorem dX0_pairOn_29 : decode cX0_pairOn 29 = .ok (.iastore, 1) := dk_79 (dk_at dksX0_pairOn_1 5 rfl rfl)
theorem dX0_pairOn_30 : decode cX0_pairOn 30 = .ok (.aload_n 0, 1) := dk_42 (dk_at dksX0_pairOn_1 6 rfl rfl)
theorem dX0_pairOn_31 : decode cX0_pairOn 31 = .ok (.iload_n 2, 1) := dk_28 (dk_at dksX0_pairOn_1 7 rfl rfl)
theorem dX0_pairOn_32 : decode cX0_pairOn 32 = .ok (.invokevirtual 299, 3) := dk_182 1 43 (dk_at dksX0_pairOn_1 8 rfl rfl)
theorem dX0_pairOn_35 : decode cX0_pairOn 35 = .ok (.bipush 9, 2) := dk_16 9 (dk_at dksX0_pairOn_1 11 rfl rfl)
theorem dX0_pairOn_37 : decode cX0_pairOn 37 = .ok (.if_icmp .gt 19, 3) := dk_163 0 19 (dk_at dksX0_pairOn_1 13 rfl rfl)
theorem dX0_pairOn_40 : decode cX0_pairOn 40 = .ok (.aload_n 0, 1) := dk_42 (dk_at dksX0_pairOn_1 16 rfl rfl)
theorem dX0_pairOn_41 : decode cX0_pairOn 41 = .ok (.iload_n 2, 1) := dk_28 (dk_at dksX0_pairOn_1 17 rfl rfl)
theorem dX0_pairOn_42 : decode cX0_pairOn 42 = .ok (.iconst 1, 1) := dk_4 (dk_at dksX0_pairOn_1 18 rfl rfl)
theorem dX0_pairOn_43 : decode cX0_pairOn 43 = .ok (.iadd, 1) := dk_96 (dk_at dksX0_pairOn_1 19 rfl rfl)
theorem dX0_pairOn_44 : decode cX0_pairOn 44 = .ok (.invokevirtual 299, 3) := dk_182 1 43 (dk_at dksX0_pairOn_1 20 rfl rfl)
theorem dX0_pairOn_47 : decode cX0_pairOn 47 = .ok (.bipush 99, 2) := dk_16 99 (dk_at dksX0_pairOn_2 0 rfl rfl)
theorem dX0_pairOn_49 : decode cX0_pairOn 49 = .ok (.if_icmp .gt 7, 3) := dk_163 0 7 (dk_at dksX0_pairOn_2 2 rfl rfl)
theorem dX0_pairOn_52 : decode cX0_pairOn 52 = .ok (.iconst 1, 1) := dk_4 (dk_at dksX0_pairOn_2 5 rfl rfl)
theorem dX0_pairOn_53 : decode cX0_pairOn 53 = .ok (.goto 4, 3) := dk_167 0 4 (dk_at dksX0_pairOn_2 6 rfl rfl)
theorem dX0_pairOn_56 : decode cX0_pairOn 56 = .ok (.iconst 0, 1) := dk_3 (dk_at dksX0_pairOn_2 9 rfl rfl)
theorem dX0_pairOn_57 : decode cX0_pairOn 57 = .ok (.ireturn, 1) := dk_172 (dk_at dksX0_pairOn_2 10 rfl rfl)
abbrev cX0_status : ByteArray := prog_1_method_68_code
def yX0_status : MethodName := ⟨RX0, "status", "(I)I"⟩
def dkwX0_status_0 : List UInt8 := [27, 3, 8, 184, 0, 195, 153, 0, 12, 42, 180, 0, 62, 27, 46, 167, 0, 4, 2, 172]
abbrev dktX0_status_0 : List UInt8 := dkwX0_status_0 ++ []
theorem dksX0_status_0 : cX0_status.data.toList.drop 0 = dktX0_status_0 := by decide +kernel
theorem dX0_status_0 : decode cX0_status 0 = .ok (.iload_n 1, 1) := dk_27 (dk_at dksX0_status_0 0 rfl rfl)
theorem dX0_status_1 : decode cX0_status 1 = .ok (.iconst 0, 1) := dk_3 (dk_at dksX0_status_0 1 rfl rfl)
theorem dX0_status_2 : decode cX0_status 2 = .ok (.iconst 5, 1) := dk_8 (dk_at dksX0_status_0 2 rfl rfl)
theorem dX0_status_3 : decode cX0_status 3 = .ok (.invokestatic 195, 3) := dk_184 0 195 (dk_at dksX0_status_0 3 rfl rfl)
theorem dX0_status_6 : decode cX0_status 6 = .ok (.ifCond .eq 12, 3) := dk_153 0 12 (dk_at dksX0_status_0 6 rfl rfl)
theorem dX0_status_9 : decode cX0_status 9 = .ok (.aload_n 0, 1) := dk_42 (dk_at dksX0_status_0 9 rfl rfl)
theorem dX0_status_10 : decode cX0_status 10 = .ok (.getfield 62, 3) := dk_180 0 62 (dk_at dksX0_status_0 10 rfl rfl)
theorem dX0_status_13 : decode cX0_status 13 = .ok (.iload_n 1, 1) := dk_27 (dk_at dksX0_status_0 13 rfl rfl)
theorem dX0_status_14 : decode cX0_status 14 = .ok (.iaload, 1) := dk_46 (dk_at dksX0_status_0 14 rfl rfl)
theorem dX0_status_15 : decode cX0_status 15 = .ok (.goto 4, 3) := dk_167 0 4 (dk_at dksX0_status_0 15 rfl rfl)
theorem dX0_status_18 : decode cX0_status 18 = .ok (.iconst (-1), 1) := dk_2 (dk_at dksX0_status_0 18 rfl rfl)
theorem dX0_status_19 : decode cX0_status 19 = .ok (.ireturn, 1) := dk_172 (dk_at dksX0_status_0 19 rfl rfl)
theorem q157 : (Jvm.Cond.initialized "MarriageHerring") ∈ lw_all := lw_g (lw_at lw_m1 1 rfl) rfl
theorem q199 : (Jvm.Cond.instantiable "MarriageHerring" (22 : Nat)) ∈ lw_all := lw_g (lw_at lw_m1 43 rfl) rfl
theorem q201 : (Jvm.Cond.instanceMethod ({ cls := "MarriageHerring", name := "<init>", desc := "()V" } : Jvm.MethodName)) ∈ lw_all := lw_g (lw_at lw_m1 45 rfl) rfl
theorem q202 : (Jvm.Cond.code ({ cls := "MarriageHerring", name := "<init>", desc := "()V" } : Jvm.MethodName) prog_1_method_7_code (2 : Nat) (Option.none : Option Jvm.ClassFile.FieldType)) ∈ lw_all := lw_g (lw_at lw_m1 46 rfl) rfl
theorem q203 : (Jvm.Cond.methodLink "MarriageHerring" (22 : Nat) ({ cls := "java/lang/Object", name := "<init>", desc := "()V" } : Jvm.MethodName)) ∈ lw_all := lw_g (lw_at lw_m1 47 rfl) rfl
theorem q206 : (Jvm.Cond.classLink "MarriageHerring" (28 : Nat) "MarriageHerring$Coast") ∈ lw_all := lw_g (lw_at lw_m1 50 rfl) rfl
theorem q208 : (Jvm.Cond.methodLinkNest "MarriageHerring" (30 : Nat) ({ cls := "MarriageHerring$Coast", name := "<init>", desc := "()V" } : Jvm.MethodName) "MarriageHerring") ∈ lw_tbl := lw_at lw_m1 52 rfl
theorem q240 : (Jvm.Cond.fieldLinkNest "MarriageHerring" (145 : Nat) "MarriageHerring$Coast" "statements" "I" "MarriageHerring") ∈ lw_tbl := lw_at lw_m1 84 rfl
theorem q243 : (Jvm.Cond.fieldLinkNest "MarriageHerring" (292 : Nat) "MarriageHerring$Coast" "storm" "I" "MarriageHerring") ∈ lw_tbl := lw_at lw_m1 87 rfl
theorem q245 : (Jvm.Cond.fieldLinkNest "MarriageHerring" (148 : Nat) "MarriageHerring$Coast" "bays" "Ljava/util/List;" "MarriageHerring") ∈ lw_tbl := lw_at lw_m1 89 rfl
theorem q248 : (Jvm.Cond.fieldLinkNest "MarriageHerring" (157 : Nat) "MarriageHerring$Coast" "pairs" "Ljava/util/List;" "MarriageHerring") ∈ lw_tbl := lw_at lw_m1 92 rfl
theorem q251 : (Jvm.Cond.fieldLinkNest "MarriageHerring" (160 : Nat) "MarriageHerring$Coast" "shoals" "Ljava/util/List;" "MarriageHerring") ∈ lw_tbl := lw_at lw_m1 95 rfl
theorem q280 : (Jvm.Cond.classLink "MarriageHerring" (43 : Nat) "MarriageHerring$Reader") ∈ lw_all := lw_g (lw_at lw_m1 124 rfl) rfl
theorem q282 : (Jvm.Cond.methodLinkNest "MarriageHerring" (45 : Nat) ({ cls := "MarriageHerring$Reader", name := "<init>", desc := "(LMarriageHerring;)V" } : Jvm.MethodName) "MarriageHerring") ∈ lw_tbl := lw_at lw_m1 126 rfl
theorem q338 : (Jvm.Cond.fieldLinkNest "MarriageHerring" (130 : Nat) "MarriageHerring$Fault" "kind" "I" "MarriageHerring") ∈ lw_tbl := lw_at lw_m1 182 rfl
theorem q340 : (Jvm.Cond.fieldLinkNest "MarriageHerring" (133 : Nat) "MarriageHerring$Fault" "place" "I" "MarriageHerring") ∈ lw_tbl := lw_at lw_m1 184 rfl
theorem q384 : (Jvm.Cond.classLink "MarriageHerring" (52 : Nat) "MarriageHerring$Moment") ∈ lw_all := lw_g (lw_at lw_m1 228 rfl) rfl
theorem q386 : (Jvm.Cond.methodLinkNest "MarriageHerring" (54 : Nat) ({ cls := "MarriageHerring$Moment", name := "<init>", desc := "()V" } : Jvm.MethodName) "MarriageHerring") ∈ lw_tbl := lw_at lw_m1 230 rfl
theorem q393 : (Jvm.Cond.fieldLinkNest "MarriageHerring" (333 : Nat) "MarriageHerring$Moment" "of" "[J" "MarriageHerring") ∈ lw_tbl := lw_at lw_m1 237 rfl
theorem q398 : (Jvm.Cond.classLink "MarriageHerring" (66 : Nat) "MarriageHerring$State") ∈ lw_all := lw_g (lw_at lw_m2 2 rfl) rfl
theorem q400 : (Jvm.Cond.methodLinkNest "MarriageHerring" (68 : Nat) ({ cls := "MarriageHerring$State", name := "<init>", desc := "(LMarriageHerring;)V" } : Jvm.MethodName) "MarriageHerring") ∈ lw_tbl := lw_at lw_m2 4 rfl
theorem q407 : (Jvm.Cond.fieldLinkNest "MarriageHerring" (179 : Nat) "MarriageHerring$State" "year" "I" "MarriageHerring") ∈ lw_tbl := lw_at lw_m2 11 rfl
theorem q409 : (Jvm.Cond.fieldLinkNest "MarriageHerring" (192 : Nat) "MarriageHerring$State" "keeps" "I" "MarriageHerring") ∈ lw_tbl := lw_at lw_m2 13 rfl
theorem q411 : (Jvm.Cond.fieldLinkNest "MarriageHerring" (245 : Nat) "MarriageHerring$State" "mile" "[I" "MarriageHerring") ∈ lw_tbl := lw_at lw_m2 15 rfl
theorem q413 : (Jvm.Cond.fieldLinkNest "MarriageHerring" (186 : Nat) "MarriageHerring$State" "at" "[I" "MarriageHerring") ∈ lw_tbl := lw_at lw_m2 17 rfl
theorem q416 : (Jvm.Cond.fieldLinkNest "MarriageHerring" (214 : Nat) "MarriageHerring$State" "hunger" "[I" "MarriageHerring") ∈ lw_tbl := lw_at lw_m2 20 rfl
theorem q418 : (Jvm.Cond.fieldLinkNest "MarriageHerring" (223 : Nat) "MarriageHerring$State" "took" "[I" "MarriageHerring") ∈ lw_tbl := lw_at lw_m2 22 rfl
theorem q420 : (Jvm.Cond.fieldLinkNest "MarriageHerring" (220 : Nat) "MarriageHerring$State" "before" "[I" "MarriageHerring") ∈ lw_tbl := lw_at lw_m2 24 rfl
theorem q423 : (Jvm.Cond.fieldLinkNest "MarriageHerring" (236 : Nat) "MarriageHerring$State" "by" "[I" "MarriageHerring") ∈ lw_tbl := lw_at lw_m2 27 rfl
theorem q426 : (Jvm.Cond.fieldLinkNest "MarriageHerring" (239 : Nat) "MarriageHerring$State" "since" "[I" "MarriageHerring") ∈ lw_tbl := lw_at lw_m2 30 rfl
theorem q428 : (Jvm.Cond.fieldLinkNest "MarriageHerring" (259 : Nat) "MarriageHerring$State" "rows" "[[I" "MarriageHerring") ∈ lw_tbl := lw_at lw_m2 32 rfl
theorem q460 : (Jvm.Cond.classLink "MarriageHerring" (76 : Nat) "[[I") ∈ lw_all := lw_g (lw_at lw_m2 64 rfl) rfl
theorem q461 : (Jvm.Cond.classLink "MarriageHerring" (90 : Nat) "[[[I") ∈ lw_all := lw_g (lw_at lw_m2 65 rfl) rfl
theorem q465 : (Jvm.Cond.fieldLink "MarriageHerring" (31 : Nat) "MarriageHerring" "coast" "LMarriageHerring$Coast;") ∈ lw_all := lw_g (lw_at lw_m2 69 rfl) rfl
theorem q467 : (Jvm.Cond.fieldLink "MarriageHerring" (35 : Nat) "MarriageHerring" "tape" "[B") ∈ lw_all := lw_g (lw_at lw_m2 71 rfl) rfl
theorem q468 : (Jvm.Cond.fieldLink "MarriageHerring" (106 : Nat) "MarriageHerring" "taped" "I") ∈ lw_all := lw_g (lw_at lw_m2 72 rfl) rfl
theorem q469 : (Jvm.Cond.fieldLink "MarriageHerring" (117 : Nat) "MarriageHerring" "faultKind" "I") ∈ lw_all := lw_g (lw_at lw_m2 73 rfl) rfl
theorem q470 : (Jvm.Cond.fieldLink "MarriageHerring" (39 : Nat) "MarriageHerring" "faultPlace" "I") ∈ lw_all := lw_g (lw_at lw_m2 74 rfl) rfl
theorem q471 : (Jvm.Cond.fieldLink "MarriageHerring" (48 : Nat) "MarriageHerring" "reader" "LMarriageHerring$Reader;") ∈ lw_all := lw_g (lw_at lw_m2 75 rfl) rfl
theorem q473 : (Jvm.Cond.fieldLink "MarriageHerring" (55 : Nat) "MarriageHerring" "moment" "LMarriageHerring$Moment;") ∈ lw_all := lw_g (lw_at lw_m2 77 rfl) rfl
theorem q474 : (Jvm.Cond.fieldLink "MarriageHerring" (59 : Nat) "MarriageHerring" "asked" "LMarriageHerring$Moment;") ∈ lw_all := lw_g (lw_at lw_m2 78 rfl) rfl
theorem q475 : (Jvm.Cond.fieldLink "MarriageHerring" (62 : Nat) "MarriageHerring" "refused" "[I") ∈ lw_all := lw_g (lw_at lw_m2 79 rfl) rfl
theorem q476 : (Jvm.Cond.fieldLink "MarriageHerring" (69 : Nat) "MarriageHerring" "now" "LMarriageHerring$State;") ∈ lw_all := lw_g (lw_at lw_m2 80 rfl) rfl
theorem q477 : (Jvm.Cond.fieldLink "MarriageHerring" (73 : Nat) "MarriageHerring" "tried" "LMarriageHerring$State;") ∈ lw_all := lw_g (lw_at lw_m2 81 rfl) rfl
theorem q478 : (Jvm.Cond.fieldLink "MarriageHerring" (78 : Nat) "MarriageHerring" "came" "[[I") ∈ lw_all := lw_g (lw_at lw_m2 82 rfl) rfl
theorem q479 : (Jvm.Cond.fieldLink "MarriageHerring" (81 : Nat) "MarriageHerring" "rowYear" "[I") ∈ lw_all := lw_g (lw_at lw_m2 83 rfl) rfl
theorem q480 : (Jvm.Cond.fieldLink "MarriageHerring" (84 : Nat) "MarriageHerring" "rowShoal" "[I") ∈ lw_all := lw_g (lw_at lw_m2 84 rfl) rfl
theorem q481 : (Jvm.Cond.fieldLink "MarriageHerring" (87 : Nat) "MarriageHerring" "rowBay" "[I") ∈ lw_all := lw_g (lw_at lw_m2 85 rfl) rfl
theorem q482 : (Jvm.Cond.fieldLink "MarriageHerring" (142 : Nat) "MarriageHerring" "rows" "I") ∈ lw_all := lw_g (lw_at lw_m2 86 rfl) rfl
theorem q483 : (Jvm.Cond.fieldLink "MarriageHerring" (92 : Nat) "MarriageHerring" "bayBy" "[[[I") ∈ lw_all := lw_g (lw_at lw_m2 87 rfl) rfl
theorem q484 : (Jvm.Cond.fieldLink "MarriageHerring" (95 : Nat) "MarriageHerring" "kept" "[LMarriageHerring$State;") ∈ lw_all := lw_g (lw_at lw_m2 88 rfl) rfl
theorem q485 : (Jvm.Cond.fieldLink "MarriageHerring" (139 : Nat) "MarriageHerring" "undos" "I") ∈ lw_all := lw_g (lw_at lw_m2 89 rfl) rfl
theorem q486 : (Jvm.Cond.fieldLink "MarriageHerring" (99 : Nat) "MarriageHerring" "seeds" "J") ∈ lw_all := lw_g (lw_at lw_m2 90 rfl) rfl
theorem q487 : (Jvm.Cond.fieldLink "MarriageHerring" (103 : Nat) "MarriageHerring" "out" "[B") ∈ lw_all := lw_g (lw_at lw_m2 91 rfl) rfl
theorem q488 : (Jvm.Cond.fieldLink "MarriageHerring" (347 : Nat) "MarriageHerring" "outs" "I") ∈ lw_all := lw_g (lw_at lw_m2 92 rfl) rfl
theorem q489 : (Jvm.Cond.lays "MarriageHerring" "MarriageHerring" "coast" "LMarriageHerring$Coast;") ∈ lw_all := lw_g (lw_at lw_m2 93 rfl) rfl
theorem q490 : (Jvm.Cond.soleField "MarriageHerring" "coast") ∈ lw_all := lw_g (lw_at lw_m2 94 rfl) rfl
theorem q491 : (Jvm.Cond.laysFinal "MarriageHerring" "MarriageHerring" "tape" "[B") ∈ lw_all := lw_g (lw_at lw_m2 95 rfl) rfl
theorem q492 : (Jvm.Cond.soleField "MarriageHerring" "tape") ∈ lw_all := lw_g (lw_at lw_m2 96 rfl) rfl
theorem q493 : (Jvm.Cond.lays "MarriageHerring" "MarriageHerring" "taped" "I") ∈ lw_all := lw_g (lw_at lw_m2 97 rfl) rfl
theorem q494 : (Jvm.Cond.soleField "MarriageHerring" "taped") ∈ lw_all := lw_g (lw_at lw_m2 98 rfl) rfl
theorem q495 : (Jvm.Cond.lays "MarriageHerring" "MarriageHerring" "faultKind" "I") ∈ lw_all := lw_g (lw_at lw_m2 99 rfl) rfl
theorem q496 : (Jvm.Cond.soleField "MarriageHerring" "faultKind") ∈ lw_all := lw_g (lw_at lw_m2 100 rfl) rfl
theorem q497 : (Jvm.Cond.lays "MarriageHerring" "MarriageHerring" "faultPlace" "I") ∈ lw_all := lw_g (lw_at lw_m2 101 rfl) rfl
theorem q498 : (Jvm.Cond.soleField "MarriageHerring" "faultPlace") ∈ lw_all := lw_g (lw_at lw_m2 102 rfl) rfl
theorem q499 : (Jvm.Cond.laysFinal "MarriageHerring" "MarriageHerring" "reader" "LMarriageHerring$Reader;") ∈ lw_all := lw_g (lw_at lw_m2 103 rfl) rfl
theorem q500 : (Jvm.Cond.soleField "MarriageHerring" "reader") ∈ lw_all := lw_g (lw_at lw_m2 104 rfl) rfl
theorem q501 : (Jvm.Cond.laysFinal "MarriageHerring" "MarriageHerring" "moment" "LMarriageHerring$Moment;") ∈ lw_all := lw_g (lw_at lw_m2 105 rfl) rfl
theorem q502 : (Jvm.Cond.soleField "MarriageHerring" "moment") ∈ lw_all := lw_g (lw_at lw_m2 106 rfl) rfl
theorem q503 : (Jvm.Cond.laysFinal "MarriageHerring" "MarriageHerring" "asked" "LMarriageHerring$Moment;") ∈ lw_all := lw_g (lw_at lw_m2 107 rfl) rfl
theorem q504 : (Jvm.Cond.soleField "MarriageHerring" "asked") ∈ lw_all := lw_g (lw_at lw_m2 108 rfl) rfl
theorem q505 : (Jvm.Cond.laysFinal "MarriageHerring" "MarriageHerring" "refused" "[I") ∈ lw_all := lw_g (lw_at lw_m2 109 rfl) rfl
theorem q506 : (Jvm.Cond.soleField "MarriageHerring" "refused") ∈ lw_all := lw_g (lw_at lw_m2 110 rfl) rfl
theorem q507 : (Jvm.Cond.laysFinal "MarriageHerring" "MarriageHerring" "now" "LMarriageHerring$State;") ∈ lw_all := lw_g (lw_at lw_m2 111 rfl) rfl
theorem q508 : (Jvm.Cond.soleField "MarriageHerring" "now") ∈ lw_all := lw_g (lw_at lw_m2 112 rfl) rfl
theorem q509 : (Jvm.Cond.laysFinal "MarriageHerring" "MarriageHerring" "tried" "LMarriageHerring$State;") ∈ lw_all := lw_g (lw_at lw_m2 113 rfl) rfl
theorem q510 : (Jvm.Cond.soleField "MarriageHerring" "tried") ∈ lw_all := lw_g (lw_at lw_m2 114 rfl) rfl
theorem q511 : (Jvm.Cond.laysFinal "MarriageHerring" "MarriageHerring" "came" "[[I") ∈ lw_all := lw_g (lw_at lw_m2 115 rfl) rfl
theorem q512 : (Jvm.Cond.soleField "MarriageHerring" "came") ∈ lw_all := lw_g (lw_at lw_m2 116 rfl) rfl
theorem q513 : (Jvm.Cond.laysFinal "MarriageHerring" "MarriageHerring" "rowYear" "[I") ∈ lw_all := lw_g (lw_at lw_m2 117 rfl) rfl
theorem q514 : (Jvm.Cond.soleField "MarriageHerring" "rowYear") ∈ lw_all := lw_g (lw_at lw_m2 118 rfl) rfl
theorem q515 : (Jvm.Cond.laysFinal "MarriageHerring" "MarriageHerring" "rowShoal" "[I") ∈ lw_all := lw_g (lw_at lw_m2 119 rfl) rfl
theorem q516 : (Jvm.Cond.soleField "MarriageHerring" "rowShoal") ∈ lw_all := lw_g (lw_at lw_m2 120 rfl) rfl
theorem q517 : (Jvm.Cond.laysFinal "MarriageHerring" "MarriageHerring" "rowBay" "[I") ∈ lw_all := lw_g (lw_at lw_m2 121 rfl) rfl
theorem q518 : (Jvm.Cond.soleField "MarriageHerring" "rowBay") ∈ lw_all := lw_g (lw_at lw_m2 122 rfl) rfl
theorem q519 : (Jvm.Cond.lays "MarriageHerring" "MarriageHerring" "rows" "I") ∈ lw_all := lw_g (lw_at lw_m2 123 rfl) rfl
theorem q520 : (Jvm.Cond.soleField "MarriageHerring" "rows") ∈ lw_all := lw_g (lw_at lw_m2 124 rfl) rfl
theorem q521 : (Jvm.Cond.laysFinal "MarriageHerring" "MarriageHerring" "bayBy" "[[[I") ∈ lw_all := lw_g (lw_at lw_m2 125 rfl) rfl
theorem q522 : (Jvm.Cond.soleField "MarriageHerring" "bayBy") ∈ lw_all := lw_g (lw_at lw_m2 126 rfl) rfl
theorem q523 : (Jvm.Cond.laysFinal "MarriageHerring" "MarriageHerring" "kept" "[LMarriageHerring$State;") ∈ lw_all := lw_g (lw_at lw_m2 127 rfl) rfl
theorem q524 : (Jvm.Cond.soleField "MarriageHerring" "kept") ∈ lw_all := lw_g (lw_at lw_m2 128 rfl) rfl
theorem q525 : (Jvm.Cond.lays "MarriageHerring" "MarriageHerring" "undos" "I") ∈ lw_all := lw_g (lw_at lw_m2 129 rfl) rfl
theorem q526 : (Jvm.Cond.soleField "MarriageHerring" "undos") ∈ lw_all := lw_g (lw_at lw_m2 130 rfl) rfl
theorem q527 : (Jvm.Cond.lays "MarriageHerring" "MarriageHerring" "seeds" "J") ∈ lw_all := lw_g (lw_at lw_m2 131 rfl) rfl
theorem q528 : (Jvm.Cond.soleField "MarriageHerring" "seeds") ∈ lw_all := lw_g (lw_at lw_m2 132 rfl) rfl
theorem q529 : (Jvm.Cond.laysFinal "MarriageHerring" "MarriageHerring" "out" "[B") ∈ lw_all := lw_g (lw_at lw_m2 133 rfl) rfl
theorem q530 : (Jvm.Cond.soleField "MarriageHerring" "out") ∈ lw_all := lw_g (lw_at lw_m2 134 rfl) rfl
theorem q531 : (Jvm.Cond.lays "MarriageHerring" "MarriageHerring" "outs" "I") ∈ lw_all := lw_g (lw_at lw_m2 135 rfl) rfl
theorem q532 : (Jvm.Cond.soleField "MarriageHerring" "outs") ∈ lw_all := lw_g (lw_at lw_m2 136 rfl) rfl
theorem q533 : (Jvm.Cond.superclass "MarriageHerring" "java/lang/Object") ∈ lw_all := lw_g (lw_at lw_m2 137 rfl) rfl
theorem q535 : (Jvm.Cond.instanceMethod ({ cls := "MarriageHerring", name := "feed", desc := "(IIIII)I" } : Jvm.MethodName)) ∈ lw_all := lw_g (lw_at lw_m2 139 rfl) rfl
theorem q536 : (Jvm.Cond.selects "MarriageHerring" ({ cls := "MarriageHerring", name := "feed", desc := "(IIIII)I" } : Jvm.MethodName) ({ cls := "MarriageHerring", name := "feed", desc := "(IIIII)I" } : Jvm.MethodName)) ∈ lw_all := lw_g (lw_at lw_m2 140 rfl) rfl
theorem q537 : (Jvm.Cond.code ({ cls := "MarriageHerring", name := "feed", desc := "(IIIII)I" } : Jvm.MethodName) prog_1_method_10_code (6 : Nat) (Option.some Jvm.ClassFile.FieldType.int)) ∈ lw_all := lw_g (lw_at lw_m2 141 rfl) rfl
theorem q538 : (Jvm.Cond.methodLink "MarriageHerring" (109 : Nat) ({ cls := "MarriageHerring", name := "refuses", desc := "(I)I" } : Jvm.MethodName)) ∈ lw_all := lw_g (lw_at lw_m2 142 rfl) rfl
theorem q539 : (Jvm.Cond.privateMethod ({ cls := "MarriageHerring", name := "refuses", desc := "(I)I" } : Jvm.MethodName)) ∈ lw_tbl := lw_at lw_m2 143 rfl
theorem q540 : (Jvm.Cond.instanceMethod ({ cls := "MarriageHerring", name := "refuses", desc := "(I)I" } : Jvm.MethodName)) ∈ lw_all := lw_g (lw_at lw_m2 144 rfl) rfl
theorem q541 : (Jvm.Cond.code ({ cls := "MarriageHerring", name := "refuses", desc := "(I)I" } : Jvm.MethodName) prog_1_method_8_code (2 : Nat) (Option.some Jvm.ClassFile.FieldType.int)) ∈ lw_all := lw_g (lw_at lw_m2 145 rfl) rfl
theorem q542 : (Jvm.Cond.methodLink "MarriageHerring" (113 : Nat) ({ cls := "MarriageHerring", name := "lays", desc := "(I)V" } : Jvm.MethodName)) ∈ lw_all := lw_g (lw_at lw_m2 146 rfl) rfl
theorem q543 : (Jvm.Cond.privateMethod ({ cls := "MarriageHerring", name := "lays", desc := "(I)V" } : Jvm.MethodName)) ∈ lw_tbl := lw_at lw_m2 147 rfl
theorem q544 : (Jvm.Cond.instanceMethod ({ cls := "MarriageHerring", name := "lays", desc := "(I)V" } : Jvm.MethodName)) ∈ lw_all := lw_g (lw_at lw_m2 148 rfl) rfl
theorem q545 : (Jvm.Cond.code ({ cls := "MarriageHerring", name := "lays", desc := "(I)V" } : Jvm.MethodName) prog_1_method_9_code (3 : Nat) (Option.none : Option Jvm.ClassFile.FieldType)) ∈ lw_all := lw_g (lw_at lw_m2 149 rfl) rfl
theorem q547 : (Jvm.Cond.instanceMethod ({ cls := "MarriageHerring", name := "end", desc := "(I)Z" } : Jvm.MethodName)) ∈ lw_all := lw_g (lw_at lw_m2 151 rfl) rfl
theorem q548 : (Jvm.Cond.selects "MarriageHerring" ({ cls := "MarriageHerring", name := "end", desc := "(I)Z" } : Jvm.MethodName) ({ cls := "MarriageHerring", name := "end", desc := "(I)Z" } : Jvm.MethodName)) ∈ lw_all := lw_g (lw_at lw_m2 152 rfl) rfl
theorem q549 : (Jvm.Cond.code ({ cls := "MarriageHerring", name := "end", desc := "(I)Z" } : Jvm.MethodName) prog_1_method_11_code (2 : Nat) (Option.some Jvm.ClassFile.FieldType.boolean)) ∈ lw_all := lw_g (lw_at lw_m2 153 rfl) rfl
theorem q551 : (Jvm.Cond.instanceMethod ({ cls := "MarriageHerring", name := "coast", desc := "()I" } : Jvm.MethodName)) ∈ lw_all := lw_g (lw_at lw_m2 155 rfl) rfl
theorem q552 : (Jvm.Cond.selects "MarriageHerring" ({ cls := "MarriageHerring", name := "coast", desc := "()I" } : Jvm.MethodName) ({ cls := "MarriageHerring", name := "coast", desc := "()I" } : Jvm.MethodName)) ∈ lw_all := lw_g (lw_at lw_m2 156 rfl) rfl
theorem q553 : (Jvm.Cond.codeWith ({ cls := "MarriageHerring", name := "coast", desc := "()I" } : Jvm.MethodName) prog_1_method_13_code (2 : Nat) (Option.some Jvm.ClassFile.FieldType.int) [((10 : Nat), (25 : Nat), (28 : Nat), (128 : Nat))]) ∈ lw_all := lw_g (lw_at lw_m2 157 rfl) rfl
theorem q554 : (Jvm.Cond.classLink "MarriageHerring" (128 : Nat) "MarriageHerring$Fault") ∈ lw_all := lw_g (lw_at lw_m2 158 rfl) rfl
theorem q555 : (Jvm.Cond.methodLink "MarriageHerring" (120 : Nat) ({ cls := "MarriageHerring", name := "tapeTaken", desc := "()I" } : Jvm.MethodName)) ∈ lw_all := lw_g (lw_at lw_m2 159 rfl) rfl
theorem q556 : (Jvm.Cond.privateMethod ({ cls := "MarriageHerring", name := "tapeTaken", desc := "()I" } : Jvm.MethodName)) ∈ lw_tbl := lw_at lw_m2 160 rfl
theorem q557 : (Jvm.Cond.instanceMethod ({ cls := "MarriageHerring", name := "tapeTaken", desc := "()I" } : Jvm.MethodName)) ∈ lw_all := lw_g (lw_at lw_m2 161 rfl) rfl
theorem q558 : (Jvm.Cond.code ({ cls := "MarriageHerring", name := "tapeTaken", desc := "()I" } : Jvm.MethodName) prog_1_method_12_code (2 : Nat) (Option.some Jvm.ClassFile.FieldType.int)) ∈ lw_all := lw_g (lw_at lw_m2 162 rfl) rfl
theorem q559 : (Jvm.Cond.methodLink "MarriageHerring" (124 : Nat) ({ cls := "MarriageHerring$Reader", name := "all", desc := "(I)LMarriageHerring$Coast;" } : Jvm.MethodName)) ∈ lw_all := lw_g (lw_at lw_m2 163 rfl) rfl
theorem q586 : (Jvm.Cond.static ({ cls := "MarriageHerring", name := "isLetter", desc := "(I)Z" } : Jvm.MethodName)) ∈ lw_all := lw_g (lw_at lw_m2 190 rfl) rfl
theorem q587 : (Jvm.Cond.code ({ cls := "MarriageHerring", name := "isLetter", desc := "(I)Z" } : Jvm.MethodName) prog_1_method_4_code (1 : Nat) (Option.some Jvm.ClassFile.FieldType.boolean)) ∈ lw_all := lw_g (lw_at lw_m2 191 rfl) rfl
theorem q593 : (Jvm.Cond.static ({ cls := "MarriageHerring", name := "isDigit", desc := "(I)Z" } : Jvm.MethodName)) ∈ lw_all := lw_g (lw_at lw_m2 197 rfl) rfl
theorem q594 : (Jvm.Cond.code ({ cls := "MarriageHerring", name := "isDigit", desc := "(I)Z" } : Jvm.MethodName) prog_1_method_5_code (1 : Nat) (Option.some Jvm.ClassFile.FieldType.boolean)) ∈ lw_all := lw_g (lw_at lw_m2 198 rfl) rfl
theorem q764 : (Jvm.Cond.laysStatic "MarriageHerring" "OWN" "[Ljava/lang/String;") ∈ lw_tbl := lw_at lw_m3 128 rfl
theorem q766 : (Jvm.Cond.static ({ cls := "MarriageHerring", name := "find", desc := "(Ljava/lang/String;[Ljava/lang/String;)I" } : Jvm.MethodName)) ∈ lw_all := lw_g (lw_at lw_m3 130 rfl) rfl
theorem q767 : (Jvm.Cond.code ({ cls := "MarriageHerring", name := "find", desc := "(Ljava/lang/String;[Ljava/lang/String;)I" } : Jvm.MethodName) prog_1_method_6_code (3 : Nat) (Option.some Jvm.ClassFile.FieldType.int)) ∈ lw_all := lw_g (lw_at lw_m3 131 rfl) rfl
theorem q768 : (Jvm.Cond.methodLink "MarriageHerring" (16 : Nat) ({ cls := "java/lang/String", name := "equals", desc := "(Ljava/lang/Object;)Z" } : Jvm.MethodName)) ∈ lw_all := lw_g (lw_at lw_m3 132 rfl) rfl
theorem q821 : (Jvm.Cond.static ({ cls := "MarriageHerring", name := "is", desc := "(III)Z" } : Jvm.MethodName)) ∈ lw_all := lw_g (lw_at lw_m3 185 rfl) rfl
theorem q822 : (Jvm.Cond.code ({ cls := "MarriageHerring", name := "is", desc := "(III)Z" } : Jvm.MethodName) prog_1_method_1_code (3 : Nat) (Option.some Jvm.ClassFile.FieldType.boolean)) ∈ lw_all := lw_g (lw_at lw_m3 186 rfl) rfl
theorem q835 : (Jvm.Cond.fieldLinkNest "MarriageHerring" (211 : Nat) "MarriageHerring$Bay" "mile" "I" "MarriageHerring") ∈ lw_tbl := lw_at lw_m3 199 rfl
theorem q885 : (Jvm.Cond.selects "MarriageHerring" ({ cls := "java/lang/Object", name := "getClass", desc := "()Ljava/lang/Class;" } : Jvm.MethodName) ({ cls := "java/lang/Object", name := "getClass", desc := "()Ljava/lang/Class;" } : Jvm.MethodName)) ∈ lw_all := lw_g (lw_at lw_m4 9 rfl) rfl
theorem q937 : (Jvm.Cond.fieldLinkNest "MarriageHerring" (233 : Nat) "MarriageHerring$Couple" "bay" "I" "MarriageHerring") ∈ lw_tbl := lw_at lw_m4 61 rfl
theorem q961 : (Jvm.Cond.fieldLinkNest "MarriageHerring" (251 : Nat) "MarriageHerring$Herring" "size" "I" "MarriageHerring") ∈ lw_tbl := lw_at lw_m4 85 rfl
theorem q1072 : (Jvm.Cond.laysStatic "MarriageHerring" "ASKED" "[Ljava/lang/String;") ∈ lw_tbl := lw_at lw_m4 196 rfl
theorem q1074 : (Jvm.Cond.static ({ cls := "MarriageHerring", name := "has", desc := "(II)Z" } : Jvm.MethodName)) ∈ lw_all := lw_g (lw_at lw_m4 198 rfl) rfl
theorem q1075 : (Jvm.Cond.code ({ cls := "MarriageHerring", name := "has", desc := "(II)Z" } : Jvm.MethodName) prog_1_method_2_code (2 : Nat) (Option.some Jvm.ClassFile.FieldType.boolean)) ∈ lw_all := lw_g (lw_at lw_m4 199 rfl) rfl
theorem q1087 : (Jvm.Cond.laysStatic "MarriageHerring" "LOOKED" "[Ljava/lang/String;") ∈ lw_tbl := lw_at lw_m4 211 rfl
theorem q1247 : (Jvm.Cond.methodLink "MarriageHerring" (136 : Nat) ({ cls := "MarriageHerring$State", name := "begins", desc := "()V" } : Jvm.MethodName)) ∈ lw_all := lw_g (lw_at lw_m5 131 rfl) rfl
theorem q1252 : (Jvm.Cond.privateMethod ({ cls := "MarriageHerring", name := "shoals", desc := "()I" } : Jvm.MethodName)) ∈ lw_tbl := lw_at lw_m5 136 rfl
theorem q1253 : (Jvm.Cond.instanceMethod ({ cls := "MarriageHerring", name := "shoals", desc := "()I" } : Jvm.MethodName)) ∈ lw_all := lw_g (lw_at lw_m5 137 rfl) rfl
theorem q1254 : (Jvm.Cond.code ({ cls := "MarriageHerring", name := "shoals", desc := "()I" } : Jvm.MethodName) prog_1_method_17_code (1 : Nat) (Option.some Jvm.ClassFile.FieldType.int)) ∈ lw_all := lw_g (lw_at lw_m5 138 rfl) rfl
theorem q1255 : (Jvm.Cond.interfaceEntry "MarriageHerring" (152 : Nat)) ∈ lw_tbl := lw_at lw_m5 139 rfl
theorem q1256 : (Jvm.Cond.methodLink "MarriageHerring" (152 : Nat) ({ cls := "java/util/List", name := "size", desc := "()I" } : Jvm.MethodName)) ∈ lw_all := lw_g (lw_at lw_m5 140 rfl) rfl
theorem q1258 : (Jvm.Cond.privateMethod ({ cls := "MarriageHerring", name := "shoalOf", desc := "(I)LMarriageHerring$Herring;" } : Jvm.MethodName)) ∈ lw_tbl := lw_at lw_m5 142 rfl
theorem q1259 : (Jvm.Cond.instanceMethod ({ cls := "MarriageHerring", name := "shoalOf", desc := "(I)LMarriageHerring$Herring;" } : Jvm.MethodName)) ∈ lw_all := lw_g (lw_at lw_m5 143 rfl) rfl
theorem q1260 : (Jvm.Cond.code ({ cls := "MarriageHerring", name := "shoalOf", desc := "(I)LMarriageHerring$Herring;" } : Jvm.MethodName) prog_1_method_23_code (2 : Nat) (Option.some (Jvm.ClassFile.FieldType.object "MarriageHerring$Herring"))) ∈ lw_all := lw_g (lw_at lw_m5 144 rfl) rfl
theorem q1261 : (Jvm.Cond.interfaceEntry "MarriageHerring" (169 : Nat)) ∈ lw_tbl := lw_at lw_m5 145 rfl
theorem q1262 : (Jvm.Cond.methodLink "MarriageHerring" (169 : Nat) ({ cls := "java/util/List", name := "get", desc := "(I)Ljava/lang/Object;" } : Jvm.MethodName)) ∈ lw_all := lw_g (lw_at lw_m5 146 rfl) rfl
theorem q1263 : (Jvm.Cond.classLink "MarriageHerring" (177 : Nat) "MarriageHerring$Herring") ∈ lw_all := lw_g (lw_at lw_m5 147 rfl) rfl
theorem q1265 : (Jvm.Cond.privateMethod ({ cls := "MarriageHerring", name := "bays", desc := "()I" } : Jvm.MethodName)) ∈ lw_tbl := lw_at lw_m5 149 rfl
theorem q1266 : (Jvm.Cond.instanceMethod ({ cls := "MarriageHerring", name := "bays", desc := "()I" } : Jvm.MethodName)) ∈ lw_all := lw_g (lw_at lw_m5 150 rfl) rfl
theorem q1267 : (Jvm.Cond.code ({ cls := "MarriageHerring", name := "bays", desc := "()I" } : Jvm.MethodName) prog_1_method_15_code (1 : Nat) (Option.some Jvm.ClassFile.FieldType.int)) ∈ lw_all := lw_g (lw_at lw_m5 151 rfl) rfl
theorem q1269 : (Jvm.Cond.privateMethod ({ cls := "MarriageHerring", name := "bayOf", desc := "(I)LMarriageHerring$Bay;" } : Jvm.MethodName)) ∈ lw_tbl := lw_at lw_m5 153 rfl
theorem q1270 : (Jvm.Cond.instanceMethod ({ cls := "MarriageHerring", name := "bayOf", desc := "(I)LMarriageHerring$Bay;" } : Jvm.MethodName)) ∈ lw_all := lw_g (lw_at lw_m5 154 rfl) rfl
theorem q1271 : (Jvm.Cond.code ({ cls := "MarriageHerring", name := "bayOf", desc := "(I)LMarriageHerring$Bay;" } : Jvm.MethodName) prog_1_method_21_code (2 : Nat) (Option.some (Jvm.ClassFile.FieldType.object "MarriageHerring$Bay"))) ∈ lw_all := lw_g (lw_at lw_m5 155 rfl) rfl
theorem q1272 : (Jvm.Cond.classLink "MarriageHerring" (173 : Nat) "MarriageHerring$Bay") ∈ lw_all := lw_g (lw_at lw_m5 156 rfl) rfl
theorem q1274 : (Jvm.Cond.privateMethod ({ cls := "MarriageHerring", name := "pairs", desc := "()I" } : Jvm.MethodName)) ∈ lw_tbl := lw_at lw_m5 158 rfl
theorem q1275 : (Jvm.Cond.instanceMethod ({ cls := "MarriageHerring", name := "pairs", desc := "()I" } : Jvm.MethodName)) ∈ lw_all := lw_g (lw_at lw_m5 159 rfl) rfl
theorem q1276 : (Jvm.Cond.code ({ cls := "MarriageHerring", name := "pairs", desc := "()I" } : Jvm.MethodName) prog_1_method_16_code (1 : Nat) (Option.some Jvm.ClassFile.FieldType.int)) ∈ lw_all := lw_g (lw_at lw_m5 160 rfl) rfl
theorem q1278 : (Jvm.Cond.privateMethod ({ cls := "MarriageHerring", name := "pairOf", desc := "(I)LMarriageHerring$Couple;" } : Jvm.MethodName)) ∈ lw_tbl := lw_at lw_m5 162 rfl
theorem q1279 : (Jvm.Cond.instanceMethod ({ cls := "MarriageHerring", name := "pairOf", desc := "(I)LMarriageHerring$Couple;" } : Jvm.MethodName)) ∈ lw_all := lw_g (lw_at lw_m5 163 rfl) rfl
theorem q1280 : (Jvm.Cond.code ({ cls := "MarriageHerring", name := "pairOf", desc := "(I)LMarriageHerring$Couple;" } : Jvm.MethodName) prog_1_method_22_code (2 : Nat) (Option.some (Jvm.ClassFile.FieldType.object "MarriageHerring$Couple"))) ∈ lw_all := lw_g (lw_at lw_m5 164 rfl) rfl
theorem q1281 : (Jvm.Cond.classLink "MarriageHerring" (175 : Nat) "MarriageHerring$Couple") ∈ lw_all := lw_g (lw_at lw_m5 165 rfl) rfl
theorem q1283 : (Jvm.Cond.instanceMethod ({ cls := "MarriageHerring", name := "fault", desc := "(I)I" } : Jvm.MethodName)) ∈ lw_all := lw_g (lw_at lw_m5 167 rfl) rfl
theorem q1284 : (Jvm.Cond.selects "MarriageHerring" ({ cls := "MarriageHerring", name := "fault", desc := "(I)I" } : Jvm.MethodName) ({ cls := "MarriageHerring", name := "fault", desc := "(I)I" } : Jvm.MethodName)) ∈ lw_all := lw_g (lw_at lw_m5 168 rfl) rfl
theorem q1285 : (Jvm.Cond.code ({ cls := "MarriageHerring", name := "fault", desc := "(I)I" } : Jvm.MethodName) prog_1_method_14_code (2 : Nat) (Option.some Jvm.ClassFile.FieldType.int)) ∈ lw_all := lw_g (lw_at lw_m5 169 rfl) rfl
theorem q1287 : (Jvm.Cond.instanceMethod ({ cls := "MarriageHerring", name := "has", desc := "(I)I" } : Jvm.MethodName)) ∈ lw_all := lw_g (lw_at lw_m5 171 rfl) rfl
theorem q1288 : (Jvm.Cond.selects "MarriageHerring" ({ cls := "MarriageHerring", name := "has", desc := "(I)I" } : Jvm.MethodName) ({ cls := "MarriageHerring", name := "has", desc := "(I)I" } : Jvm.MethodName)) ∈ lw_all := lw_g (lw_at lw_m5 172 rfl) rfl
theorem q1289 : (Jvm.Cond.code ({ cls := "MarriageHerring", name := "has", desc := "(I)I" } : Jvm.MethodName) prog_1_method_25_code (4 : Nat) (Option.some Jvm.ClassFile.FieldType.int)) ∈ lw_all := lw_g (lw_at lw_m5 173 rfl) rfl
theorem q1290 : (Jvm.Cond.methodLink "MarriageHerring" (163 : Nat) ({ cls := "MarriageHerring", name := "bays", desc := "()I" } : Jvm.MethodName)) ∈ lw_all := lw_g (lw_at lw_m5 174 rfl) rfl
theorem q1291 : (Jvm.Cond.methodLink "MarriageHerring" (165 : Nat) ({ cls := "MarriageHerring", name := "pairs", desc := "()I" } : Jvm.MethodName)) ∈ lw_all := lw_g (lw_at lw_m5 175 rfl) rfl
theorem q1292 : (Jvm.Cond.methodLink "MarriageHerring" (167 : Nat) ({ cls := "MarriageHerring", name := "shoals", desc := "()I" } : Jvm.MethodName)) ∈ lw_all := lw_g (lw_at lw_m5 176 rfl) rfl
theorem q1293 : (Jvm.Cond.methodLink "MarriageHerring" (182 : Nat) ({ cls := "MarriageHerring$State", name := "isCounted", desc := "(I)Z" } : Jvm.MethodName)) ∈ lw_all := lw_g (lw_at lw_m5 177 rfl) rfl
theorem q1324 : (Jvm.Cond.static ({ cls := "MarriageHerring", name := "held", desc := "(J)J" } : Jvm.MethodName)) ∈ lw_all := lw_g (lw_at lw_m5 208 rfl) rfl
theorem q1325 : (Jvm.Cond.code ({ cls := "MarriageHerring", name := "held", desc := "(J)J" } : Jvm.MethodName) prog_1_method_3_code (2 : Nat) (Option.some Jvm.ClassFile.FieldType.long)) ∈ lw_all := lw_g (lw_at lw_m5 209 rfl) rfl
theorem q1326 : (Jvm.Cond.constantLong "MarriageHerring" (3 : Nat) (-1000000 : Int64)) ∈ lw_all := lw_g (lw_at lw_m5 210 rfl) rfl
theorem q1327 : (Jvm.Cond.constantLong "MarriageHerring" (5 : Nat) (1000000 : Int64)) ∈ lw_all := lw_g (lw_at lw_m5 211 rfl) rfl
theorem q1328 : (Jvm.Cond.methodLink "MarriageHerring" (7 : Nat) ({ cls := "java/lang/Math", name := "min", desc := "(JJ)J" } : Jvm.MethodName)) ∈ lw_all := lw_g (lw_at lw_m5 212 rfl) rfl
theorem q1331 : (Jvm.Cond.methodLink "MarriageHerring" (13 : Nat) ({ cls := "java/lang/Math", name := "max", desc := "(JJ)J" } : Jvm.MethodName)) ∈ lw_all := lw_g (lw_at lw_m5 215 rfl) rfl
theorem q1350 : (Jvm.Cond.privateMethod ({ cls := "MarriageHerring", name := "looked", desc := "(IJ)J" } : Jvm.MethodName)) ∈ lw_tbl := lw_at lw_m5 234 rfl
theorem q1351 : (Jvm.Cond.instanceMethod ({ cls := "MarriageHerring", name := "looked", desc := "(IJ)J" } : Jvm.MethodName)) ∈ lw_all := lw_g (lw_at lw_m5 235 rfl) rfl
theorem q1352 : (Jvm.Cond.code ({ cls := "MarriageHerring", name := "looked", desc := "(IJ)J" } : Jvm.MethodName) prog_1_method_57_code (4 : Nat) (Option.some Jvm.ClassFile.FieldType.long)) ∈ lw_all := lw_g (lw_at lw_m5 236 rfl) rfl
theorem q1353 : (Jvm.Cond.methodLink "MarriageHerring" (217 : Nat) ({ cls := "MarriageHerring$State", name := "vowsOf", desc := "(I)I" } : Jvm.MethodName)) ∈ lw_all := lw_g (lw_at lw_m5 237 rfl) rfl
theorem q1383 : (Jvm.Cond.methodLink "MarriageHerring" (189 : Nat) ({ cls := "MarriageHerring$State", name := "tookAll", desc := "()I" } : Jvm.MethodName)) ∈ lw_all := lw_g (lw_at lw_m6 27 rfl) rfl
theorem q1388 : (Jvm.Cond.instanceMethod ({ cls := "MarriageHerring", name := "letter", desc := "(III)I" } : Jvm.MethodName)) ∈ lw_all := lw_g (lw_at lw_m6 32 rfl) rfl
theorem q1389 : (Jvm.Cond.selects "MarriageHerring" ({ cls := "MarriageHerring", name := "letter", desc := "(III)I" } : Jvm.MethodName) ({ cls := "MarriageHerring", name := "letter", desc := "(III)I" } : Jvm.MethodName)) ∈ lw_all := lw_g (lw_at lw_m6 33 rfl) rfl
theorem q1390 : (Jvm.Cond.code ({ cls := "MarriageHerring", name := "letter", desc := "(III)I" } : Jvm.MethodName) prog_1_method_26_code (5 : Nat) (Option.some Jvm.ClassFile.FieldType.int)) ∈ lw_all := lw_g (lw_at lw_m6 34 rfl) rfl
theorem q1391 : (Jvm.Cond.methodLink "MarriageHerring" (195 : Nat) ({ cls := "MarriageHerring", name := "is", desc := "(III)Z" } : Jvm.MethodName)) ∈ lw_all := lw_g (lw_at lw_m6 35 rfl) rfl
theorem q1392 : (Jvm.Cond.classLink "MarriageHerring" (199 : Nat) "MarriageHerring$Named") ∈ lw_all := lw_g (lw_at lw_m6 36 rfl) rfl
theorem q1393 : (Jvm.Cond.methodLink "MarriageHerring" (201 : Nat) ({ cls := "MarriageHerring$Named", name := "signAt", desc := "(I)I" } : Jvm.MethodName)) ∈ lw_all := lw_g (lw_at lw_m6 37 rfl) rfl
theorem q1413 : (Jvm.Cond.instanceMethod ({ cls := "MarriageHerring", name := "bay", desc := "(II)I" } : Jvm.MethodName)) ∈ lw_all := lw_g (lw_at lw_m6 57 rfl) rfl
theorem q1414 : (Jvm.Cond.selects "MarriageHerring" ({ cls := "MarriageHerring", name := "bay", desc := "(II)I" } : Jvm.MethodName) ({ cls := "MarriageHerring", name := "bay", desc := "(II)I" } : Jvm.MethodName)) ∈ lw_all := lw_g (lw_at lw_m6 58 rfl) rfl
theorem q1415 : (Jvm.Cond.code ({ cls := "MarriageHerring", name := "bay", desc := "(II)I" } : Jvm.MethodName) prog_1_method_27_code (3 : Nat) (Option.some Jvm.ClassFile.FieldType.int)) ∈ lw_all := lw_g (lw_at lw_m6 59 rfl) rfl
theorem q1416 : (Jvm.Cond.methodLink "MarriageHerring" (204 : Nat) ({ cls := "MarriageHerring", name := "isBay", desc := "(I)Z" } : Jvm.MethodName)) ∈ lw_all := lw_g (lw_at lw_m6 60 rfl) rfl
theorem q1417 : (Jvm.Cond.privateMethod ({ cls := "MarriageHerring", name := "isBay", desc := "(I)Z" } : Jvm.MethodName)) ∈ lw_tbl := lw_at lw_m6 61 rfl
theorem q1418 : (Jvm.Cond.instanceMethod ({ cls := "MarriageHerring", name := "isBay", desc := "(I)Z" } : Jvm.MethodName)) ∈ lw_all := lw_g (lw_at lw_m6 62 rfl) rfl
theorem q1419 : (Jvm.Cond.code ({ cls := "MarriageHerring", name := "isBay", desc := "(I)Z" } : Jvm.MethodName) prog_1_method_18_code (2 : Nat) (Option.some Jvm.ClassFile.FieldType.boolean)) ∈ lw_all := lw_g (lw_at lw_m6 63 rfl) rfl
theorem q1420 : (Jvm.Cond.methodLink "MarriageHerring" (207 : Nat) ({ cls := "MarriageHerring", name := "bayOf", desc := "(I)LMarriageHerring$Bay;" } : Jvm.MethodName)) ∈ lw_all := lw_g (lw_at lw_m6 64 rfl) rfl
theorem q1422 : (Jvm.Cond.instanceMethod ({ cls := "MarriageHerring", name := "pair", desc := "(II)I" } : Jvm.MethodName)) ∈ lw_all := lw_g (lw_at lw_m6 66 rfl) rfl
theorem q1423 : (Jvm.Cond.selects "MarriageHerring" ({ cls := "MarriageHerring", name := "pair", desc := "(II)I" } : Jvm.MethodName) ({ cls := "MarriageHerring", name := "pair", desc := "(II)I" } : Jvm.MethodName)) ∈ lw_all := lw_g (lw_at lw_m6 67 rfl) rfl
theorem q1424 : (Jvm.Cond.code ({ cls := "MarriageHerring", name := "pair", desc := "(II)I" } : Jvm.MethodName) prog_1_method_28_code (3 : Nat) (Option.some Jvm.ClassFile.FieldType.int)) ∈ lw_all := lw_g (lw_at lw_m6 68 rfl) rfl
theorem q1425 : (Jvm.Cond.methodLink "MarriageHerring" (226 : Nat) ({ cls := "MarriageHerring", name := "isPair", desc := "(I)Z" } : Jvm.MethodName)) ∈ lw_all := lw_g (lw_at lw_m6 69 rfl) rfl
theorem q1426 : (Jvm.Cond.privateMethod ({ cls := "MarriageHerring", name := "isPair", desc := "(I)Z" } : Jvm.MethodName)) ∈ lw_tbl := lw_at lw_m6 70 rfl
theorem q1427 : (Jvm.Cond.instanceMethod ({ cls := "MarriageHerring", name := "isPair", desc := "(I)Z" } : Jvm.MethodName)) ∈ lw_all := lw_g (lw_at lw_m6 71 rfl) rfl
theorem q1428 : (Jvm.Cond.code ({ cls := "MarriageHerring", name := "isPair", desc := "(I)Z" } : Jvm.MethodName) prog_1_method_19_code (2 : Nat) (Option.some Jvm.ClassFile.FieldType.boolean)) ∈ lw_all := lw_g (lw_at lw_m6 72 rfl) rfl
theorem q1429 : (Jvm.Cond.methodLink "MarriageHerring" (229 : Nat) ({ cls := "MarriageHerring", name := "pairOf", desc := "(I)LMarriageHerring$Couple;" } : Jvm.MethodName)) ∈ lw_all := lw_g (lw_at lw_m6 73 rfl) rfl
theorem q1431 : (Jvm.Cond.instanceMethod ({ cls := "MarriageHerring", name := "shoal", desc := "(II)I" } : Jvm.MethodName)) ∈ lw_all := lw_g (lw_at lw_m6 75 rfl) rfl
theorem q1432 : (Jvm.Cond.selects "MarriageHerring" ({ cls := "MarriageHerring", name := "shoal", desc := "(II)I" } : Jvm.MethodName) ({ cls := "MarriageHerring", name := "shoal", desc := "(II)I" } : Jvm.MethodName)) ∈ lw_all := lw_g (lw_at lw_m6 76 rfl) rfl
theorem q1433 : (Jvm.Cond.code ({ cls := "MarriageHerring", name := "shoal", desc := "(II)I" } : Jvm.MethodName) prog_1_method_29_code (3 : Nat) (Option.some Jvm.ClassFile.FieldType.int)) ∈ lw_all := lw_g (lw_at lw_m6 77 rfl) rfl
theorem q1434 : (Jvm.Cond.methodLink "MarriageHerring" (242 : Nat) ({ cls := "MarriageHerring", name := "isShoal", desc := "(I)Z" } : Jvm.MethodName)) ∈ lw_all := lw_g (lw_at lw_m6 78 rfl) rfl
theorem q1435 : (Jvm.Cond.privateMethod ({ cls := "MarriageHerring", name := "isShoal", desc := "(I)Z" } : Jvm.MethodName)) ∈ lw_tbl := lw_at lw_m6 79 rfl
theorem q1436 : (Jvm.Cond.instanceMethod ({ cls := "MarriageHerring", name := "isShoal", desc := "(I)Z" } : Jvm.MethodName)) ∈ lw_all := lw_g (lw_at lw_m6 80 rfl) rfl
theorem q1437 : (Jvm.Cond.code ({ cls := "MarriageHerring", name := "isShoal", desc := "(I)Z" } : Jvm.MethodName) prog_1_method_20_code (2 : Nat) (Option.some Jvm.ClassFile.FieldType.boolean)) ∈ lw_all := lw_g (lw_at lw_m6 81 rfl) rfl
theorem q1438 : (Jvm.Cond.methodLink "MarriageHerring" (247 : Nat) ({ cls := "MarriageHerring", name := "shoalOf", desc := "(I)LMarriageHerring$Herring;" } : Jvm.MethodName)) ∈ lw_all := lw_g (lw_at lw_m6 82 rfl) rfl
theorem q1440 : (Jvm.Cond.instanceMethod ({ cls := "MarriageHerring", name := "lure", desc := "(II)J" } : Jvm.MethodName)) ∈ lw_all := lw_g (lw_at lw_m6 84 rfl) rfl
theorem q1441 : (Jvm.Cond.selects "MarriageHerring" ({ cls := "MarriageHerring", name := "lure", desc := "(II)J" } : Jvm.MethodName) ({ cls := "MarriageHerring", name := "lure", desc := "(II)J" } : Jvm.MethodName)) ∈ lw_all := lw_g (lw_at lw_m6 85 rfl) rfl
theorem q1442 : (Jvm.Cond.code ({ cls := "MarriageHerring", name := "lure", desc := "(II)J" } : Jvm.MethodName) prog_1_method_30_code (3 : Nat) (Option.some Jvm.ClassFile.FieldType.long)) ∈ lw_all := lw_g (lw_at lw_m6 86 rfl) rfl
theorem q1443 : (Jvm.Cond.methodLink "MarriageHerring" (253 : Nat) ({ cls := "MarriageHerring$State", name := "lureNow", desc := "(II)J" } : Jvm.MethodName)) ∈ lw_all := lw_g (lw_at lw_m6 87 rfl) rfl
theorem q1460 : (Jvm.Cond.constantLong "MarriageHerring" (257 : Nat) (-1000000000000000 : Int64)) ∈ lw_all := lw_g (lw_at lw_m6 104 rfl) rfl
theorem q1462 : (Jvm.Cond.instanceMethod ({ cls := "MarriageHerring", name := "kept", desc := "(II)I" } : Jvm.MethodName)) ∈ lw_all := lw_g (lw_at lw_m6 106 rfl) rfl
theorem q1463 : (Jvm.Cond.selects "MarriageHerring" ({ cls := "MarriageHerring", name := "kept", desc := "(II)I" } : Jvm.MethodName) ({ cls := "MarriageHerring", name := "kept", desc := "(II)I" } : Jvm.MethodName)) ∈ lw_all := lw_g (lw_at lw_m6 107 rfl) rfl
theorem q1464 : (Jvm.Cond.code ({ cls := "MarriageHerring", name := "kept", desc := "(II)I" } : Jvm.MethodName) prog_1_method_31_code (3 : Nat) (Option.some Jvm.ClassFile.FieldType.int)) ∈ lw_all := lw_g (lw_at lw_m6 108 rfl) rfl
theorem q1466 : (Jvm.Cond.instanceMethod ({ cls := "MarriageHerring", name := "later", desc := "(II)I" } : Jvm.MethodName)) ∈ lw_all := lw_g (lw_at lw_m6 110 rfl) rfl
theorem q1467 : (Jvm.Cond.selects "MarriageHerring" ({ cls := "MarriageHerring", name := "later", desc := "(II)I" } : Jvm.MethodName) ({ cls := "MarriageHerring", name := "later", desc := "(II)I" } : Jvm.MethodName)) ∈ lw_all := lw_g (lw_at lw_m6 111 rfl) rfl
theorem q1468 : (Jvm.Cond.code ({ cls := "MarriageHerring", name := "later", desc := "(II)I" } : Jvm.MethodName) prog_1_method_33_code (3 : Nat) (Option.some Jvm.ClassFile.FieldType.int)) ∈ lw_all := lw_g (lw_at lw_m6 112 rfl) rfl
theorem q1469 : (Jvm.Cond.methodLink "MarriageHerring" (261 : Nat) ({ cls := "MarriageHerring", name := "isAhead", desc := "(III)Z" } : Jvm.MethodName)) ∈ lw_all := lw_g (lw_at lw_m6 113 rfl) rfl
theorem q1470 : (Jvm.Cond.privateMethod ({ cls := "MarriageHerring", name := "isAhead", desc := "(III)Z" } : Jvm.MethodName)) ∈ lw_tbl := lw_at lw_m6 114 rfl
theorem q1471 : (Jvm.Cond.instanceMethod ({ cls := "MarriageHerring", name := "isAhead", desc := "(III)Z" } : Jvm.MethodName)) ∈ lw_all := lw_g (lw_at lw_m6 115 rfl) rfl
theorem q1472 : (Jvm.Cond.code ({ cls := "MarriageHerring", name := "isAhead", desc := "(III)Z" } : Jvm.MethodName) prog_1_method_32_code (4 : Nat) (Option.some Jvm.ClassFile.FieldType.boolean)) ∈ lw_all := lw_g (lw_at lw_m6 116 rfl) rfl
theorem q1473 : (Jvm.Cond.methodLink "MarriageHerring" (264 : Nat) ({ cls := "MarriageHerring$State", name := "copy", desc := "(LMarriageHerring$State;)LMarriageHerring$State;" } : Jvm.MethodName)) ∈ lw_all := lw_g (lw_at lw_m6 117 rfl) rfl
theorem q1477 : (Jvm.Cond.methodLink "MarriageHerring" (268 : Nat) ({ cls := "MarriageHerring$State", name := "goesBy", desc := "(I)LMarriageHerring$State;" } : Jvm.MethodName)) ∈ lw_all := lw_g (lw_at lw_m6 121 rfl) rfl
theorem q1502 : (Jvm.Cond.static ({ cls := "MarriageHerring", name := "within", desc := "(JI)I" } : Jvm.MethodName)) ∈ lw_all := lw_g (lw_at lw_m6 146 rfl) rfl
theorem q1503 : (Jvm.Cond.code ({ cls := "MarriageHerring", name := "within", desc := "(JI)I" } : Jvm.MethodName) prog_1_method_24_code (3 : Nat) (Option.some Jvm.ClassFile.FieldType.int)) ∈ lw_all := lw_g (lw_at lw_m6 147 rfl) rfl
theorem q1510 : (Jvm.Cond.instanceMethod ({ cls := "MarriageHerring", name := "caught", desc := "(II)I" } : Jvm.MethodName)) ∈ lw_all := lw_g (lw_at lw_m6 154 rfl) rfl
theorem q1511 : (Jvm.Cond.selects "MarriageHerring" ({ cls := "MarriageHerring", name := "caught", desc := "(II)I" } : Jvm.MethodName) ({ cls := "MarriageHerring", name := "caught", desc := "(II)I" } : Jvm.MethodName)) ∈ lw_all := lw_g (lw_at lw_m6 155 rfl) rfl
theorem q1512 : (Jvm.Cond.code ({ cls := "MarriageHerring", name := "caught", desc := "(II)I" } : Jvm.MethodName) prog_1_method_34_code (5 : Nat) (Option.some Jvm.ClassFile.FieldType.int)) ∈ lw_all := lw_g (lw_at lw_m6 156 rfl) rfl
theorem q1513 : (Jvm.Cond.methodLink "MarriageHerring" (272 : Nat) ({ cls := "MarriageHerring$State", name := "goes", desc := "()I" } : Jvm.MethodName)) ∈ lw_all := lw_g (lw_at lw_m6 157 rfl) rfl
theorem q1515 : (Jvm.Cond.instanceMethod ({ cls := "MarriageHerring", name := "hungry", desc := "(II)I" } : Jvm.MethodName)) ∈ lw_all := lw_g (lw_at lw_m6 159 rfl) rfl
theorem q1516 : (Jvm.Cond.selects "MarriageHerring" ({ cls := "MarriageHerring", name := "hungry", desc := "(II)I" } : Jvm.MethodName) ({ cls := "MarriageHerring", name := "hungry", desc := "(II)I" } : Jvm.MethodName)) ∈ lw_all := lw_g (lw_at lw_m6 160 rfl) rfl
theorem q1517 : (Jvm.Cond.code ({ cls := "MarriageHerring", name := "hungry", desc := "(II)I" } : Jvm.MethodName) prog_1_method_35_code (3 : Nat) (Option.some Jvm.ClassFile.FieldType.int)) ∈ lw_all := lw_g (lw_at lw_m6 161 rfl) rfl
theorem q1519 : (Jvm.Cond.instanceMethod ({ cls := "MarriageHerring", name := "steady", desc := "()I" } : Jvm.MethodName)) ∈ lw_all := lw_g (lw_at lw_m6 163 rfl) rfl
theorem q1520 : (Jvm.Cond.selects "MarriageHerring" ({ cls := "MarriageHerring", name := "steady", desc := "()I" } : Jvm.MethodName) ({ cls := "MarriageHerring", name := "steady", desc := "()I" } : Jvm.MethodName)) ∈ lw_all := lw_g (lw_at lw_m6 164 rfl) rfl
theorem q1521 : (Jvm.Cond.code ({ cls := "MarriageHerring", name := "steady", desc := "()I" } : Jvm.MethodName) prog_1_method_37_code (3 : Nat) (Option.some Jvm.ClassFile.FieldType.int)) ∈ lw_all := lw_g (lw_at lw_m6 165 rfl) rfl
theorem q1522 : (Jvm.Cond.methodLink "MarriageHerring" (275 : Nat) ({ cls := "MarriageHerring", name := "isSteadyFrom", desc := "(I)Z" } : Jvm.MethodName)) ∈ lw_all := lw_g (lw_at lw_m6 166 rfl) rfl
theorem q1523 : (Jvm.Cond.privateMethod ({ cls := "MarriageHerring", name := "isSteadyFrom", desc := "(I)Z" } : Jvm.MethodName)) ∈ lw_tbl := lw_at lw_m6 167 rfl
theorem q1524 : (Jvm.Cond.instanceMethod ({ cls := "MarriageHerring", name := "isSteadyFrom", desc := "(I)Z" } : Jvm.MethodName)) ∈ lw_all := lw_g (lw_at lw_m6 168 rfl) rfl
theorem q1525 : (Jvm.Cond.code ({ cls := "MarriageHerring", name := "isSteadyFrom", desc := "(I)Z" } : Jvm.MethodName) prog_1_method_36_code (4 : Nat) (Option.some Jvm.ClassFile.FieldType.boolean)) ∈ lw_all := lw_g (lw_at lw_m6 169 rfl) rfl
theorem q1527 : (Jvm.Cond.instanceMethod ({ cls := "MarriageHerring", name := "reconcile", desc := "(III)I" } : Jvm.MethodName)) ∈ lw_all := lw_g (lw_at lw_m6 171 rfl) rfl
theorem q1528 : (Jvm.Cond.selects "MarriageHerring" ({ cls := "MarriageHerring", name := "reconcile", desc := "(III)I" } : Jvm.MethodName) ({ cls := "MarriageHerring", name := "reconcile", desc := "(III)I" } : Jvm.MethodName)) ∈ lw_all := lw_g (lw_at lw_m6 172 rfl) rfl
theorem q1529 : (Jvm.Cond.code ({ cls := "MarriageHerring", name := "reconcile", desc := "(III)I" } : Jvm.MethodName) prog_1_method_39_code (7 : Nat) (Option.some Jvm.ClassFile.FieldType.int)) ∈ lw_all := lw_g (lw_at lw_m6 173 rfl) rfl
theorem q1530 : (Jvm.Cond.methodLink "MarriageHerring" (282 : Nat) ({ cls := "java/lang/Integer", name := "bitCount", desc := "(I)I" } : Jvm.MethodName)) ∈ lw_all := lw_g (lw_at lw_m6 174 rfl) rfl
theorem q1536 : (Jvm.Cond.methodLink "MarriageHerring" (287 : Nat) ({ cls := "MarriageHerring", name := "comesBy", desc := "(IIII)Z" } : Jvm.MethodName)) ∈ lw_all := lw_g (lw_at lw_m6 180 rfl) rfl
theorem q1537 : (Jvm.Cond.privateMethod ({ cls := "MarriageHerring", name := "comesBy", desc := "(IIII)Z" } : Jvm.MethodName)) ∈ lw_tbl := lw_at lw_m6 181 rfl
theorem q1538 : (Jvm.Cond.instanceMethod ({ cls := "MarriageHerring", name := "comesBy", desc := "(IIII)Z" } : Jvm.MethodName)) ∈ lw_all := lw_g (lw_at lw_m6 182 rfl) rfl
theorem q1539 : (Jvm.Cond.code ({ cls := "MarriageHerring", name := "comesBy", desc := "(IIII)Z" } : Jvm.MethodName) prog_1_method_38_code (6 : Nat) (Option.some Jvm.ClassFile.FieldType.boolean)) ∈ lw_all := lw_g (lw_at lw_m6 183 rfl) rfl
theorem q1540 : (Jvm.Cond.methodLink "MarriageHerring" (278 : Nat) ({ cls := "MarriageHerring", name := "has", desc := "(II)Z" } : Jvm.MethodName)) ∈ lw_all := lw_g (lw_at lw_m6 184 rfl) rfl
theorem q1542 : (Jvm.Cond.instanceMethod ({ cls := "MarriageHerring", name := "hinge", desc := "(II)I" } : Jvm.MethodName)) ∈ lw_all := lw_g (lw_at lw_m6 186 rfl) rfl
theorem q1543 : (Jvm.Cond.selects "MarriageHerring" ({ cls := "MarriageHerring", name := "hinge", desc := "(II)I" } : Jvm.MethodName) ({ cls := "MarriageHerring", name := "hinge", desc := "(II)I" } : Jvm.MethodName)) ∈ lw_all := lw_g (lw_at lw_m6 187 rfl) rfl
theorem q1544 : (Jvm.Cond.code ({ cls := "MarriageHerring", name := "hinge", desc := "(II)I" } : Jvm.MethodName) prog_1_method_40_code (8 : Nat) (Option.some Jvm.ClassFile.FieldType.int)) ∈ lw_all := lw_g (lw_at lw_m6 188 rfl) rfl
theorem q1545 : (Jvm.Cond.constant "MarriageHerring" (291 : Nat) (100000000 : Int32)) ∈ lw_all := lw_g (lw_at lw_m6 189 rfl) rfl
theorem q1547 : (Jvm.Cond.instanceMethod ({ cls := "MarriageHerring", name := "odds", desc := "(II)I" } : Jvm.MethodName)) ∈ lw_all := lw_g (lw_at lw_m6 191 rfl) rfl
theorem q1548 : (Jvm.Cond.selects "MarriageHerring" ({ cls := "MarriageHerring", name := "odds", desc := "(II)I" } : Jvm.MethodName) ({ cls := "MarriageHerring", name := "odds", desc := "(II)I" } : Jvm.MethodName)) ∈ lw_all := lw_g (lw_at lw_m6 192 rfl) rfl
theorem q1549 : (Jvm.Cond.code ({ cls := "MarriageHerring", name := "odds", desc := "(II)I" } : Jvm.MethodName) prog_1_method_42_code (6 : Nat) (Option.some Jvm.ClassFile.FieldType.int)) ∈ lw_all := lw_g (lw_at lw_m6 193 rfl) rfl
theorem q1550 : (Jvm.Cond.methodLink "MarriageHerring" (295 : Nat) ({ cls := "MarriageHerring", name := "drives", desc := "(LMarriageHerring$State;II)V" } : Jvm.MethodName)) ∈ lw_all := lw_g (lw_at lw_m6 194 rfl) rfl
theorem q1551 : (Jvm.Cond.privateMethod ({ cls := "MarriageHerring", name := "drives", desc := "(LMarriageHerring$State;II)V" } : Jvm.MethodName)) ∈ lw_tbl := lw_at lw_m6 195 rfl
theorem q1552 : (Jvm.Cond.instanceMethod ({ cls := "MarriageHerring", name := "drives", desc := "(LMarriageHerring$State;II)V" } : Jvm.MethodName)) ∈ lw_all := lw_g (lw_at lw_m6 196 rfl) rfl
theorem q1553 : (Jvm.Cond.code ({ cls := "MarriageHerring", name := "drives", desc := "(LMarriageHerring$State;II)V" } : Jvm.MethodName) prog_1_method_41_code (4 : Nat) (Option.none : Option Jvm.ClassFile.FieldType)) ∈ lw_all := lw_g (lw_at lw_m6 197 rfl) rfl
theorem q1555 : (Jvm.Cond.instanceMethod ({ cls := "MarriageHerring", name := "see", desc := "()I" } : Jvm.MethodName)) ∈ lw_all := lw_g (lw_at lw_m6 199 rfl) rfl
theorem q1556 : (Jvm.Cond.selects "MarriageHerring" ({ cls := "MarriageHerring", name := "see", desc := "()I" } : Jvm.MethodName) ({ cls := "MarriageHerring", name := "see", desc := "()I" } : Jvm.MethodName)) ∈ lw_all := lw_g (lw_at lw_m6 200 rfl) rfl
theorem q1557 : (Jvm.Cond.code ({ cls := "MarriageHerring", name := "see", desc := "()I" } : Jvm.MethodName) prog_1_method_44_code (4 : Nat) (Option.some Jvm.ClassFile.FieldType.int)) ∈ lw_all := lw_g (lw_at lw_m6 201 rfl) rfl
theorem q1558 : (Jvm.Cond.methodLink "MarriageHerring" (299 : Nat) ({ cls := "MarriageHerring", name := "byteAt", desc := "(I)I" } : Jvm.MethodName)) ∈ lw_all := lw_g (lw_at lw_m6 202 rfl) rfl
theorem q1559 : (Jvm.Cond.privateMethod ({ cls := "MarriageHerring", name := "byteAt", desc := "(I)I" } : Jvm.MethodName)) ∈ lw_tbl := lw_at lw_m6 203 rfl
theorem q1560 : (Jvm.Cond.instanceMethod ({ cls := "MarriageHerring", name := "byteAt", desc := "(I)I" } : Jvm.MethodName)) ∈ lw_all := lw_g (lw_at lw_m6 204 rfl) rfl
theorem q1561 : (Jvm.Cond.code ({ cls := "MarriageHerring", name := "byteAt", desc := "(I)I" } : Jvm.MethodName) prog_1_method_43_code (2 : Nat) (Option.some Jvm.ClassFile.FieldType.int)) ∈ lw_all := lw_g (lw_at lw_m6 205 rfl) rfl
theorem q1563 : (Jvm.Cond.instanceMethod ({ cls := "MarriageHerring", name := "trues", desc := "(I)I" } : Jvm.MethodName)) ∈ lw_all := lw_g (lw_at lw_m6 207 rfl) rfl
theorem q1564 : (Jvm.Cond.selects "MarriageHerring" ({ cls := "MarriageHerring", name := "trues", desc := "(I)I" } : Jvm.MethodName) ({ cls := "MarriageHerring", name := "trues", desc := "(I)I" } : Jvm.MethodName)) ∈ lw_all := lw_g (lw_at lw_m6 208 rfl) rfl
theorem q1565 : (Jvm.Cond.code ({ cls := "MarriageHerring", name := "trues", desc := "(I)I" } : Jvm.MethodName) prog_1_method_46_code (4 : Nat) (Option.some Jvm.ClassFile.FieldType.int)) ∈ lw_all := lw_g (lw_at lw_m6 209 rfl) rfl
theorem q1566 : (Jvm.Cond.methodLink "MarriageHerring" (302 : Nat) ({ cls := "MarriageHerring", name := "canBe", desc := "(II)Z" } : Jvm.MethodName)) ∈ lw_all := lw_g (lw_at lw_m6 210 rfl) rfl
theorem q1567 : (Jvm.Cond.privateMethod ({ cls := "MarriageHerring", name := "canBe", desc := "(II)Z" } : Jvm.MethodName)) ∈ lw_tbl := lw_at lw_m6 211 rfl
theorem q1568 : (Jvm.Cond.instanceMethod ({ cls := "MarriageHerring", name := "canBe", desc := "(II)Z" } : Jvm.MethodName)) ∈ lw_all := lw_g (lw_at lw_m6 212 rfl) rfl
theorem q1569 : (Jvm.Cond.code ({ cls := "MarriageHerring", name := "canBe", desc := "(II)Z" } : Jvm.MethodName) prog_1_method_45_code (6 : Nat) (Option.some Jvm.ClassFile.FieldType.boolean)) ∈ lw_all := lw_g (lw_at lw_m6 213 rfl) rfl
theorem q1571 : (Jvm.Cond.instanceMethod ({ cls := "MarriageHerring", name := "tells", desc := "(II)I" } : Jvm.MethodName)) ∈ lw_all := lw_g (lw_at lw_m6 215 rfl) rfl
theorem q1572 : (Jvm.Cond.selects "MarriageHerring" ({ cls := "MarriageHerring", name := "tells", desc := "(II)I" } : Jvm.MethodName) ({ cls := "MarriageHerring", name := "tells", desc := "(II)I" } : Jvm.MethodName)) ∈ lw_all := lw_g (lw_at lw_m6 216 rfl) rfl
theorem q1573 : (Jvm.Cond.code ({ cls := "MarriageHerring", name := "tells", desc := "(II)I" } : Jvm.MethodName) prog_1_method_48_code (9 : Nat) (Option.some Jvm.ClassFile.FieldType.int)) ∈ lw_all := lw_g (lw_at lw_m6 217 rfl) rfl
theorem q1574 : (Jvm.Cond.methodLink "MarriageHerring" (308 : Nat) ({ cls := "MarriageHerring", name := "trues", desc := "(I)I" } : Jvm.MethodName)) ∈ lw_all := lw_g (lw_at lw_m6 218 rfl) rfl
theorem q1575 : (Jvm.Cond.methodLink "MarriageHerring" (311 : Nat) ({ cls := "MarriageHerring", name := "mostBy", desc := "(III)I" } : Jvm.MethodName)) ∈ lw_all := lw_g (lw_at lw_m6 219 rfl) rfl
theorem q1576 : (Jvm.Cond.privateMethod ({ cls := "MarriageHerring", name := "mostBy", desc := "(III)I" } : Jvm.MethodName)) ∈ lw_tbl := lw_at lw_m6 220 rfl
theorem q1577 : (Jvm.Cond.instanceMethod ({ cls := "MarriageHerring", name := "mostBy", desc := "(III)I" } : Jvm.MethodName)) ∈ lw_all := lw_g (lw_at lw_m6 221 rfl) rfl
theorem q1578 : (Jvm.Cond.code ({ cls := "MarriageHerring", name := "mostBy", desc := "(III)I" } : Jvm.MethodName) prog_1_method_47_code (8 : Nat) (Option.some Jvm.ClassFile.FieldType.int)) ∈ lw_all := lw_g (lw_at lw_m6 222 rfl) rfl
theorem q1579 : (Jvm.Cond.methodLink "MarriageHerring" (305 : Nat) ({ cls := "java/lang/Math", name := "max", desc := "(II)I" } : Jvm.MethodName)) ∈ lw_all := lw_g (lw_at lw_m6 223 rfl) rfl
theorem q1581 : (Jvm.Cond.instanceMethod ({ cls := "MarriageHerring", name := "undo", desc := "()Z" } : Jvm.MethodName)) ∈ lw_all := lw_g (lw_at lw_m6 225 rfl) rfl
theorem q1582 : (Jvm.Cond.selects "MarriageHerring" ({ cls := "MarriageHerring", name := "undo", desc := "()Z" } : Jvm.MethodName) ({ cls := "MarriageHerring", name := "undo", desc := "()Z" } : Jvm.MethodName)) ∈ lw_all := lw_g (lw_at lw_m6 226 rfl) rfl
theorem q1583 : (Jvm.Cond.code ({ cls := "MarriageHerring", name := "undo", desc := "()Z" } : Jvm.MethodName) prog_1_method_50_code (1 : Nat) (Option.some Jvm.ClassFile.FieldType.boolean)) ∈ lw_all := lw_g (lw_at lw_m6 227 rfl) rfl
theorem q1585 : (Jvm.Cond.instanceMethod ({ cls := "MarriageHerring", name := "sit", desc := "(II)Z" } : Jvm.MethodName)) ∈ lw_all := lw_g (lw_at lw_m6 229 rfl) rfl
theorem q1586 : (Jvm.Cond.selects "MarriageHerring" ({ cls := "MarriageHerring", name := "sit", desc := "(II)Z" } : Jvm.MethodName) ({ cls := "MarriageHerring", name := "sit", desc := "(II)Z" } : Jvm.MethodName)) ∈ lw_all := lw_g (lw_at lw_m6 230 rfl) rfl
theorem q1587 : (Jvm.Cond.code ({ cls := "MarriageHerring", name := "sit", desc := "(II)Z" } : Jvm.MethodName) prog_1_method_51_code (3 : Nat) (Option.some Jvm.ClassFile.FieldType.boolean)) ∈ lw_all := lw_g (lw_at lw_m6 231 rfl) rfl
theorem q1588 : (Jvm.Cond.methodLink "MarriageHerring" (315 : Nat) ({ cls := "MarriageHerring", name := "remembers", desc := "()V" } : Jvm.MethodName)) ∈ lw_all := lw_g (lw_at lw_m6 232 rfl) rfl
theorem q1589 : (Jvm.Cond.privateMethod ({ cls := "MarriageHerring", name := "remembers", desc := "()V" } : Jvm.MethodName)) ∈ lw_tbl := lw_at lw_m6 233 rfl
theorem q1590 : (Jvm.Cond.instanceMethod ({ cls := "MarriageHerring", name := "remembers", desc := "()V" } : Jvm.MethodName)) ∈ lw_all := lw_g (lw_at lw_m6 234 rfl) rfl
theorem q1591 : (Jvm.Cond.code ({ cls := "MarriageHerring", name := "remembers", desc := "()V" } : Jvm.MethodName) prog_1_method_49_code (3 : Nat) (Option.none : Option Jvm.ClassFile.FieldType)) ∈ lw_all := lw_g (lw_at lw_m6 235 rfl) rfl
theorem q1593 : (Jvm.Cond.instanceMethod ({ cls := "MarriageHerring", name := "give", desc := "(II)Z" } : Jvm.MethodName)) ∈ lw_all := lw_g (lw_at lw_m6 237 rfl) rfl
theorem q1594 : (Jvm.Cond.selects "MarriageHerring" ({ cls := "MarriageHerring", name := "give", desc := "(II)Z" } : Jvm.MethodName) ({ cls := "MarriageHerring", name := "give", desc := "(II)Z" } : Jvm.MethodName)) ∈ lw_all := lw_g (lw_at lw_m6 238 rfl) rfl
theorem q1595 : (Jvm.Cond.code ({ cls := "MarriageHerring", name := "give", desc := "(II)Z" } : Jvm.MethodName) prog_1_method_52_code (3 : Nat) (Option.some Jvm.ClassFile.FieldType.boolean)) ∈ lw_all := lw_g (lw_at lw_m6 239 rfl) rfl
theorem q1597 : (Jvm.Cond.instanceMethod ({ cls := "MarriageHerring", name := "years", desc := "(I)I" } : Jvm.MethodName)) ∈ lw_all := lw_g (lw_at lw_m7 1 rfl) rfl
theorem q1598 : (Jvm.Cond.selects "MarriageHerring" ({ cls := "MarriageHerring", name := "years", desc := "(I)I" } : Jvm.MethodName) ({ cls := "MarriageHerring", name := "years", desc := "(I)I" } : Jvm.MethodName)) ∈ lw_all := lw_g (lw_at lw_m7 2 rfl) rfl
theorem q1599 : (Jvm.Cond.code ({ cls := "MarriageHerring", name := "years", desc := "(I)I" } : Jvm.MethodName) prog_1_method_53_code (4 : Nat) (Option.some Jvm.ClassFile.FieldType.int)) ∈ lw_all := lw_g (lw_at lw_m7 3 rfl) rfl
theorem q1601 : (Jvm.Cond.instanceMethod ({ cls := "MarriageHerring", name := "chance", desc := "(I)I" } : Jvm.MethodName)) ∈ lw_all := lw_g (lw_at lw_m7 5 rfl) rfl
theorem q1602 : (Jvm.Cond.selects "MarriageHerring" ({ cls := "MarriageHerring", name := "chance", desc := "(I)I" } : Jvm.MethodName) ({ cls := "MarriageHerring", name := "chance", desc := "(I)I" } : Jvm.MethodName)) ∈ lw_all := lw_g (lw_at lw_m7 6 rfl) rfl
theorem q1603 : (Jvm.Cond.code ({ cls := "MarriageHerring", name := "chance", desc := "(I)I" } : Jvm.MethodName) prog_1_method_55_code (5 : Nat) (Option.some Jvm.ClassFile.FieldType.int)) ∈ lw_all := lw_g (lw_at lw_m7 7 rfl) rfl
theorem q1604 : (Jvm.Cond.methodLink "MarriageHerring" (326 : Nat) ({ cls := "MarriageHerring", name := "draw", desc := "(I)I" } : Jvm.MethodName)) ∈ lw_all := lw_g (lw_at lw_m7 8 rfl) rfl
theorem q1605 : (Jvm.Cond.privateMethod ({ cls := "MarriageHerring", name := "draw", desc := "(I)I" } : Jvm.MethodName)) ∈ lw_tbl := lw_at lw_m7 9 rfl
theorem q1606 : (Jvm.Cond.instanceMethod ({ cls := "MarriageHerring", name := "draw", desc := "(I)I" } : Jvm.MethodName)) ∈ lw_all := lw_g (lw_at lw_m7 10 rfl) rfl
theorem q1607 : (Jvm.Cond.code ({ cls := "MarriageHerring", name := "draw", desc := "(I)I" } : Jvm.MethodName) prog_1_method_54_code (2 : Nat) (Option.some Jvm.ClassFile.FieldType.int)) ∈ lw_all := lw_g (lw_at lw_m7 11 rfl) rfl
theorem q1608 : (Jvm.Cond.constantLong "MarriageHerring" (318 : Nat) (1103515245 : Int64)) ∈ lw_all := lw_g (lw_at lw_m7 12 rfl) rfl
theorem q1609 : (Jvm.Cond.constantLong "MarriageHerring" (320 : Nat) (12345 : Int64)) ∈ lw_all := lw_g (lw_at lw_m7 13 rfl) rfl
theorem q1610 : (Jvm.Cond.constantLong "MarriageHerring" (322 : Nat) (2147483648 : Int64)) ∈ lw_all := lw_g (lw_at lw_m7 14 rfl) rfl
theorem q1611 : (Jvm.Cond.constantLong "MarriageHerring" (324 : Nat) (64 : Int64)) ∈ lw_all := lw_g (lw_at lw_m7 15 rfl) rfl
theorem q1613 : (Jvm.Cond.instanceMethod ({ cls := "MarriageHerring", name := "seed", desc := "(I)Z" } : Jvm.MethodName)) ∈ lw_all := lw_g (lw_at lw_m7 17 rfl) rfl
theorem q1614 : (Jvm.Cond.selects "MarriageHerring" ({ cls := "MarriageHerring", name := "seed", desc := "(I)Z" } : Jvm.MethodName) ({ cls := "MarriageHerring", name := "seed", desc := "(I)Z" } : Jvm.MethodName)) ∈ lw_all := lw_g (lw_at lw_m7 18 rfl) rfl
theorem q1615 : (Jvm.Cond.code ({ cls := "MarriageHerring", name := "seed", desc := "(I)Z" } : Jvm.MethodName) prog_1_method_56_code (2 : Nat) (Option.some Jvm.ClassFile.FieldType.boolean)) ∈ lw_all := lw_g (lw_at lw_m7 19 rfl) rfl
theorem q1617 : (Jvm.Cond.instanceMethod ({ cls := "MarriageHerring", name := "ask", desc := "()J" } : Jvm.MethodName)) ∈ lw_all := lw_g (lw_at lw_m7 21 rfl) rfl
theorem q1618 : (Jvm.Cond.selects "MarriageHerring" ({ cls := "MarriageHerring", name := "ask", desc := "()J" } : Jvm.MethodName) ({ cls := "MarriageHerring", name := "ask", desc := "()J" } : Jvm.MethodName)) ∈ lw_all := lw_g (lw_at lw_m7 22 rfl) rfl
theorem q1619 : (Jvm.Cond.codeWith ({ cls := "MarriageHerring", name := "ask", desc := "()J" } : Jvm.MethodName) prog_1_method_58_code (4 : Nat) (Option.some Jvm.ClassFile.FieldType.long) [((15 : Nat), (24 : Nat), (27 : Nat), (128 : Nat))]) ∈ lw_all := lw_g (lw_at lw_m7 23 rfl) rfl
theorem q1620 : (Jvm.Cond.methodLink "MarriageHerring" (329 : Nat) ({ cls := "MarriageHerring$Reader", name := "question", desc := "(I)LMarriageHerring$Question;" } : Jvm.MethodName)) ∈ lw_all := lw_g (lw_at lw_m7 24 rfl) rfl
theorem q1625 : (Jvm.Cond.laysStatic "MarriageHerring" "TOLD_OF" "[Ljava/lang/String;") ∈ lw_tbl := lw_at lw_m7 29 rfl
theorem q1649 : (Jvm.Cond.methodLink "MarriageHerring" (337 : Nat) ({ cls := "MarriageHerring$Question", name := "meets", desc := "(ILMarriageHerring$Moment;)V" } : Jvm.MethodName)) ∈ lw_all := lw_g (lw_at lw_m7 53 rfl) rfl
theorem q1657 : (Jvm.Cond.methodLink "MarriageHerring" (343 : Nat) ({ cls := "MarriageHerring$Question", name := "answer", desc := "()J" } : Jvm.MethodName)) ∈ lw_all := lw_g (lw_at lw_m7 61 rfl) rfl
theorem q1662 : (Jvm.Cond.instanceMethod ({ cls := "MarriageHerring", name := "image", desc := "()I" } : Jvm.MethodName)) ∈ lw_all := lw_g (lw_at lw_m7 66 rfl) rfl
theorem q1663 : (Jvm.Cond.selects "MarriageHerring" ({ cls := "MarriageHerring", name := "image", desc := "()I" } : Jvm.MethodName) ({ cls := "MarriageHerring", name := "image", desc := "()I" } : Jvm.MethodName)) ∈ lw_all := lw_g (lw_at lw_m7 67 rfl) rfl
theorem q1664 : (Jvm.Cond.code ({ cls := "MarriageHerring", name := "image", desc := "()I" } : Jvm.MethodName) prog_1_method_61_code (2 : Nat) (Option.some Jvm.ClassFile.FieldType.int)) ∈ lw_all := lw_g (lw_at lw_m7 68 rfl) rfl
theorem q1665 : (Jvm.Cond.methodLink "MarriageHerring" (350 : Nat) ({ cls := "MarriageHerring", name := "writes", desc := "(I)V" } : Jvm.MethodName)) ∈ lw_all := lw_g (lw_at lw_m7 69 rfl) rfl
theorem q1666 : (Jvm.Cond.privateMethod ({ cls := "MarriageHerring", name := "writes", desc := "(I)V" } : Jvm.MethodName)) ∈ lw_tbl := lw_at lw_m7 70 rfl
theorem q1667 : (Jvm.Cond.instanceMethod ({ cls := "MarriageHerring", name := "writes", desc := "(I)V" } : Jvm.MethodName)) ∈ lw_all := lw_g (lw_at lw_m7 71 rfl) rfl
theorem q1668 : (Jvm.Cond.code ({ cls := "MarriageHerring", name := "writes", desc := "(I)V" } : Jvm.MethodName) prog_1_method_59_code (2 : Nat) (Option.none : Option Jvm.ClassFile.FieldType)) ∈ lw_all := lw_g (lw_at lw_m7 72 rfl) rfl
theorem q1669 : (Jvm.Cond.methodLink "MarriageHerring" (353 : Nat) ({ cls := "MarriageHerring", name := "check", desc := "([BI)I" } : Jvm.MethodName)) ∈ lw_all := lw_g (lw_at lw_m7 73 rfl) rfl
theorem q1670 : (Jvm.Cond.static ({ cls := "MarriageHerring", name := "check", desc := "([BI)I" } : Jvm.MethodName)) ∈ lw_all := lw_g (lw_at lw_m7 74 rfl) rfl
theorem q1671 : (Jvm.Cond.code ({ cls := "MarriageHerring", name := "check", desc := "([BI)I" } : Jvm.MethodName) prog_1_method_60_code (4 : Nat) (Option.some Jvm.ClassFile.FieldType.int)) ∈ lw_all := lw_g (lw_at lw_m7 75 rfl) rfl
theorem q1673 : (Jvm.Cond.instanceMethod ({ cls := "MarriageHerring", name := "octet", desc := "(I)I" } : Jvm.MethodName)) ∈ lw_all := lw_g (lw_at lw_m7 77 rfl) rfl
theorem q1674 : (Jvm.Cond.selects "MarriageHerring" ({ cls := "MarriageHerring", name := "octet", desc := "(I)I" } : Jvm.MethodName) ({ cls := "MarriageHerring", name := "octet", desc := "(I)I" } : Jvm.MethodName)) ∈ lw_all := lw_g (lw_at lw_m7 78 rfl) rfl
theorem q1675 : (Jvm.Cond.code ({ cls := "MarriageHerring", name := "octet", desc := "(I)I" } : Jvm.MethodName) prog_1_method_62_code (2 : Nat) (Option.some Jvm.ClassFile.FieldType.int)) ∈ lw_all := lw_g (lw_at lw_m7 79 rfl) rfl
theorem q1677 : (Jvm.Cond.instanceMethod ({ cls := "MarriageHerring", name := "on", desc := "()Z" } : Jvm.MethodName)) ∈ lw_all := lw_g (lw_at lw_m7 81 rfl) rfl
theorem q1678 : (Jvm.Cond.selects "MarriageHerring" ({ cls := "MarriageHerring", name := "on", desc := "()Z" } : Jvm.MethodName) ({ cls := "MarriageHerring", name := "on", desc := "()Z" } : Jvm.MethodName)) ∈ lw_all := lw_g (lw_at lw_m7 82 rfl) rfl
theorem q1679 : (Jvm.Cond.code ({ cls := "MarriageHerring", name := "on", desc := "()Z" } : Jvm.MethodName) prog_1_method_67_code (1 : Nat) (Option.some Jvm.ClassFile.FieldType.boolean)) ∈ lw_all := lw_g (lw_at lw_m7 83 rfl) rfl
theorem q1680 : (Jvm.Cond.methodLink "MarriageHerring" (366 : Nat) ({ cls := "MarriageHerring", name := "comesOn", desc := "(I)Z" } : Jvm.MethodName)) ∈ lw_all := lw_g (lw_at lw_m7 84 rfl) rfl
theorem q1681 : (Jvm.Cond.privateMethod ({ cls := "MarriageHerring", name := "comesOn", desc := "(I)Z" } : Jvm.MethodName)) ∈ lw_tbl := lw_at lw_m7 85 rfl
theorem q1682 : (Jvm.Cond.instanceMethod ({ cls := "MarriageHerring", name := "comesOn", desc := "(I)Z" } : Jvm.MethodName)) ∈ lw_all := lw_g (lw_at lw_m7 86 rfl) rfl
theorem q1683 : (Jvm.Cond.code ({ cls := "MarriageHerring", name := "comesOn", desc := "(I)Z" } : Jvm.MethodName) prog_1_method_66_code (7 : Nat) (Option.some Jvm.ClassFile.FieldType.boolean)) ∈ lw_all := lw_g (lw_at lw_m7 87 rfl) rfl
theorem q1684 : (Jvm.Cond.methodLink "MarriageHerring" (357 : Nat) ({ cls := "MarriageHerring", name := "shoalOn", desc := "(II)Z" } : Jvm.MethodName)) ∈ lw_all := lw_g (lw_at lw_m7 88 rfl) rfl
theorem q1685 : (Jvm.Cond.privateMethod ({ cls := "MarriageHerring", name := "shoalOn", desc := "(II)Z" } : Jvm.MethodName)) ∈ lw_tbl := lw_at lw_m7 89 rfl
theorem q1686 : (Jvm.Cond.instanceMethod ({ cls := "MarriageHerring", name := "shoalOn", desc := "(II)Z" } : Jvm.MethodName)) ∈ lw_all := lw_g (lw_at lw_m7 90 rfl) rfl
theorem q1687 : (Jvm.Cond.code ({ cls := "MarriageHerring", name := "shoalOn", desc := "(II)Z" } : Jvm.MethodName) prog_1_method_63_code (3 : Nat) (Option.some Jvm.ClassFile.FieldType.boolean)) ∈ lw_all := lw_g (lw_at lw_m7 91 rfl) rfl
theorem q1688 : (Jvm.Cond.methodLink "MarriageHerring" (360 : Nat) ({ cls := "MarriageHerring", name := "bayOn", desc := "(II)Z" } : Jvm.MethodName)) ∈ lw_all := lw_g (lw_at lw_m7 92 rfl) rfl
theorem q1689 : (Jvm.Cond.privateMethod ({ cls := "MarriageHerring", name := "bayOn", desc := "(II)Z" } : Jvm.MethodName)) ∈ lw_tbl := lw_at lw_m7 93 rfl
theorem q1690 : (Jvm.Cond.instanceMethod ({ cls := "MarriageHerring", name := "bayOn", desc := "(II)Z" } : Jvm.MethodName)) ∈ lw_all := lw_g (lw_at lw_m7 94 rfl) rfl
theorem q1691 : (Jvm.Cond.code ({ cls := "MarriageHerring", name := "bayOn", desc := "(II)Z" } : Jvm.MethodName) prog_1_method_64_code (3 : Nat) (Option.some Jvm.ClassFile.FieldType.boolean)) ∈ lw_all := lw_g (lw_at lw_m7 95 rfl) rfl
theorem q1692 : (Jvm.Cond.methodLink "MarriageHerring" (363 : Nat) ({ cls := "MarriageHerring", name := "pairOn", desc := "(II)Z" } : Jvm.MethodName)) ∈ lw_all := lw_g (lw_at lw_m7 96 rfl) rfl
theorem q1693 : (Jvm.Cond.privateMethod ({ cls := "MarriageHerring", name := "pairOn", desc := "(II)Z" } : Jvm.MethodName)) ∈ lw_tbl := lw_at lw_m7 97 rfl
theorem q1694 : (Jvm.Cond.instanceMethod ({ cls := "MarriageHerring", name := "pairOn", desc := "(II)Z" } : Jvm.MethodName)) ∈ lw_all := lw_g (lw_at lw_m7 98 rfl) rfl
theorem q1695 : (Jvm.Cond.code ({ cls := "MarriageHerring", name := "pairOn", desc := "(II)Z" } : Jvm.MethodName) prog_1_method_65_code (3 : Nat) (Option.some Jvm.ClassFile.FieldType.boolean)) ∈ lw_all := lw_g (lw_at lw_m7 99 rfl) rfl
theorem q1697 : (Jvm.Cond.instanceMethod ({ cls := "MarriageHerring", name := "status", desc := "(I)I" } : Jvm.MethodName)) ∈ lw_all := lw_g (lw_at lw_m7 101 rfl) rfl
theorem q1698 : (Jvm.Cond.selects "MarriageHerring" ({ cls := "MarriageHerring", name := "status", desc := "(I)I" } : Jvm.MethodName) ({ cls := "MarriageHerring", name := "status", desc := "(I)I" } : Jvm.MethodName)) ∈ lw_all := lw_g (lw_at lw_m7 102 rfl) rfl
theorem q1699 : (Jvm.Cond.code ({ cls := "MarriageHerring", name := "status", desc := "(I)I" } : Jvm.MethodName) prog_1_method_68_code (2 : Nat) (Option.some Jvm.ClassFile.FieldType.int)) ∈ lw_all := lw_g (lw_at lw_m7 103 rfl) rfl
theorem q2579 : (Jvm.Cond.castable "MarriageHerring" "java/lang/Object") ∈ lw_tbl := lw_at lw_m11 23 rfl
theorem q2615 : (Jvm.Cond.stringRef "MarriageHerring" (408 : Nat) "bay") ∈ lw_tbl := lw_at lw_m11 59 rfl
theorem q2616 : (Jvm.Cond.stringRef "MarriageHerring" (409 : Nat) "mile") ∈ lw_tbl := lw_at lw_m11 60 rfl
theorem q2617 : (Jvm.Cond.stringRef "MarriageHerring" (371 : Nat) "hunger") ∈ lw_tbl := lw_at lw_m11 61 rfl
theorem q2618 : (Jvm.Cond.stringRef "MarriageHerring" (410 : Nat) "pair") ∈ lw_tbl := lw_at lw_m11 62 rfl
theorem q2619 : (Jvm.Cond.stringRef "MarriageHerring" (412 : Nat) "in") ∈ lw_tbl := lw_at lw_m11 63 rfl
theorem q2620 : (Jvm.Cond.stringRef "MarriageHerring" (378 : Nat) "true") ∈ lw_tbl := lw_at lw_m11 64 rfl
theorem q2621 : (Jvm.Cond.stringRef "MarriageHerring" (414 : Nat) "shoal") ∈ lw_tbl := lw_at lw_m11 65 rfl
theorem q2622 : (Jvm.Cond.stringRef "MarriageHerring" (374 : Nat) "size") ∈ lw_tbl := lw_at lw_m11 66 rfl
theorem q2623 : (Jvm.Cond.stringRef "MarriageHerring" (416 : Nat) "lures") ∈ lw_tbl := lw_at lw_m11 67 rfl
theorem q2624 : (Jvm.Cond.stringRef "MarriageHerring" (418 : Nat) "mends") ∈ lw_tbl := lw_at lw_m11 68 rfl
theorem q2625 : (Jvm.Cond.stringRef "MarriageHerring" (420 : Nat) "starves") ∈ lw_tbl := lw_at lw_m11 69 rfl
theorem q2626 : (Jvm.Cond.stringRef "MarriageHerring" (422 : Nat) "counts") ∈ lw_tbl := lw_at lw_m11 70 rfl
theorem q2627 : (Jvm.Cond.stringRef "MarriageHerring" (424 : Nat) "storm") ∈ lw_tbl := lw_at lw_m11 71 rfl
theorem q2628 : (Jvm.Cond.stringRef "MarriageHerring" (369 : Nat) "vows") ∈ lw_tbl := lw_at lw_m11 72 rfl
theorem q2629 : (Jvm.Cond.stringRef "MarriageHerring" (372 : Nat) "far") ∈ lw_tbl := lw_at lw_m11 73 rfl
theorem q2630 : (Jvm.Cond.stringRef "MarriageHerring" (375 : Nat) "year") ∈ lw_tbl := lw_at lw_m11 74 rfl
theorem q2631 : (Jvm.Cond.stringRef "MarriageHerring" (376 : Nat) "late") ∈ lw_tbl := lw_at lw_m11 75 rfl
theorem q2632 : (Jvm.Cond.stringRef "MarriageHerring" (380 : Nat) "caught") ∈ lw_tbl := lw_at lw_m11 76 rfl
theorem q2633 : (Jvm.Cond.stringRef "MarriageHerring" (382 : Nat) "since") ∈ lw_tbl := lw_at lw_m11 77 rfl
theorem q2634 : (Jvm.Cond.stringRef "MarriageHerring" (383 : Nat) "number") ∈ lw_tbl := lw_at lw_m11 78 rfl
theorem q2635 : (Jvm.Cond.stringRef "MarriageHerring" (385 : Nat) "place") ∈ lw_tbl := lw_at lw_m11 79 rfl
theorem q2636 : (Jvm.Cond.stringRef "MarriageHerring" (425 : Nat) "or") ∈ lw_tbl := lw_at lw_m11 80 rfl
theorem q2637 : (Jvm.Cond.stringRef "MarriageHerring" (427 : Nat) "and") ∈ lw_tbl := lw_at lw_m11 81 rfl
theorem q2638 : (Jvm.Cond.stringRef "MarriageHerring" (429 : Nat) "not") ∈ lw_tbl := lw_at lw_m11 82 rfl
theorem q2639 : (Jvm.Cond.stringRef "MarriageHerring" (431 : Nat) "all") ∈ lw_tbl := lw_at lw_m11 83 rfl
theorem q2640 : (Jvm.Cond.stringRef "MarriageHerring" (432 : Nat) "min") ∈ lw_tbl := lw_at lw_m11 84 rfl
theorem q2641 : (Jvm.Cond.stringRef "MarriageHerring" (433 : Nat) "max") ∈ lw_tbl := lw_at lw_m11 85 rfl
theorem q2643 : (Jvm.Cond.stringRef "MarriageHerring" (393 : Nat) "first") ∈ lw_tbl := lw_at lw_m11 87 rfl
theorem q2644 : (Jvm.Cond.stringRef "MarriageHerring" (395 : Nat) "last") ∈ lw_tbl := lw_at lw_m11 88 rfl
theorem q2645 : (Jvm.Cond.stringRef "MarriageHerring" (397 : Nat) "often") ∈ lw_tbl := lw_at lw_m11 89 rfl
theorem q2646 : (Jvm.Cond.stringRef "MarriageHerring" (399 : Nat) "total") ∈ lw_tbl := lw_at lw_m11 90 rfl
theorem q2647 : (Jvm.Cond.stringRef "MarriageHerring" (401 : Nat) "most") ∈ lw_tbl := lw_at lw_m11 91 rfl
theorem q2648 : (Jvm.Cond.stringRef "MarriageHerring" (403 : Nat) "least") ∈ lw_tbl := lw_at lw_m11 92 rfl
theorem in_X0 : ∀ w ∈ wsX00, w ∈ lw_all := lw_in wsX00 [489, 491, 493, 495, 497, 499, 501, 503, 505, 507, 509, 511, 513, 515, 517, 519, 521, 523, 525, 527, 529, 531] (by decide +kernel) (by decide +kernel)
/-! MarriageHerring$Coast -/
set_option maxRecDepth 100000
def RX1 : String := "MarriageHerring$Coast"
def TX1 : u_T := fun k => match k with
  | 0 => ("MarriageHerring$Coast", "statements", "I", false)
  | 1 => ("MarriageHerring$Coast", "storm", "I", false)
  | 2 => ("MarriageHerring$Coast", "bays", "Ljava/util/List;", true)
  | 3 => ("MarriageHerring$Coast", "pairs", "Ljava/util/List;", true)
  | 4 => ("MarriageHerring$Coast", "shoals", "Ljava/util/List;", true)
  | 5 => ("MarriageHerring$Coast", "lures", "LMarriageHerring$Value;", false)
  | 6 => ("MarriageHerring$Coast", "mends", "LMarriageHerring$Value;", false)
  | 7 => ("MarriageHerring$Coast", "starves", "LMarriageHerring$Value;", false)
  | _ => ("MarriageHerring$Coast", "counts", "LMarriageHerring$Test;", false)
def tyX1 : Nat → FieldType := fun k => match k with
  | 0 => .int
  | 1 => .int
  | 2 => .object "java/util/List"
  | 3 => .object "java/util/List"
  | 4 => .object "java/util/List"
  | 5 => .object "MarriageHerring$Value"
  | 6 => .object "MarriageHerring$Value"
  | 7 => .object "MarriageHerring$Value"
  | _ => .object "MarriageHerring$Test"
abbrev wsX10 : List Cond := u_ws RX1 TX1 9
theorem nmX1 : ∀ a, a < 9 → ∀ b, b < 9 → a ≠ b → (TX1 a).2.1 ≠ (TX1 b).2.1 := by decide +kernel
theorem tyX1_ok : ∀ k, k < 9 → parseFieldDescriptor (TX1 k).2.2.1 = some (tyX1 k) := by decide +kernel
abbrev cX1_init : ByteArray := prog_6_method_1_code
def yX1_init : MethodName := ⟨RX1, "<init>", "()V"⟩
def dkwX1_init_1 : List UInt8 := [183, 0, 11, 181, 0, 20, 42, 187, 0, 9, 89, 5, 183, 0, 11, 181, 0, 23, 177]
abbrev dktX1_init_1 : List UInt8 := dkwX1_init_1 ++ []
def dkwX1_init_0 : List UInt8 := [42, 183, 0, 3, 42, 187, 0, 9, 89, 7, 183, 0, 11, 181, 0, 14, 42, 187, 0, 9, 89, 7]
abbrev dktX1_init_0 : List UInt8 := dkwX1_init_0 ++ dktX1_init_1
theorem dksX1_init_0 : cX1_init.data.toList.drop 0 = dktX1_init_0 := by decide +kernel
theorem dksX1_init_1 : cX1_init.data.toList.drop 22 = dktX1_init_1 := dk_seg dksX1_init_0 22 rfl rfl
theorem dX1_init_0 : decode cX1_init 0 = .ok (.aload_n 0, 1) := dk_42 (dk_at dksX1_init_0 0 rfl rfl)
theorem dX1_init_1 : decode cX1_init 1 = .ok (.invokespecial 3, 3) := dk_183 0 3 (dk_at dksX1_init_0 1 rfl rfl)
theorem dX1_init_4 : decode cX1_init 4 = .ok (.aload_n 0, 1) := dk_42 (dk_at dksX1_init_0 4 rfl rfl)
theorem dX1_init_5 : decode cX1_init 5 = .ok (.new 9, 3) := dk_187 0 9 (dk_at dksX1_init_0 5 rfl rfl)
theorem dX1_init_8 : decode cX1_init 8 = .ok (.dup, 1) := dk_89 (dk_at dksX1_init_0 8 rfl rfl)
theorem dX1_init_9 : decode cX1_init 9 = .ok (.iconst 4, 1) := dk_7 (dk_at dksX1_init_0 9 rfl rfl)
theorem dX1_init_10 : decode cX1_init 10 = .ok (.invokespecial 11, 3) := dk_183 0 11 (dk_at dksX1_init_0 10 rfl rfl)
theorem dX1_init_13 : decode cX1_init 13 = .ok (.putfield 14, 3) := dk_181 0 14 (dk_at dksX1_init_0 13 rfl rfl)
theorem dX1_init_16 : decode cX1_init 16 = .ok (.aload_n 0, 1) := dk_42 (dk_at dksX1_init_0 16 rfl rfl)
theorem dX1_init_17 : decode cX1_init 17 = .ok (.new 9, 3) := dk_187 0 9 (dk_at dksX1_init_0 17 rfl rfl)
theorem dX1_init_20 : decode cX1_init 20 = .ok (.dup, 1) := dk_89 (dk_at dksX1_init_0 20 rfl rfl)
theorem dX1_init_21 : decode cX1_init 21 = .ok (.iconst 4, 1) := dk_7 (dk_at dksX1_init_0 21 rfl rfl)
theorem dX1_init_22 : decode cX1_init 22 = .ok (.invokespecial 11, 3) := dk_183 0 11 (dk_at dksX1_init_1 0 rfl rfl)
theorem dX1_init_25 : decode cX1_init 25 = .ok (.putfield 20, 3) := dk_181 0 20 (dk_at dksX1_init_1 3 rfl rfl)
theorem dX1_init_28 : decode cX1_init 28 = .ok (.aload_n 0, 1) := dk_42 (dk_at dksX1_init_1 6 rfl rfl)
theorem dX1_init_29 : decode cX1_init 29 = .ok (.new 9, 3) := dk_187 0 9 (dk_at dksX1_init_1 7 rfl rfl)
theorem dX1_init_32 : decode cX1_init 32 = .ok (.dup, 1) := dk_89 (dk_at dksX1_init_1 10 rfl rfl)
theorem dX1_init_33 : decode cX1_init 33 = .ok (.iconst 2, 1) := dk_5 (dk_at dksX1_init_1 11 rfl rfl)
theorem dX1_init_34 : decode cX1_init 34 = .ok (.invokespecial 11, 3) := dk_183 0 11 (dk_at dksX1_init_1 12 rfl rfl)
theorem dX1_init_37 : decode cX1_init 37 = .ok (.putfield 23, 3) := dk_181 0 23 (dk_at dksX1_init_1 15 rfl rfl)
theorem dX1_init_40 : decode cX1_init 40 = .ok (.return_, 1) := dk_177 (dk_at dksX1_init_1 18 rfl rfl)
abbrev cX1_isNamed : ByteArray := prog_6_method_2_code
def yX1_isNamed : MethodName := ⟨RX1, "isNamed", "(Ljava/lang/String;)Z"⟩
def dkwX1_isNamed_1 : List UInt8 := [42, 180, 0, 23, 43, 184, 0, 26, 2, 159, 0, 7, 4, 167, 0, 4, 3, 172]
abbrev dktX1_isNamed_1 : List UInt8 := dkwX1_isNamed_1 ++ []
def dkwX1_isNamed_0 : List UInt8 := [42, 180, 0, 14, 43, 184, 0, 26, 2, 160, 0, 27, 42, 180, 0, 20, 43, 184, 0, 26, 2, 160, 0, 15]
abbrev dktX1_isNamed_0 : List UInt8 := dkwX1_isNamed_0 ++ dktX1_isNamed_1
theorem dksX1_isNamed_0 : cX1_isNamed.data.toList.drop 0 = dktX1_isNamed_0 := by decide +kernel
theorem dksX1_isNamed_1 : cX1_isNamed.data.toList.drop 24 = dktX1_isNamed_1 := dk_seg dksX1_isNamed_0 24 rfl rfl
theorem dX1_isNamed_0 : decode cX1_isNamed 0 = .ok (.aload_n 0, 1) := dk_42 (dk_at dksX1_isNamed_0 0 rfl rfl)
theorem dX1_isNamed_1 : decode cX1_isNamed 1 = .ok (.getfield 14, 3) := dk_180 0 14 (dk_at dksX1_isNamed_0 1 rfl rfl)
theorem dX1_isNamed_4 : decode cX1_isNamed 4 = .ok (.aload_n 1, 1) := dk_43 (dk_at dksX1_isNamed_0 4 rfl rfl)
theorem dX1_isNamed_5 : decode cX1_isNamed 5 = .ok (.invokestatic 26, 3) := dk_184 0 26 (dk_at dksX1_isNamed_0 5 rfl rfl)
theorem dX1_isNamed_8 : decode cX1_isNamed 8 = .ok (.iconst (-1), 1) := dk_2 (dk_at dksX1_isNamed_0 8 rfl rfl)
theorem dX1_isNamed_9 : decode cX1_isNamed 9 = .ok (.if_icmp .ne 27, 3) := dk_160 0 27 (dk_at dksX1_isNamed_0 9 rfl rfl)
theorem dX1_isNamed_12 : decode cX1_isNamed 12 = .ok (.aload_n 0, 1) := dk_42 (dk_at dksX1_isNamed_0 12 rfl rfl)
theorem dX1_isNamed_13 : decode cX1_isNamed 13 = .ok (.getfield 20, 3) := dk_180 0 20 (dk_at dksX1_isNamed_0 13 rfl rfl)
theorem dX1_isNamed_16 : decode cX1_isNamed 16 = .ok (.aload_n 1, 1) := dk_43 (dk_at dksX1_isNamed_0 16 rfl rfl)
theorem dX1_isNamed_17 : decode cX1_isNamed 17 = .ok (.invokestatic 26, 3) := dk_184 0 26 (dk_at dksX1_isNamed_0 17 rfl rfl)
theorem dX1_isNamed_20 : decode cX1_isNamed 20 = .ok (.iconst (-1), 1) := dk_2 (dk_at dksX1_isNamed_0 20 rfl rfl)
theorem dX1_isNamed_21 : decode cX1_isNamed 21 = .ok (.if_icmp .ne 15, 3) := dk_160 0 15 (dk_at dksX1_isNamed_0 21 rfl rfl)
theorem dX1_isNamed_24 : decode cX1_isNamed 24 = .ok (.aload_n 0, 1) := dk_42 (dk_at dksX1_isNamed_1 0 rfl rfl)
theorem dX1_isNamed_25 : decode cX1_isNamed 25 = .ok (.getfield 23, 3) := dk_180 0 23 (dk_at dksX1_isNamed_1 1 rfl rfl)
theorem dX1_isNamed_28 : decode cX1_isNamed 28 = .ok (.aload_n 1, 1) := dk_43 (dk_at dksX1_isNamed_1 4 rfl rfl)
theorem dX1_isNamed_29 : decode cX1_isNamed 29 = .ok (.invokestatic 26, 3) := dk_184 0 26 (dk_at dksX1_isNamed_1 5 rfl rfl)
theorem dX1_isNamed_32 : decode cX1_isNamed 32 = .ok (.iconst (-1), 1) := dk_2 (dk_at dksX1_isNamed_1 8 rfl rfl)
theorem dX1_isNamed_33 : decode cX1_isNamed 33 = .ok (.if_icmp .eq 7, 3) := dk_159 0 7 (dk_at dksX1_isNamed_1 9 rfl rfl)
theorem dX1_isNamed_36 : decode cX1_isNamed 36 = .ok (.iconst 1, 1) := dk_4 (dk_at dksX1_isNamed_1 12 rfl rfl)
theorem dX1_isNamed_37 : decode cX1_isNamed 37 = .ok (.goto 4, 3) := dk_167 0 4 (dk_at dksX1_isNamed_1 13 rfl rfl)
theorem dX1_isNamed_40 : decode cX1_isNamed 40 = .ok (.iconst 0, 1) := dk_3 (dk_at dksX1_isNamed_1 16 rfl rfl)
theorem dX1_isNamed_41 : decode cX1_isNamed 41 = .ok (.ireturn, 1) := dk_172 (dk_at dksX1_isNamed_1 17 rfl rfl)
theorem q158 : (Jvm.Cond.initialized "MarriageHerring$Coast") ∈ lw_all := lw_g (lw_at lw_m1 2 rfl) rfl
theorem q207 : (Jvm.Cond.instantiable "MarriageHerring$Coast" (9 : Nat)) ∈ lw_all := lw_g (lw_at lw_m1 51 rfl) rfl
theorem q209 : (Jvm.Cond.instanceMethod ({ cls := "MarriageHerring$Coast", name := "<init>", desc := "()V" } : Jvm.MethodName)) ∈ lw_all := lw_g (lw_at lw_m1 53 rfl) rfl
theorem q210 : (Jvm.Cond.code ({ cls := "MarriageHerring$Coast", name := "<init>", desc := "()V" } : Jvm.MethodName) prog_6_method_1_code (1 : Nat) (Option.none : Option Jvm.ClassFile.FieldType)) ∈ lw_all := lw_g (lw_at lw_m1 54 rfl) rfl
theorem q211 : (Jvm.Cond.methodLink "MarriageHerring$Coast" (3 : Nat) ({ cls := "java/lang/Object", name := "<init>", desc := "()V" } : Jvm.MethodName)) ∈ lw_all := lw_g (lw_at lw_m1 55 rfl) rfl
theorem q212 : (Jvm.Cond.classLink "MarriageHerring$Coast" (9 : Nat) "java/util/ArrayList") ∈ lw_all := lw_g (lw_at lw_m1 56 rfl) rfl
theorem q214 : (Jvm.Cond.methodLink "MarriageHerring$Coast" (11 : Nat) ({ cls := "java/util/ArrayList", name := "<init>", desc := "(I)V" } : Jvm.MethodName)) ∈ lw_all := lw_g (lw_at lw_m1 58 rfl) rfl
theorem q244 : (Jvm.Cond.fieldLink "MarriageHerring$Coast" (14 : Nat) "MarriageHerring$Coast" "bays" "Ljava/util/List;") ∈ lw_all := lw_g (lw_at lw_m1 88 rfl) rfl
theorem q247 : (Jvm.Cond.fieldLink "MarriageHerring$Coast" (20 : Nat) "MarriageHerring$Coast" "pairs" "Ljava/util/List;") ∈ lw_all := lw_g (lw_at lw_m1 91 rfl) rfl
theorem q250 : (Jvm.Cond.fieldLink "MarriageHerring$Coast" (23 : Nat) "MarriageHerring$Coast" "shoals" "Ljava/util/List;") ∈ lw_all := lw_g (lw_at lw_m1 94 rfl) rfl
theorem q261 : (Jvm.Cond.lays "MarriageHerring$Coast" "MarriageHerring$Coast" "statements" "I") ∈ lw_all := lw_g (lw_at lw_m1 105 rfl) rfl
theorem q262 : (Jvm.Cond.soleField "MarriageHerring$Coast" "statements") ∈ lw_all := lw_g (lw_at lw_m1 106 rfl) rfl
theorem q263 : (Jvm.Cond.lays "MarriageHerring$Coast" "MarriageHerring$Coast" "storm" "I") ∈ lw_all := lw_g (lw_at lw_m1 107 rfl) rfl
theorem q264 : (Jvm.Cond.soleField "MarriageHerring$Coast" "storm") ∈ lw_all := lw_g (lw_at lw_m1 108 rfl) rfl
theorem q265 : (Jvm.Cond.laysFinal "MarriageHerring$Coast" "MarriageHerring$Coast" "bays" "Ljava/util/List;") ∈ lw_all := lw_g (lw_at lw_m1 109 rfl) rfl
theorem q266 : (Jvm.Cond.soleField "MarriageHerring$Coast" "bays") ∈ lw_all := lw_g (lw_at lw_m1 110 rfl) rfl
theorem q267 : (Jvm.Cond.laysFinal "MarriageHerring$Coast" "MarriageHerring$Coast" "pairs" "Ljava/util/List;") ∈ lw_all := lw_g (lw_at lw_m1 111 rfl) rfl
theorem q268 : (Jvm.Cond.soleField "MarriageHerring$Coast" "pairs") ∈ lw_all := lw_g (lw_at lw_m1 112 rfl) rfl
theorem q269 : (Jvm.Cond.laysFinal "MarriageHerring$Coast" "MarriageHerring$Coast" "shoals" "Ljava/util/List;") ∈ lw_all := lw_g (lw_at lw_m1 113 rfl) rfl
theorem q270 : (Jvm.Cond.soleField "MarriageHerring$Coast" "shoals") ∈ lw_all := lw_g (lw_at lw_m1 114 rfl) rfl
theorem q271 : (Jvm.Cond.lays "MarriageHerring$Coast" "MarriageHerring$Coast" "lures" "LMarriageHerring$Value;") ∈ lw_all := lw_g (lw_at lw_m1 115 rfl) rfl
theorem q272 : (Jvm.Cond.soleField "MarriageHerring$Coast" "lures") ∈ lw_all := lw_g (lw_at lw_m1 116 rfl) rfl
theorem q273 : (Jvm.Cond.lays "MarriageHerring$Coast" "MarriageHerring$Coast" "mends" "LMarriageHerring$Value;") ∈ lw_all := lw_g (lw_at lw_m1 117 rfl) rfl
theorem q274 : (Jvm.Cond.soleField "MarriageHerring$Coast" "mends") ∈ lw_all := lw_g (lw_at lw_m1 118 rfl) rfl
theorem q275 : (Jvm.Cond.lays "MarriageHerring$Coast" "MarriageHerring$Coast" "starves" "LMarriageHerring$Value;") ∈ lw_all := lw_g (lw_at lw_m1 119 rfl) rfl
theorem q276 : (Jvm.Cond.soleField "MarriageHerring$Coast" "starves") ∈ lw_all := lw_g (lw_at lw_m1 120 rfl) rfl
theorem q277 : (Jvm.Cond.lays "MarriageHerring$Coast" "MarriageHerring$Coast" "counts" "LMarriageHerring$Test;") ∈ lw_all := lw_g (lw_at lw_m1 121 rfl) rfl
theorem q278 : (Jvm.Cond.soleField "MarriageHerring$Coast" "counts") ∈ lw_all := lw_g (lw_at lw_m1 122 rfl) rfl
theorem q279 : (Jvm.Cond.superclass "MarriageHerring$Coast" "java/lang/Object") ∈ lw_all := lw_g (lw_at lw_m1 123 rfl) rfl
theorem q778 : (Jvm.Cond.instanceMethod ({ cls := "MarriageHerring$Coast", name := "isNamed", desc := "(Ljava/lang/String;)Z" } : Jvm.MethodName)) ∈ lw_all := lw_g (lw_at lw_m3 142 rfl) rfl
theorem q779 : (Jvm.Cond.selects "MarriageHerring$Coast" ({ cls := "MarriageHerring$Coast", name := "isNamed", desc := "(Ljava/lang/String;)Z" } : Jvm.MethodName) ({ cls := "MarriageHerring$Coast", name := "isNamed", desc := "(Ljava/lang/String;)Z" } : Jvm.MethodName)) ∈ lw_all := lw_g (lw_at lw_m3 143 rfl) rfl
theorem q780 : (Jvm.Cond.code ({ cls := "MarriageHerring$Coast", name := "isNamed", desc := "(Ljava/lang/String;)Z" } : Jvm.MethodName) prog_6_method_2_code (2 : Nat) (Option.some Jvm.ClassFile.FieldType.boolean)) ∈ lw_all := lw_g (lw_at lw_m3 144 rfl) rfl
theorem q781 : (Jvm.Cond.methodLink "MarriageHerring$Coast" (26 : Nat) ({ cls := "MarriageHerring$Named", name := "find", desc := "(Ljava/util/List;Ljava/lang/String;)I" } : Jvm.MethodName)) ∈ lw_all := lw_g (lw_at lw_m3 145 rfl) rfl
theorem q890 : (Jvm.Cond.selects "MarriageHerring$Coast" ({ cls := "java/lang/Object", name := "getClass", desc := "()Ljava/lang/Class;" } : Jvm.MethodName) ({ cls := "java/lang/Object", name := "getClass", desc := "()Ljava/lang/Class;" } : Jvm.MethodName)) ∈ lw_all := lw_g (lw_at lw_m4 14 rfl) rfl
theorem q2580 : (Jvm.Cond.castable "MarriageHerring$Coast" "java/lang/Object") ∈ lw_tbl := lw_at lw_m11 24 rfl
theorem in_X1 : ∀ w ∈ wsX10, w ∈ lw_all := lw_in wsX10 [261, 263, 265, 267, 269, 271, 273, 275, 277] (by decide +kernel) (by decide +kernel)
/-! MarriageHerring$Reader -/
set_option maxRecDepth 100000
def RX2 : String := "MarriageHerring$Reader"
def TX2 : u_T := fun k => match k with
  | 0 => ("MarriageHerring$Reader", "fault", "LMarriageHerring$Fault;", true)
  | 1 => ("MarriageHerring$Reader", "size", "I", false)
  | 2 => ("MarriageHerring$Reader", "at", "I", false)
  | 3 => ("MarriageHerring$Reader", "from", "I", false)
  | 4 => ("MarriageHerring$Reader", "open", "I", false)
  | 5 => ("MarriageHerring$Reader", "context", "I", false)
  | 6 => ("MarriageHerring$Reader", "to", "LMarriageHerring$Coast;", false)
  | _ => ("MarriageHerring$Reader", "this$0", "LMarriageHerring;", true)
def tyX2 : Nat → FieldType := fun k => match k with
  | 0 => .object "MarriageHerring$Fault"
  | 1 => .int
  | 2 => .int
  | 3 => .int
  | 4 => .int
  | 5 => .int
  | 6 => .object "MarriageHerring$Coast"
  | _ => .object "MarriageHerring"
abbrev wsX20 : List Cond := u_ws RX2 TX2 8
theorem nmX2 : ∀ a, a < 8 → ∀ b, b < 8 → a ≠ b → (TX2 a).2.1 ≠ (TX2 b).2.1 := by decide +kernel
theorem tyX2_ok : ∀ k, k < 8 → parseFieldDescriptor (TX2 k).2.2.1 = some (tyX2 k) := by decide +kernel
abbrev cX2_init : ByteArray := prog_18_method_1_code
def yX2_init : MethodName := ⟨RX2, "<init>", "(LMarriageHerring;)V"⟩
def dkwX2_init_0 : List UInt8 := [42, 43, 181, 0, 3, 42, 183, 0, 9, 42, 187, 0, 15, 89, 183, 0, 17, 181, 0, 18, 177]
abbrev dktX2_init_0 : List UInt8 := dkwX2_init_0 ++ []
theorem dksX2_init_0 : cX2_init.data.toList.drop 0 = dktX2_init_0 := by decide +kernel
theorem dX2_init_0 : decode cX2_init 0 = .ok (.aload_n 0, 1) := dk_42 (dk_at dksX2_init_0 0 rfl rfl)
theorem dX2_init_1 : decode cX2_init 1 = .ok (.aload_n 1, 1) := dk_43 (dk_at dksX2_init_0 1 rfl rfl)
theorem dX2_init_2 : decode cX2_init 2 = .ok (.putfield 3, 3) := dk_181 0 3 (dk_at dksX2_init_0 2 rfl rfl)
theorem dX2_init_5 : decode cX2_init 5 = .ok (.aload_n 0, 1) := dk_42 (dk_at dksX2_init_0 5 rfl rfl)
theorem dX2_init_6 : decode cX2_init 6 = .ok (.invokespecial 9, 3) := dk_183 0 9 (dk_at dksX2_init_0 6 rfl rfl)
theorem dX2_init_9 : decode cX2_init 9 = .ok (.aload_n 0, 1) := dk_42 (dk_at dksX2_init_0 9 rfl rfl)
theorem dX2_init_10 : decode cX2_init 10 = .ok (.new 15, 3) := dk_187 0 15 (dk_at dksX2_init_0 10 rfl rfl)
theorem dX2_init_13 : decode cX2_init 13 = .ok (.dup, 1) := dk_89 (dk_at dksX2_init_0 13 rfl rfl)
theorem dX2_init_14 : decode cX2_init 14 = .ok (.invokespecial 17, 3) := dk_183 0 17 (dk_at dksX2_init_0 14 rfl rfl)
theorem dX2_init_17 : decode cX2_init 17 = .ok (.putfield 18, 3) := dk_181 0 18 (dk_at dksX2_init_0 17 rfl rfl)
theorem dX2_init_20 : decode cX2_init 20 = .ok (.return_, 1) := dk_177 (dk_at dksX2_init_0 20 rfl rfl)
abbrev cX2_all : ByteArray := prog_18_method_15_code
def yX2_all : MethodName := ⟨RX2, "all", "(I)LMarriageHerring$Coast;"⟩
def dkwX2_all_4 : List UInt8 := [180, 0, 61, 182, 0, 128, 42, 16, 59, 182, 0, 132, 167, 255, 178, 42, 180, 0, 103, 176]
abbrev dktX2_all_4 : List UInt8 := dkwX2_all_4 ++ []
def dkwX2_all_3 : List UInt8 := [181, 0, 117, 42, 182, 0, 70, 77, 42, 44, 42, 180, 0, 61, 182, 0, 124, 154, 0, 12, 42, 44, 42]
abbrev dktX2_all_3 : List UInt8 := dkwX2_all_3 ++ dktX2_all_4
def dkwX2_all_2 : List UInt8 := [4, 167, 0, 4, 3, 42, 180, 0, 36, 182, 0, 120, 42, 180, 0, 103, 89, 180, 0, 117, 4, 96]
abbrev dktX2_all_2 : List UInt8 := dkwX2_all_2 ++ dktX2_all_3
def dkwX2_all_1 : List UInt8 := [181, 0, 114, 42, 182, 0, 43, 2, 159, 0, 76, 42, 42, 180, 0, 103, 180, 0, 117, 16, 60, 160, 0, 7]
abbrev dktX2_all_1 : List UInt8 := dkwX2_all_1 ++ dktX2_all_2
def dkwX2_all_0 : List UInt8 := [42, 187, 0, 108, 89, 183, 0, 113, 181, 0, 103, 42, 27, 181, 0, 29, 42, 3, 181, 0, 36, 42, 3]
abbrev dktX2_all_0 : List UInt8 := dkwX2_all_0 ++ dktX2_all_1
theorem dksX2_all_0 : cX2_all.data.toList.drop 0 = dktX2_all_0 := by decide +kernel
theorem dksX2_all_1 : cX2_all.data.toList.drop 23 = dktX2_all_1 := dk_seg dksX2_all_0 23 rfl rfl
theorem dksX2_all_2 : cX2_all.data.toList.drop 47 = dktX2_all_2 := dk_seg dksX2_all_1 24 rfl rfl
theorem dksX2_all_3 : cX2_all.data.toList.drop 69 = dktX2_all_3 := dk_seg dksX2_all_2 22 rfl rfl
theorem dksX2_all_4 : cX2_all.data.toList.drop 92 = dktX2_all_4 := dk_seg dksX2_all_3 23 rfl rfl
theorem dX2_all_0 : decode cX2_all 0 = .ok (.aload_n 0, 1) := dk_42 (dk_at dksX2_all_0 0 rfl rfl)
theorem dX2_all_1 : decode cX2_all 1 = .ok (.new 108, 3) := dk_187 0 108 (dk_at dksX2_all_0 1 rfl rfl)
theorem dX2_all_4 : decode cX2_all 4 = .ok (.dup, 1) := dk_89 (dk_at dksX2_all_0 4 rfl rfl)
theorem dX2_all_5 : decode cX2_all 5 = .ok (.invokespecial 113, 3) := dk_183 0 113 (dk_at dksX2_all_0 5 rfl rfl)
theorem dX2_all_8 : decode cX2_all 8 = .ok (.putfield 103, 3) := dk_181 0 103 (dk_at dksX2_all_0 8 rfl rfl)
theorem dX2_all_11 : decode cX2_all 11 = .ok (.aload_n 0, 1) := dk_42 (dk_at dksX2_all_0 11 rfl rfl)
theorem dX2_all_12 : decode cX2_all 12 = .ok (.iload_n 1, 1) := dk_27 (dk_at dksX2_all_0 12 rfl rfl)
theorem dX2_all_13 : decode cX2_all 13 = .ok (.putfield 29, 3) := dk_181 0 29 (dk_at dksX2_all_0 13 rfl rfl)
theorem dX2_all_16 : decode cX2_all 16 = .ok (.aload_n 0, 1) := dk_42 (dk_at dksX2_all_0 16 rfl rfl)
theorem dX2_all_17 : decode cX2_all 17 = .ok (.iconst 0, 1) := dk_3 (dk_at dksX2_all_0 17 rfl rfl)
theorem dX2_all_18 : decode cX2_all 18 = .ok (.putfield 36, 3) := dk_181 0 36 (dk_at dksX2_all_0 18 rfl rfl)
theorem dX2_all_21 : decode cX2_all 21 = .ok (.aload_n 0, 1) := dk_42 (dk_at dksX2_all_0 21 rfl rfl)
theorem dX2_all_22 : decode cX2_all 22 = .ok (.iconst 0, 1) := dk_3 (dk_at dksX2_all_0 22 rfl rfl)
theorem dX2_all_23 : decode cX2_all 23 = .ok (.putfield 114, 3) := dk_181 0 114 (dk_at dksX2_all_1 0 rfl rfl)
theorem dX2_all_26 : decode cX2_all 26 = .ok (.aload_n 0, 1) := dk_42 (dk_at dksX2_all_1 3 rfl rfl)
theorem dX2_all_27 : decode cX2_all 27 = .ok (.invokevirtual 43, 3) := dk_182 0 43 (dk_at dksX2_all_1 4 rfl rfl)
theorem dX2_all_30 : decode cX2_all 30 = .ok (.iconst (-1), 1) := dk_2 (dk_at dksX2_all_1 7 rfl rfl)
theorem dX2_all_31 : decode cX2_all 31 = .ok (.if_icmp .eq 76, 3) := dk_159 0 76 (dk_at dksX2_all_1 8 rfl rfl)
theorem dX2_all_34 : decode cX2_all 34 = .ok (.aload_n 0, 1) := dk_42 (dk_at dksX2_all_1 11 rfl rfl)
theorem dX2_all_35 : decode cX2_all 35 = .ok (.aload_n 0, 1) := dk_42 (dk_at dksX2_all_1 12 rfl rfl)
theorem dX2_all_36 : decode cX2_all 36 = .ok (.getfield 103, 3) := dk_180 0 103 (dk_at dksX2_all_1 13 rfl rfl)
theorem dX2_all_39 : decode cX2_all 39 = .ok (.getfield 117, 3) := dk_180 0 117 (dk_at dksX2_all_1 16 rfl rfl)
theorem dX2_all_42 : decode cX2_all 42 = .ok (.bipush 60, 2) := dk_16 60 (dk_at dksX2_all_1 19 rfl rfl)
theorem dX2_all_44 : decode cX2_all 44 = .ok (.if_icmp .ne 7, 3) := dk_160 0 7 (dk_at dksX2_all_1 21 rfl rfl)
theorem dX2_all_47 : decode cX2_all 47 = .ok (.iconst 1, 1) := dk_4 (dk_at dksX2_all_2 0 rfl rfl)
theorem dX2_all_48 : decode cX2_all 48 = .ok (.goto 4, 3) := dk_167 0 4 (dk_at dksX2_all_2 1 rfl rfl)
theorem dX2_all_51 : decode cX2_all 51 = .ok (.iconst 0, 1) := dk_3 (dk_at dksX2_all_2 4 rfl rfl)
theorem dX2_all_52 : decode cX2_all 52 = .ok (.aload_n 0, 1) := dk_42 (dk_at dksX2_all_2 5 rfl rfl)
theorem dX2_all_53 : decode cX2_all 53 = .ok (.getfield 36, 3) := dk_180 0 36 (dk_at dksX2_all_2 6 rfl rfl)
theorem dX2_all_56 : decode cX2_all 56 = .ok (.invokevirtual 120, 3) := dk_182 0 120 (dk_at dksX2_all_2 9 rfl rfl)
theorem dX2_all_59 : decode cX2_all 59 = .ok (.aload_n 0, 1) := dk_42 (dk_at dksX2_all_2 12 rfl rfl)
theorem dX2_all_60 : decode cX2_all 60 = .ok (.getfield 103, 3) := dk_180 0 103 (dk_at dksX2_all_2 13 rfl rfl)
theorem dX2_all_63 : decode cX2_all 63 = .ok (.dup, 1) := dk_89 (dk_at dksX2_all_2 16 rfl rfl)
theorem dX2_all_64 : decode cX2_all 64 = .ok (.getfield 117, 3) := dk_180 0 117 (dk_at dksX2_all_2 17 rfl rfl)
theorem dX2_all_67 : decode cX2_all 67 = .ok (.iconst 1, 1) := dk_4 (dk_at dksX2_all_2 20 rfl rfl)
theorem dX2_all_68 : decode cX2_all 68 = .ok (.iadd, 1) := dk_96 (dk_at dksX2_all_2 21 rfl rfl)
theorem dX2_all_69 : decode cX2_all 69 = .ok (.putfield 117, 3) := dk_181 0 117 (dk_at dksX2_all_3 0 rfl rfl)
theorem dX2_all_72 : decode cX2_all 72 = .ok (.aload_n 0, 1) := dk_42 (dk_at dksX2_all_3 3 rfl rfl)
theorem dX2_all_73 : decode cX2_all 73 = .ok (.invokevirtual 70, 3) := dk_182 0 70 (dk_at dksX2_all_3 4 rfl rfl)
theorem dX2_all_76 : decode cX2_all 76 = .ok (.astore_n 2, 1) := dk_77 (dk_at dksX2_all_3 7 rfl rfl)
theorem dX2_all_77 : decode cX2_all 77 = .ok (.aload_n 0, 1) := dk_42 (dk_at dksX2_all_3 8 rfl rfl)
theorem dX2_all_78 : decode cX2_all 78 = .ok (.aload_n 2, 1) := dk_44 (dk_at dksX2_all_3 9 rfl rfl)
theorem dX2_all_79 : decode cX2_all 79 = .ok (.aload_n 0, 1) := dk_42 (dk_at dksX2_all_3 10 rfl rfl)
theorem dX2_all_80 : decode cX2_all 80 = .ok (.getfield 61, 3) := dk_180 0 61 (dk_at dksX2_all_3 11 rfl rfl)
theorem dX2_all_83 : decode cX2_all 83 = .ok (.invokevirtual 124, 3) := dk_182 0 124 (dk_at dksX2_all_3 14 rfl rfl)
theorem dX2_all_86 : decode cX2_all 86 = .ok (.ifCond .ne 12, 3) := dk_154 0 12 (dk_at dksX2_all_3 17 rfl rfl)
theorem dX2_all_89 : decode cX2_all 89 = .ok (.aload_n 0, 1) := dk_42 (dk_at dksX2_all_3 20 rfl rfl)
theorem dX2_all_90 : decode cX2_all 90 = .ok (.aload_n 2, 1) := dk_44 (dk_at dksX2_all_3 21 rfl rfl)
theorem dX2_all_91 : decode cX2_all 91 = .ok (.aload_n 0, 1) := dk_42 (dk_at dksX2_all_3 22 rfl rfl)
theorem dX2_all_92 : decode cX2_all 92 = .ok (.getfield 61, 3) := dk_180 0 61 (dk_at dksX2_all_4 0 rfl rfl)
theorem dX2_all_95 : decode cX2_all 95 = .ok (.invokevirtual 128, 3) := dk_182 0 128 (dk_at dksX2_all_4 3 rfl rfl)
theorem dX2_all_98 : decode cX2_all 98 = .ok (.aload_n 0, 1) := dk_42 (dk_at dksX2_all_4 6 rfl rfl)
theorem dX2_all_99 : decode cX2_all 99 = .ok (.bipush 59, 2) := dk_16 59 (dk_at dksX2_all_4 7 rfl rfl)
theorem dX2_all_101 : decode cX2_all 101 = .ok (.invokevirtual 132, 3) := dk_182 0 132 (dk_at dksX2_all_4 9 rfl rfl)
theorem dX2_all_104 : decode cX2_all 104 = .ok (.goto (-78), 3) := dk_167 255 178 (dk_at dksX2_all_4 12 rfl rfl)
theorem dX2_all_107 : decode cX2_all 107 = .ok (.aload_n 0, 1) := dk_42 (dk_at dksX2_all_4 15 rfl rfl)
theorem dX2_all_108 : decode cX2_all 108 = .ok (.getfield 103, 3) := dk_180 0 103 (dk_at dksX2_all_4 16 rfl rfl)
theorem dX2_all_111 : decode cX2_all 111 = .ok (.areturn, 1) := dk_176 (dk_at dksX2_all_4 19 rfl rfl)
abbrev cX2_here : ByteArray := prog_18_method_4_code
def yX2_here : MethodName := ⟨RX2, "here", "()I"⟩
def dkwX2_here_2 : List UInt8 := [172]
abbrev dktX2_here_2 : List UInt8 := dkwX2_here_2 ++ []
def dkwX2_here_1 : List UInt8 := [160, 0, 16, 42, 89, 180, 0, 36, 4, 96, 181, 0, 36, 167, 255, 220, 42, 42, 180, 0, 36, 182, 0, 39]
abbrev dktX2_here_1 : List UInt8 := dkwX2_here_1 ++ dktX2_here_2
def dkwX2_here_0 : List UInt8 := [42, 42, 180, 0, 36, 182, 0, 39, 16, 32, 159, 0, 16, 42, 42, 180, 0, 36, 182, 0, 39, 16, 10]
abbrev dktX2_here_0 : List UInt8 := dkwX2_here_0 ++ dktX2_here_1
theorem dksX2_here_0 : cX2_here.data.toList.drop 0 = dktX2_here_0 := by decide +kernel
theorem dksX2_here_1 : cX2_here.data.toList.drop 23 = dktX2_here_1 := dk_seg dksX2_here_0 23 rfl rfl
theorem dksX2_here_2 : cX2_here.data.toList.drop 47 = dktX2_here_2 := dk_seg dksX2_here_1 24 rfl rfl
theorem dX2_here_0 : decode cX2_here 0 = .ok (.aload_n 0, 1) := dk_42 (dk_at dksX2_here_0 0 rfl rfl)
theorem dX2_here_1 : decode cX2_here 1 = .ok (.aload_n 0, 1) := dk_42 (dk_at dksX2_here_0 1 rfl rfl)
theorem dX2_here_2 : decode cX2_here 2 = .ok (.getfield 36, 3) := dk_180 0 36 (dk_at dksX2_here_0 2 rfl rfl)
theorem dX2_here_5 : decode cX2_here 5 = .ok (.invokevirtual 39, 3) := dk_182 0 39 (dk_at dksX2_here_0 5 rfl rfl)
theorem dX2_here_8 : decode cX2_here 8 = .ok (.bipush 32, 2) := dk_16 32 (dk_at dksX2_here_0 8 rfl rfl)
theorem dX2_here_10 : decode cX2_here 10 = .ok (.if_icmp .eq 16, 3) := dk_159 0 16 (dk_at dksX2_here_0 10 rfl rfl)
theorem dX2_here_13 : decode cX2_here 13 = .ok (.aload_n 0, 1) := dk_42 (dk_at dksX2_here_0 13 rfl rfl)
theorem dX2_here_14 : decode cX2_here 14 = .ok (.aload_n 0, 1) := dk_42 (dk_at dksX2_here_0 14 rfl rfl)
theorem dX2_here_15 : decode cX2_here 15 = .ok (.getfield 36, 3) := dk_180 0 36 (dk_at dksX2_here_0 15 rfl rfl)
theorem dX2_here_18 : decode cX2_here 18 = .ok (.invokevirtual 39, 3) := dk_182 0 39 (dk_at dksX2_here_0 18 rfl rfl)
theorem dX2_here_21 : decode cX2_here 21 = .ok (.bipush 10, 2) := dk_16 10 (dk_at dksX2_here_0 21 rfl rfl)
theorem dX2_here_23 : decode cX2_here 23 = .ok (.if_icmp .ne 16, 3) := dk_160 0 16 (dk_at dksX2_here_1 0 rfl rfl)
theorem dX2_here_26 : decode cX2_here 26 = .ok (.aload_n 0, 1) := dk_42 (dk_at dksX2_here_1 3 rfl rfl)
theorem dX2_here_27 : decode cX2_here 27 = .ok (.dup, 1) := dk_89 (dk_at dksX2_here_1 4 rfl rfl)
theorem dX2_here_28 : decode cX2_here 28 = .ok (.getfield 36, 3) := dk_180 0 36 (dk_at dksX2_here_1 5 rfl rfl)
theorem dX2_here_31 : decode cX2_here 31 = .ok (.iconst 1, 1) := dk_4 (dk_at dksX2_here_1 8 rfl rfl)
theorem dX2_here_32 : decode cX2_here 32 = .ok (.iadd, 1) := dk_96 (dk_at dksX2_here_1 9 rfl rfl)
theorem dX2_here_33 : decode cX2_here 33 = .ok (.putfield 36, 3) := dk_181 0 36 (dk_at dksX2_here_1 10 rfl rfl)
theorem dX2_here_36 : decode cX2_here 36 = .ok (.goto (-36), 3) := dk_167 255 220 (dk_at dksX2_here_1 13 rfl rfl)
theorem dX2_here_39 : decode cX2_here 39 = .ok (.aload_n 0, 1) := dk_42 (dk_at dksX2_here_1 16 rfl rfl)
theorem dX2_here_40 : decode cX2_here 40 = .ok (.aload_n 0, 1) := dk_42 (dk_at dksX2_here_1 17 rfl rfl)
theorem dX2_here_41 : decode cX2_here 41 = .ok (.getfield 36, 3) := dk_180 0 36 (dk_at dksX2_here_1 18 rfl rfl)
theorem dX2_here_44 : decode cX2_here 44 = .ok (.invokevirtual 39, 3) := dk_182 0 39 (dk_at dksX2_here_1 21 rfl rfl)
theorem dX2_here_47 : decode cX2_here 47 = .ok (.ireturn, 1) := dk_172 (dk_at dksX2_here_2 0 rfl rfl)
abbrev cX2_byteAt : ByteArray := prog_18_method_3_code
def yX2_byteAt : MethodName := ⟨RX2, "byteAt", "(I)I"⟩
def dkwX2_byteAt_1 : List UInt8 := [126, 167, 0, 4, 2, 172]
abbrev dktX2_byteAt_1 : List UInt8 := dkwX2_byteAt_1 ++ []
def dkwX2_byteAt_0 : List UInt8 := [27, 155, 0, 27, 27, 42, 180, 0, 29, 162, 0, 19, 42, 180, 0, 3, 180, 0, 32, 27, 51, 17, 0, 255]
abbrev dktX2_byteAt_0 : List UInt8 := dkwX2_byteAt_0 ++ dktX2_byteAt_1
theorem dksX2_byteAt_0 : cX2_byteAt.data.toList.drop 0 = dktX2_byteAt_0 := by decide +kernel
theorem dksX2_byteAt_1 : cX2_byteAt.data.toList.drop 24 = dktX2_byteAt_1 := dk_seg dksX2_byteAt_0 24 rfl rfl
theorem dX2_byteAt_0 : decode cX2_byteAt 0 = .ok (.iload_n 1, 1) := dk_27 (dk_at dksX2_byteAt_0 0 rfl rfl)
theorem dX2_byteAt_1 : decode cX2_byteAt 1 = .ok (.ifCond .lt 27, 3) := dk_155 0 27 (dk_at dksX2_byteAt_0 1 rfl rfl)
theorem dX2_byteAt_4 : decode cX2_byteAt 4 = .ok (.iload_n 1, 1) := dk_27 (dk_at dksX2_byteAt_0 4 rfl rfl)
theorem dX2_byteAt_5 : decode cX2_byteAt 5 = .ok (.aload_n 0, 1) := dk_42 (dk_at dksX2_byteAt_0 5 rfl rfl)
theorem dX2_byteAt_6 : decode cX2_byteAt 6 = .ok (.getfield 29, 3) := dk_180 0 29 (dk_at dksX2_byteAt_0 6 rfl rfl)
theorem dX2_byteAt_9 : decode cX2_byteAt 9 = .ok (.if_icmp .ge 19, 3) := dk_162 0 19 (dk_at dksX2_byteAt_0 9 rfl rfl)
theorem dX2_byteAt_12 : decode cX2_byteAt 12 = .ok (.aload_n 0, 1) := dk_42 (dk_at dksX2_byteAt_0 12 rfl rfl)
theorem dX2_byteAt_13 : decode cX2_byteAt 13 = .ok (.getfield 3, 3) := dk_180 0 3 (dk_at dksX2_byteAt_0 13 rfl rfl)
theorem dX2_byteAt_16 : decode cX2_byteAt 16 = .ok (.getfield 32, 3) := dk_180 0 32 (dk_at dksX2_byteAt_0 16 rfl rfl)
theorem dX2_byteAt_19 : decode cX2_byteAt 19 = .ok (.iload_n 1, 1) := dk_27 (dk_at dksX2_byteAt_0 19 rfl rfl)
theorem dX2_byteAt_20 : decode cX2_byteAt 20 = .ok (.baload, 1) := dk_51 (dk_at dksX2_byteAt_0 20 rfl rfl)
theorem dX2_byteAt_21 : decode cX2_byteAt 21 = .ok (.sipush 255, 3) := dk_17 0 255 (dk_at dksX2_byteAt_0 21 rfl rfl)
theorem dX2_byteAt_24 : decode cX2_byteAt 24 = .ok (.iand, 1) := dk_126 (dk_at dksX2_byteAt_1 0 rfl rfl)
theorem dX2_byteAt_25 : decode cX2_byteAt 25 = .ok (.goto 4, 3) := dk_167 0 4 (dk_at dksX2_byteAt_1 1 rfl rfl)
theorem dX2_byteAt_28 : decode cX2_byteAt 28 = .ok (.iconst (-1), 1) := dk_2 (dk_at dksX2_byteAt_1 4 rfl rfl)
theorem dX2_byteAt_29 : decode cX2_byteAt 29 = .ok (.ireturn, 1) := dk_172 (dk_at dksX2_byteAt_1 5 rfl rfl)
abbrev cX2_most : ByteArray := prog_18_method_14_code
def yX2_most : MethodName := ⟨RX2, "most", "(ZI)V"⟩
def dkwX2_most_0 : List UInt8 := [27, 153, 0, 10, 42, 8, 28, 182, 0, 47, 191, 177]
abbrev dktX2_most_0 : List UInt8 := dkwX2_most_0 ++ []
theorem dksX2_most_0 : cX2_most.data.toList.drop 0 = dktX2_most_0 := by decide +kernel
theorem dX2_most_0 : decode cX2_most 0 = .ok (.iload_n 1, 1) := dk_27 (dk_at dksX2_most_0 0 rfl rfl)
theorem dX2_most_1 : decode cX2_most 1 = .ok (.ifCond .eq 10, 3) := dk_153 0 10 (dk_at dksX2_most_0 1 rfl rfl)
theorem dX2_most_4 : decode cX2_most 4 = .ok (.aload_n 0, 1) := dk_42 (dk_at dksX2_most_0 4 rfl rfl)
theorem dX2_most_5 : decode cX2_most 5 = .ok (.iconst 5, 1) := dk_8 (dk_at dksX2_most_0 5 rfl rfl)
theorem dX2_most_6 : decode cX2_most 6 = .ok (.iload_n 2, 1) := dk_28 (dk_at dksX2_most_0 6 rfl rfl)
theorem dX2_most_7 : decode cX2_most 7 = .ok (.invokevirtual 47, 3) := dk_182 0 47 (dk_at dksX2_most_0 7 rfl rfl)
theorem dX2_most_10 : decode cX2_most 10 = .ok (.athrow, 1) := dk_191 (dk_at dksX2_most_0 10 rfl rfl)
theorem dX2_most_11 : decode cX2_most 11 = .ok (.return_, 1) := dk_177 (dk_at dksX2_most_0 11 rfl rfl)
abbrev cX2_wrong : ByteArray := prog_18_method_2_code
def yX2_wrong : MethodName := ⟨RX2, "wrong", "(II)LMarriageHerring$Fault;"⟩
def dkwX2_wrong_0 : List UInt8 := [42, 180, 0, 18, 27, 181, 0, 22, 42, 180, 0, 18, 28, 181, 0, 26, 42, 180, 0, 18, 176]
abbrev dktX2_wrong_0 : List UInt8 := dkwX2_wrong_0 ++ []
theorem dksX2_wrong_0 : cX2_wrong.data.toList.drop 0 = dktX2_wrong_0 := by decide +kernel
theorem dX2_wrong_0 : decode cX2_wrong 0 = .ok (.aload_n 0, 1) := dk_42 (dk_at dksX2_wrong_0 0 rfl rfl)
theorem dX2_wrong_1 : decode cX2_wrong 1 = .ok (.getfield 18, 3) := dk_180 0 18 (dk_at dksX2_wrong_0 1 rfl rfl)
theorem dX2_wrong_4 : decode cX2_wrong 4 = .ok (.iload_n 1, 1) := dk_27 (dk_at dksX2_wrong_0 4 rfl rfl)
theorem dX2_wrong_5 : decode cX2_wrong 5 = .ok (.putfield 22, 3) := dk_181 0 22 (dk_at dksX2_wrong_0 5 rfl rfl)
theorem dX2_wrong_8 : decode cX2_wrong 8 = .ok (.aload_n 0, 1) := dk_42 (dk_at dksX2_wrong_0 8 rfl rfl)
theorem dX2_wrong_9 : decode cX2_wrong 9 = .ok (.getfield 18, 3) := dk_180 0 18 (dk_at dksX2_wrong_0 9 rfl rfl)
theorem dX2_wrong_12 : decode cX2_wrong 12 = .ok (.iload_n 2, 1) := dk_28 (dk_at dksX2_wrong_0 12 rfl rfl)
theorem dX2_wrong_13 : decode cX2_wrong 13 = .ok (.putfield 26, 3) := dk_181 0 26 (dk_at dksX2_wrong_0 13 rfl rfl)
theorem dX2_wrong_16 : decode cX2_wrong 16 = .ok (.aload_n 0, 1) := dk_42 (dk_at dksX2_wrong_0 16 rfl rfl)
theorem dX2_wrong_17 : decode cX2_wrong 17 = .ok (.getfield 18, 3) := dk_180 0 18 (dk_at dksX2_wrong_0 17 rfl rfl)
theorem dX2_wrong_20 : decode cX2_wrong 20 = .ok (.areturn, 1) := dk_176 (dk_at dksX2_wrong_0 20 rfl rfl)
abbrev cX2_word : ByteArray := prog_18_method_7_code
def yX2_word : MethodName := ⟨RX2, "word", "()Ljava/lang/String;"⟩
def dkwX2_word_4 : List UInt8 := [180, 0, 32, 28, 51, 146, 85, 132, 2, 1, 167, 255, 227, 43, 184, 0, 64, 176]
abbrev dktX2_word_4 : List UInt8 := dkwX2_word_4 ++ []
def dkwX2_word_3 : List UInt8 := [180, 0, 61, 61, 28, 42, 180, 0, 36, 162, 0, 27, 43, 28, 42, 180, 0, 61, 100, 42, 180, 0, 3]
abbrev dktX2_word_3 : List UInt8 := dkwX2_word_3 ++ dktX2_word_4
def dkwX2_word_2 : List UInt8 := [180, 0, 36, 4, 96, 181, 0, 36, 167, 255, 232, 42, 180, 0, 36, 42, 180, 0, 61, 100, 188, 5, 76, 42]
abbrev dktX2_word_2 : List UInt8 := dkwX2_word_2 ++ dktX2_word_3
def dkwX2_word_1 : List UInt8 := [42, 42, 180, 0, 36, 181, 0, 61, 42, 42, 180, 0, 36, 182, 0, 39, 184, 0, 51, 153, 0, 16, 42, 89]
abbrev dktX2_word_1 : List UInt8 := dkwX2_word_1 ++ dktX2_word_2
def dkwX2_word_0 : List UInt8 := [42, 182, 0, 43, 184, 0, 51, 154, 0, 13, 42, 4, 42, 180, 0, 36, 182, 0, 47, 191, 42, 182, 0, 58]
abbrev dktX2_word_0 : List UInt8 := dkwX2_word_0 ++ dktX2_word_1
theorem dksX2_word_0 : cX2_word.data.toList.drop 0 = dktX2_word_0 := by decide +kernel
theorem dksX2_word_1 : cX2_word.data.toList.drop 24 = dktX2_word_1 := dk_seg dksX2_word_0 24 rfl rfl
theorem dksX2_word_2 : cX2_word.data.toList.drop 48 = dktX2_word_2 := dk_seg dksX2_word_1 24 rfl rfl
theorem dksX2_word_3 : cX2_word.data.toList.drop 72 = dktX2_word_3 := dk_seg dksX2_word_2 24 rfl rfl
theorem dksX2_word_4 : cX2_word.data.toList.drop 95 = dktX2_word_4 := dk_seg dksX2_word_3 23 rfl rfl
theorem dX2_word_0 : decode cX2_word 0 = .ok (.aload_n 0, 1) := dk_42 (dk_at dksX2_word_0 0 rfl rfl)
theorem dX2_word_1 : decode cX2_word 1 = .ok (.invokevirtual 43, 3) := dk_182 0 43 (dk_at dksX2_word_0 1 rfl rfl)
theorem dX2_word_4 : decode cX2_word 4 = .ok (.invokestatic 51, 3) := dk_184 0 51 (dk_at dksX2_word_0 4 rfl rfl)
theorem dX2_word_7 : decode cX2_word 7 = .ok (.ifCond .ne 13, 3) := dk_154 0 13 (dk_at dksX2_word_0 7 rfl rfl)
theorem dX2_word_10 : decode cX2_word 10 = .ok (.aload_n 0, 1) := dk_42 (dk_at dksX2_word_0 10 rfl rfl)
theorem dX2_word_11 : decode cX2_word 11 = .ok (.iconst 1, 1) := dk_4 (dk_at dksX2_word_0 11 rfl rfl)
theorem dX2_word_12 : decode cX2_word 12 = .ok (.aload_n 0, 1) := dk_42 (dk_at dksX2_word_0 12 rfl rfl)
theorem dX2_word_13 : decode cX2_word 13 = .ok (.getfield 36, 3) := dk_180 0 36 (dk_at dksX2_word_0 13 rfl rfl)
theorem dX2_word_16 : decode cX2_word 16 = .ok (.invokevirtual 47, 3) := dk_182 0 47 (dk_at dksX2_word_0 16 rfl rfl)
theorem dX2_word_19 : decode cX2_word 19 = .ok (.athrow, 1) := dk_191 (dk_at dksX2_word_0 19 rfl rfl)
theorem dX2_word_20 : decode cX2_word 20 = .ok (.aload_n 0, 1) := dk_42 (dk_at dksX2_word_0 20 rfl rfl)
theorem dX2_word_21 : decode cX2_word 21 = .ok (.invokevirtual 58, 3) := dk_182 0 58 (dk_at dksX2_word_0 21 rfl rfl)
theorem dX2_word_24 : decode cX2_word 24 = .ok (.aload_n 0, 1) := dk_42 (dk_at dksX2_word_1 0 rfl rfl)
theorem dX2_word_25 : decode cX2_word 25 = .ok (.aload_n 0, 1) := dk_42 (dk_at dksX2_word_1 1 rfl rfl)
theorem dX2_word_26 : decode cX2_word 26 = .ok (.getfield 36, 3) := dk_180 0 36 (dk_at dksX2_word_1 2 rfl rfl)
theorem dX2_word_29 : decode cX2_word 29 = .ok (.putfield 61, 3) := dk_181 0 61 (dk_at dksX2_word_1 5 rfl rfl)
theorem dX2_word_32 : decode cX2_word 32 = .ok (.aload_n 0, 1) := dk_42 (dk_at dksX2_word_1 8 rfl rfl)
theorem dX2_word_33 : decode cX2_word 33 = .ok (.aload_n 0, 1) := dk_42 (dk_at dksX2_word_1 9 rfl rfl)
theorem dX2_word_34 : decode cX2_word 34 = .ok (.getfield 36, 3) := dk_180 0 36 (dk_at dksX2_word_1 10 rfl rfl)
theorem dX2_word_37 : decode cX2_word 37 = .ok (.invokevirtual 39, 3) := dk_182 0 39 (dk_at dksX2_word_1 13 rfl rfl)
theorem dX2_word_40 : decode cX2_word 40 = .ok (.invokestatic 51, 3) := dk_184 0 51 (dk_at dksX2_word_1 16 rfl rfl)
theorem dX2_word_43 : decode cX2_word 43 = .ok (.ifCond .eq 16, 3) := dk_153 0 16 (dk_at dksX2_word_1 19 rfl rfl)
theorem dX2_word_46 : decode cX2_word 46 = .ok (.aload_n 0, 1) := dk_42 (dk_at dksX2_word_1 22 rfl rfl)
theorem dX2_word_47 : decode cX2_word 47 = .ok (.dup, 1) := dk_89 (dk_at dksX2_word_1 23 rfl rfl)
theorem dX2_word_48 : decode cX2_word 48 = .ok (.getfield 36, 3) := dk_180 0 36 (dk_at dksX2_word_2 0 rfl rfl)
theorem dX2_word_51 : decode cX2_word 51 = .ok (.iconst 1, 1) := dk_4 (dk_at dksX2_word_2 3 rfl rfl)
theorem dX2_word_52 : decode cX2_word 52 = .ok (.iadd, 1) := dk_96 (dk_at dksX2_word_2 4 rfl rfl)
theorem dX2_word_53 : decode cX2_word 53 = .ok (.putfield 36, 3) := dk_181 0 36 (dk_at dksX2_word_2 5 rfl rfl)
theorem dX2_word_56 : decode cX2_word 56 = .ok (.goto (-24), 3) := dk_167 255 232 (dk_at dksX2_word_2 8 rfl rfl)
theorem dX2_word_59 : decode cX2_word 59 = .ok (.aload_n 0, 1) := dk_42 (dk_at dksX2_word_2 11 rfl rfl)
theorem dX2_word_60 : decode cX2_word 60 = .ok (.getfield 36, 3) := dk_180 0 36 (dk_at dksX2_word_2 12 rfl rfl)
theorem dX2_word_63 : decode cX2_word 63 = .ok (.aload_n 0, 1) := dk_42 (dk_at dksX2_word_2 15 rfl rfl)
theorem dX2_word_64 : decode cX2_word 64 = .ok (.getfield 61, 3) := dk_180 0 61 (dk_at dksX2_word_2 16 rfl rfl)
theorem dX2_word_67 : decode cX2_word 67 = .ok (.isub, 1) := dk_100 (dk_at dksX2_word_2 19 rfl rfl)
theorem dX2_word_68 : decode cX2_word 68 = .ok (.newarray .char, 2) := dk_188_5 (dk_at dksX2_word_2 20 rfl rfl)
theorem dX2_word_70 : decode cX2_word 70 = .ok (.astore_n 1, 1) := dk_76 (dk_at dksX2_word_2 22 rfl rfl)
theorem dX2_word_71 : decode cX2_word 71 = .ok (.aload_n 0, 1) := dk_42 (dk_at dksX2_word_2 23 rfl rfl)
theorem dX2_word_72 : decode cX2_word 72 = .ok (.getfield 61, 3) := dk_180 0 61 (dk_at dksX2_word_3 0 rfl rfl)
theorem dX2_word_75 : decode cX2_word 75 = .ok (.istore_n 2, 1) := dk_61 (dk_at dksX2_word_3 3 rfl rfl)
theorem dX2_word_76 : decode cX2_word 76 = .ok (.iload_n 2, 1) := dk_28 (dk_at dksX2_word_3 4 rfl rfl)
theorem dX2_word_77 : decode cX2_word 77 = .ok (.aload_n 0, 1) := dk_42 (dk_at dksX2_word_3 5 rfl rfl)
theorem dX2_word_78 : decode cX2_word 78 = .ok (.getfield 36, 3) := dk_180 0 36 (dk_at dksX2_word_3 6 rfl rfl)
theorem dX2_word_81 : decode cX2_word 81 = .ok (.if_icmp .ge 27, 3) := dk_162 0 27 (dk_at dksX2_word_3 9 rfl rfl)
theorem dX2_word_84 : decode cX2_word 84 = .ok (.aload_n 1, 1) := dk_43 (dk_at dksX2_word_3 12 rfl rfl)
theorem dX2_word_85 : decode cX2_word 85 = .ok (.iload_n 2, 1) := dk_28 (dk_at dksX2_word_3 13 rfl rfl)
theorem dX2_word_86 : decode cX2_word 86 = .ok (.aload_n 0, 1) := dk_42 (dk_at dksX2_word_3 14 rfl rfl)
theorem dX2_word_87 : decode cX2_word 87 = .ok (.getfield 61, 3) := dk_180 0 61 (dk_at dksX2_word_3 15 rfl rfl)
theorem dX2_word_90 : decode cX2_word 90 = .ok (.isub, 1) := dk_100 (dk_at dksX2_word_3 18 rfl rfl)
theorem dX2_word_91 : decode cX2_word 91 = .ok (.aload_n 0, 1) := dk_42 (dk_at dksX2_word_3 19 rfl rfl)
theorem dX2_word_92 : decode cX2_word 92 = .ok (.getfield 3, 3) := dk_180 0 3 (dk_at dksX2_word_3 20 rfl rfl)
theorem dX2_word_95 : decode cX2_word 95 = .ok (.getfield 32, 3) := dk_180 0 32 (dk_at dksX2_word_4 0 rfl rfl)
theorem dX2_word_98 : decode cX2_word 98 = .ok (.iload_n 2, 1) := dk_28 (dk_at dksX2_word_4 3 rfl rfl)
theorem dX2_word_99 : decode cX2_word 99 = .ok (.baload, 1) := dk_51 (dk_at dksX2_word_4 4 rfl rfl)
theorem dX2_word_100 : decode cX2_word 100 = .ok (.i2c, 1) := dk_146 (dk_at dksX2_word_4 5 rfl rfl)
theorem dX2_word_101 : decode cX2_word 101 = .ok (.castore, 1) := dk_85 (dk_at dksX2_word_4 6 rfl rfl)
theorem dX2_word_102 : decode cX2_word 102 = .ok (.iinc 2 1, 3) := dk_132 2 1 (dk_at dksX2_word_4 7 rfl rfl)
theorem dX2_word_105 : decode cX2_word 105 = .ok (.goto (-29), 3) := dk_167 255 227 (dk_at dksX2_word_4 10 rfl rfl)
theorem dX2_word_108 : decode cX2_word 108 = .ok (.aload_n 1, 1) := dk_43 (dk_at dksX2_word_4 13 rfl rfl)
theorem dX2_word_109 : decode cX2_word 109 = .ok (.invokestatic 64, 3) := dk_184 0 64 (dk_at dksX2_word_4 14 rfl rfl)
theorem dX2_word_112 : decode cX2_word 112 = .ok (.areturn, 1) := dk_176 (dk_at dksX2_word_4 17 rfl rfl)
abbrev cX2_parted : ByteArray := prog_18_method_6_code
def yX2_parted : MethodName := ⟨RX2, "parted", "()V"⟩
def dkwX2_parted_1 : List UInt8 := [182, 0, 39, 184, 0, 55, 153, 0, 13, 42, 4, 42, 180, 0, 36, 182, 0, 47, 191, 177]
abbrev dktX2_parted_1 : List UInt8 := dkwX2_parted_1 ++ []
def dkwX2_parted_0 : List UInt8 := [42, 42, 180, 0, 36, 4, 100, 182, 0, 39, 184, 0, 51, 154, 0, 19, 42, 42, 180, 0, 36, 4, 100]
abbrev dktX2_parted_0 : List UInt8 := dkwX2_parted_0 ++ dktX2_parted_1
theorem dksX2_parted_0 : cX2_parted.data.toList.drop 0 = dktX2_parted_0 := by decide +kernel
theorem dksX2_parted_1 : cX2_parted.data.toList.drop 23 = dktX2_parted_1 := dk_seg dksX2_parted_0 23 rfl rfl
theorem dX2_parted_0 : decode cX2_parted 0 = .ok (.aload_n 0, 1) := dk_42 (dk_at dksX2_parted_0 0 rfl rfl)
theorem dX2_parted_1 : decode cX2_parted 1 = .ok (.aload_n 0, 1) := dk_42 (dk_at dksX2_parted_0 1 rfl rfl)
theorem dX2_parted_2 : decode cX2_parted 2 = .ok (.getfield 36, 3) := dk_180 0 36 (dk_at dksX2_parted_0 2 rfl rfl)
theorem dX2_parted_5 : decode cX2_parted 5 = .ok (.iconst 1, 1) := dk_4 (dk_at dksX2_parted_0 5 rfl rfl)
theorem dX2_parted_6 : decode cX2_parted 6 = .ok (.isub, 1) := dk_100 (dk_at dksX2_parted_0 6 rfl rfl)
theorem dX2_parted_7 : decode cX2_parted 7 = .ok (.invokevirtual 39, 3) := dk_182 0 39 (dk_at dksX2_parted_0 7 rfl rfl)
theorem dX2_parted_10 : decode cX2_parted 10 = .ok (.invokestatic 51, 3) := dk_184 0 51 (dk_at dksX2_parted_0 10 rfl rfl)
theorem dX2_parted_13 : decode cX2_parted 13 = .ok (.ifCond .ne 19, 3) := dk_154 0 19 (dk_at dksX2_parted_0 13 rfl rfl)
theorem dX2_parted_16 : decode cX2_parted 16 = .ok (.aload_n 0, 1) := dk_42 (dk_at dksX2_parted_0 16 rfl rfl)
theorem dX2_parted_17 : decode cX2_parted 17 = .ok (.aload_n 0, 1) := dk_42 (dk_at dksX2_parted_0 17 rfl rfl)
theorem dX2_parted_18 : decode cX2_parted 18 = .ok (.getfield 36, 3) := dk_180 0 36 (dk_at dksX2_parted_0 18 rfl rfl)
theorem dX2_parted_21 : decode cX2_parted 21 = .ok (.iconst 1, 1) := dk_4 (dk_at dksX2_parted_0 21 rfl rfl)
theorem dX2_parted_22 : decode cX2_parted 22 = .ok (.isub, 1) := dk_100 (dk_at dksX2_parted_0 22 rfl rfl)
theorem dX2_parted_23 : decode cX2_parted 23 = .ok (.invokevirtual 39, 3) := dk_182 0 39 (dk_at dksX2_parted_1 0 rfl rfl)
theorem dX2_parted_26 : decode cX2_parted 26 = .ok (.invokestatic 55, 3) := dk_184 0 55 (dk_at dksX2_parted_1 3 rfl rfl)
theorem dX2_parted_29 : decode cX2_parted 29 = .ok (.ifCond .eq 13, 3) := dk_153 0 13 (dk_at dksX2_parted_1 6 rfl rfl)
theorem dX2_parted_32 : decode cX2_parted 32 = .ok (.aload_n 0, 1) := dk_42 (dk_at dksX2_parted_1 9 rfl rfl)
theorem dX2_parted_33 : decode cX2_parted 33 = .ok (.iconst 1, 1) := dk_4 (dk_at dksX2_parted_1 10 rfl rfl)
theorem dX2_parted_34 : decode cX2_parted 34 = .ok (.aload_n 0, 1) := dk_42 (dk_at dksX2_parted_1 11 rfl rfl)
theorem dX2_parted_35 : decode cX2_parted 35 = .ok (.getfield 36, 3) := dk_180 0 36 (dk_at dksX2_parted_1 12 rfl rfl)
theorem dX2_parted_38 : decode cX2_parted 38 = .ok (.invokevirtual 47, 3) := dk_182 0 47 (dk_at dksX2_parted_1 15 rfl rfl)
theorem dX2_parted_41 : decode cX2_parted 41 = .ok (.athrow, 1) := dk_191 (dk_at dksX2_parted_1 18 rfl rfl)
theorem dX2_parted_42 : decode cX2_parted 42 = .ok (.return_, 1) := dk_177 (dk_at dksX2_parted_1 19 rfl rfl)
abbrev cX2_isTold : ByteArray := prog_18_method_19_code
def yX2_isTold : MethodName := ⟨RX2, "isTold", "(Ljava/lang/String;I)Z"⟩
def dkwX2_isTold_7 : List UInt8 := [180, 0, 103, 42, 3, 16, 100, 182, 0, 96, 181, 0, 204, 4, 172, 3, 172]
abbrev dktX2_isTold_7 : List UInt8 := dkwX2_isTold_7 ++ []
def dkwX2_isTold_6 : List UInt8 := [42, 28, 182, 0, 195, 4, 172, 42, 28, 182, 0, 198, 4, 172, 42, 28, 182, 0, 201, 4, 172, 42]
abbrev dktX2_isTold_6 : List UInt8 := dkwX2_isTold_6 ++ dktX2_isTold_7
def dkwX2_isTold_5 : List UInt8 := [170, 0, 0, 0, 66, 0, 0, 0, 0, 0, 0, 0, 3, 0, 0, 0, 29, 0, 0, 0, 36, 0, 0, 0, 43, 0, 0, 0, 50]
abbrev dktX2_isTold_5 : List UInt8 := dkwX2_isTold_5 ++ dktX2_isTold_6
def dkwX2_isTold_4 : List UInt8 := [182, 0, 74, 153, 0, 6, 6, 54, 4, 21, 4]
abbrev dktX2_isTold_4 : List UInt8 := dkwX2_isTold_4 ++ dktX2_isTold_5
def dkwX2_isTold_3 : List UInt8 := [4, 54, 4, 167, 0, 30, 45, 18, 191, 182, 0, 74, 153, 0, 21, 5, 54, 4, 167, 0, 15, 45, 18, 193]
abbrev dktX2_isTold_3 : List UInt8 := dkwX2_isTold_3 ++ dktX2_isTold_4
def dkwX2_isTold_2 : List UInt8 := [45, 18, 187, 182, 0, 74, 153, 0, 51, 3, 54, 4, 167, 0, 45, 45, 18, 189, 182, 0, 74, 153, 0, 36]
abbrev dktX2_isTold_2 : List UInt8 := dkwX2_isTold_2 ++ dktX2_isTold_3
def dkwX2_isTold_1 : List UInt8 := [171, 0, 0, 0, 0, 0, 100, 0, 0, 0, 4, 0, 1, 124, 26, 0, 0, 0, 43, 0, 52, 98, 218, 0, 0, 0, 58, 6, 133, 130, 101, 0, 0, 0, 73, 6, 138, 248, 233, 0, 0, 0, 88]
abbrev dktX2_isTold_1 : List UInt8 := dkwX2_isTold_1 ++ dktX2_isTold_2
def dkwX2_isTold_0 : List UInt8 := [43, 78, 2, 54, 4, 45, 182, 0, 184]
abbrev dktX2_isTold_0 : List UInt8 := dkwX2_isTold_0 ++ dktX2_isTold_1
theorem dksX2_isTold_0 : cX2_isTold.data.toList.drop 0 = dktX2_isTold_0 := by decide +kernel
theorem dksX2_isTold_1 : cX2_isTold.data.toList.drop 9 = dktX2_isTold_1 := dk_seg dksX2_isTold_0 9 rfl rfl
theorem dksX2_isTold_2 : cX2_isTold.data.toList.drop 52 = dktX2_isTold_2 := dk_seg dksX2_isTold_1 43 rfl rfl
theorem dksX2_isTold_3 : cX2_isTold.data.toList.drop 76 = dktX2_isTold_3 := dk_seg dksX2_isTold_2 24 rfl rfl
theorem dksX2_isTold_4 : cX2_isTold.data.toList.drop 100 = dktX2_isTold_4 := dk_seg dksX2_isTold_3 24 rfl rfl
theorem dksX2_isTold_5 : cX2_isTold.data.toList.drop 111 = dktX2_isTold_5 := dk_seg dksX2_isTold_4 11 rfl rfl
theorem dksX2_isTold_6 : cX2_isTold.data.toList.drop 140 = dktX2_isTold_6 := dk_seg dksX2_isTold_5 29 rfl rfl
theorem dksX2_isTold_7 : cX2_isTold.data.toList.drop 162 = dktX2_isTold_7 := dk_seg dksX2_isTold_6 22 rfl rfl
theorem dX2_isTold_0 : decode cX2_isTold 0 = .ok (.aload_n 1, 1) := dk_43 (dk_at dksX2_isTold_0 0 rfl rfl)
theorem dX2_isTold_1 : decode cX2_isTold 1 = .ok (.astore_n 3, 1) := dk_78 (dk_at dksX2_isTold_0 1 rfl rfl)
theorem dX2_isTold_2 : decode cX2_isTold 2 = .ok (.iconst (-1), 1) := dk_2 (dk_at dksX2_isTold_0 2 rfl rfl)
theorem dX2_isTold_3 : decode cX2_isTold 3 = .ok (.istore 4, 2) := dk_54 4 (dk_at dksX2_isTold_0 3 rfl rfl)
theorem dX2_isTold_5 : decode cX2_isTold 5 = .ok (.aload_n 3, 1) := dk_45 (dk_at dksX2_isTold_0 5 rfl rfl)
theorem dX2_isTold_6 : decode cX2_isTold 6 = .ok (.invokevirtual 184, 3) := dk_182 0 184 (dk_at dksX2_isTold_0 6 rfl rfl)
theorem dX2_isTold_9 : decode cX2_isTold 9 = .ok (.lookupswitch 100 #[(97306, 43), (3433178, 58), (109412965, 73), (109770985, 88)], 43) := by decide +kernel
theorem dX2_isTold_52 : decode cX2_isTold 52 = .ok (.aload_n 3, 1) := dk_45 (dk_at dksX2_isTold_2 0 rfl rfl)
theorem dX2_isTold_53 : decode cX2_isTold 53 = .ok (.ldc 187, 2) := dk_18 187 (dk_at dksX2_isTold_2 1 rfl rfl)
theorem dX2_isTold_55 : decode cX2_isTold 55 = .ok (.invokevirtual 74, 3) := dk_182 0 74 (dk_at dksX2_isTold_2 3 rfl rfl)
theorem dX2_isTold_58 : decode cX2_isTold 58 = .ok (.ifCond .eq 51, 3) := dk_153 0 51 (dk_at dksX2_isTold_2 6 rfl rfl)
theorem dX2_isTold_61 : decode cX2_isTold 61 = .ok (.iconst 0, 1) := dk_3 (dk_at dksX2_isTold_2 9 rfl rfl)
theorem dX2_isTold_62 : decode cX2_isTold 62 = .ok (.istore 4, 2) := dk_54 4 (dk_at dksX2_isTold_2 10 rfl rfl)
theorem dX2_isTold_64 : decode cX2_isTold 64 = .ok (.goto 45, 3) := dk_167 0 45 (dk_at dksX2_isTold_2 12 rfl rfl)
theorem dX2_isTold_67 : decode cX2_isTold 67 = .ok (.aload_n 3, 1) := dk_45 (dk_at dksX2_isTold_2 15 rfl rfl)
theorem dX2_isTold_68 : decode cX2_isTold 68 = .ok (.ldc 189, 2) := dk_18 189 (dk_at dksX2_isTold_2 16 rfl rfl)
theorem dX2_isTold_70 : decode cX2_isTold 70 = .ok (.invokevirtual 74, 3) := dk_182 0 74 (dk_at dksX2_isTold_2 18 rfl rfl)
theorem dX2_isTold_73 : decode cX2_isTold 73 = .ok (.ifCond .eq 36, 3) := dk_153 0 36 (dk_at dksX2_isTold_2 21 rfl rfl)
theorem dX2_isTold_76 : decode cX2_isTold 76 = .ok (.iconst 1, 1) := dk_4 (dk_at dksX2_isTold_3 0 rfl rfl)
theorem dX2_isTold_77 : decode cX2_isTold 77 = .ok (.istore 4, 2) := dk_54 4 (dk_at dksX2_isTold_3 1 rfl rfl)
theorem dX2_isTold_79 : decode cX2_isTold 79 = .ok (.goto 30, 3) := dk_167 0 30 (dk_at dksX2_isTold_3 3 rfl rfl)
theorem dX2_isTold_82 : decode cX2_isTold 82 = .ok (.aload_n 3, 1) := dk_45 (dk_at dksX2_isTold_3 6 rfl rfl)
theorem dX2_isTold_83 : decode cX2_isTold 83 = .ok (.ldc 191, 2) := dk_18 191 (dk_at dksX2_isTold_3 7 rfl rfl)
theorem dX2_isTold_85 : decode cX2_isTold 85 = .ok (.invokevirtual 74, 3) := dk_182 0 74 (dk_at dksX2_isTold_3 9 rfl rfl)
theorem dX2_isTold_88 : decode cX2_isTold 88 = .ok (.ifCond .eq 21, 3) := dk_153 0 21 (dk_at dksX2_isTold_3 12 rfl rfl)
theorem dX2_isTold_91 : decode cX2_isTold 91 = .ok (.iconst 2, 1) := dk_5 (dk_at dksX2_isTold_3 15 rfl rfl)
theorem dX2_isTold_92 : decode cX2_isTold 92 = .ok (.istore 4, 2) := dk_54 4 (dk_at dksX2_isTold_3 16 rfl rfl)
theorem dX2_isTold_94 : decode cX2_isTold 94 = .ok (.goto 15, 3) := dk_167 0 15 (dk_at dksX2_isTold_3 18 rfl rfl)
theorem dX2_isTold_97 : decode cX2_isTold 97 = .ok (.aload_n 3, 1) := dk_45 (dk_at dksX2_isTold_3 21 rfl rfl)
theorem dX2_isTold_98 : decode cX2_isTold 98 = .ok (.ldc 193, 2) := dk_18 193 (dk_at dksX2_isTold_3 22 rfl rfl)
theorem dX2_isTold_100 : decode cX2_isTold 100 = .ok (.invokevirtual 74, 3) := dk_182 0 74 (dk_at dksX2_isTold_4 0 rfl rfl)
theorem dX2_isTold_103 : decode cX2_isTold 103 = .ok (.ifCond .eq 6, 3) := dk_153 0 6 (dk_at dksX2_isTold_4 3 rfl rfl)
theorem dX2_isTold_106 : decode cX2_isTold 106 = .ok (.iconst 3, 1) := dk_6 (dk_at dksX2_isTold_4 6 rfl rfl)
theorem dX2_isTold_107 : decode cX2_isTold 107 = .ok (.istore 4, 2) := dk_54 4 (dk_at dksX2_isTold_4 7 rfl rfl)
theorem dX2_isTold_109 : decode cX2_isTold 109 = .ok (.iload 4, 2) := dk_21 4 (dk_at dksX2_isTold_4 9 rfl rfl)
theorem dX2_isTold_111 : decode cX2_isTold 111 = .ok (.tableswitch 66 0 3 #[29, 36, 43, 50], 29) := by decide +kernel
theorem dX2_isTold_140 : decode cX2_isTold 140 = .ok (.aload_n 0, 1) := dk_42 (dk_at dksX2_isTold_6 0 rfl rfl)
theorem dX2_isTold_141 : decode cX2_isTold 141 = .ok (.iload_n 2, 1) := dk_28 (dk_at dksX2_isTold_6 1 rfl rfl)
theorem dX2_isTold_142 : decode cX2_isTold 142 = .ok (.invokevirtual 195, 3) := dk_182 0 195 (dk_at dksX2_isTold_6 2 rfl rfl)
theorem dX2_isTold_145 : decode cX2_isTold 145 = .ok (.iconst 1, 1) := dk_4 (dk_at dksX2_isTold_6 5 rfl rfl)
theorem dX2_isTold_146 : decode cX2_isTold 146 = .ok (.ireturn, 1) := dk_172 (dk_at dksX2_isTold_6 6 rfl rfl)
theorem dX2_isTold_147 : decode cX2_isTold 147 = .ok (.aload_n 0, 1) := dk_42 (dk_at dksX2_isTold_6 7 rfl rfl)
theorem dX2_isTold_148 : decode cX2_isTold 148 = .ok (.iload_n 2, 1) := dk_28 (dk_at dksX2_isTold_6 8 rfl rfl)
theorem dX2_isTold_149 : decode cX2_isTold 149 = .ok (.invokevirtual 198, 3) := dk_182 0 198 (dk_at dksX2_isTold_6 9 rfl rfl)
theorem dX2_isTold_152 : decode cX2_isTold 152 = .ok (.iconst 1, 1) := dk_4 (dk_at dksX2_isTold_6 12 rfl rfl)
theorem dX2_isTold_153 : decode cX2_isTold 153 = .ok (.ireturn, 1) := dk_172 (dk_at dksX2_isTold_6 13 rfl rfl)
theorem dX2_isTold_154 : decode cX2_isTold 154 = .ok (.aload_n 0, 1) := dk_42 (dk_at dksX2_isTold_6 14 rfl rfl)
theorem dX2_isTold_155 : decode cX2_isTold 155 = .ok (.iload_n 2, 1) := dk_28 (dk_at dksX2_isTold_6 15 rfl rfl)
theorem dX2_isTold_156 : decode cX2_isTold 156 = .ok (.invokevirtual 201, 3) := dk_182 0 201 (dk_at dksX2_isTold_6 16 rfl rfl)
theorem dX2_isTold_159 : decode cX2_isTold 159 = .ok (.iconst 1, 1) := dk_4 (dk_at dksX2_isTold_6 19 rfl rfl)
theorem dX2_isTold_160 : decode cX2_isTold 160 = .ok (.ireturn, 1) := dk_172 (dk_at dksX2_isTold_6 20 rfl rfl)
theorem dX2_isTold_161 : decode cX2_isTold 161 = .ok (.aload_n 0, 1) := dk_42 (dk_at dksX2_isTold_6 21 rfl rfl)
theorem dX2_isTold_162 : decode cX2_isTold 162 = .ok (.getfield 103, 3) := dk_180 0 103 (dk_at dksX2_isTold_7 0 rfl rfl)
theorem dX2_isTold_165 : decode cX2_isTold 165 = .ok (.aload_n 0, 1) := dk_42 (dk_at dksX2_isTold_7 3 rfl rfl)
theorem dX2_isTold_166 : decode cX2_isTold 166 = .ok (.iconst 0, 1) := dk_3 (dk_at dksX2_isTold_7 4 rfl rfl)
theorem dX2_isTold_167 : decode cX2_isTold 167 = .ok (.bipush 100, 2) := dk_16 100 (dk_at dksX2_isTold_7 5 rfl rfl)
theorem dX2_isTold_169 : decode cX2_isTold 169 = .ok (.invokevirtual 96, 3) := dk_182 0 96 (dk_at dksX2_isTold_7 7 rfl rfl)
theorem dX2_isTold_172 : decode cX2_isTold 172 = .ok (.putfield 204, 3) := dk_181 0 204 (dk_at dksX2_isTold_7 10 rfl rfl)
theorem dX2_isTold_175 : decode cX2_isTold 175 = .ok (.iconst 1, 1) := dk_4 (dk_at dksX2_isTold_7 13 rfl rfl)
theorem dX2_isTold_176 : decode cX2_isTold 176 = .ok (.ireturn, 1) := dk_172 (dk_at dksX2_isTold_7 14 rfl rfl)
theorem dX2_isTold_177 : decode cX2_isTold 177 = .ok (.iconst 0, 1) := dk_3 (dk_at dksX2_isTold_7 15 rfl rfl)
theorem dX2_isTold_178 : decode cX2_isTold 178 = .ok (.ireturn, 1) := dk_172 (dk_at dksX2_isTold_7 16 rfl rfl)
abbrev cX2_readsBay : ByteArray := prog_18_method_16_code
def yX2_readsBay : MethodName := ⟨RX2, "readsBay", "(I)V"⟩
def dkwX2_readsBay_3 : List UInt8 := [185, 0, 159, 2, 0, 87, 177]
abbrev dktX2_readsBay_3 : List UInt8 := dkwX2_readsBay_3 ++ []
def dkwX2_readsBay_2 : List UInt8 := [180, 0, 136, 187, 0, 152, 89, 44, 29, 42, 18, 154, 3, 16, 99, 182, 0, 149, 183, 0, 156]
abbrev dktX2_readsBay_2 : List UInt8 := dkwX2_readsBay_2 ++ dktX2_readsBay_3
def dkwX2_readsBay_1 : List UInt8 := [182, 0, 120, 42, 182, 0, 144, 77, 42, 18, 147, 3, 16, 99, 182, 0, 149, 62, 42, 180, 0, 103]
abbrev dktX2_readsBay_1 : List UInt8 := dkwX2_readsBay_1 ++ dktX2_readsBay_2
def dkwX2_readsBay_0 : List UInt8 := [42, 42, 180, 0, 103, 180, 0, 136, 185, 0, 140, 1, 0, 16, 6, 160, 0, 7, 4, 167, 0, 4, 3, 27]
abbrev dktX2_readsBay_0 : List UInt8 := dkwX2_readsBay_0 ++ dktX2_readsBay_1
theorem dksX2_readsBay_0 : cX2_readsBay.data.toList.drop 0 = dktX2_readsBay_0 := by decide +kernel
theorem dksX2_readsBay_1 : cX2_readsBay.data.toList.drop 24 = dktX2_readsBay_1 := dk_seg dksX2_readsBay_0 24 rfl rfl
theorem dksX2_readsBay_2 : cX2_readsBay.data.toList.drop 46 = dktX2_readsBay_2 := dk_seg dksX2_readsBay_1 22 rfl rfl
theorem dksX2_readsBay_3 : cX2_readsBay.data.toList.drop 67 = dktX2_readsBay_3 := dk_seg dksX2_readsBay_2 21 rfl rfl
theorem dX2_readsBay_0 : decode cX2_readsBay 0 = .ok (.aload_n 0, 1) := dk_42 (dk_at dksX2_readsBay_0 0 rfl rfl)
theorem dX2_readsBay_1 : decode cX2_readsBay 1 = .ok (.aload_n 0, 1) := dk_42 (dk_at dksX2_readsBay_0 1 rfl rfl)
theorem dX2_readsBay_2 : decode cX2_readsBay 2 = .ok (.getfield 103, 3) := dk_180 0 103 (dk_at dksX2_readsBay_0 2 rfl rfl)
theorem dX2_readsBay_5 : decode cX2_readsBay 5 = .ok (.getfield 136, 3) := dk_180 0 136 (dk_at dksX2_readsBay_0 5 rfl rfl)
theorem dX2_readsBay_8 : decode cX2_readsBay 8 = .ok (.invokeinterface 140 1, 5) := by decide +kernel
theorem dX2_readsBay_13 : decode cX2_readsBay 13 = .ok (.bipush 6, 2) := dk_16 6 (dk_at dksX2_readsBay_0 13 rfl rfl)
theorem dX2_readsBay_15 : decode cX2_readsBay 15 = .ok (.if_icmp .ne 7, 3) := dk_160 0 7 (dk_at dksX2_readsBay_0 15 rfl rfl)
theorem dX2_readsBay_18 : decode cX2_readsBay 18 = .ok (.iconst 1, 1) := dk_4 (dk_at dksX2_readsBay_0 18 rfl rfl)
theorem dX2_readsBay_19 : decode cX2_readsBay 19 = .ok (.goto 4, 3) := dk_167 0 4 (dk_at dksX2_readsBay_0 19 rfl rfl)
theorem dX2_readsBay_22 : decode cX2_readsBay 22 = .ok (.iconst 0, 1) := dk_3 (dk_at dksX2_readsBay_0 22 rfl rfl)
theorem dX2_readsBay_23 : decode cX2_readsBay 23 = .ok (.iload_n 1, 1) := dk_27 (dk_at dksX2_readsBay_0 23 rfl rfl)
theorem dX2_readsBay_24 : decode cX2_readsBay 24 = .ok (.invokevirtual 120, 3) := dk_182 0 120 (dk_at dksX2_readsBay_1 0 rfl rfl)
theorem dX2_readsBay_27 : decode cX2_readsBay 27 = .ok (.aload_n 0, 1) := dk_42 (dk_at dksX2_readsBay_1 3 rfl rfl)
theorem dX2_readsBay_28 : decode cX2_readsBay 28 = .ok (.invokevirtual 144, 3) := dk_182 0 144 (dk_at dksX2_readsBay_1 4 rfl rfl)
theorem dX2_readsBay_31 : decode cX2_readsBay 31 = .ok (.astore_n 2, 1) := dk_77 (dk_at dksX2_readsBay_1 7 rfl rfl)
theorem dX2_readsBay_32 : decode cX2_readsBay 32 = .ok (.aload_n 0, 1) := dk_42 (dk_at dksX2_readsBay_1 8 rfl rfl)
theorem dX2_readsBay_33 : decode cX2_readsBay 33 = .ok (.ldc 147, 2) := dk_18 147 (dk_at dksX2_readsBay_1 9 rfl rfl)
theorem dX2_readsBay_35 : decode cX2_readsBay 35 = .ok (.iconst 0, 1) := dk_3 (dk_at dksX2_readsBay_1 11 rfl rfl)
theorem dX2_readsBay_36 : decode cX2_readsBay 36 = .ok (.bipush 99, 2) := dk_16 99 (dk_at dksX2_readsBay_1 12 rfl rfl)
theorem dX2_readsBay_38 : decode cX2_readsBay 38 = .ok (.invokevirtual 149, 3) := dk_182 0 149 (dk_at dksX2_readsBay_1 14 rfl rfl)
theorem dX2_readsBay_41 : decode cX2_readsBay 41 = .ok (.istore_n 3, 1) := dk_62 (dk_at dksX2_readsBay_1 17 rfl rfl)
theorem dX2_readsBay_42 : decode cX2_readsBay 42 = .ok (.aload_n 0, 1) := dk_42 (dk_at dksX2_readsBay_1 18 rfl rfl)
theorem dX2_readsBay_43 : decode cX2_readsBay 43 = .ok (.getfield 103, 3) := dk_180 0 103 (dk_at dksX2_readsBay_1 19 rfl rfl)
theorem dX2_readsBay_46 : decode cX2_readsBay 46 = .ok (.getfield 136, 3) := dk_180 0 136 (dk_at dksX2_readsBay_2 0 rfl rfl)
theorem dX2_readsBay_49 : decode cX2_readsBay 49 = .ok (.new 152, 3) := dk_187 0 152 (dk_at dksX2_readsBay_2 3 rfl rfl)
theorem dX2_readsBay_52 : decode cX2_readsBay 52 = .ok (.dup, 1) := dk_89 (dk_at dksX2_readsBay_2 6 rfl rfl)
theorem dX2_readsBay_53 : decode cX2_readsBay 53 = .ok (.aload_n 2, 1) := dk_44 (dk_at dksX2_readsBay_2 7 rfl rfl)
theorem dX2_readsBay_54 : decode cX2_readsBay 54 = .ok (.iload_n 3, 1) := dk_29 (dk_at dksX2_readsBay_2 8 rfl rfl)
theorem dX2_readsBay_55 : decode cX2_readsBay 55 = .ok (.aload_n 0, 1) := dk_42 (dk_at dksX2_readsBay_2 9 rfl rfl)
theorem dX2_readsBay_56 : decode cX2_readsBay 56 = .ok (.ldc 154, 2) := dk_18 154 (dk_at dksX2_readsBay_2 10 rfl rfl)
theorem dX2_readsBay_58 : decode cX2_readsBay 58 = .ok (.iconst 0, 1) := dk_3 (dk_at dksX2_readsBay_2 12 rfl rfl)
theorem dX2_readsBay_59 : decode cX2_readsBay 59 = .ok (.bipush 99, 2) := dk_16 99 (dk_at dksX2_readsBay_2 13 rfl rfl)
theorem dX2_readsBay_61 : decode cX2_readsBay 61 = .ok (.invokevirtual 149, 3) := dk_182 0 149 (dk_at dksX2_readsBay_2 15 rfl rfl)
theorem dX2_readsBay_64 : decode cX2_readsBay 64 = .ok (.invokespecial 156, 3) := dk_183 0 156 (dk_at dksX2_readsBay_2 18 rfl rfl)
theorem dX2_readsBay_67 : decode cX2_readsBay 67 = .ok (.invokeinterface 159 2, 5) := by decide +kernel
theorem dX2_readsBay_72 : decode cX2_readsBay 72 = .ok (.pop, 1) := dk_87 (dk_at dksX2_readsBay_3 5 rfl rfl)
theorem dX2_readsBay_73 : decode cX2_readsBay 73 = .ok (.return_, 1) := dk_177 (dk_at dksX2_readsBay_3 6 rfl rfl)
abbrev cX2_fresh : ByteArray := prog_18_method_13_code
def yX2_fresh : MethodName := ⟨RX2, "fresh", "()Ljava/lang/String;"⟩
def dkwX2_fresh_1 : List UInt8 := [182, 0, 47, 191, 43, 176]
abbrev dktX2_fresh_1 : List UInt8 := dkwX2_fresh_1 ++ []
def dkwX2_fresh_0 : List UInt8 := [42, 182, 0, 100, 76, 42, 180, 0, 103, 43, 182, 0, 107, 153, 0, 13, 42, 6, 42, 180, 0, 61]
abbrev dktX2_fresh_0 : List UInt8 := dkwX2_fresh_0 ++ dktX2_fresh_1
theorem dksX2_fresh_0 : cX2_fresh.data.toList.drop 0 = dktX2_fresh_0 := by decide +kernel
theorem dksX2_fresh_1 : cX2_fresh.data.toList.drop 22 = dktX2_fresh_1 := dk_seg dksX2_fresh_0 22 rfl rfl
theorem dX2_fresh_0 : decode cX2_fresh 0 = .ok (.aload_n 0, 1) := dk_42 (dk_at dksX2_fresh_0 0 rfl rfl)
theorem dX2_fresh_1 : decode cX2_fresh 1 = .ok (.invokevirtual 100, 3) := dk_182 0 100 (dk_at dksX2_fresh_0 1 rfl rfl)
theorem dX2_fresh_4 : decode cX2_fresh 4 = .ok (.astore_n 1, 1) := dk_76 (dk_at dksX2_fresh_0 4 rfl rfl)
theorem dX2_fresh_5 : decode cX2_fresh 5 = .ok (.aload_n 0, 1) := dk_42 (dk_at dksX2_fresh_0 5 rfl rfl)
theorem dX2_fresh_6 : decode cX2_fresh 6 = .ok (.getfield 103, 3) := dk_180 0 103 (dk_at dksX2_fresh_0 6 rfl rfl)
theorem dX2_fresh_9 : decode cX2_fresh 9 = .ok (.aload_n 1, 1) := dk_43 (dk_at dksX2_fresh_0 9 rfl rfl)
theorem dX2_fresh_10 : decode cX2_fresh 10 = .ok (.invokevirtual 107, 3) := dk_182 0 107 (dk_at dksX2_fresh_0 10 rfl rfl)
theorem dX2_fresh_13 : decode cX2_fresh 13 = .ok (.ifCond .eq 13, 3) := dk_153 0 13 (dk_at dksX2_fresh_0 13 rfl rfl)
theorem dX2_fresh_16 : decode cX2_fresh 16 = .ok (.aload_n 0, 1) := dk_42 (dk_at dksX2_fresh_0 16 rfl rfl)
theorem dX2_fresh_17 : decode cX2_fresh 17 = .ok (.iconst 3, 1) := dk_6 (dk_at dksX2_fresh_0 17 rfl rfl)
theorem dX2_fresh_18 : decode cX2_fresh 18 = .ok (.aload_n 0, 1) := dk_42 (dk_at dksX2_fresh_0 18 rfl rfl)
theorem dX2_fresh_19 : decode cX2_fresh 19 = .ok (.getfield 61, 3) := dk_180 0 61 (dk_at dksX2_fresh_0 19 rfl rfl)
theorem dX2_fresh_22 : decode cX2_fresh 22 = .ok (.invokevirtual 47, 3) := dk_182 0 47 (dk_at dksX2_fresh_1 0 rfl rfl)
theorem dX2_fresh_25 : decode cX2_fresh 25 = .ok (.athrow, 1) := dk_191 (dk_at dksX2_fresh_1 3 rfl rfl)
theorem dX2_fresh_26 : decode cX2_fresh 26 = .ok (.aload_n 1, 1) := dk_43 (dk_at dksX2_fresh_1 4 rfl rfl)
theorem dX2_fresh_27 : decode cX2_fresh 27 = .ok (.areturn, 1) := dk_176 (dk_at dksX2_fresh_1 5 rfl rfl)
abbrev cX2_name : ByteArray := prog_18_method_10_code
def yX2_name : MethodName := ⟨RX2, "name", "()Ljava/lang/String;"⟩
def dkwX2_name_2 : List UInt8 := [182, 0, 47, 191, 43, 176]
abbrev dktX2_name_2 : List UInt8 := dkwX2_name_2 ++ []
def dkwX2_name_1 : List UInt8 := [182, 0, 47, 191, 43, 182, 0, 86, 16, 6, 164, 0, 16, 42, 4, 42, 180, 0, 61, 16, 6, 96]
abbrev dktX2_name_1 : List UInt8 := dkwX2_name_1 ++ dktX2_name_2
def dkwX2_name_0 : List UInt8 := [42, 182, 0, 70, 76, 43, 178, 0, 78, 184, 0, 82, 2, 159, 0, 13, 42, 4, 42, 180, 0, 61]
abbrev dktX2_name_0 : List UInt8 := dkwX2_name_0 ++ dktX2_name_1
theorem dksX2_name_0 : cX2_name.data.toList.drop 0 = dktX2_name_0 := by decide +kernel
theorem dksX2_name_1 : cX2_name.data.toList.drop 22 = dktX2_name_1 := dk_seg dksX2_name_0 22 rfl rfl
theorem dksX2_name_2 : cX2_name.data.toList.drop 44 = dktX2_name_2 := dk_seg dksX2_name_1 22 rfl rfl
theorem dX2_name_0 : decode cX2_name 0 = .ok (.aload_n 0, 1) := dk_42 (dk_at dksX2_name_0 0 rfl rfl)
theorem dX2_name_1 : decode cX2_name 1 = .ok (.invokevirtual 70, 3) := dk_182 0 70 (dk_at dksX2_name_0 1 rfl rfl)
theorem dX2_name_4 : decode cX2_name 4 = .ok (.astore_n 1, 1) := dk_76 (dk_at dksX2_name_0 4 rfl rfl)
theorem dX2_name_5 : decode cX2_name 5 = .ok (.aload_n 1, 1) := dk_43 (dk_at dksX2_name_0 5 rfl rfl)
theorem dX2_name_6 : decode cX2_name 6 = .ok (.getstatic 78, 3) := dk_178 0 78 (dk_at dksX2_name_0 6 rfl rfl)
theorem dX2_name_9 : decode cX2_name 9 = .ok (.invokestatic 82, 3) := dk_184 0 82 (dk_at dksX2_name_0 9 rfl rfl)
theorem dX2_name_12 : decode cX2_name 12 = .ok (.iconst (-1), 1) := dk_2 (dk_at dksX2_name_0 12 rfl rfl)
theorem dX2_name_13 : decode cX2_name 13 = .ok (.if_icmp .eq 13, 3) := dk_159 0 13 (dk_at dksX2_name_0 13 rfl rfl)
theorem dX2_name_16 : decode cX2_name 16 = .ok (.aload_n 0, 1) := dk_42 (dk_at dksX2_name_0 16 rfl rfl)
theorem dX2_name_17 : decode cX2_name 17 = .ok (.iconst 1, 1) := dk_4 (dk_at dksX2_name_0 17 rfl rfl)
theorem dX2_name_18 : decode cX2_name 18 = .ok (.aload_n 0, 1) := dk_42 (dk_at dksX2_name_0 18 rfl rfl)
theorem dX2_name_19 : decode cX2_name 19 = .ok (.getfield 61, 3) := dk_180 0 61 (dk_at dksX2_name_0 19 rfl rfl)
theorem dX2_name_22 : decode cX2_name 22 = .ok (.invokevirtual 47, 3) := dk_182 0 47 (dk_at dksX2_name_1 0 rfl rfl)
theorem dX2_name_25 : decode cX2_name 25 = .ok (.athrow, 1) := dk_191 (dk_at dksX2_name_1 3 rfl rfl)
theorem dX2_name_26 : decode cX2_name 26 = .ok (.aload_n 1, 1) := dk_43 (dk_at dksX2_name_1 4 rfl rfl)
theorem dX2_name_27 : decode cX2_name 27 = .ok (.invokevirtual 86, 3) := dk_182 0 86 (dk_at dksX2_name_1 5 rfl rfl)
theorem dX2_name_30 : decode cX2_name 30 = .ok (.bipush 6, 2) := dk_16 6 (dk_at dksX2_name_1 8 rfl rfl)
theorem dX2_name_32 : decode cX2_name 32 = .ok (.if_icmp .le 16, 3) := dk_164 0 16 (dk_at dksX2_name_1 10 rfl rfl)
theorem dX2_name_35 : decode cX2_name 35 = .ok (.aload_n 0, 1) := dk_42 (dk_at dksX2_name_1 13 rfl rfl)
theorem dX2_name_36 : decode cX2_name 36 = .ok (.iconst 1, 1) := dk_4 (dk_at dksX2_name_1 14 rfl rfl)
theorem dX2_name_37 : decode cX2_name 37 = .ok (.aload_n 0, 1) := dk_42 (dk_at dksX2_name_1 15 rfl rfl)
theorem dX2_name_38 : decode cX2_name 38 = .ok (.getfield 61, 3) := dk_180 0 61 (dk_at dksX2_name_1 16 rfl rfl)
theorem dX2_name_41 : decode cX2_name 41 = .ok (.bipush 6, 2) := dk_16 6 (dk_at dksX2_name_1 19 rfl rfl)
theorem dX2_name_43 : decode cX2_name 43 = .ok (.iadd, 1) := dk_96 (dk_at dksX2_name_1 21 rfl rfl)
theorem dX2_name_44 : decode cX2_name 44 = .ok (.invokevirtual 47, 3) := dk_182 0 47 (dk_at dksX2_name_2 0 rfl rfl)
theorem dX2_name_47 : decode cX2_name 47 = .ok (.athrow, 1) := dk_191 (dk_at dksX2_name_2 3 rfl rfl)
theorem dX2_name_48 : decode cX2_name 48 = .ok (.aload_n 1, 1) := dk_43 (dk_at dksX2_name_2 4 rfl rfl)
theorem dX2_name_49 : decode cX2_name 49 = .ok (.areturn, 1) := dk_176 (dk_at dksX2_name_2 5 rfl rfl)
abbrev cX2_number : ByteArray := prog_18_method_12_code
def yX2_number : MethodName := ⟨RX2, "number", "(Ljava/lang/String;II)I"⟩
def dkwX2_number_0 : List UInt8 := [42, 43, 182, 0, 93, 42, 28, 29, 182, 0, 96, 172]
abbrev dktX2_number_0 : List UInt8 := dkwX2_number_0 ++ []
theorem dksX2_number_0 : cX2_number.data.toList.drop 0 = dktX2_number_0 := by decide +kernel
theorem dX2_number_0 : decode cX2_number 0 = .ok (.aload_n 0, 1) := dk_42 (dk_at dksX2_number_0 0 rfl rfl)
theorem dX2_number_1 : decode cX2_number 1 = .ok (.aload_n 1, 1) := dk_43 (dk_at dksX2_number_0 1 rfl rfl)
theorem dX2_number_2 : decode cX2_number 2 = .ok (.invokevirtual 93, 3) := dk_182 0 93 (dk_at dksX2_number_0 2 rfl rfl)
theorem dX2_number_5 : decode cX2_number 5 = .ok (.aload_n 0, 1) := dk_42 (dk_at dksX2_number_0 5 rfl rfl)
theorem dX2_number_6 : decode cX2_number 6 = .ok (.iload_n 2, 1) := dk_28 (dk_at dksX2_number_0 6 rfl rfl)
theorem dX2_number_7 : decode cX2_number 7 = .ok (.iload_n 3, 1) := dk_29 (dk_at dksX2_number_0 7 rfl rfl)
theorem dX2_number_8 : decode cX2_number 8 = .ok (.invokevirtual 96, 3) := dk_182 0 96 (dk_at dksX2_number_0 8 rfl rfl)
theorem dX2_number_11 : decode cX2_number 11 = .ok (.ireturn, 1) := dk_172 (dk_at dksX2_number_0 11 rfl rfl)
abbrev cX2_word_2 : ByteArray := prog_18_method_8_code
def yX2_word_2 : MethodName := ⟨RX2, "word", "(Ljava/lang/String;)V"⟩
def dkwX2_word_2_0 : List UInt8 := [42, 182, 0, 70, 43, 182, 0, 74, 154, 0, 13, 42, 4, 42, 180, 0, 61, 182, 0, 47, 191, 177]
abbrev dktX2_word_2_0 : List UInt8 := dkwX2_word_2_0 ++ []
theorem dksX2_word_2_0 : cX2_word_2.data.toList.drop 0 = dktX2_word_2_0 := by decide +kernel
theorem dX2_word_2_0 : decode cX2_word_2 0 = .ok (.aload_n 0, 1) := dk_42 (dk_at dksX2_word_2_0 0 rfl rfl)
theorem dX2_word_2_1 : decode cX2_word_2 1 = .ok (.invokevirtual 70, 3) := dk_182 0 70 (dk_at dksX2_word_2_0 1 rfl rfl)
theorem dX2_word_2_4 : decode cX2_word_2 4 = .ok (.aload_n 1, 1) := dk_43 (dk_at dksX2_word_2_0 4 rfl rfl)
theorem dX2_word_2_5 : decode cX2_word_2 5 = .ok (.invokevirtual 74, 3) := dk_182 0 74 (dk_at dksX2_word_2_0 5 rfl rfl)
theorem dX2_word_2_8 : decode cX2_word_2 8 = .ok (.ifCond .ne 13, 3) := dk_154 0 13 (dk_at dksX2_word_2_0 8 rfl rfl)
theorem dX2_word_2_11 : decode cX2_word_2 11 = .ok (.aload_n 0, 1) := dk_42 (dk_at dksX2_word_2_0 11 rfl rfl)
theorem dX2_word_2_12 : decode cX2_word_2 12 = .ok (.iconst 1, 1) := dk_4 (dk_at dksX2_word_2_0 12 rfl rfl)
theorem dX2_word_2_13 : decode cX2_word_2 13 = .ok (.aload_n 0, 1) := dk_42 (dk_at dksX2_word_2_0 13 rfl rfl)
theorem dX2_word_2_14 : decode cX2_word_2 14 = .ok (.getfield 61, 3) := dk_180 0 61 (dk_at dksX2_word_2_0 14 rfl rfl)
theorem dX2_word_2_17 : decode cX2_word_2 17 = .ok (.invokevirtual 47, 3) := dk_182 0 47 (dk_at dksX2_word_2_0 17 rfl rfl)
theorem dX2_word_2_20 : decode cX2_word_2 20 = .ok (.athrow, 1) := dk_191 (dk_at dksX2_word_2_0 20 rfl rfl)
theorem dX2_word_2_21 : decode cX2_word_2 21 = .ok (.return_, 1) := dk_177 (dk_at dksX2_word_2_0 21 rfl rfl)
abbrev cX2_number_2 : ByteArray := prog_18_method_11_code
def yX2_number_2 : MethodName := ⟨RX2, "number", "(II)I"⟩
def dkwX2_number_2_5 : List UInt8 := [191, 29, 172]
abbrev dktX2_number_2_5 : List UInt8 := dkwX2_number_2_5 ++ []
def dkwX2_number_2_4 : List UInt8 := [181, 0, 36, 167, 255, 192, 29, 27, 28, 184, 0, 89, 154, 0, 13, 42, 5, 42, 180, 0, 61, 182, 0, 47]
abbrev dktX2_number_2_4 : List UInt8 := dkwX2_number_2_4 ++ dktX2_number_2_5
def dkwX2_number_2_3 : List UInt8 := [16, 10, 29, 104, 42, 42, 180, 0, 36, 182, 0, 39, 96, 16, 48, 100, 62, 42, 89, 180, 0, 36, 4, 96]
abbrev dktX2_number_2_3 : List UInt8 := dkwX2_number_2_3 ++ dktX2_number_2_4
def dkwX2_number_2_2 : List UInt8 := [42, 180, 0, 36, 42, 180, 0, 61, 100, 7, 160, 0, 13, 42, 4, 42, 180, 0, 36, 182, 0, 47, 191]
abbrev dktX2_number_2_2 : List UInt8 := dkwX2_number_2_2 ++ dktX2_number_2_3
def dkwX2_number_2_1 : List UInt8 := [42, 42, 180, 0, 36, 181, 0, 61, 3, 62, 42, 42, 180, 0, 36, 182, 0, 39, 184, 0, 55, 153, 0, 56]
abbrev dktX2_number_2_1 : List UInt8 := dkwX2_number_2_1 ++ dktX2_number_2_2
def dkwX2_number_2_0 : List UInt8 := [42, 182, 0, 43, 184, 0, 55, 154, 0, 13, 42, 4, 42, 180, 0, 36, 182, 0, 47, 191, 42, 182, 0, 58]
abbrev dktX2_number_2_0 : List UInt8 := dkwX2_number_2_0 ++ dktX2_number_2_1
theorem dksX2_number_2_0 : cX2_number_2.data.toList.drop 0 = dktX2_number_2_0 := by decide +kernel
theorem dksX2_number_2_1 : cX2_number_2.data.toList.drop 24 = dktX2_number_2_1 := dk_seg dksX2_number_2_0 24 rfl rfl
theorem dksX2_number_2_2 : cX2_number_2.data.toList.drop 48 = dktX2_number_2_2 := dk_seg dksX2_number_2_1 24 rfl rfl
theorem dksX2_number_2_3 : cX2_number_2.data.toList.drop 71 = dktX2_number_2_3 := dk_seg dksX2_number_2_2 23 rfl rfl
theorem dksX2_number_2_4 : cX2_number_2.data.toList.drop 95 = dktX2_number_2_4 := dk_seg dksX2_number_2_3 24 rfl rfl
theorem dksX2_number_2_5 : cX2_number_2.data.toList.drop 119 = dktX2_number_2_5 := dk_seg dksX2_number_2_4 24 rfl rfl
theorem dX2_number_2_0 : decode cX2_number_2 0 = .ok (.aload_n 0, 1) := dk_42 (dk_at dksX2_number_2_0 0 rfl rfl)
theorem dX2_number_2_1 : decode cX2_number_2 1 = .ok (.invokevirtual 43, 3) := dk_182 0 43 (dk_at dksX2_number_2_0 1 rfl rfl)
theorem dX2_number_2_4 : decode cX2_number_2 4 = .ok (.invokestatic 55, 3) := dk_184 0 55 (dk_at dksX2_number_2_0 4 rfl rfl)
theorem dX2_number_2_7 : decode cX2_number_2 7 = .ok (.ifCond .ne 13, 3) := dk_154 0 13 (dk_at dksX2_number_2_0 7 rfl rfl)
theorem dX2_number_2_10 : decode cX2_number_2 10 = .ok (.aload_n 0, 1) := dk_42 (dk_at dksX2_number_2_0 10 rfl rfl)
theorem dX2_number_2_11 : decode cX2_number_2 11 = .ok (.iconst 1, 1) := dk_4 (dk_at dksX2_number_2_0 11 rfl rfl)
theorem dX2_number_2_12 : decode cX2_number_2 12 = .ok (.aload_n 0, 1) := dk_42 (dk_at dksX2_number_2_0 12 rfl rfl)
theorem dX2_number_2_13 : decode cX2_number_2 13 = .ok (.getfield 36, 3) := dk_180 0 36 (dk_at dksX2_number_2_0 13 rfl rfl)
theorem dX2_number_2_16 : decode cX2_number_2 16 = .ok (.invokevirtual 47, 3) := dk_182 0 47 (dk_at dksX2_number_2_0 16 rfl rfl)
theorem dX2_number_2_19 : decode cX2_number_2 19 = .ok (.athrow, 1) := dk_191 (dk_at dksX2_number_2_0 19 rfl rfl)
theorem dX2_number_2_20 : decode cX2_number_2 20 = .ok (.aload_n 0, 1) := dk_42 (dk_at dksX2_number_2_0 20 rfl rfl)
theorem dX2_number_2_21 : decode cX2_number_2 21 = .ok (.invokevirtual 58, 3) := dk_182 0 58 (dk_at dksX2_number_2_0 21 rfl rfl)
theorem dX2_number_2_24 : decode cX2_number_2 24 = .ok (.aload_n 0, 1) := dk_42 (dk_at dksX2_number_2_1 0 rfl rfl)
theorem dX2_number_2_25 : decode cX2_number_2 25 = .ok (.aload_n 0, 1) := dk_42 (dk_at dksX2_number_2_1 1 rfl rfl)
theorem dX2_number_2_26 : decode cX2_number_2 26 = .ok (.getfield 36, 3) := dk_180 0 36 (dk_at dksX2_number_2_1 2 rfl rfl)
theorem dX2_number_2_29 : decode cX2_number_2 29 = .ok (.putfield 61, 3) := dk_181 0 61 (dk_at dksX2_number_2_1 5 rfl rfl)
theorem dX2_number_2_32 : decode cX2_number_2 32 = .ok (.iconst 0, 1) := dk_3 (dk_at dksX2_number_2_1 8 rfl rfl)
theorem dX2_number_2_33 : decode cX2_number_2 33 = .ok (.istore_n 3, 1) := dk_62 (dk_at dksX2_number_2_1 9 rfl rfl)
theorem dX2_number_2_34 : decode cX2_number_2 34 = .ok (.aload_n 0, 1) := dk_42 (dk_at dksX2_number_2_1 10 rfl rfl)
theorem dX2_number_2_35 : decode cX2_number_2 35 = .ok (.aload_n 0, 1) := dk_42 (dk_at dksX2_number_2_1 11 rfl rfl)
theorem dX2_number_2_36 : decode cX2_number_2 36 = .ok (.getfield 36, 3) := dk_180 0 36 (dk_at dksX2_number_2_1 12 rfl rfl)
theorem dX2_number_2_39 : decode cX2_number_2 39 = .ok (.invokevirtual 39, 3) := dk_182 0 39 (dk_at dksX2_number_2_1 15 rfl rfl)
theorem dX2_number_2_42 : decode cX2_number_2 42 = .ok (.invokestatic 55, 3) := dk_184 0 55 (dk_at dksX2_number_2_1 18 rfl rfl)
theorem dX2_number_2_45 : decode cX2_number_2 45 = .ok (.ifCond .eq 56, 3) := dk_153 0 56 (dk_at dksX2_number_2_1 21 rfl rfl)
theorem dX2_number_2_48 : decode cX2_number_2 48 = .ok (.aload_n 0, 1) := dk_42 (dk_at dksX2_number_2_2 0 rfl rfl)
theorem dX2_number_2_49 : decode cX2_number_2 49 = .ok (.getfield 36, 3) := dk_180 0 36 (dk_at dksX2_number_2_2 1 rfl rfl)
theorem dX2_number_2_52 : decode cX2_number_2 52 = .ok (.aload_n 0, 1) := dk_42 (dk_at dksX2_number_2_2 4 rfl rfl)
theorem dX2_number_2_53 : decode cX2_number_2 53 = .ok (.getfield 61, 3) := dk_180 0 61 (dk_at dksX2_number_2_2 5 rfl rfl)
theorem dX2_number_2_56 : decode cX2_number_2 56 = .ok (.isub, 1) := dk_100 (dk_at dksX2_number_2_2 8 rfl rfl)
theorem dX2_number_2_57 : decode cX2_number_2 57 = .ok (.iconst 4, 1) := dk_7 (dk_at dksX2_number_2_2 9 rfl rfl)
theorem dX2_number_2_58 : decode cX2_number_2 58 = .ok (.if_icmp .ne 13, 3) := dk_160 0 13 (dk_at dksX2_number_2_2 10 rfl rfl)
theorem dX2_number_2_61 : decode cX2_number_2 61 = .ok (.aload_n 0, 1) := dk_42 (dk_at dksX2_number_2_2 13 rfl rfl)
theorem dX2_number_2_62 : decode cX2_number_2 62 = .ok (.iconst 1, 1) := dk_4 (dk_at dksX2_number_2_2 14 rfl rfl)
theorem dX2_number_2_63 : decode cX2_number_2 63 = .ok (.aload_n 0, 1) := dk_42 (dk_at dksX2_number_2_2 15 rfl rfl)
theorem dX2_number_2_64 : decode cX2_number_2 64 = .ok (.getfield 36, 3) := dk_180 0 36 (dk_at dksX2_number_2_2 16 rfl rfl)
theorem dX2_number_2_67 : decode cX2_number_2 67 = .ok (.invokevirtual 47, 3) := dk_182 0 47 (dk_at dksX2_number_2_2 19 rfl rfl)
theorem dX2_number_2_70 : decode cX2_number_2 70 = .ok (.athrow, 1) := dk_191 (dk_at dksX2_number_2_2 22 rfl rfl)
theorem dX2_number_2_71 : decode cX2_number_2 71 = .ok (.bipush 10, 2) := dk_16 10 (dk_at dksX2_number_2_3 0 rfl rfl)
theorem dX2_number_2_73 : decode cX2_number_2 73 = .ok (.iload_n 3, 1) := dk_29 (dk_at dksX2_number_2_3 2 rfl rfl)
theorem dX2_number_2_74 : decode cX2_number_2 74 = .ok (.imul, 1) := dk_104 (dk_at dksX2_number_2_3 3 rfl rfl)
theorem dX2_number_2_75 : decode cX2_number_2 75 = .ok (.aload_n 0, 1) := dk_42 (dk_at dksX2_number_2_3 4 rfl rfl)
theorem dX2_number_2_76 : decode cX2_number_2 76 = .ok (.aload_n 0, 1) := dk_42 (dk_at dksX2_number_2_3 5 rfl rfl)
theorem dX2_number_2_77 : decode cX2_number_2 77 = .ok (.getfield 36, 3) := dk_180 0 36 (dk_at dksX2_number_2_3 6 rfl rfl)
theorem dX2_number_2_80 : decode cX2_number_2 80 = .ok (.invokevirtual 39, 3) := dk_182 0 39 (dk_at dksX2_number_2_3 9 rfl rfl)
theorem dX2_number_2_83 : decode cX2_number_2 83 = .ok (.iadd, 1) := dk_96 (dk_at dksX2_number_2_3 12 rfl rfl)
theorem dX2_number_2_84 : decode cX2_number_2 84 = .ok (.bipush 48, 2) := dk_16 48 (dk_at dksX2_number_2_3 13 rfl rfl)
theorem dX2_number_2_86 : decode cX2_number_2 86 = .ok (.isub, 1) := dk_100 (dk_at dksX2_number_2_3 15 rfl rfl)
theorem dX2_number_2_87 : decode cX2_number_2 87 = .ok (.istore_n 3, 1) := dk_62 (dk_at dksX2_number_2_3 16 rfl rfl)
theorem dX2_number_2_88 : decode cX2_number_2 88 = .ok (.aload_n 0, 1) := dk_42 (dk_at dksX2_number_2_3 17 rfl rfl)
theorem dX2_number_2_89 : decode cX2_number_2 89 = .ok (.dup, 1) := dk_89 (dk_at dksX2_number_2_3 18 rfl rfl)
theorem dX2_number_2_90 : decode cX2_number_2 90 = .ok (.getfield 36, 3) := dk_180 0 36 (dk_at dksX2_number_2_3 19 rfl rfl)
theorem dX2_number_2_93 : decode cX2_number_2 93 = .ok (.iconst 1, 1) := dk_4 (dk_at dksX2_number_2_3 22 rfl rfl)
theorem dX2_number_2_94 : decode cX2_number_2 94 = .ok (.iadd, 1) := dk_96 (dk_at dksX2_number_2_3 23 rfl rfl)
theorem dX2_number_2_95 : decode cX2_number_2 95 = .ok (.putfield 36, 3) := dk_181 0 36 (dk_at dksX2_number_2_4 0 rfl rfl)
theorem dX2_number_2_98 : decode cX2_number_2 98 = .ok (.goto (-64), 3) := dk_167 255 192 (dk_at dksX2_number_2_4 3 rfl rfl)
theorem dX2_number_2_101 : decode cX2_number_2 101 = .ok (.iload_n 3, 1) := dk_29 (dk_at dksX2_number_2_4 6 rfl rfl)
theorem dX2_number_2_102 : decode cX2_number_2 102 = .ok (.iload_n 1, 1) := dk_27 (dk_at dksX2_number_2_4 7 rfl rfl)
theorem dX2_number_2_103 : decode cX2_number_2 103 = .ok (.iload_n 2, 1) := dk_28 (dk_at dksX2_number_2_4 8 rfl rfl)
theorem dX2_number_2_104 : decode cX2_number_2 104 = .ok (.invokestatic 89, 3) := dk_184 0 89 (dk_at dksX2_number_2_4 9 rfl rfl)
theorem dX2_number_2_107 : decode cX2_number_2 107 = .ok (.ifCond .ne 13, 3) := dk_154 0 13 (dk_at dksX2_number_2_4 12 rfl rfl)
theorem dX2_number_2_110 : decode cX2_number_2 110 = .ok (.aload_n 0, 1) := dk_42 (dk_at dksX2_number_2_4 15 rfl rfl)
theorem dX2_number_2_111 : decode cX2_number_2 111 = .ok (.iconst 2, 1) := dk_5 (dk_at dksX2_number_2_4 16 rfl rfl)
theorem dX2_number_2_112 : decode cX2_number_2 112 = .ok (.aload_n 0, 1) := dk_42 (dk_at dksX2_number_2_4 17 rfl rfl)
theorem dX2_number_2_113 : decode cX2_number_2 113 = .ok (.getfield 61, 3) := dk_180 0 61 (dk_at dksX2_number_2_4 18 rfl rfl)
theorem dX2_number_2_116 : decode cX2_number_2 116 = .ok (.invokevirtual 47, 3) := dk_182 0 47 (dk_at dksX2_number_2_4 21 rfl rfl)
theorem dX2_number_2_119 : decode cX2_number_2 119 = .ok (.athrow, 1) := dk_191 (dk_at dksX2_number_2_5 0 rfl rfl)
theorem dX2_number_2_120 : decode cX2_number_2 120 = .ok (.iload_n 3, 1) := dk_29 (dk_at dksX2_number_2_5 1 rfl rfl)
theorem dX2_number_2_121 : decode cX2_number_2 121 = .ok (.ireturn, 1) := dk_172 (dk_at dksX2_number_2_5 2 rfl rfl)
abbrev cX2_readsPair : ByteArray := prog_18_method_17_code
def yX2_readsPair : MethodName := ⟨RX2, "readsPair", "(I)V"⟩
def dkwX2_readsPair_4 : List UInt8 := [185, 0, 159, 2, 0, 87, 177]
abbrev dktX2_readsPair_4 : List UInt8 := dkwX2_readsPair_4 ++ []
def dkwX2_readsPair_3 : List UInt8 := [180, 0, 103, 180, 0, 162, 187, 0, 172, 89, 44, 29, 42, 18, 174, 3, 16, 9, 182, 0, 149, 183, 0, 176]
abbrev dktX2_readsPair_3 : List UInt8 := dkwX2_readsPair_3 ++ dktX2_readsPair_4
def dkwX2_readsPair_2 : List UInt8 := [182, 0, 100, 184, 0, 167, 62, 29, 2, 160, 0, 13, 42, 6, 42, 180, 0, 61, 182, 0, 47, 191, 42]
abbrev dktX2_readsPair_2 : List UInt8 := dkwX2_readsPair_2 ++ dktX2_readsPair_3
def dkwX2_readsPair_1 : List UInt8 := [182, 0, 120, 42, 182, 0, 144, 77, 42, 18, 165, 182, 0, 93, 42, 180, 0, 103, 180, 0, 136, 42]
abbrev dktX2_readsPair_1 : List UInt8 := dkwX2_readsPair_1 ++ dktX2_readsPair_2
def dkwX2_readsPair_0 : List UInt8 := [42, 42, 180, 0, 103, 180, 0, 162, 185, 0, 140, 1, 0, 16, 10, 160, 0, 7, 4, 167, 0, 4, 3, 27]
abbrev dktX2_readsPair_0 : List UInt8 := dkwX2_readsPair_0 ++ dktX2_readsPair_1
theorem dksX2_readsPair_0 : cX2_readsPair.data.toList.drop 0 = dktX2_readsPair_0 := by decide +kernel
theorem dksX2_readsPair_1 : cX2_readsPair.data.toList.drop 24 = dktX2_readsPair_1 := dk_seg dksX2_readsPair_0 24 rfl rfl
theorem dksX2_readsPair_2 : cX2_readsPair.data.toList.drop 46 = dktX2_readsPair_2 := dk_seg dksX2_readsPair_1 22 rfl rfl
theorem dksX2_readsPair_3 : cX2_readsPair.data.toList.drop 69 = dktX2_readsPair_3 := dk_seg dksX2_readsPair_2 23 rfl rfl
theorem dksX2_readsPair_4 : cX2_readsPair.data.toList.drop 93 = dktX2_readsPair_4 := dk_seg dksX2_readsPair_3 24 rfl rfl
theorem dX2_readsPair_0 : decode cX2_readsPair 0 = .ok (.aload_n 0, 1) := dk_42 (dk_at dksX2_readsPair_0 0 rfl rfl)
theorem dX2_readsPair_1 : decode cX2_readsPair 1 = .ok (.aload_n 0, 1) := dk_42 (dk_at dksX2_readsPair_0 1 rfl rfl)
theorem dX2_readsPair_2 : decode cX2_readsPair 2 = .ok (.getfield 103, 3) := dk_180 0 103 (dk_at dksX2_readsPair_0 2 rfl rfl)
theorem dX2_readsPair_5 : decode cX2_readsPair 5 = .ok (.getfield 162, 3) := dk_180 0 162 (dk_at dksX2_readsPair_0 5 rfl rfl)
theorem dX2_readsPair_8 : decode cX2_readsPair 8 = .ok (.invokeinterface 140 1, 5) := by decide +kernel
theorem dX2_readsPair_13 : decode cX2_readsPair 13 = .ok (.bipush 10, 2) := dk_16 10 (dk_at dksX2_readsPair_0 13 rfl rfl)
theorem dX2_readsPair_15 : decode cX2_readsPair 15 = .ok (.if_icmp .ne 7, 3) := dk_160 0 7 (dk_at dksX2_readsPair_0 15 rfl rfl)
theorem dX2_readsPair_18 : decode cX2_readsPair 18 = .ok (.iconst 1, 1) := dk_4 (dk_at dksX2_readsPair_0 18 rfl rfl)
theorem dX2_readsPair_19 : decode cX2_readsPair 19 = .ok (.goto 4, 3) := dk_167 0 4 (dk_at dksX2_readsPair_0 19 rfl rfl)
theorem dX2_readsPair_22 : decode cX2_readsPair 22 = .ok (.iconst 0, 1) := dk_3 (dk_at dksX2_readsPair_0 22 rfl rfl)
theorem dX2_readsPair_23 : decode cX2_readsPair 23 = .ok (.iload_n 1, 1) := dk_27 (dk_at dksX2_readsPair_0 23 rfl rfl)
theorem dX2_readsPair_24 : decode cX2_readsPair 24 = .ok (.invokevirtual 120, 3) := dk_182 0 120 (dk_at dksX2_readsPair_1 0 rfl rfl)
theorem dX2_readsPair_27 : decode cX2_readsPair 27 = .ok (.aload_n 0, 1) := dk_42 (dk_at dksX2_readsPair_1 3 rfl rfl)
theorem dX2_readsPair_28 : decode cX2_readsPair 28 = .ok (.invokevirtual 144, 3) := dk_182 0 144 (dk_at dksX2_readsPair_1 4 rfl rfl)
theorem dX2_readsPair_31 : decode cX2_readsPair 31 = .ok (.astore_n 2, 1) := dk_77 (dk_at dksX2_readsPair_1 7 rfl rfl)
theorem dX2_readsPair_32 : decode cX2_readsPair 32 = .ok (.aload_n 0, 1) := dk_42 (dk_at dksX2_readsPair_1 8 rfl rfl)
theorem dX2_readsPair_33 : decode cX2_readsPair 33 = .ok (.ldc 165, 2) := dk_18 165 (dk_at dksX2_readsPair_1 9 rfl rfl)
theorem dX2_readsPair_35 : decode cX2_readsPair 35 = .ok (.invokevirtual 93, 3) := dk_182 0 93 (dk_at dksX2_readsPair_1 11 rfl rfl)
theorem dX2_readsPair_38 : decode cX2_readsPair 38 = .ok (.aload_n 0, 1) := dk_42 (dk_at dksX2_readsPair_1 14 rfl rfl)
theorem dX2_readsPair_39 : decode cX2_readsPair 39 = .ok (.getfield 103, 3) := dk_180 0 103 (dk_at dksX2_readsPair_1 15 rfl rfl)
theorem dX2_readsPair_42 : decode cX2_readsPair 42 = .ok (.getfield 136, 3) := dk_180 0 136 (dk_at dksX2_readsPair_1 18 rfl rfl)
theorem dX2_readsPair_45 : decode cX2_readsPair 45 = .ok (.aload_n 0, 1) := dk_42 (dk_at dksX2_readsPair_1 21 rfl rfl)
theorem dX2_readsPair_46 : decode cX2_readsPair 46 = .ok (.invokevirtual 100, 3) := dk_182 0 100 (dk_at dksX2_readsPair_2 0 rfl rfl)
theorem dX2_readsPair_49 : decode cX2_readsPair 49 = .ok (.invokestatic 167, 3) := dk_184 0 167 (dk_at dksX2_readsPair_2 3 rfl rfl)
theorem dX2_readsPair_52 : decode cX2_readsPair 52 = .ok (.istore_n 3, 1) := dk_62 (dk_at dksX2_readsPair_2 6 rfl rfl)
theorem dX2_readsPair_53 : decode cX2_readsPair 53 = .ok (.iload_n 3, 1) := dk_29 (dk_at dksX2_readsPair_2 7 rfl rfl)
theorem dX2_readsPair_54 : decode cX2_readsPair 54 = .ok (.iconst (-1), 1) := dk_2 (dk_at dksX2_readsPair_2 8 rfl rfl)
theorem dX2_readsPair_55 : decode cX2_readsPair 55 = .ok (.if_icmp .ne 13, 3) := dk_160 0 13 (dk_at dksX2_readsPair_2 9 rfl rfl)
theorem dX2_readsPair_58 : decode cX2_readsPair 58 = .ok (.aload_n 0, 1) := dk_42 (dk_at dksX2_readsPair_2 12 rfl rfl)
theorem dX2_readsPair_59 : decode cX2_readsPair 59 = .ok (.iconst 3, 1) := dk_6 (dk_at dksX2_readsPair_2 13 rfl rfl)
theorem dX2_readsPair_60 : decode cX2_readsPair 60 = .ok (.aload_n 0, 1) := dk_42 (dk_at dksX2_readsPair_2 14 rfl rfl)
theorem dX2_readsPair_61 : decode cX2_readsPair 61 = .ok (.getfield 61, 3) := dk_180 0 61 (dk_at dksX2_readsPair_2 15 rfl rfl)
theorem dX2_readsPair_64 : decode cX2_readsPair 64 = .ok (.invokevirtual 47, 3) := dk_182 0 47 (dk_at dksX2_readsPair_2 18 rfl rfl)
theorem dX2_readsPair_67 : decode cX2_readsPair 67 = .ok (.athrow, 1) := dk_191 (dk_at dksX2_readsPair_2 21 rfl rfl)
theorem dX2_readsPair_68 : decode cX2_readsPair 68 = .ok (.aload_n 0, 1) := dk_42 (dk_at dksX2_readsPair_2 22 rfl rfl)
theorem dX2_readsPair_69 : decode cX2_readsPair 69 = .ok (.getfield 103, 3) := dk_180 0 103 (dk_at dksX2_readsPair_3 0 rfl rfl)
theorem dX2_readsPair_72 : decode cX2_readsPair 72 = .ok (.getfield 162, 3) := dk_180 0 162 (dk_at dksX2_readsPair_3 3 rfl rfl)
theorem dX2_readsPair_75 : decode cX2_readsPair 75 = .ok (.new 172, 3) := dk_187 0 172 (dk_at dksX2_readsPair_3 6 rfl rfl)
theorem dX2_readsPair_78 : decode cX2_readsPair 78 = .ok (.dup, 1) := dk_89 (dk_at dksX2_readsPair_3 9 rfl rfl)
theorem dX2_readsPair_79 : decode cX2_readsPair 79 = .ok (.aload_n 2, 1) := dk_44 (dk_at dksX2_readsPair_3 10 rfl rfl)
theorem dX2_readsPair_80 : decode cX2_readsPair 80 = .ok (.iload_n 3, 1) := dk_29 (dk_at dksX2_readsPair_3 11 rfl rfl)
theorem dX2_readsPair_81 : decode cX2_readsPair 81 = .ok (.aload_n 0, 1) := dk_42 (dk_at dksX2_readsPair_3 12 rfl rfl)
theorem dX2_readsPair_82 : decode cX2_readsPair 82 = .ok (.ldc 174, 2) := dk_18 174 (dk_at dksX2_readsPair_3 13 rfl rfl)
theorem dX2_readsPair_84 : decode cX2_readsPair 84 = .ok (.iconst 0, 1) := dk_3 (dk_at dksX2_readsPair_3 15 rfl rfl)
theorem dX2_readsPair_85 : decode cX2_readsPair 85 = .ok (.bipush 9, 2) := dk_16 9 (dk_at dksX2_readsPair_3 16 rfl rfl)
theorem dX2_readsPair_87 : decode cX2_readsPair 87 = .ok (.invokevirtual 149, 3) := dk_182 0 149 (dk_at dksX2_readsPair_3 18 rfl rfl)
theorem dX2_readsPair_90 : decode cX2_readsPair 90 = .ok (.invokespecial 176, 3) := dk_183 0 176 (dk_at dksX2_readsPair_3 21 rfl rfl)
theorem dX2_readsPair_93 : decode cX2_readsPair 93 = .ok (.invokeinterface 159 2, 5) := by decide +kernel
theorem dX2_readsPair_98 : decode cX2_readsPair 98 = .ok (.pop, 1) := dk_87 (dk_at dksX2_readsPair_4 5 rfl rfl)
theorem dX2_readsPair_99 : decode cX2_readsPair 99 = .ok (.return_, 1) := dk_177 (dk_at dksX2_readsPair_4 6 rfl rfl)
abbrev cX2_readsShoal : ByteArray := prog_18_method_18_code
def yX2_readsShoal : MethodName := ⟨RX2, "readsShoal", "(I)V"⟩
def dkwX2_readsShoal_3 : List UInt8 := [185, 0, 159, 2, 0, 87, 177]
abbrev dktX2_readsShoal_3 : List UInt8 := dkwX2_readsShoal_3 ++ []
def dkwX2_readsShoal_2 : List UInt8 := [180, 0, 177, 187, 0, 180, 89, 44, 29, 42, 18, 182, 4, 16, 99, 182, 0, 149, 183, 0, 183]
abbrev dktX2_readsShoal_2 : List UInt8 := dkwX2_readsShoal_2 ++ dktX2_readsShoal_3
def dkwX2_readsShoal_1 : List UInt8 := [182, 0, 120, 42, 182, 0, 144, 77, 42, 18, 147, 3, 16, 99, 182, 0, 149, 62, 42, 180, 0, 103]
abbrev dktX2_readsShoal_1 : List UInt8 := dkwX2_readsShoal_1 ++ dktX2_readsShoal_2
def dkwX2_readsShoal_0 : List UInt8 := [42, 42, 180, 0, 103, 180, 0, 177, 185, 0, 140, 1, 0, 6, 160, 0, 7, 4, 167, 0, 4, 3, 27]
abbrev dktX2_readsShoal_0 : List UInt8 := dkwX2_readsShoal_0 ++ dktX2_readsShoal_1
theorem dksX2_readsShoal_0 : cX2_readsShoal.data.toList.drop 0 = dktX2_readsShoal_0 := by decide +kernel
theorem dksX2_readsShoal_1 : cX2_readsShoal.data.toList.drop 23 = dktX2_readsShoal_1 := dk_seg dksX2_readsShoal_0 23 rfl rfl
theorem dksX2_readsShoal_2 : cX2_readsShoal.data.toList.drop 45 = dktX2_readsShoal_2 := dk_seg dksX2_readsShoal_1 22 rfl rfl
theorem dksX2_readsShoal_3 : cX2_readsShoal.data.toList.drop 66 = dktX2_readsShoal_3 := dk_seg dksX2_readsShoal_2 21 rfl rfl
theorem dX2_readsShoal_0 : decode cX2_readsShoal 0 = .ok (.aload_n 0, 1) := dk_42 (dk_at dksX2_readsShoal_0 0 rfl rfl)
theorem dX2_readsShoal_1 : decode cX2_readsShoal 1 = .ok (.aload_n 0, 1) := dk_42 (dk_at dksX2_readsShoal_0 1 rfl rfl)
theorem dX2_readsShoal_2 : decode cX2_readsShoal 2 = .ok (.getfield 103, 3) := dk_180 0 103 (dk_at dksX2_readsShoal_0 2 rfl rfl)
theorem dX2_readsShoal_5 : decode cX2_readsShoal 5 = .ok (.getfield 177, 3) := dk_180 0 177 (dk_at dksX2_readsShoal_0 5 rfl rfl)
theorem dX2_readsShoal_8 : decode cX2_readsShoal 8 = .ok (.invokeinterface 140 1, 5) := by decide +kernel
theorem dX2_readsShoal_13 : decode cX2_readsShoal 13 = .ok (.iconst 3, 1) := dk_6 (dk_at dksX2_readsShoal_0 13 rfl rfl)
theorem dX2_readsShoal_14 : decode cX2_readsShoal 14 = .ok (.if_icmp .ne 7, 3) := dk_160 0 7 (dk_at dksX2_readsShoal_0 14 rfl rfl)
theorem dX2_readsShoal_17 : decode cX2_readsShoal 17 = .ok (.iconst 1, 1) := dk_4 (dk_at dksX2_readsShoal_0 17 rfl rfl)
theorem dX2_readsShoal_18 : decode cX2_readsShoal 18 = .ok (.goto 4, 3) := dk_167 0 4 (dk_at dksX2_readsShoal_0 18 rfl rfl)
theorem dX2_readsShoal_21 : decode cX2_readsShoal 21 = .ok (.iconst 0, 1) := dk_3 (dk_at dksX2_readsShoal_0 21 rfl rfl)
theorem dX2_readsShoal_22 : decode cX2_readsShoal 22 = .ok (.iload_n 1, 1) := dk_27 (dk_at dksX2_readsShoal_0 22 rfl rfl)
theorem dX2_readsShoal_23 : decode cX2_readsShoal 23 = .ok (.invokevirtual 120, 3) := dk_182 0 120 (dk_at dksX2_readsShoal_1 0 rfl rfl)
theorem dX2_readsShoal_26 : decode cX2_readsShoal 26 = .ok (.aload_n 0, 1) := dk_42 (dk_at dksX2_readsShoal_1 3 rfl rfl)
theorem dX2_readsShoal_27 : decode cX2_readsShoal 27 = .ok (.invokevirtual 144, 3) := dk_182 0 144 (dk_at dksX2_readsShoal_1 4 rfl rfl)
theorem dX2_readsShoal_30 : decode cX2_readsShoal 30 = .ok (.astore_n 2, 1) := dk_77 (dk_at dksX2_readsShoal_1 7 rfl rfl)
theorem dX2_readsShoal_31 : decode cX2_readsShoal 31 = .ok (.aload_n 0, 1) := dk_42 (dk_at dksX2_readsShoal_1 8 rfl rfl)
theorem dX2_readsShoal_32 : decode cX2_readsShoal 32 = .ok (.ldc 147, 2) := dk_18 147 (dk_at dksX2_readsShoal_1 9 rfl rfl)
theorem dX2_readsShoal_34 : decode cX2_readsShoal 34 = .ok (.iconst 0, 1) := dk_3 (dk_at dksX2_readsShoal_1 11 rfl rfl)
theorem dX2_readsShoal_35 : decode cX2_readsShoal 35 = .ok (.bipush 99, 2) := dk_16 99 (dk_at dksX2_readsShoal_1 12 rfl rfl)
theorem dX2_readsShoal_37 : decode cX2_readsShoal 37 = .ok (.invokevirtual 149, 3) := dk_182 0 149 (dk_at dksX2_readsShoal_1 14 rfl rfl)
theorem dX2_readsShoal_40 : decode cX2_readsShoal 40 = .ok (.istore_n 3, 1) := dk_62 (dk_at dksX2_readsShoal_1 17 rfl rfl)
theorem dX2_readsShoal_41 : decode cX2_readsShoal 41 = .ok (.aload_n 0, 1) := dk_42 (dk_at dksX2_readsShoal_1 18 rfl rfl)
theorem dX2_readsShoal_42 : decode cX2_readsShoal 42 = .ok (.getfield 103, 3) := dk_180 0 103 (dk_at dksX2_readsShoal_1 19 rfl rfl)
theorem dX2_readsShoal_45 : decode cX2_readsShoal 45 = .ok (.getfield 177, 3) := dk_180 0 177 (dk_at dksX2_readsShoal_2 0 rfl rfl)
theorem dX2_readsShoal_48 : decode cX2_readsShoal 48 = .ok (.new 180, 3) := dk_187 0 180 (dk_at dksX2_readsShoal_2 3 rfl rfl)
theorem dX2_readsShoal_51 : decode cX2_readsShoal 51 = .ok (.dup, 1) := dk_89 (dk_at dksX2_readsShoal_2 6 rfl rfl)
theorem dX2_readsShoal_52 : decode cX2_readsShoal 52 = .ok (.aload_n 2, 1) := dk_44 (dk_at dksX2_readsShoal_2 7 rfl rfl)
theorem dX2_readsShoal_53 : decode cX2_readsShoal 53 = .ok (.iload_n 3, 1) := dk_29 (dk_at dksX2_readsShoal_2 8 rfl rfl)
theorem dX2_readsShoal_54 : decode cX2_readsShoal 54 = .ok (.aload_n 0, 1) := dk_42 (dk_at dksX2_readsShoal_2 9 rfl rfl)
theorem dX2_readsShoal_55 : decode cX2_readsShoal 55 = .ok (.ldc 182, 2) := dk_18 182 (dk_at dksX2_readsShoal_2 10 rfl rfl)
theorem dX2_readsShoal_57 : decode cX2_readsShoal 57 = .ok (.iconst 1, 1) := dk_4 (dk_at dksX2_readsShoal_2 12 rfl rfl)
theorem dX2_readsShoal_58 : decode cX2_readsShoal 58 = .ok (.bipush 99, 2) := dk_16 99 (dk_at dksX2_readsShoal_2 13 rfl rfl)
theorem dX2_readsShoal_60 : decode cX2_readsShoal 60 = .ok (.invokevirtual 149, 3) := dk_182 0 149 (dk_at dksX2_readsShoal_2 15 rfl rfl)
theorem dX2_readsShoal_63 : decode cX2_readsShoal 63 = .ok (.invokespecial 183, 3) := dk_183 0 183 (dk_at dksX2_readsShoal_2 18 rfl rfl)
theorem dX2_readsShoal_66 : decode cX2_readsShoal 66 = .ok (.invokeinterface 159 2, 5) := by decide +kernel
theorem dX2_readsShoal_71 : decode cX2_readsShoal 71 = .ok (.pop, 1) := dk_87 (dk_at dksX2_readsShoal_3 5 rfl rfl)
theorem dX2_readsShoal_72 : decode cX2_readsShoal 72 = .ok (.return_, 1) := dk_177 (dk_at dksX2_readsShoal_3 6 rfl rfl)
abbrev cX2_more : ByteArray := prog_18_method_21_code
def yX2_more : MethodName := ⟨RX2, "more", "(Ljava/lang/String;I)V"⟩
def dkwX2_more_11 : List UInt8 := [42, 4, 28, 182, 0, 47, 191, 177]
abbrev dktX2_more_11 : List UInt8 := dkwX2_more_11 ++ []
def dkwX2_more_10 : List UInt8 := [182, 0, 120, 42, 17, 1, 82, 181, 0, 206, 42, 180, 0, 103, 42, 182, 0, 235, 181, 0, 232, 167, 0, 10]
abbrev dktX2_more_10 : List UInt8 := dkwX2_more_10 ++ dktX2_more_11
def dkwX2_more_9 : List UInt8 := [181, 0, 230, 167, 0, 51, 42, 42, 180, 0, 103, 180, 0, 232, 198, 0, 7, 4, 167, 0, 4, 3, 28]
abbrev dktX2_more_9 : List UInt8 := dkwX2_more_9 ++ dktX2_more_10
def dkwX2_more_8 : List UInt8 := [167, 0, 76, 42, 180, 0, 103, 42, 42, 180, 0, 103, 180, 0, 230, 28, 17, 0, 147, 182, 0, 224]
abbrev dktX2_more_8 : List UInt8 := dkwX2_more_8 ++ dktX2_more_9
def dkwX2_more_7 : List UInt8 := [42, 180, 0, 103, 42, 42, 180, 0, 103, 180, 0, 228, 28, 17, 1, 211, 182, 0, 224, 181, 0, 228]
abbrev dktX2_more_7 : List UInt8 := dkwX2_more_7 ++ dktX2_more_8
def dkwX2_more_6 : List UInt8 := [42, 180, 0, 103, 42, 42, 180, 0, 103, 180, 0, 221, 28, 16, 63, 182, 0, 224, 181, 0, 221, 167, 0, 101]
abbrev dktX2_more_6 : List UInt8 := dkwX2_more_6 ++ dktX2_more_7
def dkwX2_more_5 : List UInt8 := [170, 0, 0, 0, 144, 0, 0, 0, 0, 0, 0, 0, 3, 0, 0, 0, 29, 0, 0, 0, 53, 0, 0, 0, 78, 0, 0, 0, 103]
abbrev dktX2_more_5 : List UInt8 := dkwX2_more_5 ++ dktX2_more_6
def dkwX2_more_4 : List UInt8 := [182, 0, 74, 153, 0, 6, 6, 54, 4, 21, 4]
abbrev dktX2_more_4 : List UInt8 := dkwX2_more_4 ++ dktX2_more_5
def dkwX2_more_3 : List UInt8 := [4, 54, 4, 167, 0, 30, 45, 18, 217, 182, 0, 74, 153, 0, 21, 5, 54, 4, 167, 0, 15, 45, 18, 219]
abbrev dktX2_more_3 : List UInt8 := dkwX2_more_3 ++ dktX2_more_4
def dkwX2_more_2 : List UInt8 := [45, 18, 213, 182, 0, 74, 153, 0, 51, 3, 54, 4, 167, 0, 45, 45, 18, 215, 182, 0, 74, 153, 0, 36]
abbrev dktX2_more_2 : List UInt8 := dkwX2_more_2 ++ dktX2_more_3
def dkwX2_more_1 : List UInt8 := [171, 0, 0, 0, 0, 0, 100, 0, 0, 0, 4, 142, 235, 72, 18, 0, 0, 0, 73, 175, 66, 209, 68, 0, 0, 0, 88, 6, 40, 210, 119, 0, 0, 0, 43, 6, 47, 148, 229, 0, 0, 0, 58]
abbrev dktX2_more_1 : List UInt8 := dkwX2_more_1 ++ dktX2_more_2
def dkwX2_more_0 : List UInt8 := [43, 78, 2, 54, 4, 45, 182, 0, 184]
abbrev dktX2_more_0 : List UInt8 := dkwX2_more_0 ++ dktX2_more_1
theorem dksX2_more_0 : cX2_more.data.toList.drop 0 = dktX2_more_0 := by decide +kernel
theorem dksX2_more_1 : cX2_more.data.toList.drop 9 = dktX2_more_1 := dk_seg dksX2_more_0 9 rfl rfl
theorem dksX2_more_2 : cX2_more.data.toList.drop 52 = dktX2_more_2 := dk_seg dksX2_more_1 43 rfl rfl
theorem dksX2_more_3 : cX2_more.data.toList.drop 76 = dktX2_more_3 := dk_seg dksX2_more_2 24 rfl rfl
theorem dksX2_more_4 : cX2_more.data.toList.drop 100 = dktX2_more_4 := dk_seg dksX2_more_3 24 rfl rfl
theorem dksX2_more_5 : cX2_more.data.toList.drop 111 = dktX2_more_5 := dk_seg dksX2_more_4 11 rfl rfl
theorem dksX2_more_6 : cX2_more.data.toList.drop 140 = dktX2_more_6 := dk_seg dksX2_more_5 29 rfl rfl
theorem dksX2_more_7 : cX2_more.data.toList.drop 164 = dktX2_more_7 := dk_seg dksX2_more_6 24 rfl rfl
theorem dksX2_more_8 : cX2_more.data.toList.drop 186 = dktX2_more_8 := dk_seg dksX2_more_7 22 rfl rfl
theorem dksX2_more_9 : cX2_more.data.toList.drop 208 = dktX2_more_9 := dk_seg dksX2_more_8 22 rfl rfl
theorem dksX2_more_10 : cX2_more.data.toList.drop 231 = dktX2_more_10 := dk_seg dksX2_more_9 23 rfl rfl
theorem dksX2_more_11 : cX2_more.data.toList.drop 255 = dktX2_more_11 := dk_seg dksX2_more_10 24 rfl rfl
theorem dX2_more_0 : decode cX2_more 0 = .ok (.aload_n 1, 1) := dk_43 (dk_at dksX2_more_0 0 rfl rfl)
theorem dX2_more_1 : decode cX2_more 1 = .ok (.astore_n 3, 1) := dk_78 (dk_at dksX2_more_0 1 rfl rfl)
theorem dX2_more_2 : decode cX2_more 2 = .ok (.iconst (-1), 1) := dk_2 (dk_at dksX2_more_0 2 rfl rfl)
theorem dX2_more_3 : decode cX2_more 3 = .ok (.istore 4, 2) := dk_54 4 (dk_at dksX2_more_0 3 rfl rfl)
theorem dX2_more_5 : decode cX2_more 5 = .ok (.aload_n 3, 1) := dk_45 (dk_at dksX2_more_0 5 rfl rfl)
theorem dX2_more_6 : decode cX2_more 6 = .ok (.invokevirtual 184, 3) := dk_182 0 184 (dk_at dksX2_more_0 6 rfl rfl)
theorem dX2_more_9 : decode cX2_more 9 = .ok (.lookupswitch 100 #[(-1897183214, 73), (-1354575548, 88), (103338615, 43), (103781605, 58)], 43) := by decide +kernel
theorem dX2_more_52 : decode cX2_more 52 = .ok (.aload_n 3, 1) := dk_45 (dk_at dksX2_more_2 0 rfl rfl)
theorem dX2_more_53 : decode cX2_more 53 = .ok (.ldc 213, 2) := dk_18 213 (dk_at dksX2_more_2 1 rfl rfl)
theorem dX2_more_55 : decode cX2_more 55 = .ok (.invokevirtual 74, 3) := dk_182 0 74 (dk_at dksX2_more_2 3 rfl rfl)
theorem dX2_more_58 : decode cX2_more 58 = .ok (.ifCond .eq 51, 3) := dk_153 0 51 (dk_at dksX2_more_2 6 rfl rfl)
theorem dX2_more_61 : decode cX2_more 61 = .ok (.iconst 0, 1) := dk_3 (dk_at dksX2_more_2 9 rfl rfl)
theorem dX2_more_62 : decode cX2_more 62 = .ok (.istore 4, 2) := dk_54 4 (dk_at dksX2_more_2 10 rfl rfl)
theorem dX2_more_64 : decode cX2_more 64 = .ok (.goto 45, 3) := dk_167 0 45 (dk_at dksX2_more_2 12 rfl rfl)
theorem dX2_more_67 : decode cX2_more 67 = .ok (.aload_n 3, 1) := dk_45 (dk_at dksX2_more_2 15 rfl rfl)
theorem dX2_more_68 : decode cX2_more 68 = .ok (.ldc 215, 2) := dk_18 215 (dk_at dksX2_more_2 16 rfl rfl)
theorem dX2_more_70 : decode cX2_more 70 = .ok (.invokevirtual 74, 3) := dk_182 0 74 (dk_at dksX2_more_2 18 rfl rfl)
theorem dX2_more_73 : decode cX2_more 73 = .ok (.ifCond .eq 36, 3) := dk_153 0 36 (dk_at dksX2_more_2 21 rfl rfl)
theorem dX2_more_76 : decode cX2_more 76 = .ok (.iconst 1, 1) := dk_4 (dk_at dksX2_more_3 0 rfl rfl)
theorem dX2_more_77 : decode cX2_more 77 = .ok (.istore 4, 2) := dk_54 4 (dk_at dksX2_more_3 1 rfl rfl)
theorem dX2_more_79 : decode cX2_more 79 = .ok (.goto 30, 3) := dk_167 0 30 (dk_at dksX2_more_3 3 rfl rfl)
theorem dX2_more_82 : decode cX2_more 82 = .ok (.aload_n 3, 1) := dk_45 (dk_at dksX2_more_3 6 rfl rfl)
theorem dX2_more_83 : decode cX2_more 83 = .ok (.ldc 217, 2) := dk_18 217 (dk_at dksX2_more_3 7 rfl rfl)
theorem dX2_more_85 : decode cX2_more 85 = .ok (.invokevirtual 74, 3) := dk_182 0 74 (dk_at dksX2_more_3 9 rfl rfl)
theorem dX2_more_88 : decode cX2_more 88 = .ok (.ifCond .eq 21, 3) := dk_153 0 21 (dk_at dksX2_more_3 12 rfl rfl)
theorem dX2_more_91 : decode cX2_more 91 = .ok (.iconst 2, 1) := dk_5 (dk_at dksX2_more_3 15 rfl rfl)
theorem dX2_more_92 : decode cX2_more 92 = .ok (.istore 4, 2) := dk_54 4 (dk_at dksX2_more_3 16 rfl rfl)
theorem dX2_more_94 : decode cX2_more 94 = .ok (.goto 15, 3) := dk_167 0 15 (dk_at dksX2_more_3 18 rfl rfl)
theorem dX2_more_97 : decode cX2_more 97 = .ok (.aload_n 3, 1) := dk_45 (dk_at dksX2_more_3 21 rfl rfl)
theorem dX2_more_98 : decode cX2_more 98 = .ok (.ldc 219, 2) := dk_18 219 (dk_at dksX2_more_3 22 rfl rfl)
theorem dX2_more_100 : decode cX2_more 100 = .ok (.invokevirtual 74, 3) := dk_182 0 74 (dk_at dksX2_more_4 0 rfl rfl)
theorem dX2_more_103 : decode cX2_more 103 = .ok (.ifCond .eq 6, 3) := dk_153 0 6 (dk_at dksX2_more_4 3 rfl rfl)
theorem dX2_more_106 : decode cX2_more 106 = .ok (.iconst 3, 1) := dk_6 (dk_at dksX2_more_4 6 rfl rfl)
theorem dX2_more_107 : decode cX2_more 107 = .ok (.istore 4, 2) := dk_54 4 (dk_at dksX2_more_4 7 rfl rfl)
theorem dX2_more_109 : decode cX2_more 109 = .ok (.iload 4, 2) := dk_21 4 (dk_at dksX2_more_4 9 rfl rfl)
theorem dX2_more_111 : decode cX2_more 111 = .ok (.tableswitch 144 0 3 #[29, 53, 78, 103], 29) := by decide +kernel
theorem dX2_more_140 : decode cX2_more 140 = .ok (.aload_n 0, 1) := dk_42 (dk_at dksX2_more_6 0 rfl rfl)
theorem dX2_more_141 : decode cX2_more 141 = .ok (.getfield 103, 3) := dk_180 0 103 (dk_at dksX2_more_6 1 rfl rfl)
theorem dX2_more_144 : decode cX2_more 144 = .ok (.aload_n 0, 1) := dk_42 (dk_at dksX2_more_6 4 rfl rfl)
theorem dX2_more_145 : decode cX2_more 145 = .ok (.aload_n 0, 1) := dk_42 (dk_at dksX2_more_6 5 rfl rfl)
theorem dX2_more_146 : decode cX2_more 146 = .ok (.getfield 103, 3) := dk_180 0 103 (dk_at dksX2_more_6 6 rfl rfl)
theorem dX2_more_149 : decode cX2_more 149 = .ok (.getfield 221, 3) := dk_180 0 221 (dk_at dksX2_more_6 9 rfl rfl)
theorem dX2_more_152 : decode cX2_more 152 = .ok (.iload_n 2, 1) := dk_28 (dk_at dksX2_more_6 12 rfl rfl)
theorem dX2_more_153 : decode cX2_more 153 = .ok (.bipush 63, 2) := dk_16 63 (dk_at dksX2_more_6 13 rfl rfl)
theorem dX2_more_155 : decode cX2_more 155 = .ok (.invokevirtual 224, 3) := dk_182 0 224 (dk_at dksX2_more_6 15 rfl rfl)
theorem dX2_more_158 : decode cX2_more 158 = .ok (.putfield 221, 3) := dk_181 0 221 (dk_at dksX2_more_6 18 rfl rfl)
theorem dX2_more_161 : decode cX2_more 161 = .ok (.goto 101, 3) := dk_167 0 101 (dk_at dksX2_more_6 21 rfl rfl)
theorem dX2_more_164 : decode cX2_more 164 = .ok (.aload_n 0, 1) := dk_42 (dk_at dksX2_more_7 0 rfl rfl)
theorem dX2_more_165 : decode cX2_more 165 = .ok (.getfield 103, 3) := dk_180 0 103 (dk_at dksX2_more_7 1 rfl rfl)
theorem dX2_more_168 : decode cX2_more 168 = .ok (.aload_n 0, 1) := dk_42 (dk_at dksX2_more_7 4 rfl rfl)
theorem dX2_more_169 : decode cX2_more 169 = .ok (.aload_n 0, 1) := dk_42 (dk_at dksX2_more_7 5 rfl rfl)
theorem dX2_more_170 : decode cX2_more 170 = .ok (.getfield 103, 3) := dk_180 0 103 (dk_at dksX2_more_7 6 rfl rfl)
theorem dX2_more_173 : decode cX2_more 173 = .ok (.getfield 228, 3) := dk_180 0 228 (dk_at dksX2_more_7 9 rfl rfl)
theorem dX2_more_176 : decode cX2_more 176 = .ok (.iload_n 2, 1) := dk_28 (dk_at dksX2_more_7 12 rfl rfl)
theorem dX2_more_177 : decode cX2_more 177 = .ok (.sipush 467, 3) := dk_17 1 211 (dk_at dksX2_more_7 13 rfl rfl)
theorem dX2_more_180 : decode cX2_more 180 = .ok (.invokevirtual 224, 3) := dk_182 0 224 (dk_at dksX2_more_7 16 rfl rfl)
theorem dX2_more_183 : decode cX2_more 183 = .ok (.putfield 228, 3) := dk_181 0 228 (dk_at dksX2_more_7 19 rfl rfl)
theorem dX2_more_186 : decode cX2_more 186 = .ok (.goto 76, 3) := dk_167 0 76 (dk_at dksX2_more_8 0 rfl rfl)
theorem dX2_more_189 : decode cX2_more 189 = .ok (.aload_n 0, 1) := dk_42 (dk_at dksX2_more_8 3 rfl rfl)
theorem dX2_more_190 : decode cX2_more 190 = .ok (.getfield 103, 3) := dk_180 0 103 (dk_at dksX2_more_8 4 rfl rfl)
theorem dX2_more_193 : decode cX2_more 193 = .ok (.aload_n 0, 1) := dk_42 (dk_at dksX2_more_8 7 rfl rfl)
theorem dX2_more_194 : decode cX2_more 194 = .ok (.aload_n 0, 1) := dk_42 (dk_at dksX2_more_8 8 rfl rfl)
theorem dX2_more_195 : decode cX2_more 195 = .ok (.getfield 103, 3) := dk_180 0 103 (dk_at dksX2_more_8 9 rfl rfl)
theorem dX2_more_198 : decode cX2_more 198 = .ok (.getfield 230, 3) := dk_180 0 230 (dk_at dksX2_more_8 12 rfl rfl)
theorem dX2_more_201 : decode cX2_more 201 = .ok (.iload_n 2, 1) := dk_28 (dk_at dksX2_more_8 15 rfl rfl)
theorem dX2_more_202 : decode cX2_more 202 = .ok (.sipush 147, 3) := dk_17 0 147 (dk_at dksX2_more_8 16 rfl rfl)
theorem dX2_more_205 : decode cX2_more 205 = .ok (.invokevirtual 224, 3) := dk_182 0 224 (dk_at dksX2_more_8 19 rfl rfl)
theorem dX2_more_208 : decode cX2_more 208 = .ok (.putfield 230, 3) := dk_181 0 230 (dk_at dksX2_more_9 0 rfl rfl)
theorem dX2_more_211 : decode cX2_more 211 = .ok (.goto 51, 3) := dk_167 0 51 (dk_at dksX2_more_9 3 rfl rfl)
theorem dX2_more_214 : decode cX2_more 214 = .ok (.aload_n 0, 1) := dk_42 (dk_at dksX2_more_9 6 rfl rfl)
theorem dX2_more_215 : decode cX2_more 215 = .ok (.aload_n 0, 1) := dk_42 (dk_at dksX2_more_9 7 rfl rfl)
theorem dX2_more_216 : decode cX2_more 216 = .ok (.getfield 103, 3) := dk_180 0 103 (dk_at dksX2_more_9 8 rfl rfl)
theorem dX2_more_219 : decode cX2_more 219 = .ok (.getfield 232, 3) := dk_180 0 232 (dk_at dksX2_more_9 11 rfl rfl)
theorem dX2_more_222 : decode cX2_more 222 = .ok (.ifnull 7, 3) := dk_198 0 7 (dk_at dksX2_more_9 14 rfl rfl)
theorem dX2_more_225 : decode cX2_more 225 = .ok (.iconst 1, 1) := dk_4 (dk_at dksX2_more_9 17 rfl rfl)
theorem dX2_more_226 : decode cX2_more 226 = .ok (.goto 4, 3) := dk_167 0 4 (dk_at dksX2_more_9 18 rfl rfl)
theorem dX2_more_229 : decode cX2_more 229 = .ok (.iconst 0, 1) := dk_3 (dk_at dksX2_more_9 21 rfl rfl)
theorem dX2_more_230 : decode cX2_more 230 = .ok (.iload_n 2, 1) := dk_28 (dk_at dksX2_more_9 22 rfl rfl)
theorem dX2_more_231 : decode cX2_more 231 = .ok (.invokevirtual 120, 3) := dk_182 0 120 (dk_at dksX2_more_10 0 rfl rfl)
theorem dX2_more_234 : decode cX2_more 234 = .ok (.aload_n 0, 1) := dk_42 (dk_at dksX2_more_10 3 rfl rfl)
theorem dX2_more_235 : decode cX2_more 235 = .ok (.sipush 338, 3) := dk_17 1 82 (dk_at dksX2_more_10 4 rfl rfl)
theorem dX2_more_238 : decode cX2_more 238 = .ok (.putfield 206, 3) := dk_181 0 206 (dk_at dksX2_more_10 7 rfl rfl)
theorem dX2_more_241 : decode cX2_more 241 = .ok (.aload_n 0, 1) := dk_42 (dk_at dksX2_more_10 10 rfl rfl)
theorem dX2_more_242 : decode cX2_more 242 = .ok (.getfield 103, 3) := dk_180 0 103 (dk_at dksX2_more_10 11 rfl rfl)
theorem dX2_more_245 : decode cX2_more 245 = .ok (.aload_n 0, 1) := dk_42 (dk_at dksX2_more_10 14 rfl rfl)
theorem dX2_more_246 : decode cX2_more 246 = .ok (.invokevirtual 235, 3) := dk_182 0 235 (dk_at dksX2_more_10 15 rfl rfl)
theorem dX2_more_249 : decode cX2_more 249 = .ok (.putfield 232, 3) := dk_181 0 232 (dk_at dksX2_more_10 18 rfl rfl)
theorem dX2_more_252 : decode cX2_more 252 = .ok (.goto 10, 3) := dk_167 0 10 (dk_at dksX2_more_10 21 rfl rfl)
theorem dX2_more_255 : decode cX2_more 255 = .ok (.aload_n 0, 1) := dk_42 (dk_at dksX2_more_11 0 rfl rfl)
theorem dX2_more_256 : decode cX2_more 256 = .ok (.iconst 1, 1) := dk_4 (dk_at dksX2_more_11 1 rfl rfl)
theorem dX2_more_257 : decode cX2_more 257 = .ok (.iload_n 2, 1) := dk_28 (dk_at dksX2_more_11 2 rfl rfl)
theorem dX2_more_258 : decode cX2_more 258 = .ok (.invokevirtual 47, 3) := dk_182 0 47 (dk_at dksX2_more_11 3 rfl rfl)
theorem dX2_more_261 : decode cX2_more 261 = .ok (.athrow, 1) := dk_191 (dk_at dksX2_more_11 6 rfl rfl)
theorem dX2_more_262 : decode cX2_more 262 = .ok (.return_, 1) := dk_177 (dk_at dksX2_more_11 7 rfl rfl)
abbrev cX2_once : ByteArray := prog_18_method_20_code
def yX2_once : MethodName := ⟨RX2, "once", "(LMarriageHerring$Value;II)LMarriageHerring$Value;"⟩
def dkwX2_once_0 : List UInt8 := [42, 43, 198, 0, 7, 4, 167, 0, 4, 3, 28, 182, 0, 120, 42, 29, 181, 0, 206, 42, 182, 0, 209, 176]
abbrev dktX2_once_0 : List UInt8 := dkwX2_once_0 ++ []
theorem dksX2_once_0 : cX2_once.data.toList.drop 0 = dktX2_once_0 := by decide +kernel
theorem dX2_once_0 : decode cX2_once 0 = .ok (.aload_n 0, 1) := dk_42 (dk_at dksX2_once_0 0 rfl rfl)
theorem dX2_once_1 : decode cX2_once 1 = .ok (.aload_n 1, 1) := dk_43 (dk_at dksX2_once_0 1 rfl rfl)
theorem dX2_once_2 : decode cX2_once 2 = .ok (.ifnull 7, 3) := dk_198 0 7 (dk_at dksX2_once_0 2 rfl rfl)
theorem dX2_once_5 : decode cX2_once 5 = .ok (.iconst 1, 1) := dk_4 (dk_at dksX2_once_0 5 rfl rfl)
theorem dX2_once_6 : decode cX2_once 6 = .ok (.goto 4, 3) := dk_167 0 4 (dk_at dksX2_once_0 6 rfl rfl)
theorem dX2_once_9 : decode cX2_once 9 = .ok (.iconst 0, 1) := dk_3 (dk_at dksX2_once_0 9 rfl rfl)
theorem dX2_once_10 : decode cX2_once 10 = .ok (.iload_n 2, 1) := dk_28 (dk_at dksX2_once_0 10 rfl rfl)
theorem dX2_once_11 : decode cX2_once 11 = .ok (.invokevirtual 120, 3) := dk_182 0 120 (dk_at dksX2_once_0 11 rfl rfl)
theorem dX2_once_14 : decode cX2_once 14 = .ok (.aload_n 0, 1) := dk_42 (dk_at dksX2_once_0 14 rfl rfl)
theorem dX2_once_15 : decode cX2_once 15 = .ok (.iload_n 3, 1) := dk_29 (dk_at dksX2_once_0 15 rfl rfl)
theorem dX2_once_16 : decode cX2_once 16 = .ok (.putfield 206, 3) := dk_181 0 206 (dk_at dksX2_once_0 16 rfl rfl)
theorem dX2_once_19 : decode cX2_once 19 = .ok (.aload_n 0, 1) := dk_42 (dk_at dksX2_once_0 19 rfl rfl)
theorem dX2_once_20 : decode cX2_once 20 = .ok (.invokevirtual 209, 3) := dk_182 0 209 (dk_at dksX2_once_0 20 rfl rfl)
theorem dX2_once_23 : decode cX2_once 23 = .ok (.areturn, 1) := dk_176 (dk_at dksX2_once_0 23 rfl rfl)
abbrev cX2_sum : ByteArray := prog_18_method_23_code
def yX2_sum : MethodName := ⟨RX2, "sum", "()LMarriageHerring$Value;"⟩
def dkwX2_sum_3 : List UInt8 := [167, 255, 206, 43, 176]
abbrev dktX2_sum_3 : List UInt8 := dkwX2_sum_3 ++ []
def dkwX2_sum_2 : List UInt8 := [16, 45, 182, 0, 248, 153, 0, 16, 43, 16, 45, 42, 182, 0, 242, 182, 0, 245, 167, 255, 211, 3, 61]
abbrev dktX2_sum_2 : List UInt8 := dkwX2_sum_2 ++ dktX2_sum_3
def dkwX2_sum_1 : List UInt8 := [42, 16, 43, 182, 0, 248, 153, 0, 16, 43, 16, 43, 42, 182, 0, 242, 182, 0, 245, 167, 255, 233, 42]
abbrev dktX2_sum_1 : List UInt8 := dkwX2_sum_1 ++ dktX2_sum_2
def dkwX2_sum_0 : List UInt8 := [187, 0, 239, 89, 183, 0, 241, 76, 43, 16, 43, 42, 182, 0, 242, 182, 0, 245, 4, 61, 28, 153, 0, 52]
abbrev dktX2_sum_0 : List UInt8 := dkwX2_sum_0 ++ dktX2_sum_1
theorem dksX2_sum_0 : cX2_sum.data.toList.drop 0 = dktX2_sum_0 := by decide +kernel
theorem dksX2_sum_1 : cX2_sum.data.toList.drop 24 = dktX2_sum_1 := dk_seg dksX2_sum_0 24 rfl rfl
theorem dksX2_sum_2 : cX2_sum.data.toList.drop 47 = dktX2_sum_2 := dk_seg dksX2_sum_1 23 rfl rfl
theorem dksX2_sum_3 : cX2_sum.data.toList.drop 70 = dktX2_sum_3 := dk_seg dksX2_sum_2 23 rfl rfl
theorem dX2_sum_0 : decode cX2_sum 0 = .ok (.new 239, 3) := dk_187 0 239 (dk_at dksX2_sum_0 0 rfl rfl)
theorem dX2_sum_3 : decode cX2_sum 3 = .ok (.dup, 1) := dk_89 (dk_at dksX2_sum_0 3 rfl rfl)
theorem dX2_sum_4 : decode cX2_sum 4 = .ok (.invokespecial 241, 3) := dk_183 0 241 (dk_at dksX2_sum_0 4 rfl rfl)
theorem dX2_sum_7 : decode cX2_sum 7 = .ok (.astore_n 1, 1) := dk_76 (dk_at dksX2_sum_0 7 rfl rfl)
theorem dX2_sum_8 : decode cX2_sum 8 = .ok (.aload_n 1, 1) := dk_43 (dk_at dksX2_sum_0 8 rfl rfl)
theorem dX2_sum_9 : decode cX2_sum 9 = .ok (.bipush 43, 2) := dk_16 43 (dk_at dksX2_sum_0 9 rfl rfl)
theorem dX2_sum_11 : decode cX2_sum 11 = .ok (.aload_n 0, 1) := dk_42 (dk_at dksX2_sum_0 11 rfl rfl)
theorem dX2_sum_12 : decode cX2_sum 12 = .ok (.invokevirtual 242, 3) := dk_182 0 242 (dk_at dksX2_sum_0 12 rfl rfl)
theorem dX2_sum_15 : decode cX2_sum 15 = .ok (.invokevirtual 245, 3) := dk_182 0 245 (dk_at dksX2_sum_0 15 rfl rfl)
theorem dX2_sum_18 : decode cX2_sum 18 = .ok (.iconst 1, 1) := dk_4 (dk_at dksX2_sum_0 18 rfl rfl)
theorem dX2_sum_19 : decode cX2_sum 19 = .ok (.istore_n 2, 1) := dk_61 (dk_at dksX2_sum_0 19 rfl rfl)
theorem dX2_sum_20 : decode cX2_sum 20 = .ok (.iload_n 2, 1) := dk_28 (dk_at dksX2_sum_0 20 rfl rfl)
theorem dX2_sum_21 : decode cX2_sum 21 = .ok (.ifCond .eq 52, 3) := dk_153 0 52 (dk_at dksX2_sum_0 21 rfl rfl)
theorem dX2_sum_24 : decode cX2_sum 24 = .ok (.aload_n 0, 1) := dk_42 (dk_at dksX2_sum_1 0 rfl rfl)
theorem dX2_sum_25 : decode cX2_sum 25 = .ok (.bipush 43, 2) := dk_16 43 (dk_at dksX2_sum_1 1 rfl rfl)
theorem dX2_sum_27 : decode cX2_sum 27 = .ok (.invokevirtual 248, 3) := dk_182 0 248 (dk_at dksX2_sum_1 3 rfl rfl)
theorem dX2_sum_30 : decode cX2_sum 30 = .ok (.ifCond .eq 16, 3) := dk_153 0 16 (dk_at dksX2_sum_1 6 rfl rfl)
theorem dX2_sum_33 : decode cX2_sum 33 = .ok (.aload_n 1, 1) := dk_43 (dk_at dksX2_sum_1 9 rfl rfl)
theorem dX2_sum_34 : decode cX2_sum 34 = .ok (.bipush 43, 2) := dk_16 43 (dk_at dksX2_sum_1 10 rfl rfl)
theorem dX2_sum_36 : decode cX2_sum 36 = .ok (.aload_n 0, 1) := dk_42 (dk_at dksX2_sum_1 12 rfl rfl)
theorem dX2_sum_37 : decode cX2_sum 37 = .ok (.invokevirtual 242, 3) := dk_182 0 242 (dk_at dksX2_sum_1 13 rfl rfl)
theorem dX2_sum_40 : decode cX2_sum 40 = .ok (.invokevirtual 245, 3) := dk_182 0 245 (dk_at dksX2_sum_1 16 rfl rfl)
theorem dX2_sum_43 : decode cX2_sum 43 = .ok (.goto (-23), 3) := dk_167 255 233 (dk_at dksX2_sum_1 19 rfl rfl)
theorem dX2_sum_46 : decode cX2_sum 46 = .ok (.aload_n 0, 1) := dk_42 (dk_at dksX2_sum_1 22 rfl rfl)
theorem dX2_sum_47 : decode cX2_sum 47 = .ok (.bipush 45, 2) := dk_16 45 (dk_at dksX2_sum_2 0 rfl rfl)
theorem dX2_sum_49 : decode cX2_sum 49 = .ok (.invokevirtual 248, 3) := dk_182 0 248 (dk_at dksX2_sum_2 2 rfl rfl)
theorem dX2_sum_52 : decode cX2_sum 52 = .ok (.ifCond .eq 16, 3) := dk_153 0 16 (dk_at dksX2_sum_2 5 rfl rfl)
theorem dX2_sum_55 : decode cX2_sum 55 = .ok (.aload_n 1, 1) := dk_43 (dk_at dksX2_sum_2 8 rfl rfl)
theorem dX2_sum_56 : decode cX2_sum 56 = .ok (.bipush 45, 2) := dk_16 45 (dk_at dksX2_sum_2 9 rfl rfl)
theorem dX2_sum_58 : decode cX2_sum 58 = .ok (.aload_n 0, 1) := dk_42 (dk_at dksX2_sum_2 11 rfl rfl)
theorem dX2_sum_59 : decode cX2_sum 59 = .ok (.invokevirtual 242, 3) := dk_182 0 242 (dk_at dksX2_sum_2 12 rfl rfl)
theorem dX2_sum_62 : decode cX2_sum 62 = .ok (.invokevirtual 245, 3) := dk_182 0 245 (dk_at dksX2_sum_2 15 rfl rfl)
theorem dX2_sum_65 : decode cX2_sum 65 = .ok (.goto (-45), 3) := dk_167 255 211 (dk_at dksX2_sum_2 18 rfl rfl)
theorem dX2_sum_68 : decode cX2_sum 68 = .ok (.iconst 0, 1) := dk_3 (dk_at dksX2_sum_2 21 rfl rfl)
theorem dX2_sum_69 : decode cX2_sum 69 = .ok (.istore_n 2, 1) := dk_61 (dk_at dksX2_sum_2 22 rfl rfl)
theorem dX2_sum_70 : decode cX2_sum 70 = .ok (.goto (-50), 3) := dk_167 255 206 (dk_at dksX2_sum_3 0 rfl rfl)
theorem dX2_sum_73 : decode cX2_sum 73 = .ok (.aload_n 1, 1) := dk_43 (dk_at dksX2_sum_3 3 rfl rfl)
theorem dX2_sum_74 : decode cX2_sum 74 = .ok (.areturn, 1) := dk_176 (dk_at dksX2_sum_3 4 rfl rfl)
abbrev cX2_product : ByteArray := prog_18_method_24_code
def yX2_product : MethodName := ⟨RX2, "product", "()LMarriageHerring$Value;"⟩
def dkwX2_product_3 : List UInt8 := [167, 255, 206, 43, 176]
abbrev dktX2_product_3 : List UInt8 := dkwX2_product_3 ++ []
def dkwX2_product_2 : List UInt8 := [16, 47, 182, 0, 248, 153, 0, 16, 43, 16, 47, 42, 182, 0, 251, 182, 0, 245, 167, 255, 211, 3, 61]
abbrev dktX2_product_2 : List UInt8 := dkwX2_product_2 ++ dktX2_product_3
def dkwX2_product_1 : List UInt8 := [42, 16, 42, 182, 0, 248, 153, 0, 16, 43, 16, 42, 42, 182, 0, 251, 182, 0, 245, 167, 255, 233, 42]
abbrev dktX2_product_1 : List UInt8 := dkwX2_product_1 ++ dktX2_product_2
def dkwX2_product_0 : List UInt8 := [187, 0, 239, 89, 183, 0, 241, 76, 43, 16, 42, 42, 182, 0, 251, 182, 0, 245, 4, 61, 28, 153, 0, 52]
abbrev dktX2_product_0 : List UInt8 := dkwX2_product_0 ++ dktX2_product_1
theorem dksX2_product_0 : cX2_product.data.toList.drop 0 = dktX2_product_0 := by decide +kernel
theorem dksX2_product_1 : cX2_product.data.toList.drop 24 = dktX2_product_1 := dk_seg dksX2_product_0 24 rfl rfl
theorem dksX2_product_2 : cX2_product.data.toList.drop 47 = dktX2_product_2 := dk_seg dksX2_product_1 23 rfl rfl
theorem dksX2_product_3 : cX2_product.data.toList.drop 70 = dktX2_product_3 := dk_seg dksX2_product_2 23 rfl rfl
theorem dX2_product_0 : decode cX2_product 0 = .ok (.new 239, 3) := dk_187 0 239 (dk_at dksX2_product_0 0 rfl rfl)
theorem dX2_product_3 : decode cX2_product 3 = .ok (.dup, 1) := dk_89 (dk_at dksX2_product_0 3 rfl rfl)
theorem dX2_product_4 : decode cX2_product 4 = .ok (.invokespecial 241, 3) := dk_183 0 241 (dk_at dksX2_product_0 4 rfl rfl)
theorem dX2_product_7 : decode cX2_product 7 = .ok (.astore_n 1, 1) := dk_76 (dk_at dksX2_product_0 7 rfl rfl)
theorem dX2_product_8 : decode cX2_product 8 = .ok (.aload_n 1, 1) := dk_43 (dk_at dksX2_product_0 8 rfl rfl)
theorem dX2_product_9 : decode cX2_product 9 = .ok (.bipush 42, 2) := dk_16 42 (dk_at dksX2_product_0 9 rfl rfl)
theorem dX2_product_11 : decode cX2_product 11 = .ok (.aload_n 0, 1) := dk_42 (dk_at dksX2_product_0 11 rfl rfl)
theorem dX2_product_12 : decode cX2_product 12 = .ok (.invokevirtual 251, 3) := dk_182 0 251 (dk_at dksX2_product_0 12 rfl rfl)
theorem dX2_product_15 : decode cX2_product 15 = .ok (.invokevirtual 245, 3) := dk_182 0 245 (dk_at dksX2_product_0 15 rfl rfl)
theorem dX2_product_18 : decode cX2_product 18 = .ok (.iconst 1, 1) := dk_4 (dk_at dksX2_product_0 18 rfl rfl)
theorem dX2_product_19 : decode cX2_product 19 = .ok (.istore_n 2, 1) := dk_61 (dk_at dksX2_product_0 19 rfl rfl)
theorem dX2_product_20 : decode cX2_product 20 = .ok (.iload_n 2, 1) := dk_28 (dk_at dksX2_product_0 20 rfl rfl)
theorem dX2_product_21 : decode cX2_product 21 = .ok (.ifCond .eq 52, 3) := dk_153 0 52 (dk_at dksX2_product_0 21 rfl rfl)
theorem dX2_product_24 : decode cX2_product 24 = .ok (.aload_n 0, 1) := dk_42 (dk_at dksX2_product_1 0 rfl rfl)
theorem dX2_product_25 : decode cX2_product 25 = .ok (.bipush 42, 2) := dk_16 42 (dk_at dksX2_product_1 1 rfl rfl)
theorem dX2_product_27 : decode cX2_product 27 = .ok (.invokevirtual 248, 3) := dk_182 0 248 (dk_at dksX2_product_1 3 rfl rfl)
theorem dX2_product_30 : decode cX2_product 30 = .ok (.ifCond .eq 16, 3) := dk_153 0 16 (dk_at dksX2_product_1 6 rfl rfl)
theorem dX2_product_33 : decode cX2_product 33 = .ok (.aload_n 1, 1) := dk_43 (dk_at dksX2_product_1 9 rfl rfl)
theorem dX2_product_34 : decode cX2_product 34 = .ok (.bipush 42, 2) := dk_16 42 (dk_at dksX2_product_1 10 rfl rfl)
theorem dX2_product_36 : decode cX2_product 36 = .ok (.aload_n 0, 1) := dk_42 (dk_at dksX2_product_1 12 rfl rfl)
theorem dX2_product_37 : decode cX2_product 37 = .ok (.invokevirtual 251, 3) := dk_182 0 251 (dk_at dksX2_product_1 13 rfl rfl)
theorem dX2_product_40 : decode cX2_product 40 = .ok (.invokevirtual 245, 3) := dk_182 0 245 (dk_at dksX2_product_1 16 rfl rfl)
theorem dX2_product_43 : decode cX2_product 43 = .ok (.goto (-23), 3) := dk_167 255 233 (dk_at dksX2_product_1 19 rfl rfl)
theorem dX2_product_46 : decode cX2_product 46 = .ok (.aload_n 0, 1) := dk_42 (dk_at dksX2_product_1 22 rfl rfl)
theorem dX2_product_47 : decode cX2_product 47 = .ok (.bipush 47, 2) := dk_16 47 (dk_at dksX2_product_2 0 rfl rfl)
theorem dX2_product_49 : decode cX2_product 49 = .ok (.invokevirtual 248, 3) := dk_182 0 248 (dk_at dksX2_product_2 2 rfl rfl)
theorem dX2_product_52 : decode cX2_product 52 = .ok (.ifCond .eq 16, 3) := dk_153 0 16 (dk_at dksX2_product_2 5 rfl rfl)
theorem dX2_product_55 : decode cX2_product 55 = .ok (.aload_n 1, 1) := dk_43 (dk_at dksX2_product_2 8 rfl rfl)
theorem dX2_product_56 : decode cX2_product 56 = .ok (.bipush 47, 2) := dk_16 47 (dk_at dksX2_product_2 9 rfl rfl)
theorem dX2_product_58 : decode cX2_product 58 = .ok (.aload_n 0, 1) := dk_42 (dk_at dksX2_product_2 11 rfl rfl)
theorem dX2_product_59 : decode cX2_product 59 = .ok (.invokevirtual 251, 3) := dk_182 0 251 (dk_at dksX2_product_2 12 rfl rfl)
theorem dX2_product_62 : decode cX2_product 62 = .ok (.invokevirtual 245, 3) := dk_182 0 245 (dk_at dksX2_product_2 15 rfl rfl)
theorem dX2_product_65 : decode cX2_product 65 = .ok (.goto (-45), 3) := dk_167 255 211 (dk_at dksX2_product_2 18 rfl rfl)
theorem dX2_product_68 : decode cX2_product 68 = .ok (.iconst 0, 1) := dk_3 (dk_at dksX2_product_2 21 rfl rfl)
theorem dX2_product_69 : decode cX2_product 69 = .ok (.istore_n 2, 1) := dk_61 (dk_at dksX2_product_2 22 rfl rfl)
theorem dX2_product_70 : decode cX2_product 70 = .ok (.goto (-50), 3) := dk_167 255 206 (dk_at dksX2_product_3 0 rfl rfl)
theorem dX2_product_73 : decode cX2_product 73 = .ok (.aload_n 1, 1) := dk_43 (dk_at dksX2_product_3 3 rfl rfl)
theorem dX2_product_74 : decode cX2_product 74 = .ok (.areturn, 1) := dk_176 (dk_at dksX2_product_3 4 rfl rfl)
abbrev cX2_atom : ByteArray := prog_18_method_27_code
def yX2_atom : MethodName := ⟨RX2, "atom", "()LMarriageHerring$Value;"⟩
def dkwX2_atom_7 : List UInt8 := [182, 1, 6, 176]
abbrev dktX2_atom_7 : List UInt8 := dkwX2_atom_7 ++ []
def dkwX2_atom_6 : List UInt8 := [180, 0, 61, 182, 0, 47, 191, 42, 43, 19, 1, 32, 182, 0, 74, 153, 0, 7, 4, 167, 0, 4, 5]
abbrev dktX2_atom_6 : List UInt8 := dkwX2_atom_6 ++ dktX2_atom_7
def dkwX2_atom_5 : List UInt8 := [19, 1, 32, 182, 0, 74, 154, 0, 23, 43, 19, 1, 34, 182, 0, 74, 154, 0, 13, 42, 4, 42]
abbrev dktX2_atom_5 : List UInt8 := dkwX2_atom_5 ++ dktX2_atom_6
def dkwX2_atom_4 : List UInt8 := [178, 1, 26, 184, 0, 82, 167, 0, 4, 2, 61, 28, 2, 159, 0, 9, 42, 28, 182, 1, 29, 176, 43]
abbrev dktX2_atom_4 : List UInt8 := dkwX2_atom_4 ++ dktX2_atom_5
def dkwX2_atom_3 : List UInt8 := [153, 0, 12, 187, 1, 22, 89, 28, 183, 1, 24, 176, 42, 180, 0, 206, 17, 7, 82, 160, 0, 13, 43]
abbrev dktX2_atom_3 : List UInt8 := dkwX2_atom_3 ++ dktX2_atom_4
def dkwX2_atom_2 : List UInt8 := [76, 43, 178, 1, 15, 184, 0, 82, 61, 28, 2, 159, 0, 23, 42, 180, 0, 206, 28, 184, 1, 18]
abbrev dktX2_atom_2 : List UInt8 := dkwX2_atom_2 ++ dktX2_atom_3
def dkwX2_atom_1 : List UInt8 := [153, 0, 20, 187, 1, 10, 89, 42, 3, 17, 39, 15, 182, 0, 96, 133, 183, 1, 12, 176, 42, 182, 0, 70]
abbrev dktX2_atom_1 : List UInt8 := dkwX2_atom_1 ++ dktX2_atom_2
def dkwX2_atom_0 : List UInt8 := [42, 182, 0, 43, 16, 40, 160, 0, 9, 42, 3, 182, 1, 6, 176, 42, 182, 0, 43, 184, 0, 55]
abbrev dktX2_atom_0 : List UInt8 := dkwX2_atom_0 ++ dktX2_atom_1
theorem dksX2_atom_0 : cX2_atom.data.toList.drop 0 = dktX2_atom_0 := by decide +kernel
theorem dksX2_atom_1 : cX2_atom.data.toList.drop 22 = dktX2_atom_1 := dk_seg dksX2_atom_0 22 rfl rfl
theorem dksX2_atom_2 : cX2_atom.data.toList.drop 46 = dktX2_atom_2 := dk_seg dksX2_atom_1 24 rfl rfl
theorem dksX2_atom_3 : cX2_atom.data.toList.drop 68 = dktX2_atom_3 := dk_seg dksX2_atom_2 22 rfl rfl
theorem dksX2_atom_4 : cX2_atom.data.toList.drop 91 = dktX2_atom_4 := dk_seg dksX2_atom_3 23 rfl rfl
theorem dksX2_atom_5 : cX2_atom.data.toList.drop 114 = dktX2_atom_5 := dk_seg dksX2_atom_4 23 rfl rfl
theorem dksX2_atom_6 : cX2_atom.data.toList.drop 136 = dktX2_atom_6 := dk_seg dksX2_atom_5 22 rfl rfl
theorem dksX2_atom_7 : cX2_atom.data.toList.drop 159 = dktX2_atom_7 := dk_seg dksX2_atom_6 23 rfl rfl
theorem dX2_atom_0 : decode cX2_atom 0 = .ok (.aload_n 0, 1) := dk_42 (dk_at dksX2_atom_0 0 rfl rfl)
theorem dX2_atom_1 : decode cX2_atom 1 = .ok (.invokevirtual 43, 3) := dk_182 0 43 (dk_at dksX2_atom_0 1 rfl rfl)
theorem dX2_atom_4 : decode cX2_atom 4 = .ok (.bipush 40, 2) := dk_16 40 (dk_at dksX2_atom_0 4 rfl rfl)
theorem dX2_atom_6 : decode cX2_atom 6 = .ok (.if_icmp .ne 9, 3) := dk_160 0 9 (dk_at dksX2_atom_0 6 rfl rfl)
theorem dX2_atom_9 : decode cX2_atom 9 = .ok (.aload_n 0, 1) := dk_42 (dk_at dksX2_atom_0 9 rfl rfl)
theorem dX2_atom_10 : decode cX2_atom 10 = .ok (.iconst 0, 1) := dk_3 (dk_at dksX2_atom_0 10 rfl rfl)
theorem dX2_atom_11 : decode cX2_atom 11 = .ok (.invokevirtual 262, 3) := dk_182 1 6 (dk_at dksX2_atom_0 11 rfl rfl)
theorem dX2_atom_14 : decode cX2_atom 14 = .ok (.areturn, 1) := dk_176 (dk_at dksX2_atom_0 14 rfl rfl)
theorem dX2_atom_15 : decode cX2_atom 15 = .ok (.aload_n 0, 1) := dk_42 (dk_at dksX2_atom_0 15 rfl rfl)
theorem dX2_atom_16 : decode cX2_atom 16 = .ok (.invokevirtual 43, 3) := dk_182 0 43 (dk_at dksX2_atom_0 16 rfl rfl)
theorem dX2_atom_19 : decode cX2_atom 19 = .ok (.invokestatic 55, 3) := dk_184 0 55 (dk_at dksX2_atom_0 19 rfl rfl)
theorem dX2_atom_22 : decode cX2_atom 22 = .ok (.ifCond .eq 20, 3) := dk_153 0 20 (dk_at dksX2_atom_1 0 rfl rfl)
theorem dX2_atom_25 : decode cX2_atom 25 = .ok (.new 266, 3) := dk_187 1 10 (dk_at dksX2_atom_1 3 rfl rfl)
theorem dX2_atom_28 : decode cX2_atom 28 = .ok (.dup, 1) := dk_89 (dk_at dksX2_atom_1 6 rfl rfl)
theorem dX2_atom_29 : decode cX2_atom 29 = .ok (.aload_n 0, 1) := dk_42 (dk_at dksX2_atom_1 7 rfl rfl)
theorem dX2_atom_30 : decode cX2_atom 30 = .ok (.iconst 0, 1) := dk_3 (dk_at dksX2_atom_1 8 rfl rfl)
theorem dX2_atom_31 : decode cX2_atom 31 = .ok (.sipush 9999, 3) := dk_17 39 15 (dk_at dksX2_atom_1 9 rfl rfl)
theorem dX2_atom_34 : decode cX2_atom 34 = .ok (.invokevirtual 96, 3) := dk_182 0 96 (dk_at dksX2_atom_1 12 rfl rfl)
theorem dX2_atom_37 : decode cX2_atom 37 = .ok (.i2l, 1) := dk_133 (dk_at dksX2_atom_1 15 rfl rfl)
theorem dX2_atom_38 : decode cX2_atom 38 = .ok (.invokespecial 268, 3) := dk_183 1 12 (dk_at dksX2_atom_1 16 rfl rfl)
theorem dX2_atom_41 : decode cX2_atom 41 = .ok (.areturn, 1) := dk_176 (dk_at dksX2_atom_1 19 rfl rfl)
theorem dX2_atom_42 : decode cX2_atom 42 = .ok (.aload_n 0, 1) := dk_42 (dk_at dksX2_atom_1 20 rfl rfl)
theorem dX2_atom_43 : decode cX2_atom 43 = .ok (.invokevirtual 70, 3) := dk_182 0 70 (dk_at dksX2_atom_1 21 rfl rfl)
theorem dX2_atom_46 : decode cX2_atom 46 = .ok (.astore_n 1, 1) := dk_76 (dk_at dksX2_atom_2 0 rfl rfl)
theorem dX2_atom_47 : decode cX2_atom 47 = .ok (.aload_n 1, 1) := dk_43 (dk_at dksX2_atom_2 1 rfl rfl)
theorem dX2_atom_48 : decode cX2_atom 48 = .ok (.getstatic 271, 3) := dk_178 1 15 (dk_at dksX2_atom_2 2 rfl rfl)
theorem dX2_atom_51 : decode cX2_atom 51 = .ok (.invokestatic 82, 3) := dk_184 0 82 (dk_at dksX2_atom_2 5 rfl rfl)
theorem dX2_atom_54 : decode cX2_atom 54 = .ok (.istore_n 2, 1) := dk_61 (dk_at dksX2_atom_2 8 rfl rfl)
theorem dX2_atom_55 : decode cX2_atom 55 = .ok (.iload_n 2, 1) := dk_28 (dk_at dksX2_atom_2 9 rfl rfl)
theorem dX2_atom_56 : decode cX2_atom 56 = .ok (.iconst (-1), 1) := dk_2 (dk_at dksX2_atom_2 10 rfl rfl)
theorem dX2_atom_57 : decode cX2_atom 57 = .ok (.if_icmp .eq 23, 3) := dk_159 0 23 (dk_at dksX2_atom_2 11 rfl rfl)
theorem dX2_atom_60 : decode cX2_atom 60 = .ok (.aload_n 0, 1) := dk_42 (dk_at dksX2_atom_2 14 rfl rfl)
theorem dX2_atom_61 : decode cX2_atom 61 = .ok (.getfield 206, 3) := dk_180 0 206 (dk_at dksX2_atom_2 15 rfl rfl)
theorem dX2_atom_64 : decode cX2_atom 64 = .ok (.iload_n 2, 1) := dk_28 (dk_at dksX2_atom_2 18 rfl rfl)
theorem dX2_atom_65 : decode cX2_atom 65 = .ok (.invokestatic 274, 3) := dk_184 1 18 (dk_at dksX2_atom_2 19 rfl rfl)
theorem dX2_atom_68 : decode cX2_atom 68 = .ok (.ifCond .eq 12, 3) := dk_153 0 12 (dk_at dksX2_atom_3 0 rfl rfl)
theorem dX2_atom_71 : decode cX2_atom 71 = .ok (.new 278, 3) := dk_187 1 22 (dk_at dksX2_atom_3 3 rfl rfl)
theorem dX2_atom_74 : decode cX2_atom 74 = .ok (.dup, 1) := dk_89 (dk_at dksX2_atom_3 6 rfl rfl)
theorem dX2_atom_75 : decode cX2_atom 75 = .ok (.iload_n 2, 1) := dk_28 (dk_at dksX2_atom_3 7 rfl rfl)
theorem dX2_atom_76 : decode cX2_atom 76 = .ok (.invokespecial 280, 3) := dk_183 1 24 (dk_at dksX2_atom_3 8 rfl rfl)
theorem dX2_atom_79 : decode cX2_atom 79 = .ok (.areturn, 1) := dk_176 (dk_at dksX2_atom_3 11 rfl rfl)
theorem dX2_atom_80 : decode cX2_atom 80 = .ok (.aload_n 0, 1) := dk_42 (dk_at dksX2_atom_3 12 rfl rfl)
theorem dX2_atom_81 : decode cX2_atom 81 = .ok (.getfield 206, 3) := dk_180 0 206 (dk_at dksX2_atom_3 13 rfl rfl)
theorem dX2_atom_84 : decode cX2_atom 84 = .ok (.sipush 1874, 3) := dk_17 7 82 (dk_at dksX2_atom_3 16 rfl rfl)
theorem dX2_atom_87 : decode cX2_atom 87 = .ok (.if_icmp .ne 13, 3) := dk_160 0 13 (dk_at dksX2_atom_3 19 rfl rfl)
theorem dX2_atom_90 : decode cX2_atom 90 = .ok (.aload_n 1, 1) := dk_43 (dk_at dksX2_atom_3 22 rfl rfl)
theorem dX2_atom_91 : decode cX2_atom 91 = .ok (.getstatic 282, 3) := dk_178 1 26 (dk_at dksX2_atom_4 0 rfl rfl)
theorem dX2_atom_94 : decode cX2_atom 94 = .ok (.invokestatic 82, 3) := dk_184 0 82 (dk_at dksX2_atom_4 3 rfl rfl)
theorem dX2_atom_97 : decode cX2_atom 97 = .ok (.goto 4, 3) := dk_167 0 4 (dk_at dksX2_atom_4 6 rfl rfl)
theorem dX2_atom_100 : decode cX2_atom 100 = .ok (.iconst (-1), 1) := dk_2 (dk_at dksX2_atom_4 9 rfl rfl)
theorem dX2_atom_101 : decode cX2_atom 101 = .ok (.istore_n 2, 1) := dk_61 (dk_at dksX2_atom_4 10 rfl rfl)
theorem dX2_atom_102 : decode cX2_atom 102 = .ok (.iload_n 2, 1) := dk_28 (dk_at dksX2_atom_4 11 rfl rfl)
theorem dX2_atom_103 : decode cX2_atom 103 = .ok (.iconst (-1), 1) := dk_2 (dk_at dksX2_atom_4 12 rfl rfl)
theorem dX2_atom_104 : decode cX2_atom 104 = .ok (.if_icmp .eq 9, 3) := dk_159 0 9 (dk_at dksX2_atom_4 13 rfl rfl)
theorem dX2_atom_107 : decode cX2_atom 107 = .ok (.aload_n 0, 1) := dk_42 (dk_at dksX2_atom_4 16 rfl rfl)
theorem dX2_atom_108 : decode cX2_atom 108 = .ok (.iload_n 2, 1) := dk_28 (dk_at dksX2_atom_4 17 rfl rfl)
theorem dX2_atom_109 : decode cX2_atom 109 = .ok (.invokevirtual 285, 3) := dk_182 1 29 (dk_at dksX2_atom_4 18 rfl rfl)
theorem dX2_atom_112 : decode cX2_atom 112 = .ok (.areturn, 1) := dk_176 (dk_at dksX2_atom_4 21 rfl rfl)
theorem dX2_atom_113 : decode cX2_atom 113 = .ok (.aload_n 1, 1) := dk_43 (dk_at dksX2_atom_4 22 rfl rfl)
theorem dX2_atom_114 : decode cX2_atom 114 = .ok (.ldc_w 288, 3) := dk_19 1 32 (dk_at dksX2_atom_5 0 rfl rfl)
theorem dX2_atom_117 : decode cX2_atom 117 = .ok (.invokevirtual 74, 3) := dk_182 0 74 (dk_at dksX2_atom_5 3 rfl rfl)
theorem dX2_atom_120 : decode cX2_atom 120 = .ok (.ifCond .ne 23, 3) := dk_154 0 23 (dk_at dksX2_atom_5 6 rfl rfl)
theorem dX2_atom_123 : decode cX2_atom 123 = .ok (.aload_n 1, 1) := dk_43 (dk_at dksX2_atom_5 9 rfl rfl)
theorem dX2_atom_124 : decode cX2_atom 124 = .ok (.ldc_w 290, 3) := dk_19 1 34 (dk_at dksX2_atom_5 10 rfl rfl)
theorem dX2_atom_127 : decode cX2_atom 127 = .ok (.invokevirtual 74, 3) := dk_182 0 74 (dk_at dksX2_atom_5 13 rfl rfl)
theorem dX2_atom_130 : decode cX2_atom 130 = .ok (.ifCond .ne 13, 3) := dk_154 0 13 (dk_at dksX2_atom_5 16 rfl rfl)
theorem dX2_atom_133 : decode cX2_atom 133 = .ok (.aload_n 0, 1) := dk_42 (dk_at dksX2_atom_5 19 rfl rfl)
theorem dX2_atom_134 : decode cX2_atom 134 = .ok (.iconst 1, 1) := dk_4 (dk_at dksX2_atom_5 20 rfl rfl)
theorem dX2_atom_135 : decode cX2_atom 135 = .ok (.aload_n 0, 1) := dk_42 (dk_at dksX2_atom_5 21 rfl rfl)
theorem dX2_atom_136 : decode cX2_atom 136 = .ok (.getfield 61, 3) := dk_180 0 61 (dk_at dksX2_atom_6 0 rfl rfl)
theorem dX2_atom_139 : decode cX2_atom 139 = .ok (.invokevirtual 47, 3) := dk_182 0 47 (dk_at dksX2_atom_6 3 rfl rfl)
theorem dX2_atom_142 : decode cX2_atom 142 = .ok (.athrow, 1) := dk_191 (dk_at dksX2_atom_6 6 rfl rfl)
theorem dX2_atom_143 : decode cX2_atom 143 = .ok (.aload_n 0, 1) := dk_42 (dk_at dksX2_atom_6 7 rfl rfl)
theorem dX2_atom_144 : decode cX2_atom 144 = .ok (.aload_n 1, 1) := dk_43 (dk_at dksX2_atom_6 8 rfl rfl)
theorem dX2_atom_145 : decode cX2_atom 145 = .ok (.ldc_w 288, 3) := dk_19 1 32 (dk_at dksX2_atom_6 9 rfl rfl)
theorem dX2_atom_148 : decode cX2_atom 148 = .ok (.invokevirtual 74, 3) := dk_182 0 74 (dk_at dksX2_atom_6 12 rfl rfl)
theorem dX2_atom_151 : decode cX2_atom 151 = .ok (.ifCond .eq 7, 3) := dk_153 0 7 (dk_at dksX2_atom_6 15 rfl rfl)
theorem dX2_atom_154 : decode cX2_atom 154 = .ok (.iconst 1, 1) := dk_4 (dk_at dksX2_atom_6 18 rfl rfl)
theorem dX2_atom_155 : decode cX2_atom 155 = .ok (.goto 4, 3) := dk_167 0 4 (dk_at dksX2_atom_6 19 rfl rfl)
theorem dX2_atom_158 : decode cX2_atom 158 = .ok (.iconst 2, 1) := dk_5 (dk_at dksX2_atom_6 22 rfl rfl)
theorem dX2_atom_159 : decode cX2_atom 159 = .ok (.invokevirtual 262, 3) := dk_182 1 6 (dk_at dksX2_atom_7 0 rfl rfl)
theorem dX2_atom_162 : decode cX2_atom 162 = .ok (.areturn, 1) := dk_176 (dk_at dksX2_atom_7 3 rfl rfl)
abbrev cX2_within : ByteArray := prog_18_method_26_code
def yX2_within : MethodName := ⟨RX2, "within", "(I)LMarriageHerring$Value;"⟩
def dkwX2_within_4 : List UInt8 := [176]
abbrev dktX2_within_4 : List UInt8 := dkwX2_within_4 ++ []
def dkwX2_within_3 : List UInt8 := [182, 0, 209, 183, 1, 3, 78, 42, 16, 41, 182, 0, 132, 42, 89, 180, 0, 114, 4, 100, 181, 0, 114, 45]
abbrev dktX2_within_3 : List UInt8 := dkwX2_within_3 ++ dktX2_within_4
def dkwX2_within_2 : List UInt8 := [42, 16, 44, 182, 0, 132, 187, 1, 1, 89, 27, 5, 160, 0, 7, 4, 167, 0, 4, 3, 44, 42]
abbrev dktX2_within_2 : List UInt8 := dkwX2_within_2 ++ dktX2_within_3
def dkwX2_within_1 : List UInt8 := [182, 0, 254, 42, 89, 180, 0, 36, 4, 96, 181, 0, 36, 42, 182, 0, 209, 77, 44, 78, 27, 158, 0, 32]
abbrev dktX2_within_1 : List UInt8 := dkwX2_within_1 ++ dktX2_within_2
def dkwX2_within_0 : List UInt8 := [42, 182, 0, 43, 16, 40, 159, 0, 13, 42, 4, 42, 180, 0, 36, 182, 0, 47, 191, 42, 42, 180, 0, 36]
abbrev dktX2_within_0 : List UInt8 := dkwX2_within_0 ++ dktX2_within_1
theorem dksX2_within_0 : cX2_within.data.toList.drop 0 = dktX2_within_0 := by decide +kernel
theorem dksX2_within_1 : cX2_within.data.toList.drop 24 = dktX2_within_1 := dk_seg dksX2_within_0 24 rfl rfl
theorem dksX2_within_2 : cX2_within.data.toList.drop 48 = dktX2_within_2 := dk_seg dksX2_within_1 24 rfl rfl
theorem dksX2_within_3 : cX2_within.data.toList.drop 70 = dktX2_within_3 := dk_seg dksX2_within_2 22 rfl rfl
theorem dksX2_within_4 : cX2_within.data.toList.drop 94 = dktX2_within_4 := dk_seg dksX2_within_3 24 rfl rfl
theorem dX2_within_0 : decode cX2_within 0 = .ok (.aload_n 0, 1) := dk_42 (dk_at dksX2_within_0 0 rfl rfl)
theorem dX2_within_1 : decode cX2_within 1 = .ok (.invokevirtual 43, 3) := dk_182 0 43 (dk_at dksX2_within_0 1 rfl rfl)
theorem dX2_within_4 : decode cX2_within 4 = .ok (.bipush 40, 2) := dk_16 40 (dk_at dksX2_within_0 4 rfl rfl)
theorem dX2_within_6 : decode cX2_within 6 = .ok (.if_icmp .eq 13, 3) := dk_159 0 13 (dk_at dksX2_within_0 6 rfl rfl)
theorem dX2_within_9 : decode cX2_within 9 = .ok (.aload_n 0, 1) := dk_42 (dk_at dksX2_within_0 9 rfl rfl)
theorem dX2_within_10 : decode cX2_within 10 = .ok (.iconst 1, 1) := dk_4 (dk_at dksX2_within_0 10 rfl rfl)
theorem dX2_within_11 : decode cX2_within 11 = .ok (.aload_n 0, 1) := dk_42 (dk_at dksX2_within_0 11 rfl rfl)
theorem dX2_within_12 : decode cX2_within 12 = .ok (.getfield 36, 3) := dk_180 0 36 (dk_at dksX2_within_0 12 rfl rfl)
theorem dX2_within_15 : decode cX2_within 15 = .ok (.invokevirtual 47, 3) := dk_182 0 47 (dk_at dksX2_within_0 15 rfl rfl)
theorem dX2_within_18 : decode cX2_within 18 = .ok (.athrow, 1) := dk_191 (dk_at dksX2_within_0 18 rfl rfl)
theorem dX2_within_19 : decode cX2_within 19 = .ok (.aload_n 0, 1) := dk_42 (dk_at dksX2_within_0 19 rfl rfl)
theorem dX2_within_20 : decode cX2_within 20 = .ok (.aload_n 0, 1) := dk_42 (dk_at dksX2_within_0 20 rfl rfl)
theorem dX2_within_21 : decode cX2_within 21 = .ok (.getfield 36, 3) := dk_180 0 36 (dk_at dksX2_within_0 21 rfl rfl)
theorem dX2_within_24 : decode cX2_within 24 = .ok (.invokevirtual 254, 3) := dk_182 0 254 (dk_at dksX2_within_1 0 rfl rfl)
theorem dX2_within_27 : decode cX2_within 27 = .ok (.aload_n 0, 1) := dk_42 (dk_at dksX2_within_1 3 rfl rfl)
theorem dX2_within_28 : decode cX2_within 28 = .ok (.dup, 1) := dk_89 (dk_at dksX2_within_1 4 rfl rfl)
theorem dX2_within_29 : decode cX2_within 29 = .ok (.getfield 36, 3) := dk_180 0 36 (dk_at dksX2_within_1 5 rfl rfl)
theorem dX2_within_32 : decode cX2_within 32 = .ok (.iconst 1, 1) := dk_4 (dk_at dksX2_within_1 8 rfl rfl)
theorem dX2_within_33 : decode cX2_within 33 = .ok (.iadd, 1) := dk_96 (dk_at dksX2_within_1 9 rfl rfl)
theorem dX2_within_34 : decode cX2_within 34 = .ok (.putfield 36, 3) := dk_181 0 36 (dk_at dksX2_within_1 10 rfl rfl)
theorem dX2_within_37 : decode cX2_within 37 = .ok (.aload_n 0, 1) := dk_42 (dk_at dksX2_within_1 13 rfl rfl)
theorem dX2_within_38 : decode cX2_within 38 = .ok (.invokevirtual 209, 3) := dk_182 0 209 (dk_at dksX2_within_1 14 rfl rfl)
theorem dX2_within_41 : decode cX2_within 41 = .ok (.astore_n 2, 1) := dk_77 (dk_at dksX2_within_1 17 rfl rfl)
theorem dX2_within_42 : decode cX2_within 42 = .ok (.aload_n 2, 1) := dk_44 (dk_at dksX2_within_1 18 rfl rfl)
theorem dX2_within_43 : decode cX2_within 43 = .ok (.astore_n 3, 1) := dk_78 (dk_at dksX2_within_1 19 rfl rfl)
theorem dX2_within_44 : decode cX2_within 44 = .ok (.iload_n 1, 1) := dk_27 (dk_at dksX2_within_1 20 rfl rfl)
theorem dX2_within_45 : decode cX2_within 45 = .ok (.ifCond .le 32, 3) := dk_158 0 32 (dk_at dksX2_within_1 21 rfl rfl)
theorem dX2_within_48 : decode cX2_within 48 = .ok (.aload_n 0, 1) := dk_42 (dk_at dksX2_within_2 0 rfl rfl)
theorem dX2_within_49 : decode cX2_within 49 = .ok (.bipush 44, 2) := dk_16 44 (dk_at dksX2_within_2 1 rfl rfl)
theorem dX2_within_51 : decode cX2_within 51 = .ok (.invokevirtual 132, 3) := dk_182 0 132 (dk_at dksX2_within_2 3 rfl rfl)
theorem dX2_within_54 : decode cX2_within 54 = .ok (.new 257, 3) := dk_187 1 1 (dk_at dksX2_within_2 6 rfl rfl)
theorem dX2_within_57 : decode cX2_within 57 = .ok (.dup, 1) := dk_89 (dk_at dksX2_within_2 9 rfl rfl)
theorem dX2_within_58 : decode cX2_within 58 = .ok (.iload_n 1, 1) := dk_27 (dk_at dksX2_within_2 10 rfl rfl)
theorem dX2_within_59 : decode cX2_within 59 = .ok (.iconst 2, 1) := dk_5 (dk_at dksX2_within_2 11 rfl rfl)
theorem dX2_within_60 : decode cX2_within 60 = .ok (.if_icmp .ne 7, 3) := dk_160 0 7 (dk_at dksX2_within_2 12 rfl rfl)
theorem dX2_within_63 : decode cX2_within 63 = .ok (.iconst 1, 1) := dk_4 (dk_at dksX2_within_2 15 rfl rfl)
theorem dX2_within_64 : decode cX2_within 64 = .ok (.goto 4, 3) := dk_167 0 4 (dk_at dksX2_within_2 16 rfl rfl)
theorem dX2_within_67 : decode cX2_within 67 = .ok (.iconst 0, 1) := dk_3 (dk_at dksX2_within_2 19 rfl rfl)
theorem dX2_within_68 : decode cX2_within 68 = .ok (.aload_n 2, 1) := dk_44 (dk_at dksX2_within_2 20 rfl rfl)
theorem dX2_within_69 : decode cX2_within 69 = .ok (.aload_n 0, 1) := dk_42 (dk_at dksX2_within_2 21 rfl rfl)
theorem dX2_within_70 : decode cX2_within 70 = .ok (.invokevirtual 209, 3) := dk_182 0 209 (dk_at dksX2_within_3 0 rfl rfl)
theorem dX2_within_73 : decode cX2_within 73 = .ok (.invokespecial 259, 3) := dk_183 1 3 (dk_at dksX2_within_3 3 rfl rfl)
theorem dX2_within_76 : decode cX2_within 76 = .ok (.astore_n 3, 1) := dk_78 (dk_at dksX2_within_3 6 rfl rfl)
theorem dX2_within_77 : decode cX2_within 77 = .ok (.aload_n 0, 1) := dk_42 (dk_at dksX2_within_3 7 rfl rfl)
theorem dX2_within_78 : decode cX2_within 78 = .ok (.bipush 41, 2) := dk_16 41 (dk_at dksX2_within_3 8 rfl rfl)
theorem dX2_within_80 : decode cX2_within 80 = .ok (.invokevirtual 132, 3) := dk_182 0 132 (dk_at dksX2_within_3 10 rfl rfl)
theorem dX2_within_83 : decode cX2_within 83 = .ok (.aload_n 0, 1) := dk_42 (dk_at dksX2_within_3 13 rfl rfl)
theorem dX2_within_84 : decode cX2_within 84 = .ok (.dup, 1) := dk_89 (dk_at dksX2_within_3 14 rfl rfl)
theorem dX2_within_85 : decode cX2_within 85 = .ok (.getfield 114, 3) := dk_180 0 114 (dk_at dksX2_within_3 15 rfl rfl)
theorem dX2_within_88 : decode cX2_within 88 = .ok (.iconst 1, 1) := dk_4 (dk_at dksX2_within_3 18 rfl rfl)
theorem dX2_within_89 : decode cX2_within 89 = .ok (.isub, 1) := dk_100 (dk_at dksX2_within_3 19 rfl rfl)
theorem dX2_within_90 : decode cX2_within 90 = .ok (.putfield 114, 3) := dk_181 0 114 (dk_at dksX2_within_3 20 rfl rfl)
theorem dX2_within_93 : decode cX2_within 93 = .ok (.aload_n 3, 1) := dk_45 (dk_at dksX2_within_3 23 rfl rfl)
theorem dX2_within_94 : decode cX2_within 94 = .ok (.areturn, 1) := dk_176 (dk_at dksX2_within_4 0 rfl rfl)
abbrev cX2_opens : ByteArray := prog_18_method_25_code
def yX2_opens : MethodName := ⟨RX2, "opens", "(I)V"⟩
def dkwX2_opens_1 : List UInt8 := [181, 0, 114, 177]
abbrev dktX2_opens_1 : List UInt8 := dkwX2_opens_1 ++ []
def dkwX2_opens_0 : List UInt8 := [42, 180, 0, 114, 16, 6, 160, 0, 10, 42, 7, 27, 182, 0, 47, 191, 42, 89, 180, 0, 114, 4, 96]
abbrev dktX2_opens_0 : List UInt8 := dkwX2_opens_0 ++ dktX2_opens_1
theorem dksX2_opens_0 : cX2_opens.data.toList.drop 0 = dktX2_opens_0 := by decide +kernel
theorem dksX2_opens_1 : cX2_opens.data.toList.drop 23 = dktX2_opens_1 := dk_seg dksX2_opens_0 23 rfl rfl
theorem dX2_opens_0 : decode cX2_opens 0 = .ok (.aload_n 0, 1) := dk_42 (dk_at dksX2_opens_0 0 rfl rfl)
theorem dX2_opens_1 : decode cX2_opens 1 = .ok (.getfield 114, 3) := dk_180 0 114 (dk_at dksX2_opens_0 1 rfl rfl)
theorem dX2_opens_4 : decode cX2_opens 4 = .ok (.bipush 6, 2) := dk_16 6 (dk_at dksX2_opens_0 4 rfl rfl)
theorem dX2_opens_6 : decode cX2_opens 6 = .ok (.if_icmp .ne 10, 3) := dk_160 0 10 (dk_at dksX2_opens_0 6 rfl rfl)
theorem dX2_opens_9 : decode cX2_opens 9 = .ok (.aload_n 0, 1) := dk_42 (dk_at dksX2_opens_0 9 rfl rfl)
theorem dX2_opens_10 : decode cX2_opens 10 = .ok (.iconst 4, 1) := dk_7 (dk_at dksX2_opens_0 10 rfl rfl)
theorem dX2_opens_11 : decode cX2_opens 11 = .ok (.iload_n 1, 1) := dk_27 (dk_at dksX2_opens_0 11 rfl rfl)
theorem dX2_opens_12 : decode cX2_opens 12 = .ok (.invokevirtual 47, 3) := dk_182 0 47 (dk_at dksX2_opens_0 12 rfl rfl)
theorem dX2_opens_15 : decode cX2_opens 15 = .ok (.athrow, 1) := dk_191 (dk_at dksX2_opens_0 15 rfl rfl)
theorem dX2_opens_16 : decode cX2_opens 16 = .ok (.aload_n 0, 1) := dk_42 (dk_at dksX2_opens_0 16 rfl rfl)
theorem dX2_opens_17 : decode cX2_opens 17 = .ok (.dup, 1) := dk_89 (dk_at dksX2_opens_0 17 rfl rfl)
theorem dX2_opens_18 : decode cX2_opens 18 = .ok (.getfield 114, 3) := dk_180 0 114 (dk_at dksX2_opens_0 18 rfl rfl)
theorem dX2_opens_21 : decode cX2_opens 21 = .ok (.iconst 1, 1) := dk_4 (dk_at dksX2_opens_0 21 rfl rfl)
theorem dX2_opens_22 : decode cX2_opens 22 = .ok (.iadd, 1) := dk_96 (dk_at dksX2_opens_0 22 rfl rfl)
theorem dX2_opens_23 : decode cX2_opens 23 = .ok (.putfield 114, 3) := dk_181 0 114 (dk_at dksX2_opens_1 0 rfl rfl)
theorem dX2_opens_26 : decode cX2_opens 26 = .ok (.return_, 1) := dk_177 (dk_at dksX2_opens_1 3 rfl rfl)
abbrev cX2_must : ByteArray := prog_18_method_5_code
def yX2_must : MethodName := ⟨RX2, "must", "(I)V"⟩
def dkwX2_must_1 : List UInt8 := [96, 181, 0, 36, 177]
abbrev dktX2_must_1 : List UInt8 := dkwX2_must_1 ++ []
def dkwX2_must_0 : List UInt8 := [42, 182, 0, 43, 27, 159, 0, 13, 42, 4, 42, 180, 0, 36, 182, 0, 47, 191, 42, 89, 180, 0, 36, 4]
abbrev dktX2_must_0 : List UInt8 := dkwX2_must_0 ++ dktX2_must_1
theorem dksX2_must_0 : cX2_must.data.toList.drop 0 = dktX2_must_0 := by decide +kernel
theorem dksX2_must_1 : cX2_must.data.toList.drop 24 = dktX2_must_1 := dk_seg dksX2_must_0 24 rfl rfl
theorem dX2_must_0 : decode cX2_must 0 = .ok (.aload_n 0, 1) := dk_42 (dk_at dksX2_must_0 0 rfl rfl)
theorem dX2_must_1 : decode cX2_must 1 = .ok (.invokevirtual 43, 3) := dk_182 0 43 (dk_at dksX2_must_0 1 rfl rfl)
theorem dX2_must_4 : decode cX2_must 4 = .ok (.iload_n 1, 1) := dk_27 (dk_at dksX2_must_0 4 rfl rfl)
theorem dX2_must_5 : decode cX2_must 5 = .ok (.if_icmp .eq 13, 3) := dk_159 0 13 (dk_at dksX2_must_0 5 rfl rfl)
theorem dX2_must_8 : decode cX2_must 8 = .ok (.aload_n 0, 1) := dk_42 (dk_at dksX2_must_0 8 rfl rfl)
theorem dX2_must_9 : decode cX2_must 9 = .ok (.iconst 1, 1) := dk_4 (dk_at dksX2_must_0 9 rfl rfl)
theorem dX2_must_10 : decode cX2_must 10 = .ok (.aload_n 0, 1) := dk_42 (dk_at dksX2_must_0 10 rfl rfl)
theorem dX2_must_11 : decode cX2_must 11 = .ok (.getfield 36, 3) := dk_180 0 36 (dk_at dksX2_must_0 11 rfl rfl)
theorem dX2_must_14 : decode cX2_must 14 = .ok (.invokevirtual 47, 3) := dk_182 0 47 (dk_at dksX2_must_0 14 rfl rfl)
theorem dX2_must_17 : decode cX2_must 17 = .ok (.athrow, 1) := dk_191 (dk_at dksX2_must_0 17 rfl rfl)
theorem dX2_must_18 : decode cX2_must 18 = .ok (.aload_n 0, 1) := dk_42 (dk_at dksX2_must_0 18 rfl rfl)
theorem dX2_must_19 : decode cX2_must 19 = .ok (.dup, 1) := dk_89 (dk_at dksX2_must_0 19 rfl rfl)
theorem dX2_must_20 : decode cX2_must 20 = .ok (.getfield 36, 3) := dk_180 0 36 (dk_at dksX2_must_0 20 rfl rfl)
theorem dX2_must_23 : decode cX2_must 23 = .ok (.iconst 1, 1) := dk_4 (dk_at dksX2_must_0 23 rfl rfl)
theorem dX2_must_24 : decode cX2_must 24 = .ok (.iadd, 1) := dk_96 (dk_at dksX2_must_1 0 rfl rfl)
theorem dX2_must_25 : decode cX2_must 25 = .ok (.putfield 36, 3) := dk_181 0 36 (dk_at dksX2_must_1 1 rfl rfl)
theorem dX2_must_28 : decode cX2_must 28 = .ok (.return_, 1) := dk_177 (dk_at dksX2_must_1 4 rfl rfl)
abbrev cX2_looked : ByteArray := prog_18_method_31_code
def yX2_looked : MethodName := ⟨RX2, "looked", "(I)LMarriageHerring$Value;"⟩
def dkwX2_looked_1 : List UInt8 := [77, 42, 89, 180, 0, 114, 4, 100, 181, 0, 114, 44, 176]
abbrev dktX2_looked_1 : List UInt8 := dkwX2_looked_1 ++ []
def dkwX2_looked_0 : List UInt8 := [42, 42, 180, 0, 61, 182, 0, 254, 187, 1, 74, 89, 42, 180, 0, 3, 27, 42, 182, 0, 251, 183, 1, 76]
abbrev dktX2_looked_0 : List UInt8 := dkwX2_looked_0 ++ dktX2_looked_1
theorem dksX2_looked_0 : cX2_looked.data.toList.drop 0 = dktX2_looked_0 := by decide +kernel
theorem dksX2_looked_1 : cX2_looked.data.toList.drop 24 = dktX2_looked_1 := dk_seg dksX2_looked_0 24 rfl rfl
theorem dX2_looked_0 : decode cX2_looked 0 = .ok (.aload_n 0, 1) := dk_42 (dk_at dksX2_looked_0 0 rfl rfl)
theorem dX2_looked_1 : decode cX2_looked 1 = .ok (.aload_n 0, 1) := dk_42 (dk_at dksX2_looked_0 1 rfl rfl)
theorem dX2_looked_2 : decode cX2_looked 2 = .ok (.getfield 61, 3) := dk_180 0 61 (dk_at dksX2_looked_0 2 rfl rfl)
theorem dX2_looked_5 : decode cX2_looked 5 = .ok (.invokevirtual 254, 3) := dk_182 0 254 (dk_at dksX2_looked_0 5 rfl rfl)
theorem dX2_looked_8 : decode cX2_looked 8 = .ok (.new 330, 3) := dk_187 1 74 (dk_at dksX2_looked_0 8 rfl rfl)
theorem dX2_looked_11 : decode cX2_looked 11 = .ok (.dup, 1) := dk_89 (dk_at dksX2_looked_0 11 rfl rfl)
theorem dX2_looked_12 : decode cX2_looked 12 = .ok (.aload_n 0, 1) := dk_42 (dk_at dksX2_looked_0 12 rfl rfl)
theorem dX2_looked_13 : decode cX2_looked 13 = .ok (.getfield 3, 3) := dk_180 0 3 (dk_at dksX2_looked_0 13 rfl rfl)
theorem dX2_looked_16 : decode cX2_looked 16 = .ok (.iload_n 1, 1) := dk_27 (dk_at dksX2_looked_0 16 rfl rfl)
theorem dX2_looked_17 : decode cX2_looked 17 = .ok (.aload_n 0, 1) := dk_42 (dk_at dksX2_looked_0 17 rfl rfl)
theorem dX2_looked_18 : decode cX2_looked 18 = .ok (.invokevirtual 251, 3) := dk_182 0 251 (dk_at dksX2_looked_0 18 rfl rfl)
theorem dX2_looked_21 : decode cX2_looked 21 = .ok (.invokespecial 332, 3) := dk_183 1 76 (dk_at dksX2_looked_0 21 rfl rfl)
theorem dX2_looked_24 : decode cX2_looked 24 = .ok (.astore_n 2, 1) := dk_77 (dk_at dksX2_looked_1 0 rfl rfl)
theorem dX2_looked_25 : decode cX2_looked 25 = .ok (.aload_n 0, 1) := dk_42 (dk_at dksX2_looked_1 1 rfl rfl)
theorem dX2_looked_26 : decode cX2_looked 26 = .ok (.dup, 1) := dk_89 (dk_at dksX2_looked_1 2 rfl rfl)
theorem dX2_looked_27 : decode cX2_looked 27 = .ok (.getfield 114, 3) := dk_180 0 114 (dk_at dksX2_looked_1 3 rfl rfl)
theorem dX2_looked_30 : decode cX2_looked 30 = .ok (.iconst 1, 1) := dk_4 (dk_at dksX2_looked_1 6 rfl rfl)
theorem dX2_looked_31 : decode cX2_looked 31 = .ok (.isub, 1) := dk_100 (dk_at dksX2_looked_1 7 rfl rfl)
theorem dX2_looked_32 : decode cX2_looked 32 = .ok (.putfield 114, 3) := dk_181 0 114 (dk_at dksX2_looked_1 8 rfl rfl)
theorem dX2_looked_35 : decode cX2_looked 35 = .ok (.aload_n 2, 1) := dk_44 (dk_at dksX2_looked_1 11 rfl rfl)
theorem dX2_looked_36 : decode cX2_looked 36 = .ok (.areturn, 1) := dk_176 (dk_at dksX2_looked_1 12 rfl rfl)
abbrev cX2_takes : ByteArray := prog_18_method_22_code
def yX2_takes : MethodName := ⟨RX2, "takes", "(I)Z"⟩
def dkwX2_takes_1 : List UInt8 := [167, 0, 4, 3, 96, 181, 0, 36, 28, 172]
abbrev dktX2_takes_1 : List UInt8 := dkwX2_takes_1 ++ []
def dkwX2_takes_0 : List UInt8 := [42, 182, 0, 43, 27, 160, 0, 7, 4, 167, 0, 4, 3, 61, 42, 89, 180, 0, 36, 28, 153, 0, 7, 4]
abbrev dktX2_takes_0 : List UInt8 := dkwX2_takes_0 ++ dktX2_takes_1
theorem dksX2_takes_0 : cX2_takes.data.toList.drop 0 = dktX2_takes_0 := by decide +kernel
theorem dksX2_takes_1 : cX2_takes.data.toList.drop 24 = dktX2_takes_1 := dk_seg dksX2_takes_0 24 rfl rfl
theorem dX2_takes_0 : decode cX2_takes 0 = .ok (.aload_n 0, 1) := dk_42 (dk_at dksX2_takes_0 0 rfl rfl)
theorem dX2_takes_1 : decode cX2_takes 1 = .ok (.invokevirtual 43, 3) := dk_182 0 43 (dk_at dksX2_takes_0 1 rfl rfl)
theorem dX2_takes_4 : decode cX2_takes 4 = .ok (.iload_n 1, 1) := dk_27 (dk_at dksX2_takes_0 4 rfl rfl)
theorem dX2_takes_5 : decode cX2_takes 5 = .ok (.if_icmp .ne 7, 3) := dk_160 0 7 (dk_at dksX2_takes_0 5 rfl rfl)
theorem dX2_takes_8 : decode cX2_takes 8 = .ok (.iconst 1, 1) := dk_4 (dk_at dksX2_takes_0 8 rfl rfl)
theorem dX2_takes_9 : decode cX2_takes 9 = .ok (.goto 4, 3) := dk_167 0 4 (dk_at dksX2_takes_0 9 rfl rfl)
theorem dX2_takes_12 : decode cX2_takes 12 = .ok (.iconst 0, 1) := dk_3 (dk_at dksX2_takes_0 12 rfl rfl)
theorem dX2_takes_13 : decode cX2_takes 13 = .ok (.istore_n 2, 1) := dk_61 (dk_at dksX2_takes_0 13 rfl rfl)
theorem dX2_takes_14 : decode cX2_takes 14 = .ok (.aload_n 0, 1) := dk_42 (dk_at dksX2_takes_0 14 rfl rfl)
theorem dX2_takes_15 : decode cX2_takes 15 = .ok (.dup, 1) := dk_89 (dk_at dksX2_takes_0 15 rfl rfl)
theorem dX2_takes_16 : decode cX2_takes 16 = .ok (.getfield 36, 3) := dk_180 0 36 (dk_at dksX2_takes_0 16 rfl rfl)
theorem dX2_takes_19 : decode cX2_takes 19 = .ok (.iload_n 2, 1) := dk_28 (dk_at dksX2_takes_0 19 rfl rfl)
theorem dX2_takes_20 : decode cX2_takes 20 = .ok (.ifCond .eq 7, 3) := dk_153 0 7 (dk_at dksX2_takes_0 20 rfl rfl)
theorem dX2_takes_23 : decode cX2_takes 23 = .ok (.iconst 1, 1) := dk_4 (dk_at dksX2_takes_0 23 rfl rfl)
theorem dX2_takes_24 : decode cX2_takes 24 = .ok (.goto 4, 3) := dk_167 0 4 (dk_at dksX2_takes_1 0 rfl rfl)
theorem dX2_takes_27 : decode cX2_takes 27 = .ok (.iconst 0, 1) := dk_3 (dk_at dksX2_takes_1 3 rfl rfl)
theorem dX2_takes_28 : decode cX2_takes 28 = .ok (.iadd, 1) := dk_96 (dk_at dksX2_takes_1 4 rfl rfl)
theorem dX2_takes_29 : decode cX2_takes 29 = .ok (.putfield 36, 3) := dk_181 0 36 (dk_at dksX2_takes_1 5 rfl rfl)
theorem dX2_takes_32 : decode cX2_takes 32 = .ok (.iload_n 2, 1) := dk_28 (dk_at dksX2_takes_1 8 rfl rfl)
theorem dX2_takes_33 : decode cX2_takes 33 = .ok (.ireturn, 1) := dk_172 (dk_at dksX2_takes_1 9 rfl rfl)
abbrev cX2_test : ByteArray := prog_18_method_28_code
def yX2_test : MethodName := ⟨RX2, "test", "()LMarriageHerring$Test;"⟩
def dkwX2_test_2 : List UInt8 := [167, 255, 232, 43, 176]
abbrev dktX2_test_2 : List UInt8 := dkwX2_test_2 ++ []
def dkwX2_test_1 : List UInt8 := [19, 1, 47, 182, 1, 49, 153, 0, 20, 43, 180, 1, 41, 42, 182, 1, 44, 185, 0, 159, 2, 0, 87]
abbrev dktX2_test_1 : List UInt8 := dkwX2_test_1 ++ dktX2_test_2
def dkwX2_test_0 : List UInt8 := [187, 1, 36, 89, 3, 183, 1, 38, 76, 43, 180, 1, 41, 42, 182, 1, 44, 185, 0, 159, 2, 0, 87, 42]
abbrev dktX2_test_0 : List UInt8 := dkwX2_test_0 ++ dktX2_test_1
theorem dksX2_test_0 : cX2_test.data.toList.drop 0 = dktX2_test_0 := by decide +kernel
theorem dksX2_test_1 : cX2_test.data.toList.drop 24 = dktX2_test_1 := dk_seg dksX2_test_0 24 rfl rfl
theorem dksX2_test_2 : cX2_test.data.toList.drop 47 = dktX2_test_2 := dk_seg dksX2_test_1 23 rfl rfl
theorem dX2_test_0 : decode cX2_test 0 = .ok (.new 292, 3) := dk_187 1 36 (dk_at dksX2_test_0 0 rfl rfl)
theorem dX2_test_3 : decode cX2_test 3 = .ok (.dup, 1) := dk_89 (dk_at dksX2_test_0 3 rfl rfl)
theorem dX2_test_4 : decode cX2_test 4 = .ok (.iconst 0, 1) := dk_3 (dk_at dksX2_test_0 4 rfl rfl)
theorem dX2_test_5 : decode cX2_test 5 = .ok (.invokespecial 294, 3) := dk_183 1 38 (dk_at dksX2_test_0 5 rfl rfl)
theorem dX2_test_8 : decode cX2_test 8 = .ok (.astore_n 1, 1) := dk_76 (dk_at dksX2_test_0 8 rfl rfl)
theorem dX2_test_9 : decode cX2_test 9 = .ok (.aload_n 1, 1) := dk_43 (dk_at dksX2_test_0 9 rfl rfl)
theorem dX2_test_10 : decode cX2_test 10 = .ok (.getfield 297, 3) := dk_180 1 41 (dk_at dksX2_test_0 10 rfl rfl)
theorem dX2_test_13 : decode cX2_test 13 = .ok (.aload_n 0, 1) := dk_42 (dk_at dksX2_test_0 13 rfl rfl)
theorem dX2_test_14 : decode cX2_test 14 = .ok (.invokevirtual 300, 3) := dk_182 1 44 (dk_at dksX2_test_0 14 rfl rfl)
theorem dX2_test_17 : decode cX2_test 17 = .ok (.invokeinterface 159 2, 5) := by decide +kernel
theorem dX2_test_22 : decode cX2_test 22 = .ok (.pop, 1) := dk_87 (dk_at dksX2_test_0 22 rfl rfl)
theorem dX2_test_23 : decode cX2_test 23 = .ok (.aload_n 0, 1) := dk_42 (dk_at dksX2_test_0 23 rfl rfl)
theorem dX2_test_24 : decode cX2_test 24 = .ok (.ldc_w 303, 3) := dk_19 1 47 (dk_at dksX2_test_1 0 rfl rfl)
theorem dX2_test_27 : decode cX2_test 27 = .ok (.invokevirtual 305, 3) := dk_182 1 49 (dk_at dksX2_test_1 3 rfl rfl)
theorem dX2_test_30 : decode cX2_test 30 = .ok (.ifCond .eq 20, 3) := dk_153 0 20 (dk_at dksX2_test_1 6 rfl rfl)
theorem dX2_test_33 : decode cX2_test 33 = .ok (.aload_n 1, 1) := dk_43 (dk_at dksX2_test_1 9 rfl rfl)
theorem dX2_test_34 : decode cX2_test 34 = .ok (.getfield 297, 3) := dk_180 1 41 (dk_at dksX2_test_1 10 rfl rfl)
theorem dX2_test_37 : decode cX2_test 37 = .ok (.aload_n 0, 1) := dk_42 (dk_at dksX2_test_1 13 rfl rfl)
theorem dX2_test_38 : decode cX2_test 38 = .ok (.invokevirtual 300, 3) := dk_182 1 44 (dk_at dksX2_test_1 14 rfl rfl)
theorem dX2_test_41 : decode cX2_test 41 = .ok (.invokeinterface 159 2, 5) := by decide +kernel
theorem dX2_test_46 : decode cX2_test 46 = .ok (.pop, 1) := dk_87 (dk_at dksX2_test_1 22 rfl rfl)
theorem dX2_test_47 : decode cX2_test 47 = .ok (.goto (-24), 3) := dk_167 255 232 (dk_at dksX2_test_2 0 rfl rfl)
theorem dX2_test_50 : decode cX2_test 50 = .ok (.aload_n 1, 1) := dk_43 (dk_at dksX2_test_2 3 rfl rfl)
theorem dX2_test_51 : decode cX2_test 51 = .ok (.areturn, 1) := dk_176 (dk_at dksX2_test_2 4 rfl rfl)
abbrev cX2_both : ByteArray := prog_18_method_29_code
def yX2_both : MethodName := ⟨RX2, "both", "()LMarriageHerring$Test;"⟩
def dkwX2_both_2 : List UInt8 := [167, 255, 232, 43, 176]
abbrev dktX2_both_2 : List UInt8 := dkwX2_both_2 ++ []
def dkwX2_both_1 : List UInt8 := [19, 1, 55, 182, 1, 49, 153, 0, 20, 43, 180, 1, 41, 42, 182, 1, 52, 185, 0, 159, 2, 0, 87]
abbrev dktX2_both_1 : List UInt8 := dkwX2_both_1 ++ dktX2_both_2
def dkwX2_both_0 : List UInt8 := [187, 1, 36, 89, 4, 183, 1, 38, 76, 43, 180, 1, 41, 42, 182, 1, 52, 185, 0, 159, 2, 0, 87, 42]
abbrev dktX2_both_0 : List UInt8 := dkwX2_both_0 ++ dktX2_both_1
theorem dksX2_both_0 : cX2_both.data.toList.drop 0 = dktX2_both_0 := by decide +kernel
theorem dksX2_both_1 : cX2_both.data.toList.drop 24 = dktX2_both_1 := dk_seg dksX2_both_0 24 rfl rfl
theorem dksX2_both_2 : cX2_both.data.toList.drop 47 = dktX2_both_2 := dk_seg dksX2_both_1 23 rfl rfl
theorem dX2_both_0 : decode cX2_both 0 = .ok (.new 292, 3) := dk_187 1 36 (dk_at dksX2_both_0 0 rfl rfl)
theorem dX2_both_3 : decode cX2_both 3 = .ok (.dup, 1) := dk_89 (dk_at dksX2_both_0 3 rfl rfl)
theorem dX2_both_4 : decode cX2_both 4 = .ok (.iconst 1, 1) := dk_4 (dk_at dksX2_both_0 4 rfl rfl)
theorem dX2_both_5 : decode cX2_both 5 = .ok (.invokespecial 294, 3) := dk_183 1 38 (dk_at dksX2_both_0 5 rfl rfl)
theorem dX2_both_8 : decode cX2_both 8 = .ok (.astore_n 1, 1) := dk_76 (dk_at dksX2_both_0 8 rfl rfl)
theorem dX2_both_9 : decode cX2_both 9 = .ok (.aload_n 1, 1) := dk_43 (dk_at dksX2_both_0 9 rfl rfl)
theorem dX2_both_10 : decode cX2_both 10 = .ok (.getfield 297, 3) := dk_180 1 41 (dk_at dksX2_both_0 10 rfl rfl)
theorem dX2_both_13 : decode cX2_both 13 = .ok (.aload_n 0, 1) := dk_42 (dk_at dksX2_both_0 13 rfl rfl)
theorem dX2_both_14 : decode cX2_both 14 = .ok (.invokevirtual 308, 3) := dk_182 1 52 (dk_at dksX2_both_0 14 rfl rfl)
theorem dX2_both_17 : decode cX2_both 17 = .ok (.invokeinterface 159 2, 5) := by decide +kernel
theorem dX2_both_22 : decode cX2_both 22 = .ok (.pop, 1) := dk_87 (dk_at dksX2_both_0 22 rfl rfl)
theorem dX2_both_23 : decode cX2_both 23 = .ok (.aload_n 0, 1) := dk_42 (dk_at dksX2_both_0 23 rfl rfl)
theorem dX2_both_24 : decode cX2_both 24 = .ok (.ldc_w 311, 3) := dk_19 1 55 (dk_at dksX2_both_1 0 rfl rfl)
theorem dX2_both_27 : decode cX2_both 27 = .ok (.invokevirtual 305, 3) := dk_182 1 49 (dk_at dksX2_both_1 3 rfl rfl)
theorem dX2_both_30 : decode cX2_both 30 = .ok (.ifCond .eq 20, 3) := dk_153 0 20 (dk_at dksX2_both_1 6 rfl rfl)
theorem dX2_both_33 : decode cX2_both 33 = .ok (.aload_n 1, 1) := dk_43 (dk_at dksX2_both_1 9 rfl rfl)
theorem dX2_both_34 : decode cX2_both 34 = .ok (.getfield 297, 3) := dk_180 1 41 (dk_at dksX2_both_1 10 rfl rfl)
theorem dX2_both_37 : decode cX2_both 37 = .ok (.aload_n 0, 1) := dk_42 (dk_at dksX2_both_1 13 rfl rfl)
theorem dX2_both_38 : decode cX2_both 38 = .ok (.invokevirtual 308, 3) := dk_182 1 52 (dk_at dksX2_both_1 14 rfl rfl)
theorem dX2_both_41 : decode cX2_both 41 = .ok (.invokeinterface 159 2, 5) := by decide +kernel
theorem dX2_both_46 : decode cX2_both 46 = .ok (.pop, 1) := dk_87 (dk_at dksX2_both_1 22 rfl rfl)
theorem dX2_both_47 : decode cX2_both 47 = .ok (.goto (-24), 3) := dk_167 255 232 (dk_at dksX2_both_2 0 rfl rfl)
theorem dX2_both_50 : decode cX2_both 50 = .ok (.aload_n 1, 1) := dk_43 (dk_at dksX2_both_2 3 rfl rfl)
theorem dX2_both_51 : decode cX2_both 51 = .ok (.areturn, 1) := dk_176 (dk_at dksX2_both_2 4 rfl rfl)
abbrev cX2_fact : ByteArray := prog_18_method_30_code
def yX2_fact : MethodName := ⟨RX2, "fact", "()LMarriageHerring$Test;"⟩
def dkwX2_fact_7 : List UInt8 := [183, 1, 71, 176]
abbrev dktX2_fact_7 : List UInt8 := dkwX2_fact_7 ++ []
def dkwX2_fact_6 : List UInt8 := [182, 0, 47, 191, 42, 89, 180, 0, 36, 4, 96, 181, 0, 36, 187, 1, 69, 89, 43, 28, 42, 182, 0, 209]
abbrev dktX2_fact_6 : List UInt8 := dkwX2_fact_6 ++ dktX2_fact_7
def dkwX2_fact_5 : List UInt8 := [28, 16, 60, 159, 0, 25, 28, 16, 62, 159, 0, 19, 28, 16, 61, 159, 0, 13, 42, 4, 42, 180, 0, 36]
abbrev dktX2_fact_5 : List UInt8 := dkwX2_fact_5 ++ dktX2_fact_6
def dkwX2_fact_4 : List UInt8 := [182, 1, 49, 153, 0, 11, 187, 1, 66, 89, 183, 1, 68, 176, 42, 182, 0, 209, 76, 42, 182, 0, 43, 61]
abbrev dktX2_fact_4 : List UInt8 := dkwX2_fact_4 ++ dktX2_fact_5
def dkwX2_fact_3 : List UInt8 := [42, 182, 1, 52, 183, 1, 61, 76, 42, 89, 180, 0, 114, 4, 100, 181, 0, 114, 43, 176, 42, 19, 1, 64]
abbrev dktX2_fact_3 : List UInt8 := dkwX2_fact_3 ++ dktX2_fact_4
def dkwX2_fact_2 : List UInt8 := [43, 176, 42, 19, 1, 57, 182, 1, 49, 153, 0, 35, 42, 42, 180, 0, 61, 182, 0, 254, 187, 1, 59, 89]
abbrev dktX2_fact_2 : List UInt8 := dkwX2_fact_2 ++ dktX2_fact_3
def dkwX2_fact_1 : List UInt8 := [181, 0, 36, 42, 182, 0, 235, 76, 42, 16, 93, 182, 0, 132, 42, 89, 180, 0, 114, 4, 100, 181, 0, 114]
abbrev dktX2_fact_1 : List UInt8 := dkwX2_fact_1 ++ dktX2_fact_2
def dkwX2_fact_0 : List UInt8 := [42, 182, 0, 43, 16, 91, 160, 0, 44, 42, 42, 180, 0, 36, 182, 0, 254, 42, 89, 180, 0, 36, 4, 96]
abbrev dktX2_fact_0 : List UInt8 := dkwX2_fact_0 ++ dktX2_fact_1
theorem dksX2_fact_0 : cX2_fact.data.toList.drop 0 = dktX2_fact_0 := by decide +kernel
theorem dksX2_fact_1 : cX2_fact.data.toList.drop 24 = dktX2_fact_1 := dk_seg dksX2_fact_0 24 rfl rfl
theorem dksX2_fact_2 : cX2_fact.data.toList.drop 48 = dktX2_fact_2 := dk_seg dksX2_fact_1 24 rfl rfl
theorem dksX2_fact_3 : cX2_fact.data.toList.drop 72 = dktX2_fact_3 := dk_seg dksX2_fact_2 24 rfl rfl
theorem dksX2_fact_4 : cX2_fact.data.toList.drop 96 = dktX2_fact_4 := dk_seg dksX2_fact_3 24 rfl rfl
theorem dksX2_fact_5 : cX2_fact.data.toList.drop 120 = dktX2_fact_5 := dk_seg dksX2_fact_4 24 rfl rfl
theorem dksX2_fact_6 : cX2_fact.data.toList.drop 144 = dktX2_fact_6 := dk_seg dksX2_fact_5 24 rfl rfl
theorem dksX2_fact_7 : cX2_fact.data.toList.drop 168 = dktX2_fact_7 := dk_seg dksX2_fact_6 24 rfl rfl
theorem dX2_fact_0 : decode cX2_fact 0 = .ok (.aload_n 0, 1) := dk_42 (dk_at dksX2_fact_0 0 rfl rfl)
theorem dX2_fact_1 : decode cX2_fact 1 = .ok (.invokevirtual 43, 3) := dk_182 0 43 (dk_at dksX2_fact_0 1 rfl rfl)
theorem dX2_fact_4 : decode cX2_fact 4 = .ok (.bipush 91, 2) := dk_16 91 (dk_at dksX2_fact_0 4 rfl rfl)
theorem dX2_fact_6 : decode cX2_fact 6 = .ok (.if_icmp .ne 44, 3) := dk_160 0 44 (dk_at dksX2_fact_0 6 rfl rfl)
theorem dX2_fact_9 : decode cX2_fact 9 = .ok (.aload_n 0, 1) := dk_42 (dk_at dksX2_fact_0 9 rfl rfl)
theorem dX2_fact_10 : decode cX2_fact 10 = .ok (.aload_n 0, 1) := dk_42 (dk_at dksX2_fact_0 10 rfl rfl)
theorem dX2_fact_11 : decode cX2_fact 11 = .ok (.getfield 36, 3) := dk_180 0 36 (dk_at dksX2_fact_0 11 rfl rfl)
theorem dX2_fact_14 : decode cX2_fact 14 = .ok (.invokevirtual 254, 3) := dk_182 0 254 (dk_at dksX2_fact_0 14 rfl rfl)
theorem dX2_fact_17 : decode cX2_fact 17 = .ok (.aload_n 0, 1) := dk_42 (dk_at dksX2_fact_0 17 rfl rfl)
theorem dX2_fact_18 : decode cX2_fact 18 = .ok (.dup, 1) := dk_89 (dk_at dksX2_fact_0 18 rfl rfl)
theorem dX2_fact_19 : decode cX2_fact 19 = .ok (.getfield 36, 3) := dk_180 0 36 (dk_at dksX2_fact_0 19 rfl rfl)
theorem dX2_fact_22 : decode cX2_fact 22 = .ok (.iconst 1, 1) := dk_4 (dk_at dksX2_fact_0 22 rfl rfl)
theorem dX2_fact_23 : decode cX2_fact 23 = .ok (.iadd, 1) := dk_96 (dk_at dksX2_fact_0 23 rfl rfl)
theorem dX2_fact_24 : decode cX2_fact 24 = .ok (.putfield 36, 3) := dk_181 0 36 (dk_at dksX2_fact_1 0 rfl rfl)
theorem dX2_fact_27 : decode cX2_fact 27 = .ok (.aload_n 0, 1) := dk_42 (dk_at dksX2_fact_1 3 rfl rfl)
theorem dX2_fact_28 : decode cX2_fact 28 = .ok (.invokevirtual 235, 3) := dk_182 0 235 (dk_at dksX2_fact_1 4 rfl rfl)
theorem dX2_fact_31 : decode cX2_fact 31 = .ok (.astore_n 1, 1) := dk_76 (dk_at dksX2_fact_1 7 rfl rfl)
theorem dX2_fact_32 : decode cX2_fact 32 = .ok (.aload_n 0, 1) := dk_42 (dk_at dksX2_fact_1 8 rfl rfl)
theorem dX2_fact_33 : decode cX2_fact 33 = .ok (.bipush 93, 2) := dk_16 93 (dk_at dksX2_fact_1 9 rfl rfl)
theorem dX2_fact_35 : decode cX2_fact 35 = .ok (.invokevirtual 132, 3) := dk_182 0 132 (dk_at dksX2_fact_1 11 rfl rfl)
theorem dX2_fact_38 : decode cX2_fact 38 = .ok (.aload_n 0, 1) := dk_42 (dk_at dksX2_fact_1 14 rfl rfl)
theorem dX2_fact_39 : decode cX2_fact 39 = .ok (.dup, 1) := dk_89 (dk_at dksX2_fact_1 15 rfl rfl)
theorem dX2_fact_40 : decode cX2_fact 40 = .ok (.getfield 114, 3) := dk_180 0 114 (dk_at dksX2_fact_1 16 rfl rfl)
theorem dX2_fact_43 : decode cX2_fact 43 = .ok (.iconst 1, 1) := dk_4 (dk_at dksX2_fact_1 19 rfl rfl)
theorem dX2_fact_44 : decode cX2_fact 44 = .ok (.isub, 1) := dk_100 (dk_at dksX2_fact_1 20 rfl rfl)
theorem dX2_fact_45 : decode cX2_fact 45 = .ok (.putfield 114, 3) := dk_181 0 114 (dk_at dksX2_fact_1 21 rfl rfl)
theorem dX2_fact_48 : decode cX2_fact 48 = .ok (.aload_n 1, 1) := dk_43 (dk_at dksX2_fact_2 0 rfl rfl)
theorem dX2_fact_49 : decode cX2_fact 49 = .ok (.areturn, 1) := dk_176 (dk_at dksX2_fact_2 1 rfl rfl)
theorem dX2_fact_50 : decode cX2_fact 50 = .ok (.aload_n 0, 1) := dk_42 (dk_at dksX2_fact_2 2 rfl rfl)
theorem dX2_fact_51 : decode cX2_fact 51 = .ok (.ldc_w 313, 3) := dk_19 1 57 (dk_at dksX2_fact_2 3 rfl rfl)
theorem dX2_fact_54 : decode cX2_fact 54 = .ok (.invokevirtual 305, 3) := dk_182 1 49 (dk_at dksX2_fact_2 6 rfl rfl)
theorem dX2_fact_57 : decode cX2_fact 57 = .ok (.ifCond .eq 35, 3) := dk_153 0 35 (dk_at dksX2_fact_2 9 rfl rfl)
theorem dX2_fact_60 : decode cX2_fact 60 = .ok (.aload_n 0, 1) := dk_42 (dk_at dksX2_fact_2 12 rfl rfl)
theorem dX2_fact_61 : decode cX2_fact 61 = .ok (.aload_n 0, 1) := dk_42 (dk_at dksX2_fact_2 13 rfl rfl)
theorem dX2_fact_62 : decode cX2_fact 62 = .ok (.getfield 61, 3) := dk_180 0 61 (dk_at dksX2_fact_2 14 rfl rfl)
theorem dX2_fact_65 : decode cX2_fact 65 = .ok (.invokevirtual 254, 3) := dk_182 0 254 (dk_at dksX2_fact_2 17 rfl rfl)
theorem dX2_fact_68 : decode cX2_fact 68 = .ok (.new 315, 3) := dk_187 1 59 (dk_at dksX2_fact_2 20 rfl rfl)
theorem dX2_fact_71 : decode cX2_fact 71 = .ok (.dup, 1) := dk_89 (dk_at dksX2_fact_2 23 rfl rfl)
theorem dX2_fact_72 : decode cX2_fact 72 = .ok (.aload_n 0, 1) := dk_42 (dk_at dksX2_fact_3 0 rfl rfl)
theorem dX2_fact_73 : decode cX2_fact 73 = .ok (.invokevirtual 308, 3) := dk_182 1 52 (dk_at dksX2_fact_3 1 rfl rfl)
theorem dX2_fact_76 : decode cX2_fact 76 = .ok (.invokespecial 317, 3) := dk_183 1 61 (dk_at dksX2_fact_3 4 rfl rfl)
theorem dX2_fact_79 : decode cX2_fact 79 = .ok (.astore_n 1, 1) := dk_76 (dk_at dksX2_fact_3 7 rfl rfl)
theorem dX2_fact_80 : decode cX2_fact 80 = .ok (.aload_n 0, 1) := dk_42 (dk_at dksX2_fact_3 8 rfl rfl)
theorem dX2_fact_81 : decode cX2_fact 81 = .ok (.dup, 1) := dk_89 (dk_at dksX2_fact_3 9 rfl rfl)
theorem dX2_fact_82 : decode cX2_fact 82 = .ok (.getfield 114, 3) := dk_180 0 114 (dk_at dksX2_fact_3 10 rfl rfl)
theorem dX2_fact_85 : decode cX2_fact 85 = .ok (.iconst 1, 1) := dk_4 (dk_at dksX2_fact_3 13 rfl rfl)
theorem dX2_fact_86 : decode cX2_fact 86 = .ok (.isub, 1) := dk_100 (dk_at dksX2_fact_3 14 rfl rfl)
theorem dX2_fact_87 : decode cX2_fact 87 = .ok (.putfield 114, 3) := dk_181 0 114 (dk_at dksX2_fact_3 15 rfl rfl)
theorem dX2_fact_90 : decode cX2_fact 90 = .ok (.aload_n 1, 1) := dk_43 (dk_at dksX2_fact_3 18 rfl rfl)
theorem dX2_fact_91 : decode cX2_fact 91 = .ok (.areturn, 1) := dk_176 (dk_at dksX2_fact_3 19 rfl rfl)
theorem dX2_fact_92 : decode cX2_fact 92 = .ok (.aload_n 0, 1) := dk_42 (dk_at dksX2_fact_3 20 rfl rfl)
theorem dX2_fact_93 : decode cX2_fact 93 = .ok (.ldc_w 320, 3) := dk_19 1 64 (dk_at dksX2_fact_3 21 rfl rfl)
theorem dX2_fact_96 : decode cX2_fact 96 = .ok (.invokevirtual 305, 3) := dk_182 1 49 (dk_at dksX2_fact_4 0 rfl rfl)
theorem dX2_fact_99 : decode cX2_fact 99 = .ok (.ifCond .eq 11, 3) := dk_153 0 11 (dk_at dksX2_fact_4 3 rfl rfl)
theorem dX2_fact_102 : decode cX2_fact 102 = .ok (.new 322, 3) := dk_187 1 66 (dk_at dksX2_fact_4 6 rfl rfl)
theorem dX2_fact_105 : decode cX2_fact 105 = .ok (.dup, 1) := dk_89 (dk_at dksX2_fact_4 9 rfl rfl)
theorem dX2_fact_106 : decode cX2_fact 106 = .ok (.invokespecial 324, 3) := dk_183 1 68 (dk_at dksX2_fact_4 10 rfl rfl)
theorem dX2_fact_109 : decode cX2_fact 109 = .ok (.areturn, 1) := dk_176 (dk_at dksX2_fact_4 13 rfl rfl)
theorem dX2_fact_110 : decode cX2_fact 110 = .ok (.aload_n 0, 1) := dk_42 (dk_at dksX2_fact_4 14 rfl rfl)
theorem dX2_fact_111 : decode cX2_fact 111 = .ok (.invokevirtual 209, 3) := dk_182 0 209 (dk_at dksX2_fact_4 15 rfl rfl)
theorem dX2_fact_114 : decode cX2_fact 114 = .ok (.astore_n 1, 1) := dk_76 (dk_at dksX2_fact_4 18 rfl rfl)
theorem dX2_fact_115 : decode cX2_fact 115 = .ok (.aload_n 0, 1) := dk_42 (dk_at dksX2_fact_4 19 rfl rfl)
theorem dX2_fact_116 : decode cX2_fact 116 = .ok (.invokevirtual 43, 3) := dk_182 0 43 (dk_at dksX2_fact_4 20 rfl rfl)
theorem dX2_fact_119 : decode cX2_fact 119 = .ok (.istore_n 2, 1) := dk_61 (dk_at dksX2_fact_4 23 rfl rfl)
theorem dX2_fact_120 : decode cX2_fact 120 = .ok (.iload_n 2, 1) := dk_28 (dk_at dksX2_fact_5 0 rfl rfl)
theorem dX2_fact_121 : decode cX2_fact 121 = .ok (.bipush 60, 2) := dk_16 60 (dk_at dksX2_fact_5 1 rfl rfl)
theorem dX2_fact_123 : decode cX2_fact 123 = .ok (.if_icmp .eq 25, 3) := dk_159 0 25 (dk_at dksX2_fact_5 3 rfl rfl)
theorem dX2_fact_126 : decode cX2_fact 126 = .ok (.iload_n 2, 1) := dk_28 (dk_at dksX2_fact_5 6 rfl rfl)
theorem dX2_fact_127 : decode cX2_fact 127 = .ok (.bipush 62, 2) := dk_16 62 (dk_at dksX2_fact_5 7 rfl rfl)
theorem dX2_fact_129 : decode cX2_fact 129 = .ok (.if_icmp .eq 19, 3) := dk_159 0 19 (dk_at dksX2_fact_5 9 rfl rfl)
theorem dX2_fact_132 : decode cX2_fact 132 = .ok (.iload_n 2, 1) := dk_28 (dk_at dksX2_fact_5 12 rfl rfl)
theorem dX2_fact_133 : decode cX2_fact 133 = .ok (.bipush 61, 2) := dk_16 61 (dk_at dksX2_fact_5 13 rfl rfl)
theorem dX2_fact_135 : decode cX2_fact 135 = .ok (.if_icmp .eq 13, 3) := dk_159 0 13 (dk_at dksX2_fact_5 15 rfl rfl)
theorem dX2_fact_138 : decode cX2_fact 138 = .ok (.aload_n 0, 1) := dk_42 (dk_at dksX2_fact_5 18 rfl rfl)
theorem dX2_fact_139 : decode cX2_fact 139 = .ok (.iconst 1, 1) := dk_4 (dk_at dksX2_fact_5 19 rfl rfl)
theorem dX2_fact_140 : decode cX2_fact 140 = .ok (.aload_n 0, 1) := dk_42 (dk_at dksX2_fact_5 20 rfl rfl)
theorem dX2_fact_141 : decode cX2_fact 141 = .ok (.getfield 36, 3) := dk_180 0 36 (dk_at dksX2_fact_5 21 rfl rfl)
theorem dX2_fact_144 : decode cX2_fact 144 = .ok (.invokevirtual 47, 3) := dk_182 0 47 (dk_at dksX2_fact_6 0 rfl rfl)
theorem dX2_fact_147 : decode cX2_fact 147 = .ok (.athrow, 1) := dk_191 (dk_at dksX2_fact_6 3 rfl rfl)
theorem dX2_fact_148 : decode cX2_fact 148 = .ok (.aload_n 0, 1) := dk_42 (dk_at dksX2_fact_6 4 rfl rfl)
theorem dX2_fact_149 : decode cX2_fact 149 = .ok (.dup, 1) := dk_89 (dk_at dksX2_fact_6 5 rfl rfl)
theorem dX2_fact_150 : decode cX2_fact 150 = .ok (.getfield 36, 3) := dk_180 0 36 (dk_at dksX2_fact_6 6 rfl rfl)
theorem dX2_fact_153 : decode cX2_fact 153 = .ok (.iconst 1, 1) := dk_4 (dk_at dksX2_fact_6 9 rfl rfl)
theorem dX2_fact_154 : decode cX2_fact 154 = .ok (.iadd, 1) := dk_96 (dk_at dksX2_fact_6 10 rfl rfl)
theorem dX2_fact_155 : decode cX2_fact 155 = .ok (.putfield 36, 3) := dk_181 0 36 (dk_at dksX2_fact_6 11 rfl rfl)
theorem dX2_fact_158 : decode cX2_fact 158 = .ok (.new 325, 3) := dk_187 1 69 (dk_at dksX2_fact_6 14 rfl rfl)
theorem dX2_fact_161 : decode cX2_fact 161 = .ok (.dup, 1) := dk_89 (dk_at dksX2_fact_6 17 rfl rfl)
theorem dX2_fact_162 : decode cX2_fact 162 = .ok (.aload_n 1, 1) := dk_43 (dk_at dksX2_fact_6 18 rfl rfl)
theorem dX2_fact_163 : decode cX2_fact 163 = .ok (.iload_n 2, 1) := dk_28 (dk_at dksX2_fact_6 19 rfl rfl)
theorem dX2_fact_164 : decode cX2_fact 164 = .ok (.aload_n 0, 1) := dk_42 (dk_at dksX2_fact_6 20 rfl rfl)
theorem dX2_fact_165 : decode cX2_fact 165 = .ok (.invokevirtual 209, 3) := dk_182 0 209 (dk_at dksX2_fact_6 21 rfl rfl)
theorem dX2_fact_168 : decode cX2_fact 168 = .ok (.invokespecial 327, 3) := dk_183 1 71 (dk_at dksX2_fact_7 0 rfl rfl)
theorem dX2_fact_171 : decode cX2_fact 171 = .ok (.areturn, 1) := dk_176 (dk_at dksX2_fact_7 3 rfl rfl)
abbrev cX2_passes : ByteArray := prog_18_method_9_code
def yX2_passes : MethodName := ⟨RX2, "passes", "(Ljava/lang/String;)Z"⟩
def dkwX2_passes_1 : List UInt8 := [182, 0, 74, 153, 0, 5, 4, 172, 42, 28, 181, 0, 36, 3, 172]
abbrev dktX2_passes_1 : List UInt8 := dkwX2_passes_1 ++ []
def dkwX2_passes_0 : List UInt8 := [42, 180, 0, 36, 61, 42, 182, 0, 43, 184, 0, 51, 154, 0, 5, 3, 172, 42, 182, 0, 70, 43]
abbrev dktX2_passes_0 : List UInt8 := dkwX2_passes_0 ++ dktX2_passes_1
theorem dksX2_passes_0 : cX2_passes.data.toList.drop 0 = dktX2_passes_0 := by decide +kernel
theorem dksX2_passes_1 : cX2_passes.data.toList.drop 22 = dktX2_passes_1 := dk_seg dksX2_passes_0 22 rfl rfl
theorem dX2_passes_0 : decode cX2_passes 0 = .ok (.aload_n 0, 1) := dk_42 (dk_at dksX2_passes_0 0 rfl rfl)
theorem dX2_passes_1 : decode cX2_passes 1 = .ok (.getfield 36, 3) := dk_180 0 36 (dk_at dksX2_passes_0 1 rfl rfl)
theorem dX2_passes_4 : decode cX2_passes 4 = .ok (.istore_n 2, 1) := dk_61 (dk_at dksX2_passes_0 4 rfl rfl)
theorem dX2_passes_5 : decode cX2_passes 5 = .ok (.aload_n 0, 1) := dk_42 (dk_at dksX2_passes_0 5 rfl rfl)
theorem dX2_passes_6 : decode cX2_passes 6 = .ok (.invokevirtual 43, 3) := dk_182 0 43 (dk_at dksX2_passes_0 6 rfl rfl)
theorem dX2_passes_9 : decode cX2_passes 9 = .ok (.invokestatic 51, 3) := dk_184 0 51 (dk_at dksX2_passes_0 9 rfl rfl)
theorem dX2_passes_12 : decode cX2_passes 12 = .ok (.ifCond .ne 5, 3) := dk_154 0 5 (dk_at dksX2_passes_0 12 rfl rfl)
theorem dX2_passes_15 : decode cX2_passes 15 = .ok (.iconst 0, 1) := dk_3 (dk_at dksX2_passes_0 15 rfl rfl)
theorem dX2_passes_16 : decode cX2_passes 16 = .ok (.ireturn, 1) := dk_172 (dk_at dksX2_passes_0 16 rfl rfl)
theorem dX2_passes_17 : decode cX2_passes 17 = .ok (.aload_n 0, 1) := dk_42 (dk_at dksX2_passes_0 17 rfl rfl)
theorem dX2_passes_18 : decode cX2_passes 18 = .ok (.invokevirtual 70, 3) := dk_182 0 70 (dk_at dksX2_passes_0 18 rfl rfl)
theorem dX2_passes_21 : decode cX2_passes 21 = .ok (.aload_n 1, 1) := dk_43 (dk_at dksX2_passes_0 21 rfl rfl)
theorem dX2_passes_22 : decode cX2_passes 22 = .ok (.invokevirtual 74, 3) := dk_182 0 74 (dk_at dksX2_passes_1 0 rfl rfl)
theorem dX2_passes_25 : decode cX2_passes 25 = .ok (.ifCond .eq 5, 3) := dk_153 0 5 (dk_at dksX2_passes_1 3 rfl rfl)
theorem dX2_passes_28 : decode cX2_passes 28 = .ok (.iconst 1, 1) := dk_4 (dk_at dksX2_passes_1 6 rfl rfl)
theorem dX2_passes_29 : decode cX2_passes 29 = .ok (.ireturn, 1) := dk_172 (dk_at dksX2_passes_1 7 rfl rfl)
theorem dX2_passes_30 : decode cX2_passes 30 = .ok (.aload_n 0, 1) := dk_42 (dk_at dksX2_passes_1 8 rfl rfl)
theorem dX2_passes_31 : decode cX2_passes 31 = .ok (.iload_n 2, 1) := dk_28 (dk_at dksX2_passes_1 9 rfl rfl)
theorem dX2_passes_32 : decode cX2_passes 32 = .ok (.putfield 36, 3) := dk_181 0 36 (dk_at dksX2_passes_1 10 rfl rfl)
theorem dX2_passes_35 : decode cX2_passes 35 = .ok (.iconst 0, 1) := dk_3 (dk_at dksX2_passes_1 13 rfl rfl)
theorem dX2_passes_36 : decode cX2_passes 36 = .ok (.ireturn, 1) := dk_172 (dk_at dksX2_passes_1 14 rfl rfl)
abbrev cX2_question : ByteArray := prog_18_method_32_code
def yX2_question : MethodName := ⟨RX2, "question", "(I)LMarriageHerring$Question;"⟩
def dkwX2_question_4 : List UInt8 := [42, 180, 0, 36, 182, 0, 47, 191, 45, 176]
abbrev dktX2_question_4 : List UInt8 := dkwX2_question_4 ++ []
def dkwX2_question_3 : List UInt8 := [187, 1, 82, 89, 28, 1, 42, 182, 0, 209, 183, 1, 84, 78, 42, 182, 0, 43, 2, 159, 0, 13, 42, 4]
abbrev dktX2_question_3 : List UInt8 := dkwX2_question_3 ++ dktX2_question_4
def dkwX2_question_2 : List UInt8 := [191, 28, 6, 162, 0, 19, 187, 1, 82, 89, 28, 42, 182, 0, 235, 1, 183, 1, 84, 167, 0, 16]
abbrev dktX2_question_2 : List UInt8 := dkwX2_question_2 ++ dktX2_question_3
def dkwX2_question_1 : List UInt8 := [182, 0, 70, 178, 1, 79, 184, 0, 82, 61, 28, 2, 160, 0, 13, 42, 4, 42, 180, 0, 61, 182, 0, 47]
abbrev dktX2_question_1 : List UInt8 := dkwX2_question_1 ++ dktX2_question_2
def dkwX2_question_0 : List UInt8 := [42, 27, 181, 0, 29, 42, 3, 181, 0, 36, 42, 3, 181, 0, 114, 42, 17, 7, 82, 181, 0, 206, 42]
abbrev dktX2_question_0 : List UInt8 := dkwX2_question_0 ++ dktX2_question_1
theorem dksX2_question_0 : cX2_question.data.toList.drop 0 = dktX2_question_0 := by decide +kernel
theorem dksX2_question_1 : cX2_question.data.toList.drop 23 = dktX2_question_1 := dk_seg dksX2_question_0 23 rfl rfl
theorem dksX2_question_2 : cX2_question.data.toList.drop 47 = dktX2_question_2 := dk_seg dksX2_question_1 24 rfl rfl
theorem dksX2_question_3 : cX2_question.data.toList.drop 69 = dktX2_question_3 := dk_seg dksX2_question_2 22 rfl rfl
theorem dksX2_question_4 : cX2_question.data.toList.drop 93 = dktX2_question_4 := dk_seg dksX2_question_3 24 rfl rfl
theorem dX2_question_0 : decode cX2_question 0 = .ok (.aload_n 0, 1) := dk_42 (dk_at dksX2_question_0 0 rfl rfl)
theorem dX2_question_1 : decode cX2_question 1 = .ok (.iload_n 1, 1) := dk_27 (dk_at dksX2_question_0 1 rfl rfl)
theorem dX2_question_2 : decode cX2_question 2 = .ok (.putfield 29, 3) := dk_181 0 29 (dk_at dksX2_question_0 2 rfl rfl)
theorem dX2_question_5 : decode cX2_question 5 = .ok (.aload_n 0, 1) := dk_42 (dk_at dksX2_question_0 5 rfl rfl)
theorem dX2_question_6 : decode cX2_question 6 = .ok (.iconst 0, 1) := dk_3 (dk_at dksX2_question_0 6 rfl rfl)
theorem dX2_question_7 : decode cX2_question 7 = .ok (.putfield 36, 3) := dk_181 0 36 (dk_at dksX2_question_0 7 rfl rfl)
theorem dX2_question_10 : decode cX2_question 10 = .ok (.aload_n 0, 1) := dk_42 (dk_at dksX2_question_0 10 rfl rfl)
theorem dX2_question_11 : decode cX2_question 11 = .ok (.iconst 0, 1) := dk_3 (dk_at dksX2_question_0 11 rfl rfl)
theorem dX2_question_12 : decode cX2_question 12 = .ok (.putfield 114, 3) := dk_181 0 114 (dk_at dksX2_question_0 12 rfl rfl)
theorem dX2_question_15 : decode cX2_question 15 = .ok (.aload_n 0, 1) := dk_42 (dk_at dksX2_question_0 15 rfl rfl)
theorem dX2_question_16 : decode cX2_question 16 = .ok (.sipush 1874, 3) := dk_17 7 82 (dk_at dksX2_question_0 16 rfl rfl)
theorem dX2_question_19 : decode cX2_question 19 = .ok (.putfield 206, 3) := dk_181 0 206 (dk_at dksX2_question_0 19 rfl rfl)
theorem dX2_question_22 : decode cX2_question 22 = .ok (.aload_n 0, 1) := dk_42 (dk_at dksX2_question_0 22 rfl rfl)
theorem dX2_question_23 : decode cX2_question 23 = .ok (.invokevirtual 70, 3) := dk_182 0 70 (dk_at dksX2_question_1 0 rfl rfl)
theorem dX2_question_26 : decode cX2_question 26 = .ok (.getstatic 335, 3) := dk_178 1 79 (dk_at dksX2_question_1 3 rfl rfl)
theorem dX2_question_29 : decode cX2_question 29 = .ok (.invokestatic 82, 3) := dk_184 0 82 (dk_at dksX2_question_1 6 rfl rfl)
theorem dX2_question_32 : decode cX2_question 32 = .ok (.istore_n 2, 1) := dk_61 (dk_at dksX2_question_1 9 rfl rfl)
theorem dX2_question_33 : decode cX2_question 33 = .ok (.iload_n 2, 1) := dk_28 (dk_at dksX2_question_1 10 rfl rfl)
theorem dX2_question_34 : decode cX2_question 34 = .ok (.iconst (-1), 1) := dk_2 (dk_at dksX2_question_1 11 rfl rfl)
theorem dX2_question_35 : decode cX2_question 35 = .ok (.if_icmp .ne 13, 3) := dk_160 0 13 (dk_at dksX2_question_1 12 rfl rfl)
theorem dX2_question_38 : decode cX2_question 38 = .ok (.aload_n 0, 1) := dk_42 (dk_at dksX2_question_1 15 rfl rfl)
theorem dX2_question_39 : decode cX2_question 39 = .ok (.iconst 1, 1) := dk_4 (dk_at dksX2_question_1 16 rfl rfl)
theorem dX2_question_40 : decode cX2_question 40 = .ok (.aload_n 0, 1) := dk_42 (dk_at dksX2_question_1 17 rfl rfl)
theorem dX2_question_41 : decode cX2_question 41 = .ok (.getfield 61, 3) := dk_180 0 61 (dk_at dksX2_question_1 18 rfl rfl)
theorem dX2_question_44 : decode cX2_question 44 = .ok (.invokevirtual 47, 3) := dk_182 0 47 (dk_at dksX2_question_1 21 rfl rfl)
theorem dX2_question_47 : decode cX2_question 47 = .ok (.athrow, 1) := dk_191 (dk_at dksX2_question_2 0 rfl rfl)
theorem dX2_question_48 : decode cX2_question 48 = .ok (.iload_n 2, 1) := dk_28 (dk_at dksX2_question_2 1 rfl rfl)
theorem dX2_question_49 : decode cX2_question 49 = .ok (.iconst 3, 1) := dk_6 (dk_at dksX2_question_2 2 rfl rfl)
theorem dX2_question_50 : decode cX2_question 50 = .ok (.if_icmp .ge 19, 3) := dk_162 0 19 (dk_at dksX2_question_2 3 rfl rfl)
theorem dX2_question_53 : decode cX2_question 53 = .ok (.new 338, 3) := dk_187 1 82 (dk_at dksX2_question_2 6 rfl rfl)
theorem dX2_question_56 : decode cX2_question 56 = .ok (.dup, 1) := dk_89 (dk_at dksX2_question_2 9 rfl rfl)
theorem dX2_question_57 : decode cX2_question 57 = .ok (.iload_n 2, 1) := dk_28 (dk_at dksX2_question_2 10 rfl rfl)
theorem dX2_question_58 : decode cX2_question 58 = .ok (.aload_n 0, 1) := dk_42 (dk_at dksX2_question_2 11 rfl rfl)
theorem dX2_question_59 : decode cX2_question 59 = .ok (.invokevirtual 235, 3) := dk_182 0 235 (dk_at dksX2_question_2 12 rfl rfl)
theorem dX2_question_62 : decode cX2_question 62 = .ok (.aconst_null, 1) := dk_1 (dk_at dksX2_question_2 15 rfl rfl)
theorem dX2_question_63 : decode cX2_question 63 = .ok (.invokespecial 340, 3) := dk_183 1 84 (dk_at dksX2_question_2 16 rfl rfl)
theorem dX2_question_66 : decode cX2_question 66 = .ok (.goto 16, 3) := dk_167 0 16 (dk_at dksX2_question_2 19 rfl rfl)
theorem dX2_question_69 : decode cX2_question 69 = .ok (.new 338, 3) := dk_187 1 82 (dk_at dksX2_question_3 0 rfl rfl)
theorem dX2_question_72 : decode cX2_question 72 = .ok (.dup, 1) := dk_89 (dk_at dksX2_question_3 3 rfl rfl)
theorem dX2_question_73 : decode cX2_question 73 = .ok (.iload_n 2, 1) := dk_28 (dk_at dksX2_question_3 4 rfl rfl)
theorem dX2_question_74 : decode cX2_question 74 = .ok (.aconst_null, 1) := dk_1 (dk_at dksX2_question_3 5 rfl rfl)
theorem dX2_question_75 : decode cX2_question 75 = .ok (.aload_n 0, 1) := dk_42 (dk_at dksX2_question_3 6 rfl rfl)
theorem dX2_question_76 : decode cX2_question 76 = .ok (.invokevirtual 209, 3) := dk_182 0 209 (dk_at dksX2_question_3 7 rfl rfl)
theorem dX2_question_79 : decode cX2_question 79 = .ok (.invokespecial 340, 3) := dk_183 1 84 (dk_at dksX2_question_3 10 rfl rfl)
theorem dX2_question_82 : decode cX2_question 82 = .ok (.astore_n 3, 1) := dk_78 (dk_at dksX2_question_3 13 rfl rfl)
theorem dX2_question_83 : decode cX2_question 83 = .ok (.aload_n 0, 1) := dk_42 (dk_at dksX2_question_3 14 rfl rfl)
theorem dX2_question_84 : decode cX2_question 84 = .ok (.invokevirtual 43, 3) := dk_182 0 43 (dk_at dksX2_question_3 15 rfl rfl)
theorem dX2_question_87 : decode cX2_question 87 = .ok (.iconst (-1), 1) := dk_2 (dk_at dksX2_question_3 18 rfl rfl)
theorem dX2_question_88 : decode cX2_question 88 = .ok (.if_icmp .eq 13, 3) := dk_159 0 13 (dk_at dksX2_question_3 19 rfl rfl)
theorem dX2_question_91 : decode cX2_question 91 = .ok (.aload_n 0, 1) := dk_42 (dk_at dksX2_question_3 22 rfl rfl)
theorem dX2_question_92 : decode cX2_question 92 = .ok (.iconst 1, 1) := dk_4 (dk_at dksX2_question_3 23 rfl rfl)
theorem dX2_question_93 : decode cX2_question 93 = .ok (.aload_n 0, 1) := dk_42 (dk_at dksX2_question_4 0 rfl rfl)
theorem dX2_question_94 : decode cX2_question 94 = .ok (.getfield 36, 3) := dk_180 0 36 (dk_at dksX2_question_4 1 rfl rfl)
theorem dX2_question_97 : decode cX2_question 97 = .ok (.invokevirtual 47, 3) := dk_182 0 47 (dk_at dksX2_question_4 4 rfl rfl)
theorem dX2_question_100 : decode cX2_question 100 = .ok (.athrow, 1) := dk_191 (dk_at dksX2_question_4 7 rfl rfl)
theorem dX2_question_101 : decode cX2_question 101 = .ok (.aload_n 3, 1) := dk_45 (dk_at dksX2_question_4 8 rfl rfl)
theorem dX2_question_102 : decode cX2_question 102 = .ok (.areturn, 1) := dk_176 (dk_at dksX2_question_4 9 rfl rfl)
theorem q162 : (Jvm.Cond.initialized "MarriageHerring$Reader") ∈ lw_all := lw_g (lw_at lw_m1 6 rfl) rfl
theorem q241 : (Jvm.Cond.fieldLinkNest "MarriageHerring$Reader" (117 : Nat) "MarriageHerring$Coast" "statements" "I" "MarriageHerring") ∈ lw_tbl := lw_at lw_m1 85 rfl
theorem q242 : (Jvm.Cond.fieldLinkNest "MarriageHerring$Reader" (204 : Nat) "MarriageHerring$Coast" "storm" "I" "MarriageHerring") ∈ lw_tbl := lw_at lw_m1 86 rfl
theorem q246 : (Jvm.Cond.fieldLinkNest "MarriageHerring$Reader" (136 : Nat) "MarriageHerring$Coast" "bays" "Ljava/util/List;" "MarriageHerring") ∈ lw_tbl := lw_at lw_m1 90 rfl
theorem q249 : (Jvm.Cond.fieldLinkNest "MarriageHerring$Reader" (162 : Nat) "MarriageHerring$Coast" "pairs" "Ljava/util/List;" "MarriageHerring") ∈ lw_tbl := lw_at lw_m1 93 rfl
theorem q252 : (Jvm.Cond.fieldLinkNest "MarriageHerring$Reader" (177 : Nat) "MarriageHerring$Coast" "shoals" "Ljava/util/List;" "MarriageHerring") ∈ lw_tbl := lw_at lw_m1 96 rfl
theorem q254 : (Jvm.Cond.fieldLinkNest "MarriageHerring$Reader" (221 : Nat) "MarriageHerring$Coast" "lures" "LMarriageHerring$Value;" "MarriageHerring") ∈ lw_tbl := lw_at lw_m1 98 rfl
theorem q256 : (Jvm.Cond.fieldLinkNest "MarriageHerring$Reader" (228 : Nat) "MarriageHerring$Coast" "mends" "LMarriageHerring$Value;" "MarriageHerring") ∈ lw_tbl := lw_at lw_m1 100 rfl
theorem q258 : (Jvm.Cond.fieldLinkNest "MarriageHerring$Reader" (230 : Nat) "MarriageHerring$Coast" "starves" "LMarriageHerring$Value;" "MarriageHerring") ∈ lw_tbl := lw_at lw_m1 102 rfl
theorem q260 : (Jvm.Cond.fieldLinkNest "MarriageHerring$Reader" (232 : Nat) "MarriageHerring$Coast" "counts" "LMarriageHerring$Test;" "MarriageHerring") ∈ lw_tbl := lw_at lw_m1 104 rfl
theorem q281 : (Jvm.Cond.instantiable "MarriageHerring$Reader" (8 : Nat)) ∈ lw_all := lw_g (lw_at lw_m1 125 rfl) rfl
theorem q283 : (Jvm.Cond.instanceMethod ({ cls := "MarriageHerring$Reader", name := "<init>", desc := "(LMarriageHerring;)V" } : Jvm.MethodName)) ∈ lw_all := lw_g (lw_at lw_m1 127 rfl) rfl
theorem q284 : (Jvm.Cond.code ({ cls := "MarriageHerring$Reader", name := "<init>", desc := "(LMarriageHerring;)V" } : Jvm.MethodName) prog_18_method_1_code (2 : Nat) (Option.none : Option Jvm.ClassFile.FieldType)) ∈ lw_all := lw_g (lw_at lw_m1 128 rfl) rfl
theorem q285 : (Jvm.Cond.methodLink "MarriageHerring$Reader" (9 : Nat) ({ cls := "java/lang/Object", name := "<init>", desc := "()V" } : Jvm.MethodName)) ∈ lw_all := lw_g (lw_at lw_m1 129 rfl) rfl
theorem q286 : (Jvm.Cond.classLink "MarriageHerring$Reader" (15 : Nat) "MarriageHerring$Fault") ∈ lw_all := lw_g (lw_at lw_m1 130 rfl) rfl
theorem q325 : (Jvm.Cond.methodLink "MarriageHerring$Reader" (17 : Nat) ({ cls := "MarriageHerring$Fault", name := "<init>", desc := "()V" } : Jvm.MethodName)) ∈ lw_all := lw_g (lw_at lw_m1 169 rfl) rfl
theorem q337 : (Jvm.Cond.fieldLinkNest "MarriageHerring$Reader" (22 : Nat) "MarriageHerring$Fault" "kind" "I" "MarriageHerring") ∈ lw_tbl := lw_at lw_m1 181 rfl
theorem q339 : (Jvm.Cond.fieldLinkNest "MarriageHerring$Reader" (26 : Nat) "MarriageHerring$Fault" "place" "I" "MarriageHerring") ∈ lw_tbl := lw_at lw_m1 183 rfl
theorem q359 : (Jvm.Cond.fieldLink "MarriageHerring$Reader" (18 : Nat) "MarriageHerring$Reader" "fault" "LMarriageHerring$Fault;") ∈ lw_all := lw_g (lw_at lw_m1 203 rfl) rfl
theorem q360 : (Jvm.Cond.fieldLink "MarriageHerring$Reader" (29 : Nat) "MarriageHerring$Reader" "size" "I") ∈ lw_all := lw_g (lw_at lw_m1 204 rfl) rfl
theorem q361 : (Jvm.Cond.fieldLink "MarriageHerring$Reader" (36 : Nat) "MarriageHerring$Reader" "at" "I") ∈ lw_all := lw_g (lw_at lw_m1 205 rfl) rfl
theorem q362 : (Jvm.Cond.fieldLink "MarriageHerring$Reader" (61 : Nat) "MarriageHerring$Reader" "from" "I") ∈ lw_all := lw_g (lw_at lw_m1 206 rfl) rfl
theorem q363 : (Jvm.Cond.fieldLink "MarriageHerring$Reader" (114 : Nat) "MarriageHerring$Reader" "open" "I") ∈ lw_all := lw_g (lw_at lw_m1 207 rfl) rfl
theorem q364 : (Jvm.Cond.fieldLink "MarriageHerring$Reader" (206 : Nat) "MarriageHerring$Reader" "context" "I") ∈ lw_all := lw_g (lw_at lw_m1 208 rfl) rfl
theorem q365 : (Jvm.Cond.fieldLink "MarriageHerring$Reader" (103 : Nat) "MarriageHerring$Reader" "to" "LMarriageHerring$Coast;") ∈ lw_all := lw_g (lw_at lw_m1 209 rfl) rfl
theorem q366 : (Jvm.Cond.fieldLink "MarriageHerring$Reader" (3 : Nat) "MarriageHerring$Reader" "this$0" "LMarriageHerring;") ∈ lw_all := lw_g (lw_at lw_m1 210 rfl) rfl
theorem q367 : (Jvm.Cond.laysFinal "MarriageHerring$Reader" "MarriageHerring$Reader" "fault" "LMarriageHerring$Fault;") ∈ lw_all := lw_g (lw_at lw_m1 211 rfl) rfl
theorem q368 : (Jvm.Cond.soleField "MarriageHerring$Reader" "fault") ∈ lw_all := lw_g (lw_at lw_m1 212 rfl) rfl
theorem q369 : (Jvm.Cond.lays "MarriageHerring$Reader" "MarriageHerring$Reader" "size" "I") ∈ lw_all := lw_g (lw_at lw_m1 213 rfl) rfl
theorem q370 : (Jvm.Cond.soleField "MarriageHerring$Reader" "size") ∈ lw_all := lw_g (lw_at lw_m1 214 rfl) rfl
theorem q371 : (Jvm.Cond.lays "MarriageHerring$Reader" "MarriageHerring$Reader" "at" "I") ∈ lw_all := lw_g (lw_at lw_m1 215 rfl) rfl
theorem q372 : (Jvm.Cond.soleField "MarriageHerring$Reader" "at") ∈ lw_all := lw_g (lw_at lw_m1 216 rfl) rfl
theorem q373 : (Jvm.Cond.lays "MarriageHerring$Reader" "MarriageHerring$Reader" "from" "I") ∈ lw_all := lw_g (lw_at lw_m1 217 rfl) rfl
theorem q374 : (Jvm.Cond.soleField "MarriageHerring$Reader" "from") ∈ lw_all := lw_g (lw_at lw_m1 218 rfl) rfl
theorem q375 : (Jvm.Cond.lays "MarriageHerring$Reader" "MarriageHerring$Reader" "open" "I") ∈ lw_all := lw_g (lw_at lw_m1 219 rfl) rfl
theorem q376 : (Jvm.Cond.soleField "MarriageHerring$Reader" "open") ∈ lw_all := lw_g (lw_at lw_m1 220 rfl) rfl
theorem q377 : (Jvm.Cond.lays "MarriageHerring$Reader" "MarriageHerring$Reader" "context" "I") ∈ lw_all := lw_g (lw_at lw_m1 221 rfl) rfl
theorem q378 : (Jvm.Cond.soleField "MarriageHerring$Reader" "context") ∈ lw_all := lw_g (lw_at lw_m1 222 rfl) rfl
theorem q379 : (Jvm.Cond.lays "MarriageHerring$Reader" "MarriageHerring$Reader" "to" "LMarriageHerring$Coast;") ∈ lw_all := lw_g (lw_at lw_m1 223 rfl) rfl
theorem q380 : (Jvm.Cond.soleField "MarriageHerring$Reader" "to") ∈ lw_all := lw_g (lw_at lw_m1 224 rfl) rfl
theorem q381 : (Jvm.Cond.laysFinal "MarriageHerring$Reader" "MarriageHerring$Reader" "this$0" "LMarriageHerring;") ∈ lw_all := lw_g (lw_at lw_m1 225 rfl) rfl
theorem q382 : (Jvm.Cond.soleField "MarriageHerring$Reader" "this$0") ∈ lw_all := lw_g (lw_at lw_m1 226 rfl) rfl
theorem q383 : (Jvm.Cond.superclass "MarriageHerring$Reader" "java/lang/Object") ∈ lw_all := lw_g (lw_at lw_m1 227 rfl) rfl
theorem q466 : (Jvm.Cond.fieldLinkNest "MarriageHerring$Reader" (32 : Nat) "MarriageHerring" "tape" "[B" "MarriageHerring") ∈ lw_tbl := lw_at lw_m2 70 rfl
theorem q560 : (Jvm.Cond.instanceMethod ({ cls := "MarriageHerring$Reader", name := "all", desc := "(I)LMarriageHerring$Coast;" } : Jvm.MethodName)) ∈ lw_all := lw_g (lw_at lw_m2 164 rfl) rfl
theorem q561 : (Jvm.Cond.selects "MarriageHerring$Reader" ({ cls := "MarriageHerring$Reader", name := "all", desc := "(I)LMarriageHerring$Coast;" } : Jvm.MethodName) ({ cls := "MarriageHerring$Reader", name := "all", desc := "(I)LMarriageHerring$Coast;" } : Jvm.MethodName)) ∈ lw_all := lw_g (lw_at lw_m2 165 rfl) rfl
theorem q562 : (Jvm.Cond.code ({ cls := "MarriageHerring$Reader", name := "all", desc := "(I)LMarriageHerring$Coast;" } : Jvm.MethodName) prog_18_method_15_code (3 : Nat) (Option.some (Jvm.ClassFile.FieldType.object "MarriageHerring$Coast"))) ∈ lw_all := lw_g (lw_at lw_m2 166 rfl) rfl
theorem q563 : (Jvm.Cond.classLink "MarriageHerring$Reader" (108 : Nat) "MarriageHerring$Coast") ∈ lw_all := lw_g (lw_at lw_m2 167 rfl) rfl
theorem q564 : (Jvm.Cond.methodLinkNest "MarriageHerring$Reader" (113 : Nat) ({ cls := "MarriageHerring$Coast", name := "<init>", desc := "()V" } : Jvm.MethodName) "MarriageHerring") ∈ lw_tbl := lw_at lw_m2 168 rfl
theorem q565 : (Jvm.Cond.methodLink "MarriageHerring$Reader" (43 : Nat) ({ cls := "MarriageHerring$Reader", name := "here", desc := "()I" } : Jvm.MethodName)) ∈ lw_all := lw_g (lw_at lw_m2 169 rfl) rfl
theorem q566 : (Jvm.Cond.privateMethod ({ cls := "MarriageHerring$Reader", name := "here", desc := "()I" } : Jvm.MethodName)) ∈ lw_tbl := lw_at lw_m2 170 rfl
theorem q567 : (Jvm.Cond.instanceMethod ({ cls := "MarriageHerring$Reader", name := "here", desc := "()I" } : Jvm.MethodName)) ∈ lw_all := lw_g (lw_at lw_m2 171 rfl) rfl
theorem q568 : (Jvm.Cond.code ({ cls := "MarriageHerring$Reader", name := "here", desc := "()I" } : Jvm.MethodName) prog_18_method_4_code (1 : Nat) (Option.some Jvm.ClassFile.FieldType.int)) ∈ lw_all := lw_g (lw_at lw_m2 172 rfl) rfl
theorem q569 : (Jvm.Cond.methodLink "MarriageHerring$Reader" (39 : Nat) ({ cls := "MarriageHerring$Reader", name := "byteAt", desc := "(I)I" } : Jvm.MethodName)) ∈ lw_all := lw_g (lw_at lw_m2 173 rfl) rfl
theorem q570 : (Jvm.Cond.privateMethod ({ cls := "MarriageHerring$Reader", name := "byteAt", desc := "(I)I" } : Jvm.MethodName)) ∈ lw_tbl := lw_at lw_m2 174 rfl
theorem q571 : (Jvm.Cond.instanceMethod ({ cls := "MarriageHerring$Reader", name := "byteAt", desc := "(I)I" } : Jvm.MethodName)) ∈ lw_all := lw_g (lw_at lw_m2 175 rfl) rfl
theorem q572 : (Jvm.Cond.code ({ cls := "MarriageHerring$Reader", name := "byteAt", desc := "(I)I" } : Jvm.MethodName) prog_18_method_3_code (2 : Nat) (Option.some Jvm.ClassFile.FieldType.int)) ∈ lw_all := lw_g (lw_at lw_m2 176 rfl) rfl
theorem q573 : (Jvm.Cond.methodLink "MarriageHerring$Reader" (120 : Nat) ({ cls := "MarriageHerring$Reader", name := "most", desc := "(ZI)V" } : Jvm.MethodName)) ∈ lw_all := lw_g (lw_at lw_m2 177 rfl) rfl
theorem q574 : (Jvm.Cond.privateMethod ({ cls := "MarriageHerring$Reader", name := "most", desc := "(ZI)V" } : Jvm.MethodName)) ∈ lw_tbl := lw_at lw_m2 178 rfl
theorem q575 : (Jvm.Cond.instanceMethod ({ cls := "MarriageHerring$Reader", name := "most", desc := "(ZI)V" } : Jvm.MethodName)) ∈ lw_all := lw_g (lw_at lw_m2 179 rfl) rfl
theorem q576 : (Jvm.Cond.code ({ cls := "MarriageHerring$Reader", name := "most", desc := "(ZI)V" } : Jvm.MethodName) prog_18_method_14_code (3 : Nat) (Option.none : Option Jvm.ClassFile.FieldType)) ∈ lw_all := lw_g (lw_at lw_m2 180 rfl) rfl
theorem q577 : (Jvm.Cond.methodLink "MarriageHerring$Reader" (47 : Nat) ({ cls := "MarriageHerring$Reader", name := "wrong", desc := "(II)LMarriageHerring$Fault;" } : Jvm.MethodName)) ∈ lw_all := lw_g (lw_at lw_m2 181 rfl) rfl
theorem q578 : (Jvm.Cond.privateMethod ({ cls := "MarriageHerring$Reader", name := "wrong", desc := "(II)LMarriageHerring$Fault;" } : Jvm.MethodName)) ∈ lw_tbl := lw_at lw_m2 182 rfl
theorem q579 : (Jvm.Cond.instanceMethod ({ cls := "MarriageHerring$Reader", name := "wrong", desc := "(II)LMarriageHerring$Fault;" } : Jvm.MethodName)) ∈ lw_all := lw_g (lw_at lw_m2 183 rfl) rfl
theorem q580 : (Jvm.Cond.code ({ cls := "MarriageHerring$Reader", name := "wrong", desc := "(II)LMarriageHerring$Fault;" } : Jvm.MethodName) prog_18_method_2_code (3 : Nat) (Option.some (Jvm.ClassFile.FieldType.object "MarriageHerring$Fault"))) ∈ lw_all := lw_g (lw_at lw_m2 184 rfl) rfl
theorem q581 : (Jvm.Cond.methodLink "MarriageHerring$Reader" (70 : Nat) ({ cls := "MarriageHerring$Reader", name := "word", desc := "()Ljava/lang/String;" } : Jvm.MethodName)) ∈ lw_all := lw_g (lw_at lw_m2 185 rfl) rfl
theorem q582 : (Jvm.Cond.privateMethod ({ cls := "MarriageHerring$Reader", name := "word", desc := "()Ljava/lang/String;" } : Jvm.MethodName)) ∈ lw_tbl := lw_at lw_m2 186 rfl
theorem q583 : (Jvm.Cond.instanceMethod ({ cls := "MarriageHerring$Reader", name := "word", desc := "()Ljava/lang/String;" } : Jvm.MethodName)) ∈ lw_all := lw_g (lw_at lw_m2 187 rfl) rfl
theorem q584 : (Jvm.Cond.code ({ cls := "MarriageHerring$Reader", name := "word", desc := "()Ljava/lang/String;" } : Jvm.MethodName) prog_18_method_7_code (3 : Nat) (Option.some (Jvm.ClassFile.FieldType.object "java/lang/String"))) ∈ lw_all := lw_g (lw_at lw_m2 188 rfl) rfl
theorem q585 : (Jvm.Cond.methodLinkNest "MarriageHerring$Reader" (51 : Nat) ({ cls := "MarriageHerring", name := "isLetter", desc := "(I)Z" } : Jvm.MethodName) "MarriageHerring") ∈ lw_tbl := lw_at lw_m2 189 rfl
theorem q588 : (Jvm.Cond.methodLink "MarriageHerring$Reader" (58 : Nat) ({ cls := "MarriageHerring$Reader", name := "parted", desc := "()V" } : Jvm.MethodName)) ∈ lw_all := lw_g (lw_at lw_m2 192 rfl) rfl
theorem q589 : (Jvm.Cond.privateMethod ({ cls := "MarriageHerring$Reader", name := "parted", desc := "()V" } : Jvm.MethodName)) ∈ lw_tbl := lw_at lw_m2 193 rfl
theorem q590 : (Jvm.Cond.instanceMethod ({ cls := "MarriageHerring$Reader", name := "parted", desc := "()V" } : Jvm.MethodName)) ∈ lw_all := lw_g (lw_at lw_m2 194 rfl) rfl
theorem q591 : (Jvm.Cond.code ({ cls := "MarriageHerring$Reader", name := "parted", desc := "()V" } : Jvm.MethodName) prog_18_method_6_code (1 : Nat) (Option.none : Option Jvm.ClassFile.FieldType)) ∈ lw_all := lw_g (lw_at lw_m2 195 rfl) rfl
theorem q592 : (Jvm.Cond.methodLinkNest "MarriageHerring$Reader" (55 : Nat) ({ cls := "MarriageHerring", name := "isDigit", desc := "(I)Z" } : Jvm.MethodName) "MarriageHerring") ∈ lw_tbl := lw_at lw_m2 196 rfl
theorem q595 : (Jvm.Cond.methodLink "MarriageHerring$Reader" (64 : Nat) ({ cls := "java/lang/String", name := "valueOf", desc := "([C)Ljava/lang/String;" } : Jvm.MethodName)) ∈ lw_all := lw_g (lw_at lw_m2 199 rfl) rfl
theorem q673 : (Jvm.Cond.methodLink "MarriageHerring$Reader" (124 : Nat) ({ cls := "MarriageHerring$Reader", name := "isTold", desc := "(Ljava/lang/String;I)Z" } : Jvm.MethodName)) ∈ lw_all := lw_g (lw_at lw_m3 37 rfl) rfl
theorem q674 : (Jvm.Cond.privateMethod ({ cls := "MarriageHerring$Reader", name := "isTold", desc := "(Ljava/lang/String;I)Z" } : Jvm.MethodName)) ∈ lw_tbl := lw_at lw_m3 38 rfl
theorem q675 : (Jvm.Cond.instanceMethod ({ cls := "MarriageHerring$Reader", name := "isTold", desc := "(Ljava/lang/String;I)Z" } : Jvm.MethodName)) ∈ lw_all := lw_g (lw_at lw_m3 39 rfl) rfl
theorem q676 : (Jvm.Cond.code ({ cls := "MarriageHerring$Reader", name := "isTold", desc := "(Ljava/lang/String;I)Z" } : Jvm.MethodName) prog_18_method_19_code (5 : Nat) (Option.some Jvm.ClassFile.FieldType.boolean)) ∈ lw_all := lw_g (lw_at lw_m3 40 rfl) rfl
theorem q677 : (Jvm.Cond.methodLink "MarriageHerring$Reader" (184 : Nat) ({ cls := "java/lang/String", name := "hashCode", desc := "()I" } : Jvm.MethodName)) ∈ lw_all := lw_g (lw_at lw_m3 41 rfl) rfl
theorem q730 : (Jvm.Cond.stringRef "MarriageHerring$Reader" (187 : Nat) "bay") ∈ lw_tbl := lw_at lw_m3 94 rfl
theorem q731 : (Jvm.Cond.methodLink "MarriageHerring$Reader" (74 : Nat) ({ cls := "java/lang/String", name := "equals", desc := "(Ljava/lang/Object;)Z" } : Jvm.MethodName)) ∈ lw_all := lw_g (lw_at lw_m3 95 rfl) rfl
theorem q738 : (Jvm.Cond.stringRef "MarriageHerring$Reader" (189 : Nat) "pair") ∈ lw_tbl := lw_at lw_m3 102 rfl
theorem q739 : (Jvm.Cond.stringRef "MarriageHerring$Reader" (191 : Nat) "shoal") ∈ lw_tbl := lw_at lw_m3 103 rfl
theorem q740 : (Jvm.Cond.stringRef "MarriageHerring$Reader" (193 : Nat) "storm") ∈ lw_tbl := lw_at lw_m3 104 rfl
theorem q741 : (Jvm.Cond.methodLink "MarriageHerring$Reader" (195 : Nat) ({ cls := "MarriageHerring$Reader", name := "readsBay", desc := "(I)V" } : Jvm.MethodName)) ∈ lw_all := lw_g (lw_at lw_m3 105 rfl) rfl
theorem q742 : (Jvm.Cond.privateMethod ({ cls := "MarriageHerring$Reader", name := "readsBay", desc := "(I)V" } : Jvm.MethodName)) ∈ lw_tbl := lw_at lw_m3 106 rfl
theorem q743 : (Jvm.Cond.instanceMethod ({ cls := "MarriageHerring$Reader", name := "readsBay", desc := "(I)V" } : Jvm.MethodName)) ∈ lw_all := lw_g (lw_at lw_m3 107 rfl) rfl
theorem q744 : (Jvm.Cond.code ({ cls := "MarriageHerring$Reader", name := "readsBay", desc := "(I)V" } : Jvm.MethodName) prog_18_method_16_code (4 : Nat) (Option.none : Option Jvm.ClassFile.FieldType)) ∈ lw_all := lw_g (lw_at lw_m3 108 rfl) rfl
theorem q745 : (Jvm.Cond.interfaceEntry "MarriageHerring$Reader" (140 : Nat)) ∈ lw_tbl := lw_at lw_m3 109 rfl
theorem q746 : (Jvm.Cond.methodLink "MarriageHerring$Reader" (140 : Nat) ({ cls := "java/util/List", name := "size", desc := "()I" } : Jvm.MethodName)) ∈ lw_all := lw_g (lw_at lw_m3 110 rfl) rfl
theorem q755 : (Jvm.Cond.methodLink "MarriageHerring$Reader" (144 : Nat) ({ cls := "MarriageHerring$Reader", name := "fresh", desc := "()Ljava/lang/String;" } : Jvm.MethodName)) ∈ lw_all := lw_g (lw_at lw_m3 119 rfl) rfl
theorem q756 : (Jvm.Cond.privateMethod ({ cls := "MarriageHerring$Reader", name := "fresh", desc := "()Ljava/lang/String;" } : Jvm.MethodName)) ∈ lw_tbl := lw_at lw_m3 120 rfl
theorem q757 : (Jvm.Cond.instanceMethod ({ cls := "MarriageHerring$Reader", name := "fresh", desc := "()Ljava/lang/String;" } : Jvm.MethodName)) ∈ lw_all := lw_g (lw_at lw_m3 121 rfl) rfl
theorem q758 : (Jvm.Cond.code ({ cls := "MarriageHerring$Reader", name := "fresh", desc := "()Ljava/lang/String;" } : Jvm.MethodName) prog_18_method_13_code (2 : Nat) (Option.some (Jvm.ClassFile.FieldType.object "java/lang/String"))) ∈ lw_all := lw_g (lw_at lw_m3 122 rfl) rfl
theorem q759 : (Jvm.Cond.methodLink "MarriageHerring$Reader" (100 : Nat) ({ cls := "MarriageHerring$Reader", name := "name", desc := "()Ljava/lang/String;" } : Jvm.MethodName)) ∈ lw_all := lw_g (lw_at lw_m3 123 rfl) rfl
theorem q760 : (Jvm.Cond.privateMethod ({ cls := "MarriageHerring$Reader", name := "name", desc := "()Ljava/lang/String;" } : Jvm.MethodName)) ∈ lw_tbl := lw_at lw_m3 124 rfl
theorem q761 : (Jvm.Cond.instanceMethod ({ cls := "MarriageHerring$Reader", name := "name", desc := "()Ljava/lang/String;" } : Jvm.MethodName)) ∈ lw_all := lw_g (lw_at lw_m3 125 rfl) rfl
theorem q762 : (Jvm.Cond.code ({ cls := "MarriageHerring$Reader", name := "name", desc := "()Ljava/lang/String;" } : Jvm.MethodName) prog_18_method_10_code (2 : Nat) (Option.some (Jvm.ClassFile.FieldType.object "java/lang/String"))) ∈ lw_all := lw_g (lw_at lw_m3 126 rfl) rfl
theorem q763 : (Jvm.Cond.fieldLinkNest "MarriageHerring$Reader" (78 : Nat) "MarriageHerring" "OWN" "[Ljava/lang/String;" "MarriageHerring") ∈ lw_tbl := lw_at lw_m3 127 rfl
theorem q765 : (Jvm.Cond.methodLinkNest "MarriageHerring$Reader" (82 : Nat) ({ cls := "MarriageHerring", name := "find", desc := "(Ljava/lang/String;[Ljava/lang/String;)I" } : Jvm.MethodName) "MarriageHerring") ∈ lw_tbl := lw_at lw_m3 129 rfl
theorem q769 : (Jvm.Cond.methodLink "MarriageHerring$Reader" (86 : Nat) ({ cls := "java/lang/String", name := "length", desc := "()I" } : Jvm.MethodName)) ∈ lw_all := lw_g (lw_at lw_m3 133 rfl) rfl
theorem q777 : (Jvm.Cond.methodLink "MarriageHerring$Reader" (107 : Nat) ({ cls := "MarriageHerring$Coast", name := "isNamed", desc := "(Ljava/lang/String;)Z" } : Jvm.MethodName)) ∈ lw_all := lw_g (lw_at lw_m3 141 rfl) rfl
theorem q807 : (Jvm.Cond.stringRef "MarriageHerring$Reader" (147 : Nat) "mile") ∈ lw_tbl := lw_at lw_m3 171 rfl
theorem q808 : (Jvm.Cond.methodLink "MarriageHerring$Reader" (149 : Nat) ({ cls := "MarriageHerring$Reader", name := "number", desc := "(Ljava/lang/String;II)I" } : Jvm.MethodName)) ∈ lw_all := lw_g (lw_at lw_m3 172 rfl) rfl
theorem q809 : (Jvm.Cond.privateMethod ({ cls := "MarriageHerring$Reader", name := "number", desc := "(Ljava/lang/String;II)I" } : Jvm.MethodName)) ∈ lw_tbl := lw_at lw_m3 173 rfl
theorem q810 : (Jvm.Cond.instanceMethod ({ cls := "MarriageHerring$Reader", name := "number", desc := "(Ljava/lang/String;II)I" } : Jvm.MethodName)) ∈ lw_all := lw_g (lw_at lw_m3 174 rfl) rfl
theorem q811 : (Jvm.Cond.code ({ cls := "MarriageHerring$Reader", name := "number", desc := "(Ljava/lang/String;II)I" } : Jvm.MethodName) prog_18_method_12_code (4 : Nat) (Option.some Jvm.ClassFile.FieldType.int)) ∈ lw_all := lw_g (lw_at lw_m3 175 rfl) rfl
theorem q812 : (Jvm.Cond.methodLink "MarriageHerring$Reader" (93 : Nat) ({ cls := "MarriageHerring$Reader", name := "word", desc := "(Ljava/lang/String;)V" } : Jvm.MethodName)) ∈ lw_all := lw_g (lw_at lw_m3 176 rfl) rfl
theorem q813 : (Jvm.Cond.privateMethod ({ cls := "MarriageHerring$Reader", name := "word", desc := "(Ljava/lang/String;)V" } : Jvm.MethodName)) ∈ lw_tbl := lw_at lw_m3 177 rfl
theorem q814 : (Jvm.Cond.instanceMethod ({ cls := "MarriageHerring$Reader", name := "word", desc := "(Ljava/lang/String;)V" } : Jvm.MethodName)) ∈ lw_all := lw_g (lw_at lw_m3 178 rfl) rfl
theorem q815 : (Jvm.Cond.code ({ cls := "MarriageHerring$Reader", name := "word", desc := "(Ljava/lang/String;)V" } : Jvm.MethodName) prog_18_method_8_code (2 : Nat) (Option.none : Option Jvm.ClassFile.FieldType)) ∈ lw_all := lw_g (lw_at lw_m3 179 rfl) rfl
theorem q816 : (Jvm.Cond.methodLink "MarriageHerring$Reader" (96 : Nat) ({ cls := "MarriageHerring$Reader", name := "number", desc := "(II)I" } : Jvm.MethodName)) ∈ lw_all := lw_g (lw_at lw_m3 180 rfl) rfl
theorem q817 : (Jvm.Cond.privateMethod ({ cls := "MarriageHerring$Reader", name := "number", desc := "(II)I" } : Jvm.MethodName)) ∈ lw_tbl := lw_at lw_m3 181 rfl
theorem q818 : (Jvm.Cond.instanceMethod ({ cls := "MarriageHerring$Reader", name := "number", desc := "(II)I" } : Jvm.MethodName)) ∈ lw_all := lw_g (lw_at lw_m3 182 rfl) rfl
theorem q819 : (Jvm.Cond.code ({ cls := "MarriageHerring$Reader", name := "number", desc := "(II)I" } : Jvm.MethodName) prog_18_method_11_code (4 : Nat) (Option.some Jvm.ClassFile.FieldType.int)) ∈ lw_all := lw_g (lw_at lw_m3 183 rfl) rfl
theorem q820 : (Jvm.Cond.methodLinkNest "MarriageHerring$Reader" (89 : Nat) ({ cls := "MarriageHerring", name := "is", desc := "(III)Z" } : Jvm.MethodName) "MarriageHerring") ∈ lw_tbl := lw_at lw_m3 184 rfl
theorem q823 : (Jvm.Cond.classLink "MarriageHerring$Reader" (152 : Nat) "MarriageHerring$Bay") ∈ lw_all := lw_g (lw_at lw_m3 187 rfl) rfl
theorem q825 : (Jvm.Cond.stringRef "MarriageHerring$Reader" (154 : Nat) "hunger") ∈ lw_tbl := lw_at lw_m3 189 rfl
theorem q826 : (Jvm.Cond.methodLink "MarriageHerring$Reader" (156 : Nat) ({ cls := "MarriageHerring$Bay", name := "<init>", desc := "(Ljava/lang/String;II)V" } : Jvm.MethodName)) ∈ lw_all := lw_g (lw_at lw_m3 190 rfl) rfl
theorem q846 : (Jvm.Cond.interfaceEntry "MarriageHerring$Reader" (159 : Nat)) ∈ lw_tbl := lw_at lw_m3 210 rfl
theorem q847 : (Jvm.Cond.methodLink "MarriageHerring$Reader" (159 : Nat) ({ cls := "java/util/List", name := "add", desc := "(Ljava/lang/Object;)Z" } : Jvm.MethodName)) ∈ lw_all := lw_g (lw_at lw_m3 211 rfl) rfl
theorem q901 : (Jvm.Cond.selects "MarriageHerring$Reader" ({ cls := "java/lang/Object", name := "getClass", desc := "()Ljava/lang/Class;" } : Jvm.MethodName) ({ cls := "java/lang/Object", name := "getClass", desc := "()Ljava/lang/Class;" } : Jvm.MethodName)) ∈ lw_all := lw_g (lw_at lw_m4 25 rfl) rfl
theorem q922 : (Jvm.Cond.methodLink "MarriageHerring$Reader" (198 : Nat) ({ cls := "MarriageHerring$Reader", name := "readsPair", desc := "(I)V" } : Jvm.MethodName)) ∈ lw_all := lw_g (lw_at lw_m4 46 rfl) rfl
theorem q923 : (Jvm.Cond.privateMethod ({ cls := "MarriageHerring$Reader", name := "readsPair", desc := "(I)V" } : Jvm.MethodName)) ∈ lw_tbl := lw_at lw_m4 47 rfl
theorem q924 : (Jvm.Cond.instanceMethod ({ cls := "MarriageHerring$Reader", name := "readsPair", desc := "(I)V" } : Jvm.MethodName)) ∈ lw_all := lw_g (lw_at lw_m4 48 rfl) rfl
theorem q925 : (Jvm.Cond.code ({ cls := "MarriageHerring$Reader", name := "readsPair", desc := "(I)V" } : Jvm.MethodName) prog_18_method_17_code (4 : Nat) (Option.none : Option Jvm.ClassFile.FieldType)) ∈ lw_all := lw_g (lw_at lw_m4 49 rfl) rfl
theorem q926 : (Jvm.Cond.stringRef "MarriageHerring$Reader" (165 : Nat) "in") ∈ lw_tbl := lw_at lw_m4 50 rfl
theorem q927 : (Jvm.Cond.methodLink "MarriageHerring$Reader" (167 : Nat) ({ cls := "MarriageHerring$Named", name := "find", desc := "(Ljava/util/List;Ljava/lang/String;)I" } : Jvm.MethodName)) ∈ lw_all := lw_g (lw_at lw_m4 51 rfl) rfl
theorem q928 : (Jvm.Cond.classLink "MarriageHerring$Reader" (172 : Nat) "MarriageHerring$Couple") ∈ lw_all := lw_g (lw_at lw_m4 52 rfl) rfl
theorem q930 : (Jvm.Cond.stringRef "MarriageHerring$Reader" (174 : Nat) "true") ∈ lw_tbl := lw_at lw_m4 54 rfl
theorem q931 : (Jvm.Cond.methodLink "MarriageHerring$Reader" (176 : Nat) ({ cls := "MarriageHerring$Couple", name := "<init>", desc := "(Ljava/lang/String;II)V" } : Jvm.MethodName)) ∈ lw_all := lw_g (lw_at lw_m4 55 rfl) rfl
theorem q946 : (Jvm.Cond.methodLink "MarriageHerring$Reader" (201 : Nat) ({ cls := "MarriageHerring$Reader", name := "readsShoal", desc := "(I)V" } : Jvm.MethodName)) ∈ lw_all := lw_g (lw_at lw_m4 70 rfl) rfl
theorem q947 : (Jvm.Cond.privateMethod ({ cls := "MarriageHerring$Reader", name := "readsShoal", desc := "(I)V" } : Jvm.MethodName)) ∈ lw_tbl := lw_at lw_m4 71 rfl
theorem q948 : (Jvm.Cond.instanceMethod ({ cls := "MarriageHerring$Reader", name := "readsShoal", desc := "(I)V" } : Jvm.MethodName)) ∈ lw_all := lw_g (lw_at lw_m4 72 rfl) rfl
theorem q949 : (Jvm.Cond.code ({ cls := "MarriageHerring$Reader", name := "readsShoal", desc := "(I)V" } : Jvm.MethodName) prog_18_method_18_code (4 : Nat) (Option.none : Option Jvm.ClassFile.FieldType)) ∈ lw_all := lw_g (lw_at lw_m4 73 rfl) rfl
theorem q950 : (Jvm.Cond.classLink "MarriageHerring$Reader" (180 : Nat) "MarriageHerring$Herring") ∈ lw_all := lw_g (lw_at lw_m4 74 rfl) rfl
theorem q952 : (Jvm.Cond.stringRef "MarriageHerring$Reader" (182 : Nat) "size") ∈ lw_tbl := lw_at lw_m4 76 rfl
theorem q953 : (Jvm.Cond.methodLink "MarriageHerring$Reader" (183 : Nat) ({ cls := "MarriageHerring$Herring", name := "<init>", desc := "(Ljava/lang/String;II)V" } : Jvm.MethodName)) ∈ lw_all := lw_g (lw_at lw_m4 77 rfl) rfl
theorem q968 : (Jvm.Cond.methodLink "MarriageHerring$Reader" (128 : Nat) ({ cls := "MarriageHerring$Reader", name := "more", desc := "(Ljava/lang/String;I)V" } : Jvm.MethodName)) ∈ lw_all := lw_g (lw_at lw_m4 92 rfl) rfl
theorem q969 : (Jvm.Cond.privateMethod ({ cls := "MarriageHerring$Reader", name := "more", desc := "(Ljava/lang/String;I)V" } : Jvm.MethodName)) ∈ lw_tbl := lw_at lw_m4 93 rfl
theorem q970 : (Jvm.Cond.instanceMethod ({ cls := "MarriageHerring$Reader", name := "more", desc := "(Ljava/lang/String;I)V" } : Jvm.MethodName)) ∈ lw_all := lw_g (lw_at lw_m4 94 rfl) rfl
theorem q971 : (Jvm.Cond.code ({ cls := "MarriageHerring$Reader", name := "more", desc := "(Ljava/lang/String;I)V" } : Jvm.MethodName) prog_18_method_21_code (5 : Nat) (Option.none : Option Jvm.ClassFile.FieldType)) ∈ lw_all := lw_g (lw_at lw_m4 95 rfl) rfl
theorem q972 : (Jvm.Cond.stringRef "MarriageHerring$Reader" (213 : Nat) "lures") ∈ lw_tbl := lw_at lw_m4 96 rfl
theorem q973 : (Jvm.Cond.stringRef "MarriageHerring$Reader" (215 : Nat) "mends") ∈ lw_tbl := lw_at lw_m4 97 rfl
theorem q974 : (Jvm.Cond.stringRef "MarriageHerring$Reader" (217 : Nat) "starves") ∈ lw_tbl := lw_at lw_m4 98 rfl
theorem q975 : (Jvm.Cond.stringRef "MarriageHerring$Reader" (219 : Nat) "counts") ∈ lw_tbl := lw_at lw_m4 99 rfl
theorem q976 : (Jvm.Cond.methodLink "MarriageHerring$Reader" (224 : Nat) ({ cls := "MarriageHerring$Reader", name := "once", desc := "(LMarriageHerring$Value;II)LMarriageHerring$Value;" } : Jvm.MethodName)) ∈ lw_all := lw_g (lw_at lw_m4 100 rfl) rfl
theorem q977 : (Jvm.Cond.privateMethod ({ cls := "MarriageHerring$Reader", name := "once", desc := "(LMarriageHerring$Value;II)LMarriageHerring$Value;" } : Jvm.MethodName)) ∈ lw_tbl := lw_at lw_m4 101 rfl
theorem q978 : (Jvm.Cond.instanceMethod ({ cls := "MarriageHerring$Reader", name := "once", desc := "(LMarriageHerring$Value;II)LMarriageHerring$Value;" } : Jvm.MethodName)) ∈ lw_all := lw_g (lw_at lw_m4 102 rfl) rfl
theorem q979 : (Jvm.Cond.code ({ cls := "MarriageHerring$Reader", name := "once", desc := "(LMarriageHerring$Value;II)LMarriageHerring$Value;" } : Jvm.MethodName) prog_18_method_20_code (4 : Nat) (Option.some (Jvm.ClassFile.FieldType.object "MarriageHerring$Value"))) ∈ lw_all := lw_g (lw_at lw_m4 103 rfl) rfl
theorem q980 : (Jvm.Cond.methodLink "MarriageHerring$Reader" (209 : Nat) ({ cls := "MarriageHerring$Reader", name := "sum", desc := "()LMarriageHerring$Value;" } : Jvm.MethodName)) ∈ lw_all := lw_g (lw_at lw_m4 104 rfl) rfl
theorem q981 : (Jvm.Cond.privateMethod ({ cls := "MarriageHerring$Reader", name := "sum", desc := "()LMarriageHerring$Value;" } : Jvm.MethodName)) ∈ lw_tbl := lw_at lw_m4 105 rfl
theorem q982 : (Jvm.Cond.instanceMethod ({ cls := "MarriageHerring$Reader", name := "sum", desc := "()LMarriageHerring$Value;" } : Jvm.MethodName)) ∈ lw_all := lw_g (lw_at lw_m4 106 rfl) rfl
theorem q983 : (Jvm.Cond.code ({ cls := "MarriageHerring$Reader", name := "sum", desc := "()LMarriageHerring$Value;" } : Jvm.MethodName) prog_18_method_23_code (3 : Nat) (Option.some (Jvm.ClassFile.FieldType.object "MarriageHerring$Value"))) ∈ lw_all := lw_g (lw_at lw_m4 107 rfl) rfl
theorem q984 : (Jvm.Cond.classLink "MarriageHerring$Reader" (239 : Nat) "MarriageHerring$Chain") ∈ lw_all := lw_g (lw_at lw_m4 108 rfl) rfl
theorem q986 : (Jvm.Cond.methodLinkNest "MarriageHerring$Reader" (241 : Nat) ({ cls := "MarriageHerring$Chain", name := "<init>", desc := "()V" } : Jvm.MethodName) "MarriageHerring") ∈ lw_tbl := lw_at lw_m4 110 rfl
theorem q1025 : (Jvm.Cond.methodLink "MarriageHerring$Reader" (242 : Nat) ({ cls := "MarriageHerring$Reader", name := "product", desc := "()LMarriageHerring$Value;" } : Jvm.MethodName)) ∈ lw_all := lw_g (lw_at lw_m4 149 rfl) rfl
theorem q1026 : (Jvm.Cond.privateMethod ({ cls := "MarriageHerring$Reader", name := "product", desc := "()LMarriageHerring$Value;" } : Jvm.MethodName)) ∈ lw_tbl := lw_at lw_m4 150 rfl
theorem q1027 : (Jvm.Cond.instanceMethod ({ cls := "MarriageHerring$Reader", name := "product", desc := "()LMarriageHerring$Value;" } : Jvm.MethodName)) ∈ lw_all := lw_g (lw_at lw_m4 151 rfl) rfl
theorem q1028 : (Jvm.Cond.code ({ cls := "MarriageHerring$Reader", name := "product", desc := "()LMarriageHerring$Value;" } : Jvm.MethodName) prog_18_method_24_code (3 : Nat) (Option.some (Jvm.ClassFile.FieldType.object "MarriageHerring$Value"))) ∈ lw_all := lw_g (lw_at lw_m4 152 rfl) rfl
theorem q1029 : (Jvm.Cond.methodLink "MarriageHerring$Reader" (251 : Nat) ({ cls := "MarriageHerring$Reader", name := "atom", desc := "()LMarriageHerring$Value;" } : Jvm.MethodName)) ∈ lw_all := lw_g (lw_at lw_m4 153 rfl) rfl
theorem q1030 : (Jvm.Cond.privateMethod ({ cls := "MarriageHerring$Reader", name := "atom", desc := "()LMarriageHerring$Value;" } : Jvm.MethodName)) ∈ lw_tbl := lw_at lw_m4 154 rfl
theorem q1031 : (Jvm.Cond.instanceMethod ({ cls := "MarriageHerring$Reader", name := "atom", desc := "()LMarriageHerring$Value;" } : Jvm.MethodName)) ∈ lw_all := lw_g (lw_at lw_m4 155 rfl) rfl
theorem q1032 : (Jvm.Cond.code ({ cls := "MarriageHerring$Reader", name := "atom", desc := "()LMarriageHerring$Value;" } : Jvm.MethodName) prog_18_method_27_code (3 : Nat) (Option.some (Jvm.ClassFile.FieldType.object "MarriageHerring$Value"))) ∈ lw_all := lw_g (lw_at lw_m4 156 rfl) rfl
theorem q1033 : (Jvm.Cond.methodLink "MarriageHerring$Reader" (262 : Nat) ({ cls := "MarriageHerring$Reader", name := "within", desc := "(I)LMarriageHerring$Value;" } : Jvm.MethodName)) ∈ lw_all := lw_g (lw_at lw_m4 157 rfl) rfl
theorem q1034 : (Jvm.Cond.privateMethod ({ cls := "MarriageHerring$Reader", name := "within", desc := "(I)LMarriageHerring$Value;" } : Jvm.MethodName)) ∈ lw_tbl := lw_at lw_m4 158 rfl
theorem q1035 : (Jvm.Cond.instanceMethod ({ cls := "MarriageHerring$Reader", name := "within", desc := "(I)LMarriageHerring$Value;" } : Jvm.MethodName)) ∈ lw_all := lw_g (lw_at lw_m4 159 rfl) rfl
theorem q1036 : (Jvm.Cond.code ({ cls := "MarriageHerring$Reader", name := "within", desc := "(I)LMarriageHerring$Value;" } : Jvm.MethodName) prog_18_method_26_code (4 : Nat) (Option.some (Jvm.ClassFile.FieldType.object "MarriageHerring$Value"))) ∈ lw_all := lw_g (lw_at lw_m4 160 rfl) rfl
theorem q1037 : (Jvm.Cond.methodLink "MarriageHerring$Reader" (254 : Nat) ({ cls := "MarriageHerring$Reader", name := "opens", desc := "(I)V" } : Jvm.MethodName)) ∈ lw_all := lw_g (lw_at lw_m4 161 rfl) rfl
theorem q1038 : (Jvm.Cond.privateMethod ({ cls := "MarriageHerring$Reader", name := "opens", desc := "(I)V" } : Jvm.MethodName)) ∈ lw_tbl := lw_at lw_m4 162 rfl
theorem q1039 : (Jvm.Cond.instanceMethod ({ cls := "MarriageHerring$Reader", name := "opens", desc := "(I)V" } : Jvm.MethodName)) ∈ lw_all := lw_g (lw_at lw_m4 163 rfl) rfl
theorem q1040 : (Jvm.Cond.code ({ cls := "MarriageHerring$Reader", name := "opens", desc := "(I)V" } : Jvm.MethodName) prog_18_method_25_code (2 : Nat) (Option.none : Option Jvm.ClassFile.FieldType)) ∈ lw_all := lw_g (lw_at lw_m4 164 rfl) rfl
theorem q1041 : (Jvm.Cond.methodLink "MarriageHerring$Reader" (132 : Nat) ({ cls := "MarriageHerring$Reader", name := "must", desc := "(I)V" } : Jvm.MethodName)) ∈ lw_all := lw_g (lw_at lw_m4 165 rfl) rfl
theorem q1042 : (Jvm.Cond.privateMethod ({ cls := "MarriageHerring$Reader", name := "must", desc := "(I)V" } : Jvm.MethodName)) ∈ lw_tbl := lw_at lw_m4 166 rfl
theorem q1043 : (Jvm.Cond.instanceMethod ({ cls := "MarriageHerring$Reader", name := "must", desc := "(I)V" } : Jvm.MethodName)) ∈ lw_all := lw_g (lw_at lw_m4 167 rfl) rfl
theorem q1044 : (Jvm.Cond.code ({ cls := "MarriageHerring$Reader", name := "must", desc := "(I)V" } : Jvm.MethodName) prog_18_method_5_code (2 : Nat) (Option.none : Option Jvm.ClassFile.FieldType)) ∈ lw_all := lw_g (lw_at lw_m4 168 rfl) rfl
theorem q1045 : (Jvm.Cond.classLink "MarriageHerring$Reader" (257 : Nat) "MarriageHerring$Pair") ∈ lw_all := lw_g (lw_at lw_m4 169 rfl) rfl
theorem q1047 : (Jvm.Cond.methodLink "MarriageHerring$Reader" (259 : Nat) ({ cls := "MarriageHerring$Pair", name := "<init>", desc := "(ZLMarriageHerring$Value;LMarriageHerring$Value;)V" } : Jvm.MethodName)) ∈ lw_all := lw_g (lw_at lw_m4 171 rfl) rfl
theorem q1061 : (Jvm.Cond.classLink "MarriageHerring$Reader" (266 : Nat) "MarriageHerring$Fixed") ∈ lw_all := lw_g (lw_at lw_m4 185 rfl) rfl
theorem q1063 : (Jvm.Cond.methodLink "MarriageHerring$Reader" (268 : Nat) ({ cls := "MarriageHerring$Fixed", name := "<init>", desc := "(J)V" } : Jvm.MethodName)) ∈ lw_all := lw_g (lw_at lw_m4 187 rfl) rfl
theorem q1071 : (Jvm.Cond.fieldLinkNest "MarriageHerring$Reader" (271 : Nat) "MarriageHerring" "ASKED" "[Ljava/lang/String;" "MarriageHerring") ∈ lw_tbl := lw_at lw_m4 195 rfl
theorem q1073 : (Jvm.Cond.methodLinkNest "MarriageHerring$Reader" (274 : Nat) ({ cls := "MarriageHerring", name := "has", desc := "(II)Z" } : Jvm.MethodName) "MarriageHerring") ∈ lw_tbl := lw_at lw_m4 197 rfl
theorem q1076 : (Jvm.Cond.classLink "MarriageHerring$Reader" (278 : Nat) "MarriageHerring$Asked") ∈ lw_all := lw_g (lw_at lw_m4 200 rfl) rfl
theorem q1078 : (Jvm.Cond.methodLink "MarriageHerring$Reader" (280 : Nat) ({ cls := "MarriageHerring$Asked", name := "<init>", desc := "(I)V" } : Jvm.MethodName)) ∈ lw_all := lw_g (lw_at lw_m4 202 rfl) rfl
theorem q1086 : (Jvm.Cond.fieldLinkNest "MarriageHerring$Reader" (282 : Nat) "MarriageHerring" "LOOKED" "[Ljava/lang/String;" "MarriageHerring") ∈ lw_tbl := lw_at lw_m4 210 rfl
theorem q1088 : (Jvm.Cond.methodLink "MarriageHerring$Reader" (285 : Nat) ({ cls := "MarriageHerring$Reader", name := "looked", desc := "(I)LMarriageHerring$Value;" } : Jvm.MethodName)) ∈ lw_all := lw_g (lw_at lw_m4 212 rfl) rfl
theorem q1089 : (Jvm.Cond.privateMethod ({ cls := "MarriageHerring$Reader", name := "looked", desc := "(I)LMarriageHerring$Value;" } : Jvm.MethodName)) ∈ lw_tbl := lw_at lw_m4 213 rfl
theorem q1090 : (Jvm.Cond.instanceMethod ({ cls := "MarriageHerring$Reader", name := "looked", desc := "(I)LMarriageHerring$Value;" } : Jvm.MethodName)) ∈ lw_all := lw_g (lw_at lw_m4 214 rfl) rfl
theorem q1091 : (Jvm.Cond.code ({ cls := "MarriageHerring$Reader", name := "looked", desc := "(I)LMarriageHerring$Value;" } : Jvm.MethodName) prog_18_method_31_code (3 : Nat) (Option.some (Jvm.ClassFile.FieldType.object "MarriageHerring$Value"))) ∈ lw_all := lw_g (lw_at lw_m4 215 rfl) rfl
theorem q1092 : (Jvm.Cond.classLink "MarriageHerring$Reader" (330 : Nat) "MarriageHerring$Looked") ∈ lw_all := lw_g (lw_at lw_m4 216 rfl) rfl
theorem q1094 : (Jvm.Cond.methodLink "MarriageHerring$Reader" (332 : Nat) ({ cls := "MarriageHerring$Looked", name := "<init>", desc := "(LMarriageHerring;ILMarriageHerring$Value;)V" } : Jvm.MethodName)) ∈ lw_all := lw_g (lw_at lw_m4 218 rfl) rfl
theorem q1108 : (Jvm.Cond.stringRef "MarriageHerring$Reader" (288 : Nat) "min") ∈ lw_tbl := lw_at lw_m4 232 rfl
theorem q1109 : (Jvm.Cond.stringRef "MarriageHerring$Reader" (290 : Nat) "max") ∈ lw_tbl := lw_at lw_m4 233 rfl
theorem q1110 : (Jvm.Cond.methodLink "MarriageHerring$Reader" (245 : Nat) ({ cls := "MarriageHerring$Chain", name := "add", desc := "(CLMarriageHerring$Value;)V" } : Jvm.MethodName)) ∈ lw_all := lw_g (lw_at lw_m4 234 rfl) rfl
theorem q1171 : (Jvm.Cond.methodLink "MarriageHerring$Reader" (248 : Nat) ({ cls := "MarriageHerring$Reader", name := "takes", desc := "(I)Z" } : Jvm.MethodName)) ∈ lw_all := lw_g (lw_at lw_m5 55 rfl) rfl
theorem q1172 : (Jvm.Cond.privateMethod ({ cls := "MarriageHerring$Reader", name := "takes", desc := "(I)Z" } : Jvm.MethodName)) ∈ lw_tbl := lw_at lw_m5 56 rfl
theorem q1173 : (Jvm.Cond.instanceMethod ({ cls := "MarriageHerring$Reader", name := "takes", desc := "(I)Z" } : Jvm.MethodName)) ∈ lw_all := lw_g (lw_at lw_m5 57 rfl) rfl
theorem q1174 : (Jvm.Cond.code ({ cls := "MarriageHerring$Reader", name := "takes", desc := "(I)Z" } : Jvm.MethodName) prog_18_method_22_code (3 : Nat) (Option.some Jvm.ClassFile.FieldType.boolean)) ∈ lw_all := lw_g (lw_at lw_m5 58 rfl) rfl
theorem q1175 : (Jvm.Cond.methodLink "MarriageHerring$Reader" (235 : Nat) ({ cls := "MarriageHerring$Reader", name := "test", desc := "()LMarriageHerring$Test;" } : Jvm.MethodName)) ∈ lw_all := lw_g (lw_at lw_m5 59 rfl) rfl
theorem q1176 : (Jvm.Cond.privateMethod ({ cls := "MarriageHerring$Reader", name := "test", desc := "()LMarriageHerring$Test;" } : Jvm.MethodName)) ∈ lw_tbl := lw_at lw_m5 60 rfl
theorem q1177 : (Jvm.Cond.instanceMethod ({ cls := "MarriageHerring$Reader", name := "test", desc := "()LMarriageHerring$Test;" } : Jvm.MethodName)) ∈ lw_all := lw_g (lw_at lw_m5 61 rfl) rfl
theorem q1178 : (Jvm.Cond.code ({ cls := "MarriageHerring$Reader", name := "test", desc := "()LMarriageHerring$Test;" } : Jvm.MethodName) prog_18_method_28_code (2 : Nat) (Option.some (Jvm.ClassFile.FieldType.object "MarriageHerring$Test"))) ∈ lw_all := lw_g (lw_at lw_m5 62 rfl) rfl
theorem q1179 : (Jvm.Cond.classLink "MarriageHerring$Reader" (292 : Nat) "MarriageHerring$Facts") ∈ lw_all := lw_g (lw_at lw_m5 63 rfl) rfl
theorem q1181 : (Jvm.Cond.methodLink "MarriageHerring$Reader" (294 : Nat) ({ cls := "MarriageHerring$Facts", name := "<init>", desc := "(Z)V" } : Jvm.MethodName)) ∈ lw_all := lw_g (lw_at lw_m5 65 rfl) rfl
theorem q1191 : (Jvm.Cond.fieldLinkNest "MarriageHerring$Reader" (297 : Nat) "MarriageHerring$Facts" "tests" "Ljava/util/List;" "MarriageHerring") ∈ lw_tbl := lw_at lw_m5 75 rfl
theorem q1198 : (Jvm.Cond.methodLink "MarriageHerring$Reader" (300 : Nat) ({ cls := "MarriageHerring$Reader", name := "both", desc := "()LMarriageHerring$Test;" } : Jvm.MethodName)) ∈ lw_all := lw_g (lw_at lw_m5 82 rfl) rfl
theorem q1199 : (Jvm.Cond.privateMethod ({ cls := "MarriageHerring$Reader", name := "both", desc := "()LMarriageHerring$Test;" } : Jvm.MethodName)) ∈ lw_tbl := lw_at lw_m5 83 rfl
theorem q1200 : (Jvm.Cond.instanceMethod ({ cls := "MarriageHerring$Reader", name := "both", desc := "()LMarriageHerring$Test;" } : Jvm.MethodName)) ∈ lw_all := lw_g (lw_at lw_m5 84 rfl) rfl
theorem q1201 : (Jvm.Cond.code ({ cls := "MarriageHerring$Reader", name := "both", desc := "()LMarriageHerring$Test;" } : Jvm.MethodName) prog_18_method_29_code (2 : Nat) (Option.some (Jvm.ClassFile.FieldType.object "MarriageHerring$Test"))) ∈ lw_all := lw_g (lw_at lw_m5 85 rfl) rfl
theorem q1202 : (Jvm.Cond.methodLink "MarriageHerring$Reader" (308 : Nat) ({ cls := "MarriageHerring$Reader", name := "fact", desc := "()LMarriageHerring$Test;" } : Jvm.MethodName)) ∈ lw_all := lw_g (lw_at lw_m5 86 rfl) rfl
theorem q1203 : (Jvm.Cond.privateMethod ({ cls := "MarriageHerring$Reader", name := "fact", desc := "()LMarriageHerring$Test;" } : Jvm.MethodName)) ∈ lw_tbl := lw_at lw_m5 87 rfl
theorem q1204 : (Jvm.Cond.instanceMethod ({ cls := "MarriageHerring$Reader", name := "fact", desc := "()LMarriageHerring$Test;" } : Jvm.MethodName)) ∈ lw_all := lw_g (lw_at lw_m5 88 rfl) rfl
theorem q1205 : (Jvm.Cond.code ({ cls := "MarriageHerring$Reader", name := "fact", desc := "()LMarriageHerring$Test;" } : Jvm.MethodName) prog_18_method_30_code (3 : Nat) (Option.some (Jvm.ClassFile.FieldType.object "MarriageHerring$Test"))) ∈ lw_all := lw_g (lw_at lw_m5 89 rfl) rfl
theorem q1206 : (Jvm.Cond.stringRef "MarriageHerring$Reader" (313 : Nat) "not") ∈ lw_tbl := lw_at lw_m5 90 rfl
theorem q1207 : (Jvm.Cond.methodLink "MarriageHerring$Reader" (305 : Nat) ({ cls := "MarriageHerring$Reader", name := "passes", desc := "(Ljava/lang/String;)Z" } : Jvm.MethodName)) ∈ lw_all := lw_g (lw_at lw_m5 91 rfl) rfl
theorem q1208 : (Jvm.Cond.privateMethod ({ cls := "MarriageHerring$Reader", name := "passes", desc := "(Ljava/lang/String;)Z" } : Jvm.MethodName)) ∈ lw_tbl := lw_at lw_m5 92 rfl
theorem q1209 : (Jvm.Cond.instanceMethod ({ cls := "MarriageHerring$Reader", name := "passes", desc := "(Ljava/lang/String;)Z" } : Jvm.MethodName)) ∈ lw_all := lw_g (lw_at lw_m5 93 rfl) rfl
theorem q1210 : (Jvm.Cond.code ({ cls := "MarriageHerring$Reader", name := "passes", desc := "(Ljava/lang/String;)Z" } : Jvm.MethodName) prog_18_method_9_code (3 : Nat) (Option.some Jvm.ClassFile.FieldType.boolean)) ∈ lw_all := lw_g (lw_at lw_m5 94 rfl) rfl
theorem q1211 : (Jvm.Cond.classLink "MarriageHerring$Reader" (315 : Nat) "MarriageHerring$Not") ∈ lw_all := lw_g (lw_at lw_m5 95 rfl) rfl
theorem q1213 : (Jvm.Cond.methodLink "MarriageHerring$Reader" (317 : Nat) ({ cls := "MarriageHerring$Not", name := "<init>", desc := "(LMarriageHerring$Test;)V" } : Jvm.MethodName)) ∈ lw_all := lw_g (lw_at lw_m5 97 rfl) rfl
theorem q1221 : (Jvm.Cond.stringRef "MarriageHerring$Reader" (320 : Nat) "all") ∈ lw_tbl := lw_at lw_m5 105 rfl
theorem q1222 : (Jvm.Cond.classLink "MarriageHerring$Reader" (322 : Nat) "MarriageHerring$All") ∈ lw_all := lw_g (lw_at lw_m5 106 rfl) rfl
theorem q1224 : (Jvm.Cond.methodLinkNest "MarriageHerring$Reader" (324 : Nat) ({ cls := "MarriageHerring$All", name := "<init>", desc := "()V" } : Jvm.MethodName) "MarriageHerring") ∈ lw_tbl := lw_at lw_m5 108 rfl
theorem q1229 : (Jvm.Cond.classLink "MarriageHerring$Reader" (325 : Nat) "MarriageHerring$Than") ∈ lw_all := lw_g (lw_at lw_m5 113 rfl) rfl
theorem q1231 : (Jvm.Cond.methodLink "MarriageHerring$Reader" (327 : Nat) ({ cls := "MarriageHerring$Than", name := "<init>", desc := "(LMarriageHerring$Value;ILMarriageHerring$Value;)V" } : Jvm.MethodName)) ∈ lw_all := lw_g (lw_at lw_m5 115 rfl) rfl
theorem q1245 : (Jvm.Cond.stringRef "MarriageHerring$Reader" (311 : Nat) "and") ∈ lw_tbl := lw_at lw_m5 129 rfl
theorem q1246 : (Jvm.Cond.stringRef "MarriageHerring$Reader" (303 : Nat) "or") ∈ lw_tbl := lw_at lw_m5 130 rfl
theorem q1621 : (Jvm.Cond.instanceMethod ({ cls := "MarriageHerring$Reader", name := "question", desc := "(I)LMarriageHerring$Question;" } : Jvm.MethodName)) ∈ lw_all := lw_g (lw_at lw_m7 25 rfl) rfl
theorem q1622 : (Jvm.Cond.selects "MarriageHerring$Reader" ({ cls := "MarriageHerring$Reader", name := "question", desc := "(I)LMarriageHerring$Question;" } : Jvm.MethodName) ({ cls := "MarriageHerring$Reader", name := "question", desc := "(I)LMarriageHerring$Question;" } : Jvm.MethodName)) ∈ lw_all := lw_g (lw_at lw_m7 26 rfl) rfl
theorem q1623 : (Jvm.Cond.code ({ cls := "MarriageHerring$Reader", name := "question", desc := "(I)LMarriageHerring$Question;" } : Jvm.MethodName) prog_18_method_32_code (4 : Nat) (Option.some (Jvm.ClassFile.FieldType.object "MarriageHerring$Question"))) ∈ lw_all := lw_g (lw_at lw_m7 27 rfl) rfl
theorem q1624 : (Jvm.Cond.fieldLinkNest "MarriageHerring$Reader" (335 : Nat) "MarriageHerring" "TOLD_OF" "[Ljava/lang/String;" "MarriageHerring") ∈ lw_tbl := lw_at lw_m7 28 rfl
theorem q1626 : (Jvm.Cond.classLink "MarriageHerring$Reader" (338 : Nat) "MarriageHerring$Question") ∈ lw_all := lw_g (lw_at lw_m7 30 rfl) rfl
theorem q1628 : (Jvm.Cond.methodLink "MarriageHerring$Reader" (340 : Nat) ({ cls := "MarriageHerring$Question", name := "<init>", desc := "(ILMarriageHerring$Test;LMarriageHerring$Value;)V" } : Jvm.MethodName)) ∈ lw_all := lw_g (lw_at lw_m7 32 rfl) rfl
theorem q2582 : (Jvm.Cond.castable "MarriageHerring$Reader" "java/lang/Object") ∈ lw_tbl := lw_at lw_m11 26 rfl
theorem in_X2 : ∀ w ∈ wsX20, w ∈ lw_all := lw_in wsX20 [367, 369, 371, 373, 375, 377, 379, 381] (by decide +kernel) (by decide +kernel)
/-! MarriageHerring$Fault -/
set_option maxRecDepth 100000
def RX3 : String := "MarriageHerring$Fault"
def TX3 : u_T := fun k => match k with
  | 0 => ("java/lang/Throwable", "cause", "Ljava/lang/Throwable;", false)
  | 1 => ("java/lang/Throwable", "stackTrace", "[Ljava/lang/StackTraceElement;", false)
  | 2 => ("java/lang/Throwable", "suppressedExceptions", "Ljava/util/List;", false)
  | 3 => ("java/lang/Throwable", "detailMessage", "Ljava/lang/String;", false)
  | 4 => ("java/lang/Throwable", "backtrace", "Ljava/lang/Object;", false)
  | 5 => ("java/lang/Throwable", "depth", "I", false)
  | 6 => ("MarriageHerring$Fault", "kind", "I", false)
  | _ => ("MarriageHerring$Fault", "place", "I", false)
def tyX3 : Nat → FieldType := fun k => match k with
  | 0 => .object "java/lang/Throwable"
  | 1 => .array (.object "java/lang/StackTraceElement")
  | 2 => .object "java/util/List"
  | 3 => .object "java/lang/String"
  | 4 => .object "java/lang/Object"
  | 5 => .int
  | 6 => .int
  | _ => .int
abbrev wsX30 : List Cond := u_ws RX3 TX3 8
theorem nmX3 : ∀ a, a < 8 → ∀ b, b < 8 → a ≠ b → (TX3 a).2.1 ≠ (TX3 b).2.1 := by decide +kernel
theorem tyX3_ok : ∀ k, k < 8 → parseFieldDescriptor (TX3 k).2.2.1 = some (tyX3 k) := by decide +kernel
abbrev cX3_init : ByteArray := prog_9_method_1_code
def yX3_init : MethodName := ⟨RX3, "<init>", "()V"⟩
def dkwX3_init_0 : List UInt8 := [42, 1, 1, 3, 3, 183, 0, 1, 177]
abbrev dktX3_init_0 : List UInt8 := dkwX3_init_0 ++ []
theorem dksX3_init_0 : cX3_init.data.toList.drop 0 = dktX3_init_0 := by decide +kernel
theorem dX3_init_0 : decode cX3_init 0 = .ok (.aload_n 0, 1) := dk_42 (dk_at dksX3_init_0 0 rfl rfl)
theorem dX3_init_1 : decode cX3_init 1 = .ok (.aconst_null, 1) := dk_1 (dk_at dksX3_init_0 1 rfl rfl)
theorem dX3_init_2 : decode cX3_init 2 = .ok (.aconst_null, 1) := dk_1 (dk_at dksX3_init_0 2 rfl rfl)
theorem dX3_init_3 : decode cX3_init 3 = .ok (.iconst 0, 1) := dk_3 (dk_at dksX3_init_0 3 rfl rfl)
theorem dX3_init_4 : decode cX3_init 4 = .ok (.iconst 0, 1) := dk_3 (dk_at dksX3_init_0 4 rfl rfl)
theorem dX3_init_5 : decode cX3_init 5 = .ok (.invokespecial 1, 3) := dk_183 0 1 (dk_at dksX3_init_0 5 rfl rfl)
theorem dX3_init_8 : decode cX3_init 8 = .ok (.return_, 1) := dk_177 (dk_at dksX3_init_0 8 rfl rfl)
theorem q166 : (Jvm.Cond.initialized "MarriageHerring$Fault") ∈ lw_all := lw_g (lw_at lw_m1 10 rfl) rfl
theorem q287 : (Jvm.Cond.instantiable "MarriageHerring$Fault" (8 : Nat)) ∈ lw_all := lw_g (lw_at lw_m1 131 rfl) rfl
theorem q288 : (Jvm.Cond.castable "MarriageHerring$Fault" "MarriageHerring$Fault") ∈ lw_tbl := lw_at lw_m1 132 rfl
theorem q295 : (Jvm.Cond.selects "MarriageHerring$Fault" ({ cls := "java/lang/Throwable", name := "fillInStackTrace", desc := "(I)Ljava/lang/Throwable;" } : Jvm.MethodName) ({ cls := "java/lang/Throwable", name := "fillInStackTrace", desc := "(I)Ljava/lang/Throwable;" } : Jvm.MethodName)) ∈ lw_all := lw_g (lw_at lw_m1 139 rfl) rfl
theorem q296 : (Jvm.Cond.selects "MarriageHerring$Fault" ({ cls := "java/lang/Throwable", name := "fillInStackTrace", desc := "()Ljava/lang/Throwable;" } : Jvm.MethodName) ({ cls := "java/lang/Throwable", name := "fillInStackTrace", desc := "()Ljava/lang/Throwable;" } : Jvm.MethodName)) ∈ lw_all := lw_g (lw_at lw_m1 140 rfl) rfl
theorem q297 : (Jvm.Cond.lays "MarriageHerring$Fault" "java/lang/Throwable" "cause" "Ljava/lang/Throwable;") ∈ lw_all := lw_g (lw_at lw_m1 141 rfl) rfl
theorem q299 : (Jvm.Cond.lays "MarriageHerring$Fault" "java/lang/Throwable" "stackTrace" "[Ljava/lang/StackTraceElement;") ∈ lw_all := lw_g (lw_at lw_m1 143 rfl) rfl
theorem q301 : (Jvm.Cond.lays "MarriageHerring$Fault" "java/lang/Throwable" "suppressedExceptions" "Ljava/util/List;") ∈ lw_all := lw_g (lw_at lw_m1 145 rfl) rfl
theorem q303 : (Jvm.Cond.lays "MarriageHerring$Fault" "java/lang/Throwable" "detailMessage" "Ljava/lang/String;") ∈ lw_all := lw_g (lw_at lw_m1 147 rfl) rfl
theorem q305 : (Jvm.Cond.lays "MarriageHerring$Fault" "java/lang/Throwable" "backtrace" "Ljava/lang/Object;") ∈ lw_all := lw_g (lw_at lw_m1 149 rfl) rfl
theorem q326 : (Jvm.Cond.instanceMethod ({ cls := "MarriageHerring$Fault", name := "<init>", desc := "()V" } : Jvm.MethodName)) ∈ lw_all := lw_g (lw_at lw_m1 170 rfl) rfl
theorem q327 : (Jvm.Cond.code ({ cls := "MarriageHerring$Fault", name := "<init>", desc := "()V" } : Jvm.MethodName) prog_9_method_1_code (1 : Nat) (Option.none : Option Jvm.ClassFile.FieldType)) ∈ lw_all := lw_g (lw_at lw_m1 171 rfl) rfl
theorem q328 : (Jvm.Cond.methodLink "MarriageHerring$Fault" (1 : Nat) ({ cls := "java/lang/RuntimeException", name := "<init>", desc := "(Ljava/lang/String;Ljava/lang/Throwable;ZZ)V" } : Jvm.MethodName)) ∈ lw_all := lw_g (lw_at lw_m1 172 rfl) rfl
theorem q346 : (Jvm.Cond.lays "MarriageHerring$Fault" "MarriageHerring$Fault" "kind" "I") ∈ lw_all := lw_g (lw_at lw_m1 190 rfl) rfl
theorem q347 : (Jvm.Cond.soleField "MarriageHerring$Fault" "kind") ∈ lw_all := lw_g (lw_at lw_m1 191 rfl) rfl
theorem q348 : (Jvm.Cond.lays "MarriageHerring$Fault" "MarriageHerring$Fault" "place" "I") ∈ lw_all := lw_g (lw_at lw_m1 192 rfl) rfl
theorem q349 : (Jvm.Cond.soleField "MarriageHerring$Fault" "place") ∈ lw_all := lw_g (lw_at lw_m1 193 rfl) rfl
theorem q354 : (Jvm.Cond.lays "MarriageHerring$Fault" "java/lang/Throwable" "depth" "I") ∈ lw_all := lw_g (lw_at lw_m1 198 rfl) rfl
theorem q357 : (Jvm.Cond.superclass "MarriageHerring$Fault" "java/lang/RuntimeException") ∈ lw_all := lw_g (lw_at lw_m1 201 rfl) rfl
theorem q893 : (Jvm.Cond.selects "MarriageHerring$Fault" ({ cls := "java/lang/Object", name := "getClass", desc := "()Ljava/lang/Class;" } : Jvm.MethodName) ({ cls := "java/lang/Object", name := "getClass", desc := "()Ljava/lang/Class;" } : Jvm.MethodName)) ∈ lw_all := lw_g (lw_at lw_m4 17 rfl) rfl
theorem q2583 : (Jvm.Cond.castable "MarriageHerring$Fault" "java/lang/Object") ∈ lw_tbl := lw_at lw_m11 27 rfl
theorem in_X3 : ∀ w ∈ wsX30, w ∈ lw_all := lw_in wsX30 [297, 299, 301, 303, 305, 354, 346, 348] (by decide +kernel) (by decide +kernel)
/-! MarriageHerring$Moment -/
set_option maxRecDepth 100000
def RX4 : String := "MarriageHerring$Moment"
def TX4 : u_T := fun k => match k with
  | _ => ("MarriageHerring$Moment", "of", "[J", true)
def tyX4 : Nat → FieldType := fun k => match k with
  | _ => .array .long
abbrev wsX40 : List Cond := u_ws RX4 TX4 1
theorem nmX4 : ∀ a, a < 1 → ∀ b, b < 1 → a ≠ b → (TX4 a).2.1 ≠ (TX4 b).2.1 := by decide +kernel
theorem tyX4_ok : ∀ k, k < 1 → parseFieldDescriptor (TX4 k).2.2.1 = some (tyX4 k) := by decide +kernel
abbrev cX4_init : ByteArray := prog_13_method_1_code
def yX4_init : MethodName := ⟨RX4, "<init>", "()V"⟩
def dkwX4_init_0 : List UInt8 := [42, 183, 0, 1, 42, 16, 11, 188, 11, 181, 0, 7, 177]
abbrev dktX4_init_0 : List UInt8 := dkwX4_init_0 ++ []
theorem dksX4_init_0 : cX4_init.data.toList.drop 0 = dktX4_init_0 := by decide +kernel
theorem dX4_init_0 : decode cX4_init 0 = .ok (.aload_n 0, 1) := dk_42 (dk_at dksX4_init_0 0 rfl rfl)
theorem dX4_init_1 : decode cX4_init 1 = .ok (.invokespecial 1, 3) := dk_183 0 1 (dk_at dksX4_init_0 1 rfl rfl)
theorem dX4_init_4 : decode cX4_init 4 = .ok (.aload_n 0, 1) := dk_42 (dk_at dksX4_init_0 4 rfl rfl)
theorem dX4_init_5 : decode cX4_init 5 = .ok (.bipush 11, 2) := dk_16 11 (dk_at dksX4_init_0 5 rfl rfl)
theorem dX4_init_7 : decode cX4_init 7 = .ok (.newarray .long, 2) := dk_188_11 (dk_at dksX4_init_0 7 rfl rfl)
theorem dX4_init_9 : decode cX4_init 9 = .ok (.putfield 7, 3) := dk_181 0 7 (dk_at dksX4_init_0 9 rfl rfl)
theorem dX4_init_12 : decode cX4_init 12 = .ok (.return_, 1) := dk_177 (dk_at dksX4_init_0 12 rfl rfl)
theorem q167 : (Jvm.Cond.initialized "MarriageHerring$Moment") ∈ lw_all := lw_g (lw_at lw_m1 11 rfl) rfl
theorem q385 : (Jvm.Cond.instantiable "MarriageHerring$Moment" (1 : Nat)) ∈ lw_all := lw_g (lw_at lw_m1 229 rfl) rfl
theorem q387 : (Jvm.Cond.instanceMethod ({ cls := "MarriageHerring$Moment", name := "<init>", desc := "()V" } : Jvm.MethodName)) ∈ lw_all := lw_g (lw_at lw_m1 231 rfl) rfl
theorem q388 : (Jvm.Cond.code ({ cls := "MarriageHerring$Moment", name := "<init>", desc := "()V" } : Jvm.MethodName) prog_13_method_1_code (1 : Nat) (Option.none : Option Jvm.ClassFile.FieldType)) ∈ lw_all := lw_g (lw_at lw_m1 232 rfl) rfl
theorem q389 : (Jvm.Cond.methodLink "MarriageHerring$Moment" (1 : Nat) ({ cls := "java/lang/Object", name := "<init>", desc := "()V" } : Jvm.MethodName)) ∈ lw_all := lw_g (lw_at lw_m1 233 rfl) rfl
theorem q390 : (Jvm.Cond.fieldLink "MarriageHerring$Moment" (7 : Nat) "MarriageHerring$Moment" "of" "[J") ∈ lw_all := lw_g (lw_at lw_m1 234 rfl) rfl
theorem q394 : (Jvm.Cond.laysFinal "MarriageHerring$Moment" "MarriageHerring$Moment" "of" "[J") ∈ lw_all := lw_g (lw_at lw_m1 238 rfl) rfl
theorem q395 : (Jvm.Cond.soleField "MarriageHerring$Moment" "of") ∈ lw_all := lw_g (lw_at lw_m1 239 rfl) rfl
theorem q396 : (Jvm.Cond.superclass "MarriageHerring$Moment" "java/lang/Object") ∈ lw_all := lw_g (lw_at lw_m2 0 rfl) rfl
theorem q897 : (Jvm.Cond.selects "MarriageHerring$Moment" ({ cls := "java/lang/Object", name := "getClass", desc := "()Ljava/lang/Class;" } : Jvm.MethodName) ({ cls := "java/lang/Object", name := "getClass", desc := "()Ljava/lang/Class;" } : Jvm.MethodName)) ∈ lw_all := lw_g (lw_at lw_m4 21 rfl) rfl
theorem q2584 : (Jvm.Cond.castable "MarriageHerring$Moment" "java/lang/Object") ∈ lw_tbl := lw_at lw_m11 28 rfl
theorem in_X4 : ∀ w ∈ wsX40, w ∈ lw_all := lw_in wsX40 [394] (by decide +kernel) (by decide +kernel)
/-! MarriageHerring$State -/
set_option maxRecDepth 100000
def RX5 : String := "MarriageHerring$State"
def TX5 : u_T := fun k => match k with
  | 0 => ("MarriageHerring$State", "year", "I", false)
  | 1 => ("MarriageHerring$State", "keeps", "I", false)
  | 2 => ("MarriageHerring$State", "mile", "[I", true)
  | 3 => ("MarriageHerring$State", "at", "[I", true)
  | 4 => ("MarriageHerring$State", "to", "[I", true)
  | 5 => ("MarriageHerring$State", "hunger", "[I", true)
  | 6 => ("MarriageHerring$State", "took", "[I", true)
  | 7 => ("MarriageHerring$State", "before", "[I", true)
  | 8 => ("MarriageHerring$State", "vowed", "[I", true)
  | 9 => ("MarriageHerring$State", "by", "[I", true)
  | 10 => ("MarriageHerring$State", "next", "[I", true)
  | 11 => ("MarriageHerring$State", "since", "[I", true)
  | 12 => ("MarriageHerring$State", "rows", "[[I", true)
  | _ => ("MarriageHerring$State", "this$0", "LMarriageHerring;", true)
def tyX5 : Nat → FieldType := fun k => match k with
  | 0 => .int
  | 1 => .int
  | 2 => .array .int
  | 3 => .array .int
  | 4 => .array .int
  | 5 => .array .int
  | 6 => .array .int
  | 7 => .array .int
  | 8 => .array .int
  | 9 => .array .int
  | 10 => .array .int
  | 11 => .array .int
  | 12 => .array (.array .int)
  | _ => .object "MarriageHerring"
abbrev wsX50 : List Cond := u_ws RX5 TX5 14
set_option maxRecDepth 100000 in
theorem nmX5 : ∀ a, a < 14 → ∀ b, b < 14 → a ≠ b → (TX5 a).2.1 ≠ (TX5 b).2.1 := by decide +kernel
set_option maxRecDepth 100000 in
theorem tyX5_ok : ∀ k, k < 14 → parseFieldDescriptor (TX5 k).2.2.1 = some (tyX5 k) := by decide +kernel
abbrev cX5_init : ByteArray := prog_19_method_1_code
def yX5_init : MethodName := ⟨RX5, "<init>", "(LMarriageHerring;)V"⟩
def dkwX5_init_4 : List UInt8 := [181, 0, 48, 177]
abbrev dktX5_init_4 : List UInt8 := dkwX5_init_4 ++ []
def dkwX5_init_3 : List UInt8 := [16, 10, 188, 10, 181, 0, 40, 42, 16, 10, 188, 10, 181, 0, 43, 42, 16, 40, 6, 197, 0, 46, 2]
abbrev dktX5_init_3 : List UInt8 := dkwX5_init_3 ++ dktX5_init_4
def dkwX5_init_2 : List UInt8 := [16, 6, 188, 10, 181, 0, 31, 42, 16, 6, 188, 10, 181, 0, 34, 42, 16, 10, 188, 10, 181, 0, 37, 42]
abbrev dktX5_init_2 : List UInt8 := dkwX5_init_2 ++ dktX5_init_3
def dkwX5_init_1 : List UInt8 := [6, 188, 10, 181, 0, 22, 42, 16, 6, 188, 10, 181, 0, 25, 42, 16, 6, 188, 10, 181, 0, 28, 42]
abbrev dktX5_init_1 : List UInt8 := dkwX5_init_1 ++ dktX5_init_2
def dkwX5_init_0 : List UInt8 := [42, 43, 181, 0, 3, 42, 183, 0, 9, 42, 6, 188, 10, 181, 0, 15, 42, 6, 188, 10, 181, 0, 19, 42]
abbrev dktX5_init_0 : List UInt8 := dkwX5_init_0 ++ dktX5_init_1
theorem dksX5_init_0 : cX5_init.data.toList.drop 0 = dktX5_init_0 := by decide +kernel
theorem dksX5_init_1 : cX5_init.data.toList.drop 24 = dktX5_init_1 := dk_seg dksX5_init_0 24 rfl rfl
theorem dksX5_init_2 : cX5_init.data.toList.drop 47 = dktX5_init_2 := dk_seg dksX5_init_1 23 rfl rfl
theorem dksX5_init_3 : cX5_init.data.toList.drop 71 = dktX5_init_3 := dk_seg dksX5_init_2 24 rfl rfl
theorem dksX5_init_4 : cX5_init.data.toList.drop 94 = dktX5_init_4 := dk_seg dksX5_init_3 23 rfl rfl
theorem dX5_init_0 : decode cX5_init 0 = .ok (.aload_n 0, 1) := dk_42 (dk_at dksX5_init_0 0 rfl rfl)
theorem dX5_init_1 : decode cX5_init 1 = .ok (.aload_n 1, 1) := dk_43 (dk_at dksX5_init_0 1 rfl rfl)
theorem dX5_init_2 : decode cX5_init 2 = .ok (.putfield 3, 3) := dk_181 0 3 (dk_at dksX5_init_0 2 rfl rfl)
theorem dX5_init_5 : decode cX5_init 5 = .ok (.aload_n 0, 1) := dk_42 (dk_at dksX5_init_0 5 rfl rfl)
theorem dX5_init_6 : decode cX5_init 6 = .ok (.invokespecial 9, 3) := dk_183 0 9 (dk_at dksX5_init_0 6 rfl rfl)
theorem dX5_init_9 : decode cX5_init 9 = .ok (.aload_n 0, 1) := dk_42 (dk_at dksX5_init_0 9 rfl rfl)
theorem dX5_init_10 : decode cX5_init 10 = .ok (.iconst 3, 1) := dk_6 (dk_at dksX5_init_0 10 rfl rfl)
theorem dX5_init_11 : decode cX5_init 11 = .ok (.newarray .int, 2) := dk_188_10 (dk_at dksX5_init_0 11 rfl rfl)
theorem dX5_init_13 : decode cX5_init 13 = .ok (.putfield 15, 3) := dk_181 0 15 (dk_at dksX5_init_0 13 rfl rfl)
theorem dX5_init_16 : decode cX5_init 16 = .ok (.aload_n 0, 1) := dk_42 (dk_at dksX5_init_0 16 rfl rfl)
theorem dX5_init_17 : decode cX5_init 17 = .ok (.iconst 3, 1) := dk_6 (dk_at dksX5_init_0 17 rfl rfl)
theorem dX5_init_18 : decode cX5_init 18 = .ok (.newarray .int, 2) := dk_188_10 (dk_at dksX5_init_0 18 rfl rfl)
theorem dX5_init_20 : decode cX5_init 20 = .ok (.putfield 19, 3) := dk_181 0 19 (dk_at dksX5_init_0 20 rfl rfl)
theorem dX5_init_23 : decode cX5_init 23 = .ok (.aload_n 0, 1) := dk_42 (dk_at dksX5_init_0 23 rfl rfl)
theorem dX5_init_24 : decode cX5_init 24 = .ok (.iconst 3, 1) := dk_6 (dk_at dksX5_init_1 0 rfl rfl)
theorem dX5_init_25 : decode cX5_init 25 = .ok (.newarray .int, 2) := dk_188_10 (dk_at dksX5_init_1 1 rfl rfl)
theorem dX5_init_27 : decode cX5_init 27 = .ok (.putfield 22, 3) := dk_181 0 22 (dk_at dksX5_init_1 3 rfl rfl)
theorem dX5_init_30 : decode cX5_init 30 = .ok (.aload_n 0, 1) := dk_42 (dk_at dksX5_init_1 6 rfl rfl)
theorem dX5_init_31 : decode cX5_init 31 = .ok (.bipush 6, 2) := dk_16 6 (dk_at dksX5_init_1 7 rfl rfl)
theorem dX5_init_33 : decode cX5_init 33 = .ok (.newarray .int, 2) := dk_188_10 (dk_at dksX5_init_1 9 rfl rfl)
theorem dX5_init_35 : decode cX5_init 35 = .ok (.putfield 25, 3) := dk_181 0 25 (dk_at dksX5_init_1 11 rfl rfl)
theorem dX5_init_38 : decode cX5_init 38 = .ok (.aload_n 0, 1) := dk_42 (dk_at dksX5_init_1 14 rfl rfl)
theorem dX5_init_39 : decode cX5_init 39 = .ok (.bipush 6, 2) := dk_16 6 (dk_at dksX5_init_1 15 rfl rfl)
theorem dX5_init_41 : decode cX5_init 41 = .ok (.newarray .int, 2) := dk_188_10 (dk_at dksX5_init_1 17 rfl rfl)
theorem dX5_init_43 : decode cX5_init 43 = .ok (.putfield 28, 3) := dk_181 0 28 (dk_at dksX5_init_1 19 rfl rfl)
theorem dX5_init_46 : decode cX5_init 46 = .ok (.aload_n 0, 1) := dk_42 (dk_at dksX5_init_1 22 rfl rfl)
theorem dX5_init_47 : decode cX5_init 47 = .ok (.bipush 6, 2) := dk_16 6 (dk_at dksX5_init_2 0 rfl rfl)
theorem dX5_init_49 : decode cX5_init 49 = .ok (.newarray .int, 2) := dk_188_10 (dk_at dksX5_init_2 2 rfl rfl)
theorem dX5_init_51 : decode cX5_init 51 = .ok (.putfield 31, 3) := dk_181 0 31 (dk_at dksX5_init_2 4 rfl rfl)
theorem dX5_init_54 : decode cX5_init 54 = .ok (.aload_n 0, 1) := dk_42 (dk_at dksX5_init_2 7 rfl rfl)
theorem dX5_init_55 : decode cX5_init 55 = .ok (.bipush 6, 2) := dk_16 6 (dk_at dksX5_init_2 8 rfl rfl)
theorem dX5_init_57 : decode cX5_init 57 = .ok (.newarray .int, 2) := dk_188_10 (dk_at dksX5_init_2 10 rfl rfl)
theorem dX5_init_59 : decode cX5_init 59 = .ok (.putfield 34, 3) := dk_181 0 34 (dk_at dksX5_init_2 12 rfl rfl)
theorem dX5_init_62 : decode cX5_init 62 = .ok (.aload_n 0, 1) := dk_42 (dk_at dksX5_init_2 15 rfl rfl)
theorem dX5_init_63 : decode cX5_init 63 = .ok (.bipush 10, 2) := dk_16 10 (dk_at dksX5_init_2 16 rfl rfl)
theorem dX5_init_65 : decode cX5_init 65 = .ok (.newarray .int, 2) := dk_188_10 (dk_at dksX5_init_2 18 rfl rfl)
theorem dX5_init_67 : decode cX5_init 67 = .ok (.putfield 37, 3) := dk_181 0 37 (dk_at dksX5_init_2 20 rfl rfl)
theorem dX5_init_70 : decode cX5_init 70 = .ok (.aload_n 0, 1) := dk_42 (dk_at dksX5_init_2 23 rfl rfl)
theorem dX5_init_71 : decode cX5_init 71 = .ok (.bipush 10, 2) := dk_16 10 (dk_at dksX5_init_3 0 rfl rfl)
theorem dX5_init_73 : decode cX5_init 73 = .ok (.newarray .int, 2) := dk_188_10 (dk_at dksX5_init_3 2 rfl rfl)
theorem dX5_init_75 : decode cX5_init 75 = .ok (.putfield 40, 3) := dk_181 0 40 (dk_at dksX5_init_3 4 rfl rfl)
theorem dX5_init_78 : decode cX5_init 78 = .ok (.aload_n 0, 1) := dk_42 (dk_at dksX5_init_3 7 rfl rfl)
theorem dX5_init_79 : decode cX5_init 79 = .ok (.bipush 10, 2) := dk_16 10 (dk_at dksX5_init_3 8 rfl rfl)
theorem dX5_init_81 : decode cX5_init 81 = .ok (.newarray .int, 2) := dk_188_10 (dk_at dksX5_init_3 10 rfl rfl)
theorem dX5_init_83 : decode cX5_init 83 = .ok (.putfield 43, 3) := dk_181 0 43 (dk_at dksX5_init_3 12 rfl rfl)
theorem dX5_init_86 : decode cX5_init 86 = .ok (.aload_n 0, 1) := dk_42 (dk_at dksX5_init_3 15 rfl rfl)
theorem dX5_init_87 : decode cX5_init 87 = .ok (.bipush 40, 2) := dk_16 40 (dk_at dksX5_init_3 16 rfl rfl)
theorem dX5_init_89 : decode cX5_init 89 = .ok (.iconst 3, 1) := dk_6 (dk_at dksX5_init_3 18 rfl rfl)
theorem dX5_init_90 : decode cX5_init 90 = .ok (.multianewarray 46 2, 4) := by decide +kernel
theorem dX5_init_94 : decode cX5_init 94 = .ok (.putfield 48, 3) := dk_181 0 48 (dk_at dksX5_init_4 0 rfl rfl)
theorem dX5_init_97 : decode cX5_init 97 = .ok (.return_, 1) := dk_177 (dk_at dksX5_init_4 3 rfl rfl)
abbrev cX5_begins : ByteArray := prog_19_method_2_code
def yX5_begins : MethodName := ⟨RX5, "begins", "()V"⟩
def dkwX5_begins_6 : List UInt8 := [132, 1, 1, 167, 255, 218, 177]
abbrev dktX5_begins_6 : List UInt8 := dkwX5_begins_6 ++ []
def dkwX5_begins_5 : List UInt8 := [180, 0, 37, 27, 42, 180, 0, 3, 27, 182, 0, 84, 180, 0, 88, 79, 42, 180, 0, 43, 27, 3, 79]
abbrev dktX5_begins_5 : List UInt8 := dkwX5_begins_5 ++ dktX5_begins_6
def dkwX5_begins_4 : List UInt8 := [3, 79, 132, 1, 1, 167, 255, 211, 3, 60, 27, 42, 180, 0, 3, 182, 0, 81, 162, 0, 33, 42]
abbrev dktX5_begins_4 : List UInt8 := dkwX5_begins_4 ++ dktX5_begins_5
def dkwX5_begins_3 : List UInt8 := [42, 180, 0, 3, 27, 182, 0, 73, 180, 0, 77, 79, 42, 180, 0, 28, 27, 3, 79, 42, 180, 0, 31, 27]
abbrev dktX5_begins_3 : List UInt8 := dkwX5_begins_3 ++ dktX5_begins_4
def dkwX5_begins_2 : List UInt8 := [132, 1, 1, 167, 255, 218, 3, 60, 27, 42, 180, 0, 3, 182, 0, 70, 162, 0, 40, 42, 180, 0, 25, 27]
abbrev dktX5_begins_2 : List UInt8 := dkwX5_begins_2 ++ dktX5_begins_3
def dkwX5_begins_1 : List UInt8 := [180, 0, 15, 27, 42, 180, 0, 3, 27, 182, 0, 62, 180, 0, 66, 79, 42, 180, 0, 19, 27, 2, 79]
abbrev dktX5_begins_1 : List UInt8 := dkwX5_begins_1 ++ dktX5_begins_2
def dkwX5_begins_0 : List UInt8 := [42, 3, 181, 0, 51, 42, 3, 181, 0, 55, 3, 60, 27, 42, 180, 0, 3, 182, 0, 58, 162, 0, 33, 42]
abbrev dktX5_begins_0 : List UInt8 := dkwX5_begins_0 ++ dktX5_begins_1
theorem dksX5_begins_0 : cX5_begins.data.toList.drop 0 = dktX5_begins_0 := by decide +kernel
theorem dksX5_begins_1 : cX5_begins.data.toList.drop 24 = dktX5_begins_1 := dk_seg dksX5_begins_0 24 rfl rfl
theorem dksX5_begins_2 : cX5_begins.data.toList.drop 47 = dktX5_begins_2 := dk_seg dksX5_begins_1 23 rfl rfl
theorem dksX5_begins_3 : cX5_begins.data.toList.drop 71 = dktX5_begins_3 := dk_seg dksX5_begins_2 24 rfl rfl
theorem dksX5_begins_4 : cX5_begins.data.toList.drop 95 = dktX5_begins_4 := dk_seg dksX5_begins_3 24 rfl rfl
theorem dksX5_begins_5 : cX5_begins.data.toList.drop 117 = dktX5_begins_5 := dk_seg dksX5_begins_4 22 rfl rfl
theorem dksX5_begins_6 : cX5_begins.data.toList.drop 140 = dktX5_begins_6 := dk_seg dksX5_begins_5 23 rfl rfl
theorem dX5_begins_0 : decode cX5_begins 0 = .ok (.aload_n 0, 1) := dk_42 (dk_at dksX5_begins_0 0 rfl rfl)
theorem dX5_begins_1 : decode cX5_begins 1 = .ok (.iconst 0, 1) := dk_3 (dk_at dksX5_begins_0 1 rfl rfl)
theorem dX5_begins_2 : decode cX5_begins 2 = .ok (.putfield 51, 3) := dk_181 0 51 (dk_at dksX5_begins_0 2 rfl rfl)
theorem dX5_begins_5 : decode cX5_begins 5 = .ok (.aload_n 0, 1) := dk_42 (dk_at dksX5_begins_0 5 rfl rfl)
theorem dX5_begins_6 : decode cX5_begins 6 = .ok (.iconst 0, 1) := dk_3 (dk_at dksX5_begins_0 6 rfl rfl)
theorem dX5_begins_7 : decode cX5_begins 7 = .ok (.putfield 55, 3) := dk_181 0 55 (dk_at dksX5_begins_0 7 rfl rfl)
theorem dX5_begins_10 : decode cX5_begins 10 = .ok (.iconst 0, 1) := dk_3 (dk_at dksX5_begins_0 10 rfl rfl)
theorem dX5_begins_11 : decode cX5_begins 11 = .ok (.istore_n 1, 1) := dk_60 (dk_at dksX5_begins_0 11 rfl rfl)
theorem dX5_begins_12 : decode cX5_begins 12 = .ok (.iload_n 1, 1) := dk_27 (dk_at dksX5_begins_0 12 rfl rfl)
theorem dX5_begins_13 : decode cX5_begins 13 = .ok (.aload_n 0, 1) := dk_42 (dk_at dksX5_begins_0 13 rfl rfl)
theorem dX5_begins_14 : decode cX5_begins 14 = .ok (.getfield 3, 3) := dk_180 0 3 (dk_at dksX5_begins_0 14 rfl rfl)
theorem dX5_begins_17 : decode cX5_begins 17 = .ok (.invokevirtual 58, 3) := dk_182 0 58 (dk_at dksX5_begins_0 17 rfl rfl)
theorem dX5_begins_20 : decode cX5_begins 20 = .ok (.if_icmp .ge 33, 3) := dk_162 0 33 (dk_at dksX5_begins_0 20 rfl rfl)
theorem dX5_begins_23 : decode cX5_begins 23 = .ok (.aload_n 0, 1) := dk_42 (dk_at dksX5_begins_0 23 rfl rfl)
theorem dX5_begins_24 : decode cX5_begins 24 = .ok (.getfield 15, 3) := dk_180 0 15 (dk_at dksX5_begins_1 0 rfl rfl)
theorem dX5_begins_27 : decode cX5_begins 27 = .ok (.iload_n 1, 1) := dk_27 (dk_at dksX5_begins_1 3 rfl rfl)
theorem dX5_begins_28 : decode cX5_begins 28 = .ok (.aload_n 0, 1) := dk_42 (dk_at dksX5_begins_1 4 rfl rfl)
theorem dX5_begins_29 : decode cX5_begins 29 = .ok (.getfield 3, 3) := dk_180 0 3 (dk_at dksX5_begins_1 5 rfl rfl)
theorem dX5_begins_32 : decode cX5_begins 32 = .ok (.iload_n 1, 1) := dk_27 (dk_at dksX5_begins_1 8 rfl rfl)
theorem dX5_begins_33 : decode cX5_begins 33 = .ok (.invokevirtual 62, 3) := dk_182 0 62 (dk_at dksX5_begins_1 9 rfl rfl)
theorem dX5_begins_36 : decode cX5_begins 36 = .ok (.getfield 66, 3) := dk_180 0 66 (dk_at dksX5_begins_1 12 rfl rfl)
theorem dX5_begins_39 : decode cX5_begins 39 = .ok (.iastore, 1) := dk_79 (dk_at dksX5_begins_1 15 rfl rfl)
theorem dX5_begins_40 : decode cX5_begins 40 = .ok (.aload_n 0, 1) := dk_42 (dk_at dksX5_begins_1 16 rfl rfl)
theorem dX5_begins_41 : decode cX5_begins 41 = .ok (.getfield 19, 3) := dk_180 0 19 (dk_at dksX5_begins_1 17 rfl rfl)
theorem dX5_begins_44 : decode cX5_begins 44 = .ok (.iload_n 1, 1) := dk_27 (dk_at dksX5_begins_1 20 rfl rfl)
theorem dX5_begins_45 : decode cX5_begins 45 = .ok (.iconst (-1), 1) := dk_2 (dk_at dksX5_begins_1 21 rfl rfl)
theorem dX5_begins_46 : decode cX5_begins 46 = .ok (.iastore, 1) := dk_79 (dk_at dksX5_begins_1 22 rfl rfl)
theorem dX5_begins_47 : decode cX5_begins 47 = .ok (.iinc 1 1, 3) := dk_132 1 1 (dk_at dksX5_begins_2 0 rfl rfl)
theorem dX5_begins_50 : decode cX5_begins 50 = .ok (.goto (-38), 3) := dk_167 255 218 (dk_at dksX5_begins_2 3 rfl rfl)
theorem dX5_begins_53 : decode cX5_begins 53 = .ok (.iconst 0, 1) := dk_3 (dk_at dksX5_begins_2 6 rfl rfl)
theorem dX5_begins_54 : decode cX5_begins 54 = .ok (.istore_n 1, 1) := dk_60 (dk_at dksX5_begins_2 7 rfl rfl)
theorem dX5_begins_55 : decode cX5_begins 55 = .ok (.iload_n 1, 1) := dk_27 (dk_at dksX5_begins_2 8 rfl rfl)
theorem dX5_begins_56 : decode cX5_begins 56 = .ok (.aload_n 0, 1) := dk_42 (dk_at dksX5_begins_2 9 rfl rfl)
theorem dX5_begins_57 : decode cX5_begins 57 = .ok (.getfield 3, 3) := dk_180 0 3 (dk_at dksX5_begins_2 10 rfl rfl)
theorem dX5_begins_60 : decode cX5_begins 60 = .ok (.invokevirtual 70, 3) := dk_182 0 70 (dk_at dksX5_begins_2 13 rfl rfl)
theorem dX5_begins_63 : decode cX5_begins 63 = .ok (.if_icmp .ge 40, 3) := dk_162 0 40 (dk_at dksX5_begins_2 16 rfl rfl)
theorem dX5_begins_66 : decode cX5_begins 66 = .ok (.aload_n 0, 1) := dk_42 (dk_at dksX5_begins_2 19 rfl rfl)
theorem dX5_begins_67 : decode cX5_begins 67 = .ok (.getfield 25, 3) := dk_180 0 25 (dk_at dksX5_begins_2 20 rfl rfl)
theorem dX5_begins_70 : decode cX5_begins 70 = .ok (.iload_n 1, 1) := dk_27 (dk_at dksX5_begins_2 23 rfl rfl)
theorem dX5_begins_71 : decode cX5_begins 71 = .ok (.aload_n 0, 1) := dk_42 (dk_at dksX5_begins_3 0 rfl rfl)
theorem dX5_begins_72 : decode cX5_begins 72 = .ok (.getfield 3, 3) := dk_180 0 3 (dk_at dksX5_begins_3 1 rfl rfl)
theorem dX5_begins_75 : decode cX5_begins 75 = .ok (.iload_n 1, 1) := dk_27 (dk_at dksX5_begins_3 4 rfl rfl)
theorem dX5_begins_76 : decode cX5_begins 76 = .ok (.invokevirtual 73, 3) := dk_182 0 73 (dk_at dksX5_begins_3 5 rfl rfl)
theorem dX5_begins_79 : decode cX5_begins 79 = .ok (.getfield 77, 3) := dk_180 0 77 (dk_at dksX5_begins_3 8 rfl rfl)
theorem dX5_begins_82 : decode cX5_begins 82 = .ok (.iastore, 1) := dk_79 (dk_at dksX5_begins_3 11 rfl rfl)
theorem dX5_begins_83 : decode cX5_begins 83 = .ok (.aload_n 0, 1) := dk_42 (dk_at dksX5_begins_3 12 rfl rfl)
theorem dX5_begins_84 : decode cX5_begins 84 = .ok (.getfield 28, 3) := dk_180 0 28 (dk_at dksX5_begins_3 13 rfl rfl)
theorem dX5_begins_87 : decode cX5_begins 87 = .ok (.iload_n 1, 1) := dk_27 (dk_at dksX5_begins_3 16 rfl rfl)
theorem dX5_begins_88 : decode cX5_begins 88 = .ok (.iconst 0, 1) := dk_3 (dk_at dksX5_begins_3 17 rfl rfl)
theorem dX5_begins_89 : decode cX5_begins 89 = .ok (.iastore, 1) := dk_79 (dk_at dksX5_begins_3 18 rfl rfl)
theorem dX5_begins_90 : decode cX5_begins 90 = .ok (.aload_n 0, 1) := dk_42 (dk_at dksX5_begins_3 19 rfl rfl)
theorem dX5_begins_91 : decode cX5_begins 91 = .ok (.getfield 31, 3) := dk_180 0 31 (dk_at dksX5_begins_3 20 rfl rfl)
theorem dX5_begins_94 : decode cX5_begins 94 = .ok (.iload_n 1, 1) := dk_27 (dk_at dksX5_begins_3 23 rfl rfl)
theorem dX5_begins_95 : decode cX5_begins 95 = .ok (.iconst 0, 1) := dk_3 (dk_at dksX5_begins_4 0 rfl rfl)
theorem dX5_begins_96 : decode cX5_begins 96 = .ok (.iastore, 1) := dk_79 (dk_at dksX5_begins_4 1 rfl rfl)
theorem dX5_begins_97 : decode cX5_begins 97 = .ok (.iinc 1 1, 3) := dk_132 1 1 (dk_at dksX5_begins_4 2 rfl rfl)
theorem dX5_begins_100 : decode cX5_begins 100 = .ok (.goto (-45), 3) := dk_167 255 211 (dk_at dksX5_begins_4 5 rfl rfl)
theorem dX5_begins_103 : decode cX5_begins 103 = .ok (.iconst 0, 1) := dk_3 (dk_at dksX5_begins_4 8 rfl rfl)
theorem dX5_begins_104 : decode cX5_begins 104 = .ok (.istore_n 1, 1) := dk_60 (dk_at dksX5_begins_4 9 rfl rfl)
theorem dX5_begins_105 : decode cX5_begins 105 = .ok (.iload_n 1, 1) := dk_27 (dk_at dksX5_begins_4 10 rfl rfl)
theorem dX5_begins_106 : decode cX5_begins 106 = .ok (.aload_n 0, 1) := dk_42 (dk_at dksX5_begins_4 11 rfl rfl)
theorem dX5_begins_107 : decode cX5_begins 107 = .ok (.getfield 3, 3) := dk_180 0 3 (dk_at dksX5_begins_4 12 rfl rfl)
theorem dX5_begins_110 : decode cX5_begins 110 = .ok (.invokevirtual 81, 3) := dk_182 0 81 (dk_at dksX5_begins_4 15 rfl rfl)
theorem dX5_begins_113 : decode cX5_begins 113 = .ok (.if_icmp .ge 33, 3) := dk_162 0 33 (dk_at dksX5_begins_4 18 rfl rfl)
theorem dX5_begins_116 : decode cX5_begins 116 = .ok (.aload_n 0, 1) := dk_42 (dk_at dksX5_begins_4 21 rfl rfl)
theorem dX5_begins_117 : decode cX5_begins 117 = .ok (.getfield 37, 3) := dk_180 0 37 (dk_at dksX5_begins_5 0 rfl rfl)
theorem dX5_begins_120 : decode cX5_begins 120 = .ok (.iload_n 1, 1) := dk_27 (dk_at dksX5_begins_5 3 rfl rfl)
theorem dX5_begins_121 : decode cX5_begins 121 = .ok (.aload_n 0, 1) := dk_42 (dk_at dksX5_begins_5 4 rfl rfl)
theorem dX5_begins_122 : decode cX5_begins 122 = .ok (.getfield 3, 3) := dk_180 0 3 (dk_at dksX5_begins_5 5 rfl rfl)
theorem dX5_begins_125 : decode cX5_begins 125 = .ok (.iload_n 1, 1) := dk_27 (dk_at dksX5_begins_5 8 rfl rfl)
theorem dX5_begins_126 : decode cX5_begins 126 = .ok (.invokevirtual 84, 3) := dk_182 0 84 (dk_at dksX5_begins_5 9 rfl rfl)
theorem dX5_begins_129 : decode cX5_begins 129 = .ok (.getfield 88, 3) := dk_180 0 88 (dk_at dksX5_begins_5 12 rfl rfl)
theorem dX5_begins_132 : decode cX5_begins 132 = .ok (.iastore, 1) := dk_79 (dk_at dksX5_begins_5 15 rfl rfl)
theorem dX5_begins_133 : decode cX5_begins 133 = .ok (.aload_n 0, 1) := dk_42 (dk_at dksX5_begins_5 16 rfl rfl)
theorem dX5_begins_134 : decode cX5_begins 134 = .ok (.getfield 43, 3) := dk_180 0 43 (dk_at dksX5_begins_5 17 rfl rfl)
theorem dX5_begins_137 : decode cX5_begins 137 = .ok (.iload_n 1, 1) := dk_27 (dk_at dksX5_begins_5 20 rfl rfl)
theorem dX5_begins_138 : decode cX5_begins 138 = .ok (.iconst 0, 1) := dk_3 (dk_at dksX5_begins_5 21 rfl rfl)
theorem dX5_begins_139 : decode cX5_begins 139 = .ok (.iastore, 1) := dk_79 (dk_at dksX5_begins_5 22 rfl rfl)
theorem dX5_begins_140 : decode cX5_begins 140 = .ok (.iinc 1 1, 3) := dk_132 1 1 (dk_at dksX5_begins_6 0 rfl rfl)
theorem dX5_begins_143 : decode cX5_begins 143 = .ok (.goto (-38), 3) := dk_167 255 218 (dk_at dksX5_begins_6 3 rfl rfl)
theorem dX5_begins_146 : decode cX5_begins 146 = .ok (.return_, 1) := dk_177 (dk_at dksX5_begins_6 6 rfl rfl)
abbrev cX5_isCounted : ByteArray := prog_19_method_4_code
def yX5_isCounted : MethodName := ⟨RX5, "isCounted", "(I)Z"⟩
def dkwX5_isCounted_5 : List UInt8 := [180, 0, 3, 180, 0, 92, 180, 0, 96, 42, 180, 0, 3, 180, 0, 102, 182, 0, 115, 172]
abbrev dktX5_isCounted_5 : List UInt8 := dkwX5_isCounted_5 ++ []
def dkwX5_isCounted_4 : List UInt8 := [80, 42, 180, 0, 3, 180, 0, 102, 180, 0, 106, 16, 8, 42, 180, 0, 43, 27, 46, 133, 80, 42]
abbrev dktX5_isCounted_4 : List UInt8 := dkwX5_isCounted_4 ++ dktX5_isCounted_5
def dkwX5_isCounted_3 : List UInt8 := [180, 0, 51, 133, 80, 42, 180, 0, 3, 180, 0, 102, 180, 0, 106, 16, 6, 42, 180, 0, 37, 27, 46, 133]
abbrev dktX5_isCounted_3 : List UInt8 := dkwX5_isCounted_3 ++ dktX5_isCounted_4
def dkwX5_isCounted_2 : List UInt8 := [27, 182, 0, 84, 180, 0, 112, 46, 133, 80, 42, 180, 0, 3, 180, 0, 102, 180, 0, 106, 7, 42]
abbrev dktX5_isCounted_2 : List UInt8 := dkwX5_isCounted_2 ++ dktX5_isCounted_3
def dkwX5_isCounted_1 : List UInt8 := [167, 0, 4, 3, 172, 42, 180, 0, 3, 180, 0, 102, 180, 0, 106, 4, 42, 180, 0, 25, 42, 180, 0, 3]
abbrev dktX5_isCounted_1 : List UInt8 := dkwX5_isCounted_1 ++ dktX5_isCounted_2
def dkwX5_isCounted_0 : List UInt8 := [42, 180, 0, 3, 180, 0, 92, 180, 0, 96, 199, 0, 18, 42, 180, 0, 37, 27, 46, 158, 0, 7, 4]
abbrev dktX5_isCounted_0 : List UInt8 := dkwX5_isCounted_0 ++ dktX5_isCounted_1
theorem dksX5_isCounted_0 : cX5_isCounted.data.toList.drop 0 = dktX5_isCounted_0 := by decide +kernel
theorem dksX5_isCounted_1 : cX5_isCounted.data.toList.drop 23 = dktX5_isCounted_1 := dk_seg dksX5_isCounted_0 23 rfl rfl
theorem dksX5_isCounted_2 : cX5_isCounted.data.toList.drop 47 = dktX5_isCounted_2 := dk_seg dksX5_isCounted_1 24 rfl rfl
theorem dksX5_isCounted_3 : cX5_isCounted.data.toList.drop 69 = dktX5_isCounted_3 := dk_seg dksX5_isCounted_2 22 rfl rfl
theorem dksX5_isCounted_4 : cX5_isCounted.data.toList.drop 93 = dktX5_isCounted_4 := dk_seg dksX5_isCounted_3 24 rfl rfl
theorem dksX5_isCounted_5 : cX5_isCounted.data.toList.drop 115 = dktX5_isCounted_5 := dk_seg dksX5_isCounted_4 22 rfl rfl
theorem dX5_isCounted_0 : decode cX5_isCounted 0 = .ok (.aload_n 0, 1) := dk_42 (dk_at dksX5_isCounted_0 0 rfl rfl)
theorem dX5_isCounted_1 : decode cX5_isCounted 1 = .ok (.getfield 3, 3) := dk_180 0 3 (dk_at dksX5_isCounted_0 1 rfl rfl)
theorem dX5_isCounted_4 : decode cX5_isCounted 4 = .ok (.getfield 92, 3) := dk_180 0 92 (dk_at dksX5_isCounted_0 4 rfl rfl)
theorem dX5_isCounted_7 : decode cX5_isCounted 7 = .ok (.getfield 96, 3) := dk_180 0 96 (dk_at dksX5_isCounted_0 7 rfl rfl)
theorem dX5_isCounted_10 : decode cX5_isCounted 10 = .ok (.ifnonnull 18, 3) := dk_199 0 18 (dk_at dksX5_isCounted_0 10 rfl rfl)
theorem dX5_isCounted_13 : decode cX5_isCounted 13 = .ok (.aload_n 0, 1) := dk_42 (dk_at dksX5_isCounted_0 13 rfl rfl)
theorem dX5_isCounted_14 : decode cX5_isCounted 14 = .ok (.getfield 37, 3) := dk_180 0 37 (dk_at dksX5_isCounted_0 14 rfl rfl)
theorem dX5_isCounted_17 : decode cX5_isCounted 17 = .ok (.iload_n 1, 1) := dk_27 (dk_at dksX5_isCounted_0 17 rfl rfl)
theorem dX5_isCounted_18 : decode cX5_isCounted 18 = .ok (.iaload, 1) := dk_46 (dk_at dksX5_isCounted_0 18 rfl rfl)
theorem dX5_isCounted_19 : decode cX5_isCounted 19 = .ok (.ifCond .le 7, 3) := dk_158 0 7 (dk_at dksX5_isCounted_0 19 rfl rfl)
theorem dX5_isCounted_22 : decode cX5_isCounted 22 = .ok (.iconst 1, 1) := dk_4 (dk_at dksX5_isCounted_0 22 rfl rfl)
theorem dX5_isCounted_23 : decode cX5_isCounted 23 = .ok (.goto 4, 3) := dk_167 0 4 (dk_at dksX5_isCounted_1 0 rfl rfl)
theorem dX5_isCounted_26 : decode cX5_isCounted 26 = .ok (.iconst 0, 1) := dk_3 (dk_at dksX5_isCounted_1 3 rfl rfl)
theorem dX5_isCounted_27 : decode cX5_isCounted 27 = .ok (.ireturn, 1) := dk_172 (dk_at dksX5_isCounted_1 4 rfl rfl)
theorem dX5_isCounted_28 : decode cX5_isCounted 28 = .ok (.aload_n 0, 1) := dk_42 (dk_at dksX5_isCounted_1 5 rfl rfl)
theorem dX5_isCounted_29 : decode cX5_isCounted 29 = .ok (.getfield 3, 3) := dk_180 0 3 (dk_at dksX5_isCounted_1 6 rfl rfl)
theorem dX5_isCounted_32 : decode cX5_isCounted 32 = .ok (.getfield 102, 3) := dk_180 0 102 (dk_at dksX5_isCounted_1 9 rfl rfl)
theorem dX5_isCounted_35 : decode cX5_isCounted 35 = .ok (.getfield 106, 3) := dk_180 0 106 (dk_at dksX5_isCounted_1 12 rfl rfl)
theorem dX5_isCounted_38 : decode cX5_isCounted 38 = .ok (.iconst 1, 1) := dk_4 (dk_at dksX5_isCounted_1 15 rfl rfl)
theorem dX5_isCounted_39 : decode cX5_isCounted 39 = .ok (.aload_n 0, 1) := dk_42 (dk_at dksX5_isCounted_1 16 rfl rfl)
theorem dX5_isCounted_40 : decode cX5_isCounted 40 = .ok (.getfield 25, 3) := dk_180 0 25 (dk_at dksX5_isCounted_1 17 rfl rfl)
theorem dX5_isCounted_43 : decode cX5_isCounted 43 = .ok (.aload_n 0, 1) := dk_42 (dk_at dksX5_isCounted_1 20 rfl rfl)
theorem dX5_isCounted_44 : decode cX5_isCounted 44 = .ok (.getfield 3, 3) := dk_180 0 3 (dk_at dksX5_isCounted_1 21 rfl rfl)
theorem dX5_isCounted_47 : decode cX5_isCounted 47 = .ok (.iload_n 1, 1) := dk_27 (dk_at dksX5_isCounted_2 0 rfl rfl)
theorem dX5_isCounted_48 : decode cX5_isCounted 48 = .ok (.invokevirtual 84, 3) := dk_182 0 84 (dk_at dksX5_isCounted_2 1 rfl rfl)
theorem dX5_isCounted_51 : decode cX5_isCounted 51 = .ok (.getfield 112, 3) := dk_180 0 112 (dk_at dksX5_isCounted_2 4 rfl rfl)
theorem dX5_isCounted_54 : decode cX5_isCounted 54 = .ok (.iaload, 1) := dk_46 (dk_at dksX5_isCounted_2 7 rfl rfl)
theorem dX5_isCounted_55 : decode cX5_isCounted 55 = .ok (.i2l, 1) := dk_133 (dk_at dksX5_isCounted_2 8 rfl rfl)
theorem dX5_isCounted_56 : decode cX5_isCounted 56 = .ok (.lastore, 1) := dk_80 (dk_at dksX5_isCounted_2 9 rfl rfl)
theorem dX5_isCounted_57 : decode cX5_isCounted 57 = .ok (.aload_n 0, 1) := dk_42 (dk_at dksX5_isCounted_2 10 rfl rfl)
theorem dX5_isCounted_58 : decode cX5_isCounted 58 = .ok (.getfield 3, 3) := dk_180 0 3 (dk_at dksX5_isCounted_2 11 rfl rfl)
theorem dX5_isCounted_61 : decode cX5_isCounted 61 = .ok (.getfield 102, 3) := dk_180 0 102 (dk_at dksX5_isCounted_2 14 rfl rfl)
theorem dX5_isCounted_64 : decode cX5_isCounted 64 = .ok (.getfield 106, 3) := dk_180 0 106 (dk_at dksX5_isCounted_2 17 rfl rfl)
theorem dX5_isCounted_67 : decode cX5_isCounted 67 = .ok (.iconst 4, 1) := dk_7 (dk_at dksX5_isCounted_2 20 rfl rfl)
theorem dX5_isCounted_68 : decode cX5_isCounted 68 = .ok (.aload_n 0, 1) := dk_42 (dk_at dksX5_isCounted_2 21 rfl rfl)
theorem dX5_isCounted_69 : decode cX5_isCounted 69 = .ok (.getfield 51, 3) := dk_180 0 51 (dk_at dksX5_isCounted_3 0 rfl rfl)
theorem dX5_isCounted_72 : decode cX5_isCounted 72 = .ok (.i2l, 1) := dk_133 (dk_at dksX5_isCounted_3 3 rfl rfl)
theorem dX5_isCounted_73 : decode cX5_isCounted 73 = .ok (.lastore, 1) := dk_80 (dk_at dksX5_isCounted_3 4 rfl rfl)
theorem dX5_isCounted_74 : decode cX5_isCounted 74 = .ok (.aload_n 0, 1) := dk_42 (dk_at dksX5_isCounted_3 5 rfl rfl)
theorem dX5_isCounted_75 : decode cX5_isCounted 75 = .ok (.getfield 3, 3) := dk_180 0 3 (dk_at dksX5_isCounted_3 6 rfl rfl)
theorem dX5_isCounted_78 : decode cX5_isCounted 78 = .ok (.getfield 102, 3) := dk_180 0 102 (dk_at dksX5_isCounted_3 9 rfl rfl)
theorem dX5_isCounted_81 : decode cX5_isCounted 81 = .ok (.getfield 106, 3) := dk_180 0 106 (dk_at dksX5_isCounted_3 12 rfl rfl)
theorem dX5_isCounted_84 : decode cX5_isCounted 84 = .ok (.bipush 6, 2) := dk_16 6 (dk_at dksX5_isCounted_3 15 rfl rfl)
theorem dX5_isCounted_86 : decode cX5_isCounted 86 = .ok (.aload_n 0, 1) := dk_42 (dk_at dksX5_isCounted_3 17 rfl rfl)
theorem dX5_isCounted_87 : decode cX5_isCounted 87 = .ok (.getfield 37, 3) := dk_180 0 37 (dk_at dksX5_isCounted_3 18 rfl rfl)
theorem dX5_isCounted_90 : decode cX5_isCounted 90 = .ok (.iload_n 1, 1) := dk_27 (dk_at dksX5_isCounted_3 21 rfl rfl)
theorem dX5_isCounted_91 : decode cX5_isCounted 91 = .ok (.iaload, 1) := dk_46 (dk_at dksX5_isCounted_3 22 rfl rfl)
theorem dX5_isCounted_92 : decode cX5_isCounted 92 = .ok (.i2l, 1) := dk_133 (dk_at dksX5_isCounted_3 23 rfl rfl)
theorem dX5_isCounted_93 : decode cX5_isCounted 93 = .ok (.lastore, 1) := dk_80 (dk_at dksX5_isCounted_4 0 rfl rfl)
theorem dX5_isCounted_94 : decode cX5_isCounted 94 = .ok (.aload_n 0, 1) := dk_42 (dk_at dksX5_isCounted_4 1 rfl rfl)
theorem dX5_isCounted_95 : decode cX5_isCounted 95 = .ok (.getfield 3, 3) := dk_180 0 3 (dk_at dksX5_isCounted_4 2 rfl rfl)
theorem dX5_isCounted_98 : decode cX5_isCounted 98 = .ok (.getfield 102, 3) := dk_180 0 102 (dk_at dksX5_isCounted_4 5 rfl rfl)
theorem dX5_isCounted_101 : decode cX5_isCounted 101 = .ok (.getfield 106, 3) := dk_180 0 106 (dk_at dksX5_isCounted_4 8 rfl rfl)
theorem dX5_isCounted_104 : decode cX5_isCounted 104 = .ok (.bipush 8, 2) := dk_16 8 (dk_at dksX5_isCounted_4 11 rfl rfl)
theorem dX5_isCounted_106 : decode cX5_isCounted 106 = .ok (.aload_n 0, 1) := dk_42 (dk_at dksX5_isCounted_4 13 rfl rfl)
theorem dX5_isCounted_107 : decode cX5_isCounted 107 = .ok (.getfield 43, 3) := dk_180 0 43 (dk_at dksX5_isCounted_4 14 rfl rfl)
theorem dX5_isCounted_110 : decode cX5_isCounted 110 = .ok (.iload_n 1, 1) := dk_27 (dk_at dksX5_isCounted_4 17 rfl rfl)
theorem dX5_isCounted_111 : decode cX5_isCounted 111 = .ok (.iaload, 1) := dk_46 (dk_at dksX5_isCounted_4 18 rfl rfl)
theorem dX5_isCounted_112 : decode cX5_isCounted 112 = .ok (.i2l, 1) := dk_133 (dk_at dksX5_isCounted_4 19 rfl rfl)
theorem dX5_isCounted_113 : decode cX5_isCounted 113 = .ok (.lastore, 1) := dk_80 (dk_at dksX5_isCounted_4 20 rfl rfl)
theorem dX5_isCounted_114 : decode cX5_isCounted 114 = .ok (.aload_n 0, 1) := dk_42 (dk_at dksX5_isCounted_4 21 rfl rfl)
theorem dX5_isCounted_115 : decode cX5_isCounted 115 = .ok (.getfield 3, 3) := dk_180 0 3 (dk_at dksX5_isCounted_5 0 rfl rfl)
theorem dX5_isCounted_118 : decode cX5_isCounted 118 = .ok (.getfield 92, 3) := dk_180 0 92 (dk_at dksX5_isCounted_5 3 rfl rfl)
theorem dX5_isCounted_121 : decode cX5_isCounted 121 = .ok (.getfield 96, 3) := dk_180 0 96 (dk_at dksX5_isCounted_5 6 rfl rfl)
theorem dX5_isCounted_124 : decode cX5_isCounted 124 = .ok (.aload_n 0, 1) := dk_42 (dk_at dksX5_isCounted_5 9 rfl rfl)
theorem dX5_isCounted_125 : decode cX5_isCounted 125 = .ok (.getfield 3, 3) := dk_180 0 3 (dk_at dksX5_isCounted_5 10 rfl rfl)
theorem dX5_isCounted_128 : decode cX5_isCounted 128 = .ok (.getfield 102, 3) := dk_180 0 102 (dk_at dksX5_isCounted_5 13 rfl rfl)
theorem dX5_isCounted_131 : decode cX5_isCounted 131 = .ok (.invokevirtual 115, 3) := dk_182 0 115 (dk_at dksX5_isCounted_5 16 rfl rfl)
theorem dX5_isCounted_134 : decode cX5_isCounted 134 = .ok (.ireturn, 1) := dk_172 (dk_at dksX5_isCounted_5 19 rfl rfl)
abbrev cX5_vowsOf : ByteArray := prog_19_method_5_code
def yX5_vowsOf : MethodName := ⟨RX5, "vowsOf", "(I)I"⟩
def dkwX5_vowsOf_2 : List UInt8 := [3, 96, 61, 132, 3, 1, 167, 255, 206, 28, 172]
abbrev dktX5_vowsOf_2 : List UInt8 := dkwX5_vowsOf_2 ++ []
def dkwX5_vowsOf_1 : List UInt8 := [180, 0, 112, 27, 160, 0, 20, 42, 29, 182, 0, 121, 153, 0, 12, 42, 180, 0, 37, 29, 46, 167, 0, 4]
abbrev dktX5_vowsOf_1 : List UInt8 := dkwX5_vowsOf_1 ++ dktX5_vowsOf_2
def dkwX5_vowsOf_0 : List UInt8 := [3, 61, 3, 62, 29, 42, 180, 0, 3, 182, 0, 81, 162, 0, 45, 28, 42, 180, 0, 3, 29, 182, 0, 84]
abbrev dktX5_vowsOf_0 : List UInt8 := dkwX5_vowsOf_0 ++ dktX5_vowsOf_1
theorem dksX5_vowsOf_0 : cX5_vowsOf.data.toList.drop 0 = dktX5_vowsOf_0 := by decide +kernel
theorem dksX5_vowsOf_1 : cX5_vowsOf.data.toList.drop 24 = dktX5_vowsOf_1 := dk_seg dksX5_vowsOf_0 24 rfl rfl
theorem dksX5_vowsOf_2 : cX5_vowsOf.data.toList.drop 48 = dktX5_vowsOf_2 := dk_seg dksX5_vowsOf_1 24 rfl rfl
theorem dX5_vowsOf_0 : decode cX5_vowsOf 0 = .ok (.iconst 0, 1) := dk_3 (dk_at dksX5_vowsOf_0 0 rfl rfl)
theorem dX5_vowsOf_1 : decode cX5_vowsOf 1 = .ok (.istore_n 2, 1) := dk_61 (dk_at dksX5_vowsOf_0 1 rfl rfl)
theorem dX5_vowsOf_2 : decode cX5_vowsOf 2 = .ok (.iconst 0, 1) := dk_3 (dk_at dksX5_vowsOf_0 2 rfl rfl)
theorem dX5_vowsOf_3 : decode cX5_vowsOf 3 = .ok (.istore_n 3, 1) := dk_62 (dk_at dksX5_vowsOf_0 3 rfl rfl)
theorem dX5_vowsOf_4 : decode cX5_vowsOf 4 = .ok (.iload_n 3, 1) := dk_29 (dk_at dksX5_vowsOf_0 4 rfl rfl)
theorem dX5_vowsOf_5 : decode cX5_vowsOf 5 = .ok (.aload_n 0, 1) := dk_42 (dk_at dksX5_vowsOf_0 5 rfl rfl)
theorem dX5_vowsOf_6 : decode cX5_vowsOf 6 = .ok (.getfield 3, 3) := dk_180 0 3 (dk_at dksX5_vowsOf_0 6 rfl rfl)
theorem dX5_vowsOf_9 : decode cX5_vowsOf 9 = .ok (.invokevirtual 81, 3) := dk_182 0 81 (dk_at dksX5_vowsOf_0 9 rfl rfl)
theorem dX5_vowsOf_12 : decode cX5_vowsOf 12 = .ok (.if_icmp .ge 45, 3) := dk_162 0 45 (dk_at dksX5_vowsOf_0 12 rfl rfl)
theorem dX5_vowsOf_15 : decode cX5_vowsOf 15 = .ok (.iload_n 2, 1) := dk_28 (dk_at dksX5_vowsOf_0 15 rfl rfl)
theorem dX5_vowsOf_16 : decode cX5_vowsOf 16 = .ok (.aload_n 0, 1) := dk_42 (dk_at dksX5_vowsOf_0 16 rfl rfl)
theorem dX5_vowsOf_17 : decode cX5_vowsOf 17 = .ok (.getfield 3, 3) := dk_180 0 3 (dk_at dksX5_vowsOf_0 17 rfl rfl)
theorem dX5_vowsOf_20 : decode cX5_vowsOf 20 = .ok (.iload_n 3, 1) := dk_29 (dk_at dksX5_vowsOf_0 20 rfl rfl)
theorem dX5_vowsOf_21 : decode cX5_vowsOf 21 = .ok (.invokevirtual 84, 3) := dk_182 0 84 (dk_at dksX5_vowsOf_0 21 rfl rfl)
theorem dX5_vowsOf_24 : decode cX5_vowsOf 24 = .ok (.getfield 112, 3) := dk_180 0 112 (dk_at dksX5_vowsOf_1 0 rfl rfl)
theorem dX5_vowsOf_27 : decode cX5_vowsOf 27 = .ok (.iload_n 1, 1) := dk_27 (dk_at dksX5_vowsOf_1 3 rfl rfl)
theorem dX5_vowsOf_28 : decode cX5_vowsOf 28 = .ok (.if_icmp .ne 20, 3) := dk_160 0 20 (dk_at dksX5_vowsOf_1 4 rfl rfl)
theorem dX5_vowsOf_31 : decode cX5_vowsOf 31 = .ok (.aload_n 0, 1) := dk_42 (dk_at dksX5_vowsOf_1 7 rfl rfl)
theorem dX5_vowsOf_32 : decode cX5_vowsOf 32 = .ok (.iload_n 3, 1) := dk_29 (dk_at dksX5_vowsOf_1 8 rfl rfl)
theorem dX5_vowsOf_33 : decode cX5_vowsOf 33 = .ok (.invokevirtual 121, 3) := dk_182 0 121 (dk_at dksX5_vowsOf_1 9 rfl rfl)
theorem dX5_vowsOf_36 : decode cX5_vowsOf 36 = .ok (.ifCond .eq 12, 3) := dk_153 0 12 (dk_at dksX5_vowsOf_1 12 rfl rfl)
theorem dX5_vowsOf_39 : decode cX5_vowsOf 39 = .ok (.aload_n 0, 1) := dk_42 (dk_at dksX5_vowsOf_1 15 rfl rfl)
theorem dX5_vowsOf_40 : decode cX5_vowsOf 40 = .ok (.getfield 37, 3) := dk_180 0 37 (dk_at dksX5_vowsOf_1 16 rfl rfl)
theorem dX5_vowsOf_43 : decode cX5_vowsOf 43 = .ok (.iload_n 3, 1) := dk_29 (dk_at dksX5_vowsOf_1 19 rfl rfl)
theorem dX5_vowsOf_44 : decode cX5_vowsOf 44 = .ok (.iaload, 1) := dk_46 (dk_at dksX5_vowsOf_1 20 rfl rfl)
theorem dX5_vowsOf_45 : decode cX5_vowsOf 45 = .ok (.goto 4, 3) := dk_167 0 4 (dk_at dksX5_vowsOf_1 21 rfl rfl)
theorem dX5_vowsOf_48 : decode cX5_vowsOf 48 = .ok (.iconst 0, 1) := dk_3 (dk_at dksX5_vowsOf_2 0 rfl rfl)
theorem dX5_vowsOf_49 : decode cX5_vowsOf 49 = .ok (.iadd, 1) := dk_96 (dk_at dksX5_vowsOf_2 1 rfl rfl)
theorem dX5_vowsOf_50 : decode cX5_vowsOf 50 = .ok (.istore_n 2, 1) := dk_61 (dk_at dksX5_vowsOf_2 2 rfl rfl)
theorem dX5_vowsOf_51 : decode cX5_vowsOf 51 = .ok (.iinc 3 1, 3) := dk_132 3 1 (dk_at dksX5_vowsOf_2 3 rfl rfl)
theorem dX5_vowsOf_54 : decode cX5_vowsOf 54 = .ok (.goto (-50), 3) := dk_167 255 206 (dk_at dksX5_vowsOf_2 6 rfl rfl)
theorem dX5_vowsOf_57 : decode cX5_vowsOf 57 = .ok (.iload_n 2, 1) := dk_28 (dk_at dksX5_vowsOf_2 9 rfl rfl)
theorem dX5_vowsOf_58 : decode cX5_vowsOf 58 = .ok (.ireturn, 1) := dk_172 (dk_at dksX5_vowsOf_2 10 rfl rfl)
abbrev cX5_tookAll : ByteArray := prog_19_method_16_code
def yX5_tookAll : MethodName := ⟨RX5, "tookAll", "()I"⟩
def dkwX5_tookAll_1 : List UInt8 := [132, 2, 1, 167, 255, 233, 27, 172]
abbrev dktX5_tookAll_1 : List UInt8 := dkwX5_tookAll_1 ++ []
def dkwX5_tookAll_0 : List UInt8 := [3, 60, 3, 61, 28, 42, 180, 0, 3, 182, 0, 70, 162, 0, 18, 27, 42, 180, 0, 28, 28, 46, 96, 60]
abbrev dktX5_tookAll_0 : List UInt8 := dkwX5_tookAll_0 ++ dktX5_tookAll_1
theorem dksX5_tookAll_0 : cX5_tookAll.data.toList.drop 0 = dktX5_tookAll_0 := by decide +kernel
theorem dksX5_tookAll_1 : cX5_tookAll.data.toList.drop 24 = dktX5_tookAll_1 := dk_seg dksX5_tookAll_0 24 rfl rfl
theorem dX5_tookAll_0 : decode cX5_tookAll 0 = .ok (.iconst 0, 1) := dk_3 (dk_at dksX5_tookAll_0 0 rfl rfl)
theorem dX5_tookAll_1 : decode cX5_tookAll 1 = .ok (.istore_n 1, 1) := dk_60 (dk_at dksX5_tookAll_0 1 rfl rfl)
theorem dX5_tookAll_2 : decode cX5_tookAll 2 = .ok (.iconst 0, 1) := dk_3 (dk_at dksX5_tookAll_0 2 rfl rfl)
theorem dX5_tookAll_3 : decode cX5_tookAll 3 = .ok (.istore_n 2, 1) := dk_61 (dk_at dksX5_tookAll_0 3 rfl rfl)
theorem dX5_tookAll_4 : decode cX5_tookAll 4 = .ok (.iload_n 2, 1) := dk_28 (dk_at dksX5_tookAll_0 4 rfl rfl)
theorem dX5_tookAll_5 : decode cX5_tookAll 5 = .ok (.aload_n 0, 1) := dk_42 (dk_at dksX5_tookAll_0 5 rfl rfl)
theorem dX5_tookAll_6 : decode cX5_tookAll 6 = .ok (.getfield 3, 3) := dk_180 0 3 (dk_at dksX5_tookAll_0 6 rfl rfl)
theorem dX5_tookAll_9 : decode cX5_tookAll 9 = .ok (.invokevirtual 70, 3) := dk_182 0 70 (dk_at dksX5_tookAll_0 9 rfl rfl)
theorem dX5_tookAll_12 : decode cX5_tookAll 12 = .ok (.if_icmp .ge 18, 3) := dk_162 0 18 (dk_at dksX5_tookAll_0 12 rfl rfl)
theorem dX5_tookAll_15 : decode cX5_tookAll 15 = .ok (.iload_n 1, 1) := dk_27 (dk_at dksX5_tookAll_0 15 rfl rfl)
theorem dX5_tookAll_16 : decode cX5_tookAll 16 = .ok (.aload_n 0, 1) := dk_42 (dk_at dksX5_tookAll_0 16 rfl rfl)
theorem dX5_tookAll_17 : decode cX5_tookAll 17 = .ok (.getfield 28, 3) := dk_180 0 28 (dk_at dksX5_tookAll_0 17 rfl rfl)
theorem dX5_tookAll_20 : decode cX5_tookAll 20 = .ok (.iload_n 2, 1) := dk_28 (dk_at dksX5_tookAll_0 20 rfl rfl)
theorem dX5_tookAll_21 : decode cX5_tookAll 21 = .ok (.iaload, 1) := dk_46 (dk_at dksX5_tookAll_0 21 rfl rfl)
theorem dX5_tookAll_22 : decode cX5_tookAll 22 = .ok (.iadd, 1) := dk_96 (dk_at dksX5_tookAll_0 22 rfl rfl)
theorem dX5_tookAll_23 : decode cX5_tookAll 23 = .ok (.istore_n 1, 1) := dk_60 (dk_at dksX5_tookAll_0 23 rfl rfl)
theorem dX5_tookAll_24 : decode cX5_tookAll 24 = .ok (.iinc 2 1, 3) := dk_132 2 1 (dk_at dksX5_tookAll_1 0 rfl rfl)
theorem dX5_tookAll_27 : decode cX5_tookAll 27 = .ok (.goto (-23), 3) := dk_167 255 233 (dk_at dksX5_tookAll_1 3 rfl rfl)
theorem dX5_tookAll_30 : decode cX5_tookAll 30 = .ok (.iload_n 1, 1) := dk_27 (dk_at dksX5_tookAll_1 6 rfl rfl)
theorem dX5_tookAll_31 : decode cX5_tookAll 31 = .ok (.ireturn, 1) := dk_172 (dk_at dksX5_tookAll_1 7 rfl rfl)
abbrev cX5_lureNow : ByteArray := prog_19_method_8_code
def yX5_lureNow : MethodName := ⟨RX5, "lureNow", "(II)J"⟩
def dkwX5_lureNow_0 : List UInt8 := [42, 182, 0, 147, 42, 27, 28, 182, 0, 150, 173]
abbrev dktX5_lureNow_0 : List UInt8 := dkwX5_lureNow_0 ++ []
theorem dksX5_lureNow_0 : cX5_lureNow.data.toList.drop 0 = dktX5_lureNow_0 := by decide +kernel
theorem dX5_lureNow_0 : decode cX5_lureNow 0 = .ok (.aload_n 0, 1) := dk_42 (dk_at dksX5_lureNow_0 0 rfl rfl)
theorem dX5_lureNow_1 : decode cX5_lureNow 1 = .ok (.invokevirtual 147, 3) := dk_182 0 147 (dk_at dksX5_lureNow_0 1 rfl rfl)
theorem dX5_lureNow_4 : decode cX5_lureNow 4 = .ok (.aload_n 0, 1) := dk_42 (dk_at dksX5_lureNow_0 4 rfl rfl)
theorem dX5_lureNow_5 : decode cX5_lureNow 5 = .ok (.iload_n 1, 1) := dk_27 (dk_at dksX5_lureNow_0 5 rfl rfl)
theorem dX5_lureNow_6 : decode cX5_lureNow 6 = .ok (.iload_n 2, 1) := dk_28 (dk_at dksX5_lureNow_0 6 rfl rfl)
theorem dX5_lureNow_7 : decode cX5_lureNow 7 = .ok (.invokevirtual 150, 3) := dk_182 0 150 (dk_at dksX5_lureNow_0 7 rfl rfl)
theorem dX5_lureNow_10 : decode cX5_lureNow 10 = .ok (.lreturn, 1) := dk_173 (dk_at dksX5_lureNow_0 10 rfl rfl)
abbrev cX5_vows : ByteArray := prog_19_method_6_code
def yX5_vows : MethodName := ⟨RX5, "vows", "()V"⟩
def dkwX5_vows_1 : List UInt8 := [132, 1, 1, 167, 255, 231, 177]
abbrev dktX5_vows_1 : List UInt8 := dkwX5_vows_1 ++ []
def dkwX5_vows_0 : List UInt8 := [3, 60, 27, 42, 180, 0, 3, 182, 0, 70, 162, 0, 20, 42, 180, 0, 34, 27, 42, 27, 182, 0, 125, 79]
abbrev dktX5_vows_0 : List UInt8 := dkwX5_vows_0 ++ dktX5_vows_1
theorem dksX5_vows_0 : cX5_vows.data.toList.drop 0 = dktX5_vows_0 := by decide +kernel
theorem dksX5_vows_1 : cX5_vows.data.toList.drop 24 = dktX5_vows_1 := dk_seg dksX5_vows_0 24 rfl rfl
theorem dX5_vows_0 : decode cX5_vows 0 = .ok (.iconst 0, 1) := dk_3 (dk_at dksX5_vows_0 0 rfl rfl)
theorem dX5_vows_1 : decode cX5_vows 1 = .ok (.istore_n 1, 1) := dk_60 (dk_at dksX5_vows_0 1 rfl rfl)
theorem dX5_vows_2 : decode cX5_vows 2 = .ok (.iload_n 1, 1) := dk_27 (dk_at dksX5_vows_0 2 rfl rfl)
theorem dX5_vows_3 : decode cX5_vows 3 = .ok (.aload_n 0, 1) := dk_42 (dk_at dksX5_vows_0 3 rfl rfl)
theorem dX5_vows_4 : decode cX5_vows 4 = .ok (.getfield 3, 3) := dk_180 0 3 (dk_at dksX5_vows_0 4 rfl rfl)
theorem dX5_vows_7 : decode cX5_vows 7 = .ok (.invokevirtual 70, 3) := dk_182 0 70 (dk_at dksX5_vows_0 7 rfl rfl)
theorem dX5_vows_10 : decode cX5_vows 10 = .ok (.if_icmp .ge 20, 3) := dk_162 0 20 (dk_at dksX5_vows_0 10 rfl rfl)
theorem dX5_vows_13 : decode cX5_vows 13 = .ok (.aload_n 0, 1) := dk_42 (dk_at dksX5_vows_0 13 rfl rfl)
theorem dX5_vows_14 : decode cX5_vows 14 = .ok (.getfield 34, 3) := dk_180 0 34 (dk_at dksX5_vows_0 14 rfl rfl)
theorem dX5_vows_17 : decode cX5_vows 17 = .ok (.iload_n 1, 1) := dk_27 (dk_at dksX5_vows_0 17 rfl rfl)
theorem dX5_vows_18 : decode cX5_vows 18 = .ok (.aload_n 0, 1) := dk_42 (dk_at dksX5_vows_0 18 rfl rfl)
theorem dX5_vows_19 : decode cX5_vows 19 = .ok (.iload_n 1, 1) := dk_27 (dk_at dksX5_vows_0 19 rfl rfl)
theorem dX5_vows_20 : decode cX5_vows 20 = .ok (.invokevirtual 125, 3) := dk_182 0 125 (dk_at dksX5_vows_0 20 rfl rfl)
theorem dX5_vows_23 : decode cX5_vows 23 = .ok (.iastore, 1) := dk_79 (dk_at dksX5_vows_0 23 rfl rfl)
theorem dX5_vows_24 : decode cX5_vows 24 = .ok (.iinc 1 1, 3) := dk_132 1 1 (dk_at dksX5_vows_1 0 rfl rfl)
theorem dX5_vows_27 : decode cX5_vows 27 = .ok (.goto (-25), 3) := dk_167 255 231 (dk_at dksX5_vows_1 3 rfl rfl)
theorem dX5_vows_30 : decode cX5_vows 30 = .ok (.return_, 1) := dk_177 (dk_at dksX5_vows_1 6 rfl rfl)
abbrev cX5_luring : ByteArray := prog_19_method_7_code
def yX5_luring : MethodName := ⟨RX5, "luring", "(II)J"⟩
def dkwX5_luring_7 : List UInt8 := [180, 0, 92, 180, 0, 129, 42, 180, 0, 3, 180, 0, 102, 182, 0, 142, 173]
abbrev dktX5_luring_7 : List UInt8 := dkwX5_luring_7 ++ []
def dkwX5_luring_6 : List UInt8 := [180, 0, 3, 180, 0, 102, 180, 0, 106, 8, 42, 180, 0, 31, 28, 46, 133, 80, 42, 180, 0, 3]
abbrev dktX5_luring_6 : List UInt8 := dkwX5_luring_6 ++ dktX5_luring_7
def dkwX5_luring_5 : List UInt8 := [180, 0, 139, 133, 80, 42, 180, 0, 3, 180, 0, 102, 180, 0, 106, 7, 42, 180, 0, 51, 133, 80, 42]
abbrev dktX5_luring_5 : List UInt8 := dkwX5_luring_5 ++ dktX5_luring_6
def dkwX5_luring_4 : List UInt8 := [184, 0, 134, 133, 80, 42, 180, 0, 3, 180, 0, 102, 180, 0, 106, 6, 42, 180, 0, 3, 27, 182, 0, 62]
abbrev dktX5_luring_4 : List UInt8 := dkwX5_luring_4 ++ dktX5_luring_5
def dkwX5_luring_3 : List UInt8 := [180, 0, 106, 5, 42, 180, 0, 15, 27, 46, 42, 180, 0, 3, 28, 182, 0, 73, 180, 0, 133, 100]
abbrev dktX5_luring_3 : List UInt8 := dkwX5_luring_3 ++ dktX5_luring_4
def dkwX5_luring_2 : List UInt8 := [180, 0, 102, 180, 0, 106, 4, 42, 180, 0, 25, 28, 46, 133, 80, 42, 180, 0, 3, 180, 0, 102]
abbrev dktX5_luring_2 : List UInt8 := dkwX5_luring_2 ++ dktX5_luring_3
def dkwX5_luring_1 : List UInt8 := [180, 0, 3, 180, 0, 102, 180, 0, 106, 3, 42, 180, 0, 34, 28, 46, 133, 80, 42, 180, 0, 3]
abbrev dktX5_luring_1 : List UInt8 := dkwX5_luring_1 ++ dktX5_luring_2
def dkwX5_luring_0 : List UInt8 := [42, 180, 0, 3, 180, 0, 92, 180, 0, 129, 199, 0, 11, 42, 180, 0, 34, 28, 46, 133, 173, 42]
abbrev dktX5_luring_0 : List UInt8 := dkwX5_luring_0 ++ dktX5_luring_1
theorem dksX5_luring_0 : cX5_luring.data.toList.drop 0 = dktX5_luring_0 := by decide +kernel
theorem dksX5_luring_1 : cX5_luring.data.toList.drop 22 = dktX5_luring_1 := dk_seg dksX5_luring_0 22 rfl rfl
theorem dksX5_luring_2 : cX5_luring.data.toList.drop 44 = dktX5_luring_2 := dk_seg dksX5_luring_1 22 rfl rfl
theorem dksX5_luring_3 : cX5_luring.data.toList.drop 66 = dktX5_luring_3 := dk_seg dksX5_luring_2 22 rfl rfl
theorem dksX5_luring_4 : cX5_luring.data.toList.drop 88 = dktX5_luring_4 := dk_seg dksX5_luring_3 22 rfl rfl
theorem dksX5_luring_5 : cX5_luring.data.toList.drop 112 = dktX5_luring_5 := dk_seg dksX5_luring_4 24 rfl rfl
theorem dksX5_luring_6 : cX5_luring.data.toList.drop 135 = dktX5_luring_6 := dk_seg dksX5_luring_5 23 rfl rfl
theorem dksX5_luring_7 : cX5_luring.data.toList.drop 157 = dktX5_luring_7 := dk_seg dksX5_luring_6 22 rfl rfl
theorem dX5_luring_0 : decode cX5_luring 0 = .ok (.aload_n 0, 1) := dk_42 (dk_at dksX5_luring_0 0 rfl rfl)
theorem dX5_luring_1 : decode cX5_luring 1 = .ok (.getfield 3, 3) := dk_180 0 3 (dk_at dksX5_luring_0 1 rfl rfl)
theorem dX5_luring_4 : decode cX5_luring 4 = .ok (.getfield 92, 3) := dk_180 0 92 (dk_at dksX5_luring_0 4 rfl rfl)
theorem dX5_luring_7 : decode cX5_luring 7 = .ok (.getfield 129, 3) := dk_180 0 129 (dk_at dksX5_luring_0 7 rfl rfl)
theorem dX5_luring_10 : decode cX5_luring 10 = .ok (.ifnonnull 11, 3) := dk_199 0 11 (dk_at dksX5_luring_0 10 rfl rfl)
theorem dX5_luring_13 : decode cX5_luring 13 = .ok (.aload_n 0, 1) := dk_42 (dk_at dksX5_luring_0 13 rfl rfl)
theorem dX5_luring_14 : decode cX5_luring 14 = .ok (.getfield 34, 3) := dk_180 0 34 (dk_at dksX5_luring_0 14 rfl rfl)
theorem dX5_luring_17 : decode cX5_luring 17 = .ok (.iload_n 2, 1) := dk_28 (dk_at dksX5_luring_0 17 rfl rfl)
theorem dX5_luring_18 : decode cX5_luring 18 = .ok (.iaload, 1) := dk_46 (dk_at dksX5_luring_0 18 rfl rfl)
theorem dX5_luring_19 : decode cX5_luring 19 = .ok (.i2l, 1) := dk_133 (dk_at dksX5_luring_0 19 rfl rfl)
theorem dX5_luring_20 : decode cX5_luring 20 = .ok (.lreturn, 1) := dk_173 (dk_at dksX5_luring_0 20 rfl rfl)
theorem dX5_luring_21 : decode cX5_luring 21 = .ok (.aload_n 0, 1) := dk_42 (dk_at dksX5_luring_0 21 rfl rfl)
theorem dX5_luring_22 : decode cX5_luring 22 = .ok (.getfield 3, 3) := dk_180 0 3 (dk_at dksX5_luring_1 0 rfl rfl)
theorem dX5_luring_25 : decode cX5_luring 25 = .ok (.getfield 102, 3) := dk_180 0 102 (dk_at dksX5_luring_1 3 rfl rfl)
theorem dX5_luring_28 : decode cX5_luring 28 = .ok (.getfield 106, 3) := dk_180 0 106 (dk_at dksX5_luring_1 6 rfl rfl)
theorem dX5_luring_31 : decode cX5_luring 31 = .ok (.iconst 0, 1) := dk_3 (dk_at dksX5_luring_1 9 rfl rfl)
theorem dX5_luring_32 : decode cX5_luring 32 = .ok (.aload_n 0, 1) := dk_42 (dk_at dksX5_luring_1 10 rfl rfl)
theorem dX5_luring_33 : decode cX5_luring 33 = .ok (.getfield 34, 3) := dk_180 0 34 (dk_at dksX5_luring_1 11 rfl rfl)
theorem dX5_luring_36 : decode cX5_luring 36 = .ok (.iload_n 2, 1) := dk_28 (dk_at dksX5_luring_1 14 rfl rfl)
theorem dX5_luring_37 : decode cX5_luring 37 = .ok (.iaload, 1) := dk_46 (dk_at dksX5_luring_1 15 rfl rfl)
theorem dX5_luring_38 : decode cX5_luring 38 = .ok (.i2l, 1) := dk_133 (dk_at dksX5_luring_1 16 rfl rfl)
theorem dX5_luring_39 : decode cX5_luring 39 = .ok (.lastore, 1) := dk_80 (dk_at dksX5_luring_1 17 rfl rfl)
theorem dX5_luring_40 : decode cX5_luring 40 = .ok (.aload_n 0, 1) := dk_42 (dk_at dksX5_luring_1 18 rfl rfl)
theorem dX5_luring_41 : decode cX5_luring 41 = .ok (.getfield 3, 3) := dk_180 0 3 (dk_at dksX5_luring_1 19 rfl rfl)
theorem dX5_luring_44 : decode cX5_luring 44 = .ok (.getfield 102, 3) := dk_180 0 102 (dk_at dksX5_luring_2 0 rfl rfl)
theorem dX5_luring_47 : decode cX5_luring 47 = .ok (.getfield 106, 3) := dk_180 0 106 (dk_at dksX5_luring_2 3 rfl rfl)
theorem dX5_luring_50 : decode cX5_luring 50 = .ok (.iconst 1, 1) := dk_4 (dk_at dksX5_luring_2 6 rfl rfl)
theorem dX5_luring_51 : decode cX5_luring 51 = .ok (.aload_n 0, 1) := dk_42 (dk_at dksX5_luring_2 7 rfl rfl)
theorem dX5_luring_52 : decode cX5_luring 52 = .ok (.getfield 25, 3) := dk_180 0 25 (dk_at dksX5_luring_2 8 rfl rfl)
theorem dX5_luring_55 : decode cX5_luring 55 = .ok (.iload_n 2, 1) := dk_28 (dk_at dksX5_luring_2 11 rfl rfl)
theorem dX5_luring_56 : decode cX5_luring 56 = .ok (.iaload, 1) := dk_46 (dk_at dksX5_luring_2 12 rfl rfl)
theorem dX5_luring_57 : decode cX5_luring 57 = .ok (.i2l, 1) := dk_133 (dk_at dksX5_luring_2 13 rfl rfl)
theorem dX5_luring_58 : decode cX5_luring 58 = .ok (.lastore, 1) := dk_80 (dk_at dksX5_luring_2 14 rfl rfl)
theorem dX5_luring_59 : decode cX5_luring 59 = .ok (.aload_n 0, 1) := dk_42 (dk_at dksX5_luring_2 15 rfl rfl)
theorem dX5_luring_60 : decode cX5_luring 60 = .ok (.getfield 3, 3) := dk_180 0 3 (dk_at dksX5_luring_2 16 rfl rfl)
theorem dX5_luring_63 : decode cX5_luring 63 = .ok (.getfield 102, 3) := dk_180 0 102 (dk_at dksX5_luring_2 19 rfl rfl)
theorem dX5_luring_66 : decode cX5_luring 66 = .ok (.getfield 106, 3) := dk_180 0 106 (dk_at dksX5_luring_3 0 rfl rfl)
theorem dX5_luring_69 : decode cX5_luring 69 = .ok (.iconst 2, 1) := dk_5 (dk_at dksX5_luring_3 3 rfl rfl)
theorem dX5_luring_70 : decode cX5_luring 70 = .ok (.aload_n 0, 1) := dk_42 (dk_at dksX5_luring_3 4 rfl rfl)
theorem dX5_luring_71 : decode cX5_luring 71 = .ok (.getfield 15, 3) := dk_180 0 15 (dk_at dksX5_luring_3 5 rfl rfl)
theorem dX5_luring_74 : decode cX5_luring 74 = .ok (.iload_n 1, 1) := dk_27 (dk_at dksX5_luring_3 8 rfl rfl)
theorem dX5_luring_75 : decode cX5_luring 75 = .ok (.iaload, 1) := dk_46 (dk_at dksX5_luring_3 9 rfl rfl)
theorem dX5_luring_76 : decode cX5_luring 76 = .ok (.aload_n 0, 1) := dk_42 (dk_at dksX5_luring_3 10 rfl rfl)
theorem dX5_luring_77 : decode cX5_luring 77 = .ok (.getfield 3, 3) := dk_180 0 3 (dk_at dksX5_luring_3 11 rfl rfl)
theorem dX5_luring_80 : decode cX5_luring 80 = .ok (.iload_n 2, 1) := dk_28 (dk_at dksX5_luring_3 14 rfl rfl)
theorem dX5_luring_81 : decode cX5_luring 81 = .ok (.invokevirtual 73, 3) := dk_182 0 73 (dk_at dksX5_luring_3 15 rfl rfl)
theorem dX5_luring_84 : decode cX5_luring 84 = .ok (.getfield 133, 3) := dk_180 0 133 (dk_at dksX5_luring_3 18 rfl rfl)
theorem dX5_luring_87 : decode cX5_luring 87 = .ok (.isub, 1) := dk_100 (dk_at dksX5_luring_3 21 rfl rfl)
theorem dX5_luring_88 : decode cX5_luring 88 = .ok (.invokestatic 134, 3) := dk_184 0 134 (dk_at dksX5_luring_4 0 rfl rfl)
theorem dX5_luring_91 : decode cX5_luring 91 = .ok (.i2l, 1) := dk_133 (dk_at dksX5_luring_4 3 rfl rfl)
theorem dX5_luring_92 : decode cX5_luring 92 = .ok (.lastore, 1) := dk_80 (dk_at dksX5_luring_4 4 rfl rfl)
theorem dX5_luring_93 : decode cX5_luring 93 = .ok (.aload_n 0, 1) := dk_42 (dk_at dksX5_luring_4 5 rfl rfl)
theorem dX5_luring_94 : decode cX5_luring 94 = .ok (.getfield 3, 3) := dk_180 0 3 (dk_at dksX5_luring_4 6 rfl rfl)
theorem dX5_luring_97 : decode cX5_luring 97 = .ok (.getfield 102, 3) := dk_180 0 102 (dk_at dksX5_luring_4 9 rfl rfl)
theorem dX5_luring_100 : decode cX5_luring 100 = .ok (.getfield 106, 3) := dk_180 0 106 (dk_at dksX5_luring_4 12 rfl rfl)
theorem dX5_luring_103 : decode cX5_luring 103 = .ok (.iconst 3, 1) := dk_6 (dk_at dksX5_luring_4 15 rfl rfl)
theorem dX5_luring_104 : decode cX5_luring 104 = .ok (.aload_n 0, 1) := dk_42 (dk_at dksX5_luring_4 16 rfl rfl)
theorem dX5_luring_105 : decode cX5_luring 105 = .ok (.getfield 3, 3) := dk_180 0 3 (dk_at dksX5_luring_4 17 rfl rfl)
theorem dX5_luring_108 : decode cX5_luring 108 = .ok (.iload_n 1, 1) := dk_27 (dk_at dksX5_luring_4 20 rfl rfl)
theorem dX5_luring_109 : decode cX5_luring 109 = .ok (.invokevirtual 62, 3) := dk_182 0 62 (dk_at dksX5_luring_4 21 rfl rfl)
theorem dX5_luring_112 : decode cX5_luring 112 = .ok (.getfield 139, 3) := dk_180 0 139 (dk_at dksX5_luring_5 0 rfl rfl)
theorem dX5_luring_115 : decode cX5_luring 115 = .ok (.i2l, 1) := dk_133 (dk_at dksX5_luring_5 3 rfl rfl)
theorem dX5_luring_116 : decode cX5_luring 116 = .ok (.lastore, 1) := dk_80 (dk_at dksX5_luring_5 4 rfl rfl)
theorem dX5_luring_117 : decode cX5_luring 117 = .ok (.aload_n 0, 1) := dk_42 (dk_at dksX5_luring_5 5 rfl rfl)
theorem dX5_luring_118 : decode cX5_luring 118 = .ok (.getfield 3, 3) := dk_180 0 3 (dk_at dksX5_luring_5 6 rfl rfl)
theorem dX5_luring_121 : decode cX5_luring 121 = .ok (.getfield 102, 3) := dk_180 0 102 (dk_at dksX5_luring_5 9 rfl rfl)
theorem dX5_luring_124 : decode cX5_luring 124 = .ok (.getfield 106, 3) := dk_180 0 106 (dk_at dksX5_luring_5 12 rfl rfl)
theorem dX5_luring_127 : decode cX5_luring 127 = .ok (.iconst 4, 1) := dk_7 (dk_at dksX5_luring_5 15 rfl rfl)
theorem dX5_luring_128 : decode cX5_luring 128 = .ok (.aload_n 0, 1) := dk_42 (dk_at dksX5_luring_5 16 rfl rfl)
theorem dX5_luring_129 : decode cX5_luring 129 = .ok (.getfield 51, 3) := dk_180 0 51 (dk_at dksX5_luring_5 17 rfl rfl)
theorem dX5_luring_132 : decode cX5_luring 132 = .ok (.i2l, 1) := dk_133 (dk_at dksX5_luring_5 20 rfl rfl)
theorem dX5_luring_133 : decode cX5_luring 133 = .ok (.lastore, 1) := dk_80 (dk_at dksX5_luring_5 21 rfl rfl)
theorem dX5_luring_134 : decode cX5_luring 134 = .ok (.aload_n 0, 1) := dk_42 (dk_at dksX5_luring_5 22 rfl rfl)
theorem dX5_luring_135 : decode cX5_luring 135 = .ok (.getfield 3, 3) := dk_180 0 3 (dk_at dksX5_luring_6 0 rfl rfl)
theorem dX5_luring_138 : decode cX5_luring 138 = .ok (.getfield 102, 3) := dk_180 0 102 (dk_at dksX5_luring_6 3 rfl rfl)
theorem dX5_luring_141 : decode cX5_luring 141 = .ok (.getfield 106, 3) := dk_180 0 106 (dk_at dksX5_luring_6 6 rfl rfl)
theorem dX5_luring_144 : decode cX5_luring 144 = .ok (.iconst 5, 1) := dk_8 (dk_at dksX5_luring_6 9 rfl rfl)
theorem dX5_luring_145 : decode cX5_luring 145 = .ok (.aload_n 0, 1) := dk_42 (dk_at dksX5_luring_6 10 rfl rfl)
theorem dX5_luring_146 : decode cX5_luring 146 = .ok (.getfield 31, 3) := dk_180 0 31 (dk_at dksX5_luring_6 11 rfl rfl)
theorem dX5_luring_149 : decode cX5_luring 149 = .ok (.iload_n 2, 1) := dk_28 (dk_at dksX5_luring_6 14 rfl rfl)
theorem dX5_luring_150 : decode cX5_luring 150 = .ok (.iaload, 1) := dk_46 (dk_at dksX5_luring_6 15 rfl rfl)
theorem dX5_luring_151 : decode cX5_luring 151 = .ok (.i2l, 1) := dk_133 (dk_at dksX5_luring_6 16 rfl rfl)
theorem dX5_luring_152 : decode cX5_luring 152 = .ok (.lastore, 1) := dk_80 (dk_at dksX5_luring_6 17 rfl rfl)
theorem dX5_luring_153 : decode cX5_luring 153 = .ok (.aload_n 0, 1) := dk_42 (dk_at dksX5_luring_6 18 rfl rfl)
theorem dX5_luring_154 : decode cX5_luring 154 = .ok (.getfield 3, 3) := dk_180 0 3 (dk_at dksX5_luring_6 19 rfl rfl)
theorem dX5_luring_157 : decode cX5_luring 157 = .ok (.getfield 92, 3) := dk_180 0 92 (dk_at dksX5_luring_7 0 rfl rfl)
theorem dX5_luring_160 : decode cX5_luring 160 = .ok (.getfield 129, 3) := dk_180 0 129 (dk_at dksX5_luring_7 3 rfl rfl)
theorem dX5_luring_163 : decode cX5_luring 163 = .ok (.aload_n 0, 1) := dk_42 (dk_at dksX5_luring_7 6 rfl rfl)
theorem dX5_luring_164 : decode cX5_luring 164 = .ok (.getfield 3, 3) := dk_180 0 3 (dk_at dksX5_luring_7 7 rfl rfl)
theorem dX5_luring_167 : decode cX5_luring 167 = .ok (.getfield 102, 3) := dk_180 0 102 (dk_at dksX5_luring_7 10 rfl rfl)
theorem dX5_luring_170 : decode cX5_luring 170 = .ok (.invokevirtual 142, 3) := dk_182 0 142 (dk_at dksX5_luring_7 13 rfl rfl)
theorem dX5_luring_173 : decode cX5_luring 173 = .ok (.lreturn, 1) := dk_173 (dk_at dksX5_luring_7 16 rfl rfl)
abbrev cX5_copy : ByteArray := prog_19_method_3_code
def yX5_copy : MethodName := ⟨RX5, "copy", "(LMarriageHerring$State;)LMarriageHerring$State;"⟩
def dkwX5_copy_7 : List UInt8 := [43, 180, 0, 48, 28, 50, 29, 46, 79, 132, 3, 1, 167, 255, 232, 132, 2, 1, 167, 255, 216, 42, 176]
abbrev dktX5_copy_7 : List UInt8 := dkwX5_copy_7 ++ []
def dkwX5_copy_6 : List UInt8 := [3, 61, 28, 42, 180, 0, 55, 162, 0, 38, 3, 62, 29, 6, 162, 0, 25, 42, 180, 0, 48, 28, 50, 29]
abbrev dktX5_copy_6 : List UInt8 := dkwX5_copy_6 ++ dktX5_copy_7
def dkwX5_copy_5 : List UInt8 := [180, 0, 37, 28, 46, 79, 42, 180, 0, 43, 28, 43, 180, 0, 43, 28, 46, 79, 132, 2, 1, 167, 255, 223]
abbrev dktX5_copy_5 : List UInt8 := dkwX5_copy_5 ++ dktX5_copy_6
def dkwX5_copy_4 : List UInt8 := [46, 79, 132, 2, 1, 167, 255, 211, 3, 61, 28, 16, 10, 162, 0, 33, 42, 180, 0, 37, 28, 43]
abbrev dktX5_copy_4 : List UInt8 := dkwX5_copy_4 ++ dktX5_copy_5
def dkwX5_copy_3 : List UInt8 := [46, 79, 42, 180, 0, 28, 28, 43, 180, 0, 28, 28, 46, 79, 42, 180, 0, 31, 28, 43, 180, 0, 31, 28]
abbrev dktX5_copy_3 : List UInt8 := dkwX5_copy_3 ++ dktX5_copy_4
def dkwX5_copy_2 : List UInt8 := [132, 2, 1, 167, 255, 224, 3, 61, 28, 16, 6, 162, 0, 45, 42, 180, 0, 25, 28, 43, 180, 0, 25, 28]
abbrev dktX5_copy_2 : List UInt8 := dkwX5_copy_2 ++ dktX5_copy_3
def dkwX5_copy_1 : List UInt8 := [180, 0, 15, 28, 43, 180, 0, 15, 28, 46, 79, 42, 180, 0, 19, 28, 43, 180, 0, 19, 28, 46, 79]
abbrev dktX5_copy_1 : List UInt8 := dkwX5_copy_1 ++ dktX5_copy_2
def dkwX5_copy_0 : List UInt8 := [42, 43, 180, 0, 51, 181, 0, 51, 42, 43, 180, 0, 55, 181, 0, 55, 3, 61, 28, 6, 162, 0, 33, 42]
abbrev dktX5_copy_0 : List UInt8 := dkwX5_copy_0 ++ dktX5_copy_1
theorem dksX5_copy_0 : cX5_copy.data.toList.drop 0 = dktX5_copy_0 := by decide +kernel
theorem dksX5_copy_1 : cX5_copy.data.toList.drop 24 = dktX5_copy_1 := dk_seg dksX5_copy_0 24 rfl rfl
theorem dksX5_copy_2 : cX5_copy.data.toList.drop 47 = dktX5_copy_2 := dk_seg dksX5_copy_1 23 rfl rfl
theorem dksX5_copy_3 : cX5_copy.data.toList.drop 71 = dktX5_copy_3 := dk_seg dksX5_copy_2 24 rfl rfl
theorem dksX5_copy_4 : cX5_copy.data.toList.drop 95 = dktX5_copy_4 := dk_seg dksX5_copy_3 24 rfl rfl
theorem dksX5_copy_5 : cX5_copy.data.toList.drop 117 = dktX5_copy_5 := dk_seg dksX5_copy_4 22 rfl rfl
theorem dksX5_copy_6 : cX5_copy.data.toList.drop 141 = dktX5_copy_6 := dk_seg dksX5_copy_5 24 rfl rfl
theorem dksX5_copy_7 : cX5_copy.data.toList.drop 165 = dktX5_copy_7 := dk_seg dksX5_copy_6 24 rfl rfl
theorem dX5_copy_0 : decode cX5_copy 0 = .ok (.aload_n 0, 1) := dk_42 (dk_at dksX5_copy_0 0 rfl rfl)
theorem dX5_copy_1 : decode cX5_copy 1 = .ok (.aload_n 1, 1) := dk_43 (dk_at dksX5_copy_0 1 rfl rfl)
theorem dX5_copy_2 : decode cX5_copy 2 = .ok (.getfield 51, 3) := dk_180 0 51 (dk_at dksX5_copy_0 2 rfl rfl)
theorem dX5_copy_5 : decode cX5_copy 5 = .ok (.putfield 51, 3) := dk_181 0 51 (dk_at dksX5_copy_0 5 rfl rfl)
theorem dX5_copy_8 : decode cX5_copy 8 = .ok (.aload_n 0, 1) := dk_42 (dk_at dksX5_copy_0 8 rfl rfl)
theorem dX5_copy_9 : decode cX5_copy 9 = .ok (.aload_n 1, 1) := dk_43 (dk_at dksX5_copy_0 9 rfl rfl)
theorem dX5_copy_10 : decode cX5_copy 10 = .ok (.getfield 55, 3) := dk_180 0 55 (dk_at dksX5_copy_0 10 rfl rfl)
theorem dX5_copy_13 : decode cX5_copy 13 = .ok (.putfield 55, 3) := dk_181 0 55 (dk_at dksX5_copy_0 13 rfl rfl)
theorem dX5_copy_16 : decode cX5_copy 16 = .ok (.iconst 0, 1) := dk_3 (dk_at dksX5_copy_0 16 rfl rfl)
theorem dX5_copy_17 : decode cX5_copy 17 = .ok (.istore_n 2, 1) := dk_61 (dk_at dksX5_copy_0 17 rfl rfl)
theorem dX5_copy_18 : decode cX5_copy 18 = .ok (.iload_n 2, 1) := dk_28 (dk_at dksX5_copy_0 18 rfl rfl)
theorem dX5_copy_19 : decode cX5_copy 19 = .ok (.iconst 3, 1) := dk_6 (dk_at dksX5_copy_0 19 rfl rfl)
theorem dX5_copy_20 : decode cX5_copy 20 = .ok (.if_icmp .ge 33, 3) := dk_162 0 33 (dk_at dksX5_copy_0 20 rfl rfl)
theorem dX5_copy_23 : decode cX5_copy 23 = .ok (.aload_n 0, 1) := dk_42 (dk_at dksX5_copy_0 23 rfl rfl)
theorem dX5_copy_24 : decode cX5_copy 24 = .ok (.getfield 15, 3) := dk_180 0 15 (dk_at dksX5_copy_1 0 rfl rfl)
theorem dX5_copy_27 : decode cX5_copy 27 = .ok (.iload_n 2, 1) := dk_28 (dk_at dksX5_copy_1 3 rfl rfl)
theorem dX5_copy_28 : decode cX5_copy 28 = .ok (.aload_n 1, 1) := dk_43 (dk_at dksX5_copy_1 4 rfl rfl)
theorem dX5_copy_29 : decode cX5_copy 29 = .ok (.getfield 15, 3) := dk_180 0 15 (dk_at dksX5_copy_1 5 rfl rfl)
theorem dX5_copy_32 : decode cX5_copy 32 = .ok (.iload_n 2, 1) := dk_28 (dk_at dksX5_copy_1 8 rfl rfl)
theorem dX5_copy_33 : decode cX5_copy 33 = .ok (.iaload, 1) := dk_46 (dk_at dksX5_copy_1 9 rfl rfl)
theorem dX5_copy_34 : decode cX5_copy 34 = .ok (.iastore, 1) := dk_79 (dk_at dksX5_copy_1 10 rfl rfl)
theorem dX5_copy_35 : decode cX5_copy 35 = .ok (.aload_n 0, 1) := dk_42 (dk_at dksX5_copy_1 11 rfl rfl)
theorem dX5_copy_36 : decode cX5_copy 36 = .ok (.getfield 19, 3) := dk_180 0 19 (dk_at dksX5_copy_1 12 rfl rfl)
theorem dX5_copy_39 : decode cX5_copy 39 = .ok (.iload_n 2, 1) := dk_28 (dk_at dksX5_copy_1 15 rfl rfl)
theorem dX5_copy_40 : decode cX5_copy 40 = .ok (.aload_n 1, 1) := dk_43 (dk_at dksX5_copy_1 16 rfl rfl)
theorem dX5_copy_41 : decode cX5_copy 41 = .ok (.getfield 19, 3) := dk_180 0 19 (dk_at dksX5_copy_1 17 rfl rfl)
theorem dX5_copy_44 : decode cX5_copy 44 = .ok (.iload_n 2, 1) := dk_28 (dk_at dksX5_copy_1 20 rfl rfl)
theorem dX5_copy_45 : decode cX5_copy 45 = .ok (.iaload, 1) := dk_46 (dk_at dksX5_copy_1 21 rfl rfl)
theorem dX5_copy_46 : decode cX5_copy 46 = .ok (.iastore, 1) := dk_79 (dk_at dksX5_copy_1 22 rfl rfl)
theorem dX5_copy_47 : decode cX5_copy 47 = .ok (.iinc 2 1, 3) := dk_132 2 1 (dk_at dksX5_copy_2 0 rfl rfl)
theorem dX5_copy_50 : decode cX5_copy 50 = .ok (.goto (-32), 3) := dk_167 255 224 (dk_at dksX5_copy_2 3 rfl rfl)
theorem dX5_copy_53 : decode cX5_copy 53 = .ok (.iconst 0, 1) := dk_3 (dk_at dksX5_copy_2 6 rfl rfl)
theorem dX5_copy_54 : decode cX5_copy 54 = .ok (.istore_n 2, 1) := dk_61 (dk_at dksX5_copy_2 7 rfl rfl)
theorem dX5_copy_55 : decode cX5_copy 55 = .ok (.iload_n 2, 1) := dk_28 (dk_at dksX5_copy_2 8 rfl rfl)
theorem dX5_copy_56 : decode cX5_copy 56 = .ok (.bipush 6, 2) := dk_16 6 (dk_at dksX5_copy_2 9 rfl rfl)
theorem dX5_copy_58 : decode cX5_copy 58 = .ok (.if_icmp .ge 45, 3) := dk_162 0 45 (dk_at dksX5_copy_2 11 rfl rfl)
theorem dX5_copy_61 : decode cX5_copy 61 = .ok (.aload_n 0, 1) := dk_42 (dk_at dksX5_copy_2 14 rfl rfl)
theorem dX5_copy_62 : decode cX5_copy 62 = .ok (.getfield 25, 3) := dk_180 0 25 (dk_at dksX5_copy_2 15 rfl rfl)
theorem dX5_copy_65 : decode cX5_copy 65 = .ok (.iload_n 2, 1) := dk_28 (dk_at dksX5_copy_2 18 rfl rfl)
theorem dX5_copy_66 : decode cX5_copy 66 = .ok (.aload_n 1, 1) := dk_43 (dk_at dksX5_copy_2 19 rfl rfl)
theorem dX5_copy_67 : decode cX5_copy 67 = .ok (.getfield 25, 3) := dk_180 0 25 (dk_at dksX5_copy_2 20 rfl rfl)
theorem dX5_copy_70 : decode cX5_copy 70 = .ok (.iload_n 2, 1) := dk_28 (dk_at dksX5_copy_2 23 rfl rfl)
theorem dX5_copy_71 : decode cX5_copy 71 = .ok (.iaload, 1) := dk_46 (dk_at dksX5_copy_3 0 rfl rfl)
theorem dX5_copy_72 : decode cX5_copy 72 = .ok (.iastore, 1) := dk_79 (dk_at dksX5_copy_3 1 rfl rfl)
theorem dX5_copy_73 : decode cX5_copy 73 = .ok (.aload_n 0, 1) := dk_42 (dk_at dksX5_copy_3 2 rfl rfl)
theorem dX5_copy_74 : decode cX5_copy 74 = .ok (.getfield 28, 3) := dk_180 0 28 (dk_at dksX5_copy_3 3 rfl rfl)
theorem dX5_copy_77 : decode cX5_copy 77 = .ok (.iload_n 2, 1) := dk_28 (dk_at dksX5_copy_3 6 rfl rfl)
theorem dX5_copy_78 : decode cX5_copy 78 = .ok (.aload_n 1, 1) := dk_43 (dk_at dksX5_copy_3 7 rfl rfl)
theorem dX5_copy_79 : decode cX5_copy 79 = .ok (.getfield 28, 3) := dk_180 0 28 (dk_at dksX5_copy_3 8 rfl rfl)
theorem dX5_copy_82 : decode cX5_copy 82 = .ok (.iload_n 2, 1) := dk_28 (dk_at dksX5_copy_3 11 rfl rfl)
theorem dX5_copy_83 : decode cX5_copy 83 = .ok (.iaload, 1) := dk_46 (dk_at dksX5_copy_3 12 rfl rfl)
theorem dX5_copy_84 : decode cX5_copy 84 = .ok (.iastore, 1) := dk_79 (dk_at dksX5_copy_3 13 rfl rfl)
theorem dX5_copy_85 : decode cX5_copy 85 = .ok (.aload_n 0, 1) := dk_42 (dk_at dksX5_copy_3 14 rfl rfl)
theorem dX5_copy_86 : decode cX5_copy 86 = .ok (.getfield 31, 3) := dk_180 0 31 (dk_at dksX5_copy_3 15 rfl rfl)
theorem dX5_copy_89 : decode cX5_copy 89 = .ok (.iload_n 2, 1) := dk_28 (dk_at dksX5_copy_3 18 rfl rfl)
theorem dX5_copy_90 : decode cX5_copy 90 = .ok (.aload_n 1, 1) := dk_43 (dk_at dksX5_copy_3 19 rfl rfl)
theorem dX5_copy_91 : decode cX5_copy 91 = .ok (.getfield 31, 3) := dk_180 0 31 (dk_at dksX5_copy_3 20 rfl rfl)
theorem dX5_copy_94 : decode cX5_copy 94 = .ok (.iload_n 2, 1) := dk_28 (dk_at dksX5_copy_3 23 rfl rfl)
theorem dX5_copy_95 : decode cX5_copy 95 = .ok (.iaload, 1) := dk_46 (dk_at dksX5_copy_4 0 rfl rfl)
theorem dX5_copy_96 : decode cX5_copy 96 = .ok (.iastore, 1) := dk_79 (dk_at dksX5_copy_4 1 rfl rfl)
theorem dX5_copy_97 : decode cX5_copy 97 = .ok (.iinc 2 1, 3) := dk_132 2 1 (dk_at dksX5_copy_4 2 rfl rfl)
theorem dX5_copy_100 : decode cX5_copy 100 = .ok (.goto (-45), 3) := dk_167 255 211 (dk_at dksX5_copy_4 5 rfl rfl)
theorem dX5_copy_103 : decode cX5_copy 103 = .ok (.iconst 0, 1) := dk_3 (dk_at dksX5_copy_4 8 rfl rfl)
theorem dX5_copy_104 : decode cX5_copy 104 = .ok (.istore_n 2, 1) := dk_61 (dk_at dksX5_copy_4 9 rfl rfl)
theorem dX5_copy_105 : decode cX5_copy 105 = .ok (.iload_n 2, 1) := dk_28 (dk_at dksX5_copy_4 10 rfl rfl)
theorem dX5_copy_106 : decode cX5_copy 106 = .ok (.bipush 10, 2) := dk_16 10 (dk_at dksX5_copy_4 11 rfl rfl)
theorem dX5_copy_108 : decode cX5_copy 108 = .ok (.if_icmp .ge 33, 3) := dk_162 0 33 (dk_at dksX5_copy_4 13 rfl rfl)
theorem dX5_copy_111 : decode cX5_copy 111 = .ok (.aload_n 0, 1) := dk_42 (dk_at dksX5_copy_4 16 rfl rfl)
theorem dX5_copy_112 : decode cX5_copy 112 = .ok (.getfield 37, 3) := dk_180 0 37 (dk_at dksX5_copy_4 17 rfl rfl)
theorem dX5_copy_115 : decode cX5_copy 115 = .ok (.iload_n 2, 1) := dk_28 (dk_at dksX5_copy_4 20 rfl rfl)
theorem dX5_copy_116 : decode cX5_copy 116 = .ok (.aload_n 1, 1) := dk_43 (dk_at dksX5_copy_4 21 rfl rfl)
theorem dX5_copy_117 : decode cX5_copy 117 = .ok (.getfield 37, 3) := dk_180 0 37 (dk_at dksX5_copy_5 0 rfl rfl)
theorem dX5_copy_120 : decode cX5_copy 120 = .ok (.iload_n 2, 1) := dk_28 (dk_at dksX5_copy_5 3 rfl rfl)
theorem dX5_copy_121 : decode cX5_copy 121 = .ok (.iaload, 1) := dk_46 (dk_at dksX5_copy_5 4 rfl rfl)
theorem dX5_copy_122 : decode cX5_copy 122 = .ok (.iastore, 1) := dk_79 (dk_at dksX5_copy_5 5 rfl rfl)
theorem dX5_copy_123 : decode cX5_copy 123 = .ok (.aload_n 0, 1) := dk_42 (dk_at dksX5_copy_5 6 rfl rfl)
theorem dX5_copy_124 : decode cX5_copy 124 = .ok (.getfield 43, 3) := dk_180 0 43 (dk_at dksX5_copy_5 7 rfl rfl)
theorem dX5_copy_127 : decode cX5_copy 127 = .ok (.iload_n 2, 1) := dk_28 (dk_at dksX5_copy_5 10 rfl rfl)
theorem dX5_copy_128 : decode cX5_copy 128 = .ok (.aload_n 1, 1) := dk_43 (dk_at dksX5_copy_5 11 rfl rfl)
theorem dX5_copy_129 : decode cX5_copy 129 = .ok (.getfield 43, 3) := dk_180 0 43 (dk_at dksX5_copy_5 12 rfl rfl)
theorem dX5_copy_132 : decode cX5_copy 132 = .ok (.iload_n 2, 1) := dk_28 (dk_at dksX5_copy_5 15 rfl rfl)
theorem dX5_copy_133 : decode cX5_copy 133 = .ok (.iaload, 1) := dk_46 (dk_at dksX5_copy_5 16 rfl rfl)
theorem dX5_copy_134 : decode cX5_copy 134 = .ok (.iastore, 1) := dk_79 (dk_at dksX5_copy_5 17 rfl rfl)
theorem dX5_copy_135 : decode cX5_copy 135 = .ok (.iinc 2 1, 3) := dk_132 2 1 (dk_at dksX5_copy_5 18 rfl rfl)
theorem dX5_copy_138 : decode cX5_copy 138 = .ok (.goto (-33), 3) := dk_167 255 223 (dk_at dksX5_copy_5 21 rfl rfl)
theorem dX5_copy_141 : decode cX5_copy 141 = .ok (.iconst 0, 1) := dk_3 (dk_at dksX5_copy_6 0 rfl rfl)
theorem dX5_copy_142 : decode cX5_copy 142 = .ok (.istore_n 2, 1) := dk_61 (dk_at dksX5_copy_6 1 rfl rfl)
theorem dX5_copy_143 : decode cX5_copy 143 = .ok (.iload_n 2, 1) := dk_28 (dk_at dksX5_copy_6 2 rfl rfl)
theorem dX5_copy_144 : decode cX5_copy 144 = .ok (.aload_n 0, 1) := dk_42 (dk_at dksX5_copy_6 3 rfl rfl)
theorem dX5_copy_145 : decode cX5_copy 145 = .ok (.getfield 55, 3) := dk_180 0 55 (dk_at dksX5_copy_6 4 rfl rfl)
theorem dX5_copy_148 : decode cX5_copy 148 = .ok (.if_icmp .ge 38, 3) := dk_162 0 38 (dk_at dksX5_copy_6 7 rfl rfl)
theorem dX5_copy_151 : decode cX5_copy 151 = .ok (.iconst 0, 1) := dk_3 (dk_at dksX5_copy_6 10 rfl rfl)
theorem dX5_copy_152 : decode cX5_copy 152 = .ok (.istore_n 3, 1) := dk_62 (dk_at dksX5_copy_6 11 rfl rfl)
theorem dX5_copy_153 : decode cX5_copy 153 = .ok (.iload_n 3, 1) := dk_29 (dk_at dksX5_copy_6 12 rfl rfl)
theorem dX5_copy_154 : decode cX5_copy 154 = .ok (.iconst 3, 1) := dk_6 (dk_at dksX5_copy_6 13 rfl rfl)
theorem dX5_copy_155 : decode cX5_copy 155 = .ok (.if_icmp .ge 25, 3) := dk_162 0 25 (dk_at dksX5_copy_6 14 rfl rfl)
theorem dX5_copy_158 : decode cX5_copy 158 = .ok (.aload_n 0, 1) := dk_42 (dk_at dksX5_copy_6 17 rfl rfl)
theorem dX5_copy_159 : decode cX5_copy 159 = .ok (.getfield 48, 3) := dk_180 0 48 (dk_at dksX5_copy_6 18 rfl rfl)
theorem dX5_copy_162 : decode cX5_copy 162 = .ok (.iload_n 2, 1) := dk_28 (dk_at dksX5_copy_6 21 rfl rfl)
theorem dX5_copy_163 : decode cX5_copy 163 = .ok (.aaload, 1) := dk_50 (dk_at dksX5_copy_6 22 rfl rfl)
theorem dX5_copy_164 : decode cX5_copy 164 = .ok (.iload_n 3, 1) := dk_29 (dk_at dksX5_copy_6 23 rfl rfl)
theorem dX5_copy_165 : decode cX5_copy 165 = .ok (.aload_n 1, 1) := dk_43 (dk_at dksX5_copy_7 0 rfl rfl)
theorem dX5_copy_166 : decode cX5_copy 166 = .ok (.getfield 48, 3) := dk_180 0 48 (dk_at dksX5_copy_7 1 rfl rfl)
theorem dX5_copy_169 : decode cX5_copy 169 = .ok (.iload_n 2, 1) := dk_28 (dk_at dksX5_copy_7 4 rfl rfl)
theorem dX5_copy_170 : decode cX5_copy 170 = .ok (.aaload, 1) := dk_50 (dk_at dksX5_copy_7 5 rfl rfl)
theorem dX5_copy_171 : decode cX5_copy 171 = .ok (.iload_n 3, 1) := dk_29 (dk_at dksX5_copy_7 6 rfl rfl)
theorem dX5_copy_172 : decode cX5_copy 172 = .ok (.iaload, 1) := dk_46 (dk_at dksX5_copy_7 7 rfl rfl)
theorem dX5_copy_173 : decode cX5_copy 173 = .ok (.iastore, 1) := dk_79 (dk_at dksX5_copy_7 8 rfl rfl)
theorem dX5_copy_174 : decode cX5_copy 174 = .ok (.iinc 3 1, 3) := dk_132 3 1 (dk_at dksX5_copy_7 9 rfl rfl)
theorem dX5_copy_177 : decode cX5_copy 177 = .ok (.goto (-24), 3) := dk_167 255 232 (dk_at dksX5_copy_7 12 rfl rfl)
theorem dX5_copy_180 : decode cX5_copy 180 = .ok (.iinc 2 1, 3) := dk_132 2 1 (dk_at dksX5_copy_7 15 rfl rfl)
theorem dX5_copy_183 : decode cX5_copy 183 = .ok (.goto (-40), 3) := dk_167 255 216 (dk_at dksX5_copy_7 18 rfl rfl)
theorem dX5_copy_186 : decode cX5_copy 186 = .ok (.aload_n 0, 1) := dk_42 (dk_at dksX5_copy_7 21 rfl rfl)
theorem dX5_copy_187 : decode cX5_copy 187 = .ok (.areturn, 1) := dk_176 (dk_at dksX5_copy_7 22 rfl rfl)
abbrev cX5_goesBy : ByteArray := prog_19_method_15_code
def yX5_goesBy : MethodName := ⟨RX5, "goesBy", "(I)LMarriageHerring$State;"⟩
def dkwX5_goesBy_0 : List UInt8 := [3, 61, 28, 27, 162, 0, 14, 42, 182, 0, 184, 87, 132, 2, 1, 167, 255, 243, 42, 176]
abbrev dktX5_goesBy_0 : List UInt8 := dkwX5_goesBy_0 ++ []
theorem dksX5_goesBy_0 : cX5_goesBy.data.toList.drop 0 = dktX5_goesBy_0 := by decide +kernel
theorem dX5_goesBy_0 : decode cX5_goesBy 0 = .ok (.iconst 0, 1) := dk_3 (dk_at dksX5_goesBy_0 0 rfl rfl)
theorem dX5_goesBy_1 : decode cX5_goesBy 1 = .ok (.istore_n 2, 1) := dk_61 (dk_at dksX5_goesBy_0 1 rfl rfl)
theorem dX5_goesBy_2 : decode cX5_goesBy 2 = .ok (.iload_n 2, 1) := dk_28 (dk_at dksX5_goesBy_0 2 rfl rfl)
theorem dX5_goesBy_3 : decode cX5_goesBy 3 = .ok (.iload_n 1, 1) := dk_27 (dk_at dksX5_goesBy_0 3 rfl rfl)
theorem dX5_goesBy_4 : decode cX5_goesBy 4 = .ok (.if_icmp .ge 14, 3) := dk_162 0 14 (dk_at dksX5_goesBy_0 4 rfl rfl)
theorem dX5_goesBy_7 : decode cX5_goesBy 7 = .ok (.aload_n 0, 1) := dk_42 (dk_at dksX5_goesBy_0 7 rfl rfl)
theorem dX5_goesBy_8 : decode cX5_goesBy 8 = .ok (.invokevirtual 184, 3) := dk_182 0 184 (dk_at dksX5_goesBy_0 8 rfl rfl)
theorem dX5_goesBy_11 : decode cX5_goesBy 11 = .ok (.pop, 1) := dk_87 (dk_at dksX5_goesBy_0 11 rfl rfl)
theorem dX5_goesBy_12 : decode cX5_goesBy 12 = .ok (.iinc 2 1, 3) := dk_132 2 1 (dk_at dksX5_goesBy_0 12 rfl rfl)
theorem dX5_goesBy_15 : decode cX5_goesBy 15 = .ok (.goto (-13), 3) := dk_167 255 243 (dk_at dksX5_goesBy_0 15 rfl rfl)
theorem dX5_goesBy_18 : decode cX5_goesBy 18 = .ok (.aload_n 0, 1) := dk_42 (dk_at dksX5_goesBy_0 18 rfl rfl)
theorem dX5_goesBy_19 : decode cX5_goesBy 19 = .ok (.areturn, 1) := dk_176 (dk_at dksX5_goesBy_0 19 rfl rfl)
abbrev cX5_goes : ByteArray := prog_19_method_14_code
def yX5_goes : MethodName := ⟨RX5, "goes", "()I"⟩
def dkwX5_goes_7 : List UInt8 := [180, 0, 51, 4, 96, 181, 0, 51, 27, 172]
abbrev dktX5_goes_7 : List UInt8 := dkwX5_goes_7 ++ []
def dkwX5_goes_6 : List UInt8 := [182, 0, 181, 79, 42, 180, 0, 31, 28, 42, 180, 0, 34, 28, 46, 79, 132, 2, 1, 167, 255, 219, 42, 89]
abbrev dktX5_goes_6 : List UInt8 := dkwX5_goes_6 ++ dktX5_goes_7
def dkwX5_goes_5 : List UInt8 := [167, 255, 211, 3, 61, 28, 42, 180, 0, 3, 182, 0, 70, 162, 0, 32, 42, 180, 0, 25, 28, 42, 28]
abbrev dktX5_goes_5 : List UInt8 := dkwX5_goes_5 ++ dktX5_goes_6
def dkwX5_goes_4 : List UInt8 := [42, 180, 0, 43, 28, 16, 99, 42, 180, 0, 43, 28, 46, 4, 96, 184, 0, 177, 79, 132, 2, 1]
abbrev dktX5_goes_4 : List UInt8 := dkwX5_goes_4 ++ dktX5_goes_5
def dkwX5_goes_3 : List UInt8 := [61, 28, 42, 180, 0, 3, 182, 0, 81, 162, 0, 40, 42, 180, 0, 37, 28, 42, 180, 0, 40, 28, 46, 79]
abbrev dktX5_goes_3 : List UInt8 := dkwX5_goes_3 ++ dktX5_goes_4
def dkwX5_goes_2 : List UInt8 := [182, 0, 81, 162, 0, 20, 42, 180, 0, 40, 28, 42, 28, 182, 0, 174, 79, 132, 2, 1, 167, 255, 231, 3]
abbrev dktX5_goes_2 : List UInt8 := dkwX5_goes_2 ++ dktX5_goes_3
def dkwX5_goes_1 : List UInt8 := [182, 0, 168, 79, 132, 1, 1, 167, 255, 231, 42, 182, 0, 171, 60, 3, 61, 28, 42, 180, 0, 3]
abbrev dktX5_goes_1 : List UInt8 := dkwX5_goes_1 ++ dktX5_goes_2
def dkwX5_goes_0 : List UInt8 := [42, 182, 0, 147, 3, 60, 27, 42, 180, 0, 3, 182, 0, 58, 162, 0, 20, 42, 180, 0, 22, 27, 42, 27]
abbrev dktX5_goes_0 : List UInt8 := dkwX5_goes_0 ++ dktX5_goes_1
theorem dksX5_goes_0 : cX5_goes.data.toList.drop 0 = dktX5_goes_0 := by decide +kernel
theorem dksX5_goes_1 : cX5_goes.data.toList.drop 24 = dktX5_goes_1 := dk_seg dksX5_goes_0 24 rfl rfl
theorem dksX5_goes_2 : cX5_goes.data.toList.drop 46 = dktX5_goes_2 := dk_seg dksX5_goes_1 22 rfl rfl
theorem dksX5_goes_3 : cX5_goes.data.toList.drop 70 = dktX5_goes_3 := dk_seg dksX5_goes_2 24 rfl rfl
theorem dksX5_goes_4 : cX5_goes.data.toList.drop 94 = dktX5_goes_4 := dk_seg dksX5_goes_3 24 rfl rfl
theorem dksX5_goes_5 : cX5_goes.data.toList.drop 116 = dktX5_goes_5 := dk_seg dksX5_goes_4 22 rfl rfl
theorem dksX5_goes_6 : cX5_goes.data.toList.drop 139 = dktX5_goes_6 := dk_seg dksX5_goes_5 23 rfl rfl
theorem dksX5_goes_7 : cX5_goes.data.toList.drop 163 = dktX5_goes_7 := dk_seg dksX5_goes_6 24 rfl rfl
theorem dX5_goes_0 : decode cX5_goes 0 = .ok (.aload_n 0, 1) := dk_42 (dk_at dksX5_goes_0 0 rfl rfl)
theorem dX5_goes_1 : decode cX5_goes 1 = .ok (.invokevirtual 147, 3) := dk_182 0 147 (dk_at dksX5_goes_0 1 rfl rfl)
theorem dX5_goes_4 : decode cX5_goes 4 = .ok (.iconst 0, 1) := dk_3 (dk_at dksX5_goes_0 4 rfl rfl)
theorem dX5_goes_5 : decode cX5_goes 5 = .ok (.istore_n 1, 1) := dk_60 (dk_at dksX5_goes_0 5 rfl rfl)
theorem dX5_goes_6 : decode cX5_goes 6 = .ok (.iload_n 1, 1) := dk_27 (dk_at dksX5_goes_0 6 rfl rfl)
theorem dX5_goes_7 : decode cX5_goes 7 = .ok (.aload_n 0, 1) := dk_42 (dk_at dksX5_goes_0 7 rfl rfl)
theorem dX5_goes_8 : decode cX5_goes 8 = .ok (.getfield 3, 3) := dk_180 0 3 (dk_at dksX5_goes_0 8 rfl rfl)
theorem dX5_goes_11 : decode cX5_goes 11 = .ok (.invokevirtual 58, 3) := dk_182 0 58 (dk_at dksX5_goes_0 11 rfl rfl)
theorem dX5_goes_14 : decode cX5_goes 14 = .ok (.if_icmp .ge 20, 3) := dk_162 0 20 (dk_at dksX5_goes_0 14 rfl rfl)
theorem dX5_goes_17 : decode cX5_goes 17 = .ok (.aload_n 0, 1) := dk_42 (dk_at dksX5_goes_0 17 rfl rfl)
theorem dX5_goes_18 : decode cX5_goes 18 = .ok (.getfield 22, 3) := dk_180 0 22 (dk_at dksX5_goes_0 18 rfl rfl)
theorem dX5_goes_21 : decode cX5_goes 21 = .ok (.iload_n 1, 1) := dk_27 (dk_at dksX5_goes_0 21 rfl rfl)
theorem dX5_goes_22 : decode cX5_goes 22 = .ok (.aload_n 0, 1) := dk_42 (dk_at dksX5_goes_0 22 rfl rfl)
theorem dX5_goes_23 : decode cX5_goes 23 = .ok (.iload_n 1, 1) := dk_27 (dk_at dksX5_goes_0 23 rfl rfl)
theorem dX5_goes_24 : decode cX5_goes 24 = .ok (.invokevirtual 168, 3) := dk_182 0 168 (dk_at dksX5_goes_1 0 rfl rfl)
theorem dX5_goes_27 : decode cX5_goes 27 = .ok (.iastore, 1) := dk_79 (dk_at dksX5_goes_1 3 rfl rfl)
theorem dX5_goes_28 : decode cX5_goes 28 = .ok (.iinc 1 1, 3) := dk_132 1 1 (dk_at dksX5_goes_1 4 rfl rfl)
theorem dX5_goes_31 : decode cX5_goes 31 = .ok (.goto (-25), 3) := dk_167 255 231 (dk_at dksX5_goes_1 7 rfl rfl)
theorem dX5_goes_34 : decode cX5_goes 34 = .ok (.aload_n 0, 1) := dk_42 (dk_at dksX5_goes_1 10 rfl rfl)
theorem dX5_goes_35 : decode cX5_goes 35 = .ok (.invokevirtual 171, 3) := dk_182 0 171 (dk_at dksX5_goes_1 11 rfl rfl)
theorem dX5_goes_38 : decode cX5_goes 38 = .ok (.istore_n 1, 1) := dk_60 (dk_at dksX5_goes_1 14 rfl rfl)
theorem dX5_goes_39 : decode cX5_goes 39 = .ok (.iconst 0, 1) := dk_3 (dk_at dksX5_goes_1 15 rfl rfl)
theorem dX5_goes_40 : decode cX5_goes 40 = .ok (.istore_n 2, 1) := dk_61 (dk_at dksX5_goes_1 16 rfl rfl)
theorem dX5_goes_41 : decode cX5_goes 41 = .ok (.iload_n 2, 1) := dk_28 (dk_at dksX5_goes_1 17 rfl rfl)
theorem dX5_goes_42 : decode cX5_goes 42 = .ok (.aload_n 0, 1) := dk_42 (dk_at dksX5_goes_1 18 rfl rfl)
theorem dX5_goes_43 : decode cX5_goes 43 = .ok (.getfield 3, 3) := dk_180 0 3 (dk_at dksX5_goes_1 19 rfl rfl)
theorem dX5_goes_46 : decode cX5_goes 46 = .ok (.invokevirtual 81, 3) := dk_182 0 81 (dk_at dksX5_goes_2 0 rfl rfl)
theorem dX5_goes_49 : decode cX5_goes 49 = .ok (.if_icmp .ge 20, 3) := dk_162 0 20 (dk_at dksX5_goes_2 3 rfl rfl)
theorem dX5_goes_52 : decode cX5_goes 52 = .ok (.aload_n 0, 1) := dk_42 (dk_at dksX5_goes_2 6 rfl rfl)
theorem dX5_goes_53 : decode cX5_goes 53 = .ok (.getfield 40, 3) := dk_180 0 40 (dk_at dksX5_goes_2 7 rfl rfl)
theorem dX5_goes_56 : decode cX5_goes 56 = .ok (.iload_n 2, 1) := dk_28 (dk_at dksX5_goes_2 10 rfl rfl)
theorem dX5_goes_57 : decode cX5_goes 57 = .ok (.aload_n 0, 1) := dk_42 (dk_at dksX5_goes_2 11 rfl rfl)
theorem dX5_goes_58 : decode cX5_goes 58 = .ok (.iload_n 2, 1) := dk_28 (dk_at dksX5_goes_2 12 rfl rfl)
theorem dX5_goes_59 : decode cX5_goes 59 = .ok (.invokevirtual 174, 3) := dk_182 0 174 (dk_at dksX5_goes_2 13 rfl rfl)
theorem dX5_goes_62 : decode cX5_goes 62 = .ok (.iastore, 1) := dk_79 (dk_at dksX5_goes_2 16 rfl rfl)
theorem dX5_goes_63 : decode cX5_goes 63 = .ok (.iinc 2 1, 3) := dk_132 2 1 (dk_at dksX5_goes_2 17 rfl rfl)
theorem dX5_goes_66 : decode cX5_goes 66 = .ok (.goto (-25), 3) := dk_167 255 231 (dk_at dksX5_goes_2 20 rfl rfl)
theorem dX5_goes_69 : decode cX5_goes 69 = .ok (.iconst 0, 1) := dk_3 (dk_at dksX5_goes_2 23 rfl rfl)
theorem dX5_goes_70 : decode cX5_goes 70 = .ok (.istore_n 2, 1) := dk_61 (dk_at dksX5_goes_3 0 rfl rfl)
theorem dX5_goes_71 : decode cX5_goes 71 = .ok (.iload_n 2, 1) := dk_28 (dk_at dksX5_goes_3 1 rfl rfl)
theorem dX5_goes_72 : decode cX5_goes 72 = .ok (.aload_n 0, 1) := dk_42 (dk_at dksX5_goes_3 2 rfl rfl)
theorem dX5_goes_73 : decode cX5_goes 73 = .ok (.getfield 3, 3) := dk_180 0 3 (dk_at dksX5_goes_3 3 rfl rfl)
theorem dX5_goes_76 : decode cX5_goes 76 = .ok (.invokevirtual 81, 3) := dk_182 0 81 (dk_at dksX5_goes_3 6 rfl rfl)
theorem dX5_goes_79 : decode cX5_goes 79 = .ok (.if_icmp .ge 40, 3) := dk_162 0 40 (dk_at dksX5_goes_3 9 rfl rfl)
theorem dX5_goes_82 : decode cX5_goes 82 = .ok (.aload_n 0, 1) := dk_42 (dk_at dksX5_goes_3 12 rfl rfl)
theorem dX5_goes_83 : decode cX5_goes 83 = .ok (.getfield 37, 3) := dk_180 0 37 (dk_at dksX5_goes_3 13 rfl rfl)
theorem dX5_goes_86 : decode cX5_goes 86 = .ok (.iload_n 2, 1) := dk_28 (dk_at dksX5_goes_3 16 rfl rfl)
theorem dX5_goes_87 : decode cX5_goes 87 = .ok (.aload_n 0, 1) := dk_42 (dk_at dksX5_goes_3 17 rfl rfl)
theorem dX5_goes_88 : decode cX5_goes 88 = .ok (.getfield 40, 3) := dk_180 0 40 (dk_at dksX5_goes_3 18 rfl rfl)
theorem dX5_goes_91 : decode cX5_goes 91 = .ok (.iload_n 2, 1) := dk_28 (dk_at dksX5_goes_3 21 rfl rfl)
theorem dX5_goes_92 : decode cX5_goes 92 = .ok (.iaload, 1) := dk_46 (dk_at dksX5_goes_3 22 rfl rfl)
theorem dX5_goes_93 : decode cX5_goes 93 = .ok (.iastore, 1) := dk_79 (dk_at dksX5_goes_3 23 rfl rfl)
theorem dX5_goes_94 : decode cX5_goes 94 = .ok (.aload_n 0, 1) := dk_42 (dk_at dksX5_goes_4 0 rfl rfl)
theorem dX5_goes_95 : decode cX5_goes 95 = .ok (.getfield 43, 3) := dk_180 0 43 (dk_at dksX5_goes_4 1 rfl rfl)
theorem dX5_goes_98 : decode cX5_goes 98 = .ok (.iload_n 2, 1) := dk_28 (dk_at dksX5_goes_4 4 rfl rfl)
theorem dX5_goes_99 : decode cX5_goes 99 = .ok (.bipush 99, 2) := dk_16 99 (dk_at dksX5_goes_4 5 rfl rfl)
theorem dX5_goes_101 : decode cX5_goes 101 = .ok (.aload_n 0, 1) := dk_42 (dk_at dksX5_goes_4 7 rfl rfl)
theorem dX5_goes_102 : decode cX5_goes 102 = .ok (.getfield 43, 3) := dk_180 0 43 (dk_at dksX5_goes_4 8 rfl rfl)
theorem dX5_goes_105 : decode cX5_goes 105 = .ok (.iload_n 2, 1) := dk_28 (dk_at dksX5_goes_4 11 rfl rfl)
theorem dX5_goes_106 : decode cX5_goes 106 = .ok (.iaload, 1) := dk_46 (dk_at dksX5_goes_4 12 rfl rfl)
theorem dX5_goes_107 : decode cX5_goes 107 = .ok (.iconst 1, 1) := dk_4 (dk_at dksX5_goes_4 13 rfl rfl)
theorem dX5_goes_108 : decode cX5_goes 108 = .ok (.iadd, 1) := dk_96 (dk_at dksX5_goes_4 14 rfl rfl)
theorem dX5_goes_109 : decode cX5_goes 109 = .ok (.invokestatic 177, 3) := dk_184 0 177 (dk_at dksX5_goes_4 15 rfl rfl)
theorem dX5_goes_112 : decode cX5_goes 112 = .ok (.iastore, 1) := dk_79 (dk_at dksX5_goes_4 18 rfl rfl)
theorem dX5_goes_113 : decode cX5_goes 113 = .ok (.iinc 2 1, 3) := dk_132 2 1 (dk_at dksX5_goes_4 19 rfl rfl)
theorem dX5_goes_116 : decode cX5_goes 116 = .ok (.goto (-45), 3) := dk_167 255 211 (dk_at dksX5_goes_5 0 rfl rfl)
theorem dX5_goes_119 : decode cX5_goes 119 = .ok (.iconst 0, 1) := dk_3 (dk_at dksX5_goes_5 3 rfl rfl)
theorem dX5_goes_120 : decode cX5_goes 120 = .ok (.istore_n 2, 1) := dk_61 (dk_at dksX5_goes_5 4 rfl rfl)
theorem dX5_goes_121 : decode cX5_goes 121 = .ok (.iload_n 2, 1) := dk_28 (dk_at dksX5_goes_5 5 rfl rfl)
theorem dX5_goes_122 : decode cX5_goes 122 = .ok (.aload_n 0, 1) := dk_42 (dk_at dksX5_goes_5 6 rfl rfl)
theorem dX5_goes_123 : decode cX5_goes 123 = .ok (.getfield 3, 3) := dk_180 0 3 (dk_at dksX5_goes_5 7 rfl rfl)
theorem dX5_goes_126 : decode cX5_goes 126 = .ok (.invokevirtual 70, 3) := dk_182 0 70 (dk_at dksX5_goes_5 10 rfl rfl)
theorem dX5_goes_129 : decode cX5_goes 129 = .ok (.if_icmp .ge 32, 3) := dk_162 0 32 (dk_at dksX5_goes_5 13 rfl rfl)
theorem dX5_goes_132 : decode cX5_goes 132 = .ok (.aload_n 0, 1) := dk_42 (dk_at dksX5_goes_5 16 rfl rfl)
theorem dX5_goes_133 : decode cX5_goes 133 = .ok (.getfield 25, 3) := dk_180 0 25 (dk_at dksX5_goes_5 17 rfl rfl)
theorem dX5_goes_136 : decode cX5_goes 136 = .ok (.iload_n 2, 1) := dk_28 (dk_at dksX5_goes_5 20 rfl rfl)
theorem dX5_goes_137 : decode cX5_goes 137 = .ok (.aload_n 0, 1) := dk_42 (dk_at dksX5_goes_5 21 rfl rfl)
theorem dX5_goes_138 : decode cX5_goes 138 = .ok (.iload_n 2, 1) := dk_28 (dk_at dksX5_goes_5 22 rfl rfl)
theorem dX5_goes_139 : decode cX5_goes 139 = .ok (.invokevirtual 181, 3) := dk_182 0 181 (dk_at dksX5_goes_6 0 rfl rfl)
theorem dX5_goes_142 : decode cX5_goes 142 = .ok (.iastore, 1) := dk_79 (dk_at dksX5_goes_6 3 rfl rfl)
theorem dX5_goes_143 : decode cX5_goes 143 = .ok (.aload_n 0, 1) := dk_42 (dk_at dksX5_goes_6 4 rfl rfl)
theorem dX5_goes_144 : decode cX5_goes 144 = .ok (.getfield 31, 3) := dk_180 0 31 (dk_at dksX5_goes_6 5 rfl rfl)
theorem dX5_goes_147 : decode cX5_goes 147 = .ok (.iload_n 2, 1) := dk_28 (dk_at dksX5_goes_6 8 rfl rfl)
theorem dX5_goes_148 : decode cX5_goes 148 = .ok (.aload_n 0, 1) := dk_42 (dk_at dksX5_goes_6 9 rfl rfl)
theorem dX5_goes_149 : decode cX5_goes 149 = .ok (.getfield 34, 3) := dk_180 0 34 (dk_at dksX5_goes_6 10 rfl rfl)
theorem dX5_goes_152 : decode cX5_goes 152 = .ok (.iload_n 2, 1) := dk_28 (dk_at dksX5_goes_6 13 rfl rfl)
theorem dX5_goes_153 : decode cX5_goes 153 = .ok (.iaload, 1) := dk_46 (dk_at dksX5_goes_6 14 rfl rfl)
theorem dX5_goes_154 : decode cX5_goes 154 = .ok (.iastore, 1) := dk_79 (dk_at dksX5_goes_6 15 rfl rfl)
theorem dX5_goes_155 : decode cX5_goes 155 = .ok (.iinc 2 1, 3) := dk_132 2 1 (dk_at dksX5_goes_6 16 rfl rfl)
theorem dX5_goes_158 : decode cX5_goes 158 = .ok (.goto (-37), 3) := dk_167 255 219 (dk_at dksX5_goes_6 19 rfl rfl)
theorem dX5_goes_161 : decode cX5_goes 161 = .ok (.aload_n 0, 1) := dk_42 (dk_at dksX5_goes_6 22 rfl rfl)
theorem dX5_goes_162 : decode cX5_goes 162 = .ok (.dup, 1) := dk_89 (dk_at dksX5_goes_6 23 rfl rfl)
theorem dX5_goes_163 : decode cX5_goes 163 = .ok (.getfield 51, 3) := dk_180 0 51 (dk_at dksX5_goes_7 0 rfl rfl)
theorem dX5_goes_166 : decode cX5_goes 166 = .ok (.iconst 1, 1) := dk_4 (dk_at dksX5_goes_7 3 rfl rfl)
theorem dX5_goes_167 : decode cX5_goes 167 = .ok (.iadd, 1) := dk_96 (dk_at dksX5_goes_7 4 rfl rfl)
theorem dX5_goes_168 : decode cX5_goes 168 = .ok (.putfield 51, 3) := dk_181 0 51 (dk_at dksX5_goes_7 5 rfl rfl)
theorem dX5_goes_171 : decode cX5_goes 171 = .ok (.iload_n 1, 1) := dk_27 (dk_at dksX5_goes_7 8 rfl rfl)
theorem dX5_goes_172 : decode cX5_goes 172 = .ok (.ireturn, 1) := dk_172 (dk_at dksX5_goes_7 9 rfl rfl)
abbrev cX5_choice : ByteArray := prog_19_method_9_code
def yX5_choice : MethodName := ⟨RX5, "choice", "(I)I"⟩
def dkwX5_choice_2 : List UInt8 := [167, 255, 216, 28, 172]
abbrev dktX5_choice_2 : List UInt8 := dkwX5_choice_2 ++ []
def dkwX5_choice_1 : List UInt8 := [182, 0, 150, 55, 6, 22, 6, 33, 148, 157, 0, 6, 167, 0, 9, 22, 6, 66, 21, 5, 61, 132, 5, 1]
abbrev dktX5_choice_1 : List UInt8 := dkwX5_choice_1 ++ dktX5_choice_2
def dkwX5_choice_0 : List UInt8 := [2, 61, 9, 66, 3, 54, 5, 21, 5, 42, 180, 0, 3, 182, 0, 70, 162, 0, 34, 42, 27, 21, 5]
abbrev dktX5_choice_0 : List UInt8 := dkwX5_choice_0 ++ dktX5_choice_1
theorem dksX5_choice_0 : cX5_choice.data.toList.drop 0 = dktX5_choice_0 := by decide +kernel
theorem dksX5_choice_1 : cX5_choice.data.toList.drop 23 = dktX5_choice_1 := dk_seg dksX5_choice_0 23 rfl rfl
theorem dksX5_choice_2 : cX5_choice.data.toList.drop 47 = dktX5_choice_2 := dk_seg dksX5_choice_1 24 rfl rfl
theorem dX5_choice_0 : decode cX5_choice 0 = .ok (.iconst (-1), 1) := dk_2 (dk_at dksX5_choice_0 0 rfl rfl)
theorem dX5_choice_1 : decode cX5_choice 1 = .ok (.istore_n 2, 1) := dk_61 (dk_at dksX5_choice_0 1 rfl rfl)
theorem dX5_choice_2 : decode cX5_choice 2 = .ok (.lconst 0, 1) := dk_9 (dk_at dksX5_choice_0 2 rfl rfl)
theorem dX5_choice_3 : decode cX5_choice 3 = .ok (.lstore_n 3, 1) := dk_66 (dk_at dksX5_choice_0 3 rfl rfl)
theorem dX5_choice_4 : decode cX5_choice 4 = .ok (.iconst 0, 1) := dk_3 (dk_at dksX5_choice_0 4 rfl rfl)
theorem dX5_choice_5 : decode cX5_choice 5 = .ok (.istore 5, 2) := dk_54 5 (dk_at dksX5_choice_0 5 rfl rfl)
theorem dX5_choice_7 : decode cX5_choice 7 = .ok (.iload 5, 2) := dk_21 5 (dk_at dksX5_choice_0 7 rfl rfl)
theorem dX5_choice_9 : decode cX5_choice 9 = .ok (.aload_n 0, 1) := dk_42 (dk_at dksX5_choice_0 9 rfl rfl)
theorem dX5_choice_10 : decode cX5_choice 10 = .ok (.getfield 3, 3) := dk_180 0 3 (dk_at dksX5_choice_0 10 rfl rfl)
theorem dX5_choice_13 : decode cX5_choice 13 = .ok (.invokevirtual 70, 3) := dk_182 0 70 (dk_at dksX5_choice_0 13 rfl rfl)
theorem dX5_choice_16 : decode cX5_choice 16 = .ok (.if_icmp .ge 34, 3) := dk_162 0 34 (dk_at dksX5_choice_0 16 rfl rfl)
theorem dX5_choice_19 : decode cX5_choice 19 = .ok (.aload_n 0, 1) := dk_42 (dk_at dksX5_choice_0 19 rfl rfl)
theorem dX5_choice_20 : decode cX5_choice 20 = .ok (.iload_n 1, 1) := dk_27 (dk_at dksX5_choice_0 20 rfl rfl)
theorem dX5_choice_21 : decode cX5_choice 21 = .ok (.iload 5, 2) := dk_21 5 (dk_at dksX5_choice_0 21 rfl rfl)
theorem dX5_choice_23 : decode cX5_choice 23 = .ok (.invokevirtual 150, 3) := dk_182 0 150 (dk_at dksX5_choice_1 0 rfl rfl)
theorem dX5_choice_26 : decode cX5_choice 26 = .ok (.lstore 6, 2) := dk_55 6 (dk_at dksX5_choice_1 3 rfl rfl)
theorem dX5_choice_28 : decode cX5_choice 28 = .ok (.lload 6, 2) := dk_22 6 (dk_at dksX5_choice_1 5 rfl rfl)
theorem dX5_choice_30 : decode cX5_choice 30 = .ok (.lload_n 3, 1) := dk_33 (dk_at dksX5_choice_1 7 rfl rfl)
theorem dX5_choice_31 : decode cX5_choice 31 = .ok (.lcmp, 1) := dk_148 (dk_at dksX5_choice_1 8 rfl rfl)
theorem dX5_choice_32 : decode cX5_choice 32 = .ok (.ifCond .gt 6, 3) := dk_157 0 6 (dk_at dksX5_choice_1 9 rfl rfl)
theorem dX5_choice_35 : decode cX5_choice 35 = .ok (.goto 9, 3) := dk_167 0 9 (dk_at dksX5_choice_1 12 rfl rfl)
theorem dX5_choice_38 : decode cX5_choice 38 = .ok (.lload 6, 2) := dk_22 6 (dk_at dksX5_choice_1 15 rfl rfl)
theorem dX5_choice_40 : decode cX5_choice 40 = .ok (.lstore_n 3, 1) := dk_66 (dk_at dksX5_choice_1 17 rfl rfl)
theorem dX5_choice_41 : decode cX5_choice 41 = .ok (.iload 5, 2) := dk_21 5 (dk_at dksX5_choice_1 18 rfl rfl)
theorem dX5_choice_43 : decode cX5_choice 43 = .ok (.istore_n 2, 1) := dk_61 (dk_at dksX5_choice_1 20 rfl rfl)
theorem dX5_choice_44 : decode cX5_choice 44 = .ok (.iinc 5 1, 3) := dk_132 5 1 (dk_at dksX5_choice_1 21 rfl rfl)
theorem dX5_choice_47 : decode cX5_choice 47 = .ok (.goto (-40), 3) := dk_167 255 216 (dk_at dksX5_choice_2 0 rfl rfl)
theorem dX5_choice_50 : decode cX5_choice 50 = .ok (.iload_n 2, 1) := dk_28 (dk_at dksX5_choice_2 3 rfl rfl)
theorem dX5_choice_51 : decode cX5_choice 51 = .ok (.ireturn, 1) := dk_172 (dk_at dksX5_choice_2 4 rfl rfl)
abbrev cX5_come : ByteArray := prog_19_method_13_code
def yX5_come : MethodName := ⟨RX5, "come", "()I"⟩
def dkwX5_come_5 : List UInt8 := [180, 0, 22, 28, 46, 182, 0, 164, 132, 1, 1, 132, 2, 1, 167, 255, 156, 27, 172]
abbrev dktX5_come_5 : List UInt8 := dkwX5_come_5 ++ []
def dkwX5_come_4 : List UInt8 := [180, 0, 22, 28, 46, 92, 46, 42, 180, 0, 3, 28, 182, 0, 62, 180, 0, 139, 96, 79, 42, 28, 42]
abbrev dktX5_come_4 : List UInt8 := dkwX5_come_4 ++ dktX5_come_5
def dkwX5_come_3 : List UInt8 := [28, 42, 180, 0, 3, 42, 180, 0, 22, 28, 46, 182, 0, 73, 180, 0, 133, 79, 42, 180, 0, 28, 42]
abbrev dktX5_come_3 : List UInt8 := dkwX5_come_3 ++ dktX5_come_4
def dkwX5_come_2 : List UInt8 := [42, 180, 0, 22, 28, 46, 79, 42, 180, 0, 22, 28, 46, 2, 160, 0, 6, 167, 0, 64, 42, 180, 0, 15]
abbrev dktX5_come_2 : List UInt8 := dkwX5_come_2 ++ dktX5_come_3
def dkwX5_come_1 : List UInt8 := [132, 2, 1, 167, 255, 235, 3, 61, 28, 42, 180, 0, 3, 182, 0, 58, 162, 0, 95, 42, 180, 0, 19, 28]
abbrev dktX5_come_1 : List UInt8 := dkwX5_come_1 ++ dktX5_come_2
def dkwX5_come_0 : List UInt8 := [3, 60, 3, 61, 28, 42, 180, 0, 3, 182, 0, 70, 162, 0, 16, 42, 180, 0, 28, 28, 3, 79]
abbrev dktX5_come_0 : List UInt8 := dkwX5_come_0 ++ dktX5_come_1
theorem dksX5_come_0 : cX5_come.data.toList.drop 0 = dktX5_come_0 := by decide +kernel
theorem dksX5_come_1 : cX5_come.data.toList.drop 22 = dktX5_come_1 := dk_seg dksX5_come_0 22 rfl rfl
theorem dksX5_come_2 : cX5_come.data.toList.drop 46 = dktX5_come_2 := dk_seg dksX5_come_1 24 rfl rfl
theorem dksX5_come_3 : cX5_come.data.toList.drop 70 = dktX5_come_3 := dk_seg dksX5_come_2 24 rfl rfl
theorem dksX5_come_4 : cX5_come.data.toList.drop 93 = dktX5_come_4 := dk_seg dksX5_come_3 23 rfl rfl
theorem dksX5_come_5 : cX5_come.data.toList.drop 116 = dktX5_come_5 := dk_seg dksX5_come_4 23 rfl rfl
theorem dX5_come_0 : decode cX5_come 0 = .ok (.iconst 0, 1) := dk_3 (dk_at dksX5_come_0 0 rfl rfl)
theorem dX5_come_1 : decode cX5_come 1 = .ok (.istore_n 1, 1) := dk_60 (dk_at dksX5_come_0 1 rfl rfl)
theorem dX5_come_2 : decode cX5_come 2 = .ok (.iconst 0, 1) := dk_3 (dk_at dksX5_come_0 2 rfl rfl)
theorem dX5_come_3 : decode cX5_come 3 = .ok (.istore_n 2, 1) := dk_61 (dk_at dksX5_come_0 3 rfl rfl)
theorem dX5_come_4 : decode cX5_come 4 = .ok (.iload_n 2, 1) := dk_28 (dk_at dksX5_come_0 4 rfl rfl)
theorem dX5_come_5 : decode cX5_come 5 = .ok (.aload_n 0, 1) := dk_42 (dk_at dksX5_come_0 5 rfl rfl)
theorem dX5_come_6 : decode cX5_come 6 = .ok (.getfield 3, 3) := dk_180 0 3 (dk_at dksX5_come_0 6 rfl rfl)
theorem dX5_come_9 : decode cX5_come 9 = .ok (.invokevirtual 70, 3) := dk_182 0 70 (dk_at dksX5_come_0 9 rfl rfl)
theorem dX5_come_12 : decode cX5_come 12 = .ok (.if_icmp .ge 16, 3) := dk_162 0 16 (dk_at dksX5_come_0 12 rfl rfl)
theorem dX5_come_15 : decode cX5_come 15 = .ok (.aload_n 0, 1) := dk_42 (dk_at dksX5_come_0 15 rfl rfl)
theorem dX5_come_16 : decode cX5_come 16 = .ok (.getfield 28, 3) := dk_180 0 28 (dk_at dksX5_come_0 16 rfl rfl)
theorem dX5_come_19 : decode cX5_come 19 = .ok (.iload_n 2, 1) := dk_28 (dk_at dksX5_come_0 19 rfl rfl)
theorem dX5_come_20 : decode cX5_come 20 = .ok (.iconst 0, 1) := dk_3 (dk_at dksX5_come_0 20 rfl rfl)
theorem dX5_come_21 : decode cX5_come 21 = .ok (.iastore, 1) := dk_79 (dk_at dksX5_come_0 21 rfl rfl)
theorem dX5_come_22 : decode cX5_come 22 = .ok (.iinc 2 1, 3) := dk_132 2 1 (dk_at dksX5_come_1 0 rfl rfl)
theorem dX5_come_25 : decode cX5_come 25 = .ok (.goto (-21), 3) := dk_167 255 235 (dk_at dksX5_come_1 3 rfl rfl)
theorem dX5_come_28 : decode cX5_come 28 = .ok (.iconst 0, 1) := dk_3 (dk_at dksX5_come_1 6 rfl rfl)
theorem dX5_come_29 : decode cX5_come 29 = .ok (.istore_n 2, 1) := dk_61 (dk_at dksX5_come_1 7 rfl rfl)
theorem dX5_come_30 : decode cX5_come 30 = .ok (.iload_n 2, 1) := dk_28 (dk_at dksX5_come_1 8 rfl rfl)
theorem dX5_come_31 : decode cX5_come 31 = .ok (.aload_n 0, 1) := dk_42 (dk_at dksX5_come_1 9 rfl rfl)
theorem dX5_come_32 : decode cX5_come 32 = .ok (.getfield 3, 3) := dk_180 0 3 (dk_at dksX5_come_1 10 rfl rfl)
theorem dX5_come_35 : decode cX5_come 35 = .ok (.invokevirtual 58, 3) := dk_182 0 58 (dk_at dksX5_come_1 13 rfl rfl)
theorem dX5_come_38 : decode cX5_come 38 = .ok (.if_icmp .ge 95, 3) := dk_162 0 95 (dk_at dksX5_come_1 16 rfl rfl)
theorem dX5_come_41 : decode cX5_come 41 = .ok (.aload_n 0, 1) := dk_42 (dk_at dksX5_come_1 19 rfl rfl)
theorem dX5_come_42 : decode cX5_come 42 = .ok (.getfield 19, 3) := dk_180 0 19 (dk_at dksX5_come_1 20 rfl rfl)
theorem dX5_come_45 : decode cX5_come 45 = .ok (.iload_n 2, 1) := dk_28 (dk_at dksX5_come_1 23 rfl rfl)
theorem dX5_come_46 : decode cX5_come 46 = .ok (.aload_n 0, 1) := dk_42 (dk_at dksX5_come_2 0 rfl rfl)
theorem dX5_come_47 : decode cX5_come 47 = .ok (.getfield 22, 3) := dk_180 0 22 (dk_at dksX5_come_2 1 rfl rfl)
theorem dX5_come_50 : decode cX5_come 50 = .ok (.iload_n 2, 1) := dk_28 (dk_at dksX5_come_2 4 rfl rfl)
theorem dX5_come_51 : decode cX5_come 51 = .ok (.iaload, 1) := dk_46 (dk_at dksX5_come_2 5 rfl rfl)
theorem dX5_come_52 : decode cX5_come 52 = .ok (.iastore, 1) := dk_79 (dk_at dksX5_come_2 6 rfl rfl)
theorem dX5_come_53 : decode cX5_come 53 = .ok (.aload_n 0, 1) := dk_42 (dk_at dksX5_come_2 7 rfl rfl)
theorem dX5_come_54 : decode cX5_come 54 = .ok (.getfield 22, 3) := dk_180 0 22 (dk_at dksX5_come_2 8 rfl rfl)
theorem dX5_come_57 : decode cX5_come 57 = .ok (.iload_n 2, 1) := dk_28 (dk_at dksX5_come_2 11 rfl rfl)
theorem dX5_come_58 : decode cX5_come 58 = .ok (.iaload, 1) := dk_46 (dk_at dksX5_come_2 12 rfl rfl)
theorem dX5_come_59 : decode cX5_come 59 = .ok (.iconst (-1), 1) := dk_2 (dk_at dksX5_come_2 13 rfl rfl)
theorem dX5_come_60 : decode cX5_come 60 = .ok (.if_icmp .ne 6, 3) := dk_160 0 6 (dk_at dksX5_come_2 14 rfl rfl)
theorem dX5_come_63 : decode cX5_come 63 = .ok (.goto 64, 3) := dk_167 0 64 (dk_at dksX5_come_2 17 rfl rfl)
theorem dX5_come_66 : decode cX5_come 66 = .ok (.aload_n 0, 1) := dk_42 (dk_at dksX5_come_2 20 rfl rfl)
theorem dX5_come_67 : decode cX5_come 67 = .ok (.getfield 15, 3) := dk_180 0 15 (dk_at dksX5_come_2 21 rfl rfl)
theorem dX5_come_70 : decode cX5_come 70 = .ok (.iload_n 2, 1) := dk_28 (dk_at dksX5_come_3 0 rfl rfl)
theorem dX5_come_71 : decode cX5_come 71 = .ok (.aload_n 0, 1) := dk_42 (dk_at dksX5_come_3 1 rfl rfl)
theorem dX5_come_72 : decode cX5_come 72 = .ok (.getfield 3, 3) := dk_180 0 3 (dk_at dksX5_come_3 2 rfl rfl)
theorem dX5_come_75 : decode cX5_come 75 = .ok (.aload_n 0, 1) := dk_42 (dk_at dksX5_come_3 5 rfl rfl)
theorem dX5_come_76 : decode cX5_come 76 = .ok (.getfield 22, 3) := dk_180 0 22 (dk_at dksX5_come_3 6 rfl rfl)
theorem dX5_come_79 : decode cX5_come 79 = .ok (.iload_n 2, 1) := dk_28 (dk_at dksX5_come_3 9 rfl rfl)
theorem dX5_come_80 : decode cX5_come 80 = .ok (.iaload, 1) := dk_46 (dk_at dksX5_come_3 10 rfl rfl)
theorem dX5_come_81 : decode cX5_come 81 = .ok (.invokevirtual 73, 3) := dk_182 0 73 (dk_at dksX5_come_3 11 rfl rfl)
theorem dX5_come_84 : decode cX5_come 84 = .ok (.getfield 133, 3) := dk_180 0 133 (dk_at dksX5_come_3 14 rfl rfl)
theorem dX5_come_87 : decode cX5_come 87 = .ok (.iastore, 1) := dk_79 (dk_at dksX5_come_3 17 rfl rfl)
theorem dX5_come_88 : decode cX5_come 88 = .ok (.aload_n 0, 1) := dk_42 (dk_at dksX5_come_3 18 rfl rfl)
theorem dX5_come_89 : decode cX5_come 89 = .ok (.getfield 28, 3) := dk_180 0 28 (dk_at dksX5_come_3 19 rfl rfl)
theorem dX5_come_92 : decode cX5_come 92 = .ok (.aload_n 0, 1) := dk_42 (dk_at dksX5_come_3 22 rfl rfl)
theorem dX5_come_93 : decode cX5_come 93 = .ok (.getfield 22, 3) := dk_180 0 22 (dk_at dksX5_come_4 0 rfl rfl)
theorem dX5_come_96 : decode cX5_come 96 = .ok (.iload_n 2, 1) := dk_28 (dk_at dksX5_come_4 3 rfl rfl)
theorem dX5_come_97 : decode cX5_come 97 = .ok (.iaload, 1) := dk_46 (dk_at dksX5_come_4 4 rfl rfl)
theorem dX5_come_98 : decode cX5_come 98 = .ok (.dup2, 1) := dk_92 (dk_at dksX5_come_4 5 rfl rfl)
theorem dX5_come_99 : decode cX5_come 99 = .ok (.iaload, 1) := dk_46 (dk_at dksX5_come_4 6 rfl rfl)
theorem dX5_come_100 : decode cX5_come 100 = .ok (.aload_n 0, 1) := dk_42 (dk_at dksX5_come_4 7 rfl rfl)
theorem dX5_come_101 : decode cX5_come 101 = .ok (.getfield 3, 3) := dk_180 0 3 (dk_at dksX5_come_4 8 rfl rfl)
theorem dX5_come_104 : decode cX5_come 104 = .ok (.iload_n 2, 1) := dk_28 (dk_at dksX5_come_4 11 rfl rfl)
theorem dX5_come_105 : decode cX5_come 105 = .ok (.invokevirtual 62, 3) := dk_182 0 62 (dk_at dksX5_come_4 12 rfl rfl)
theorem dX5_come_108 : decode cX5_come 108 = .ok (.getfield 139, 3) := dk_180 0 139 (dk_at dksX5_come_4 15 rfl rfl)
theorem dX5_come_111 : decode cX5_come 111 = .ok (.iadd, 1) := dk_96 (dk_at dksX5_come_4 18 rfl rfl)
theorem dX5_come_112 : decode cX5_come 112 = .ok (.iastore, 1) := dk_79 (dk_at dksX5_come_4 19 rfl rfl)
theorem dX5_come_113 : decode cX5_come 113 = .ok (.aload_n 0, 1) := dk_42 (dk_at dksX5_come_4 20 rfl rfl)
theorem dX5_come_114 : decode cX5_come 114 = .ok (.iload_n 2, 1) := dk_28 (dk_at dksX5_come_4 21 rfl rfl)
theorem dX5_come_115 : decode cX5_come 115 = .ok (.aload_n 0, 1) := dk_42 (dk_at dksX5_come_4 22 rfl rfl)
theorem dX5_come_116 : decode cX5_come 116 = .ok (.getfield 22, 3) := dk_180 0 22 (dk_at dksX5_come_5 0 rfl rfl)
theorem dX5_come_119 : decode cX5_come 119 = .ok (.iload_n 2, 1) := dk_28 (dk_at dksX5_come_5 3 rfl rfl)
theorem dX5_come_120 : decode cX5_come 120 = .ok (.iaload, 1) := dk_46 (dk_at dksX5_come_5 4 rfl rfl)
theorem dX5_come_121 : decode cX5_come 121 = .ok (.invokevirtual 164, 3) := dk_182 0 164 (dk_at dksX5_come_5 5 rfl rfl)
theorem dX5_come_124 : decode cX5_come 124 = .ok (.iinc 1 1, 3) := dk_132 1 1 (dk_at dksX5_come_5 8 rfl rfl)
theorem dX5_come_127 : decode cX5_come 127 = .ok (.iinc 2 1, 3) := dk_132 2 1 (dk_at dksX5_come_5 11 rfl rfl)
theorem dX5_come_130 : decode cX5_come 130 = .ok (.goto (-100), 3) := dk_167 255 156 (dk_at dksX5_come_5 14 rfl rfl)
theorem dX5_come_133 : decode cX5_come 133 = .ok (.iload_n 1, 1) := dk_27 (dk_at dksX5_come_5 17 rfl rfl)
theorem dX5_come_134 : decode cX5_come 134 = .ok (.ireturn, 1) := dk_172 (dk_at dksX5_come_5 18 rfl rfl)
abbrev cX5_tellsOf : ByteArray := prog_19_method_12_code
def yX5_tellsOf : MethodName := ⟨RX5, "tellsOf", "(II)V"⟩
def dkwX5_tellsOf_5 : List UInt8 := [177]
abbrev dktX5_tellsOf_5 : List UInt8 := dkwX5_tellsOf_5 ++ []
def dkwX5_tellsOf_4 : List UInt8 := [27, 79, 42, 180, 0, 48, 42, 180, 0, 55, 50, 5, 28, 79, 42, 89, 180, 0, 55, 4, 96, 181, 0, 55]
abbrev dktX5_tellsOf_4 : List UInt8 := dkwX5_tellsOf_4 ++ dktX5_tellsOf_5
def dkwX5_tellsOf_3 : List UInt8 := [180, 0, 48, 42, 180, 0, 55, 50, 3, 42, 180, 0, 51, 79, 42, 180, 0, 48, 42, 180, 0, 55, 50, 4]
abbrev dktX5_tellsOf_3 : List UInt8 := dkwX5_tellsOf_3 ++ dktX5_tellsOf_4
def dkwX5_tellsOf_2 : List UInt8 := [167, 255, 230, 42, 180, 0, 48, 16, 39, 45, 83, 42, 89, 180, 0, 55, 4, 100, 181, 0, 55, 42]
abbrev dktX5_tellsOf_2 : List UInt8 := dkwX5_tellsOf_2 ++ dktX5_tellsOf_3
def dkwX5_tellsOf_1 : List UInt8 := [162, 0, 25, 42, 180, 0, 48, 21, 4, 4, 100, 42, 180, 0, 48, 21, 4, 50, 83, 132, 4, 1]
abbrev dktX5_tellsOf_1 : List UInt8 := dkwX5_tellsOf_1 ++ dktX5_tellsOf_2
def dkwX5_tellsOf_0 : List UInt8 := [42, 180, 0, 55, 16, 40, 160, 0, 60, 42, 180, 0, 48, 3, 50, 78, 4, 54, 4, 21, 4, 16, 40]
abbrev dktX5_tellsOf_0 : List UInt8 := dkwX5_tellsOf_0 ++ dktX5_tellsOf_1
theorem dksX5_tellsOf_0 : cX5_tellsOf.data.toList.drop 0 = dktX5_tellsOf_0 := by decide +kernel
theorem dksX5_tellsOf_1 : cX5_tellsOf.data.toList.drop 23 = dktX5_tellsOf_1 := dk_seg dksX5_tellsOf_0 23 rfl rfl
theorem dksX5_tellsOf_2 : cX5_tellsOf.data.toList.drop 45 = dktX5_tellsOf_2 := dk_seg dksX5_tellsOf_1 22 rfl rfl
theorem dksX5_tellsOf_3 : cX5_tellsOf.data.toList.drop 67 = dktX5_tellsOf_3 := dk_seg dksX5_tellsOf_2 22 rfl rfl
theorem dksX5_tellsOf_4 : cX5_tellsOf.data.toList.drop 91 = dktX5_tellsOf_4 := dk_seg dksX5_tellsOf_3 24 rfl rfl
theorem dksX5_tellsOf_5 : cX5_tellsOf.data.toList.drop 115 = dktX5_tellsOf_5 := dk_seg dksX5_tellsOf_4 24 rfl rfl
theorem dX5_tellsOf_0 : decode cX5_tellsOf 0 = .ok (.aload_n 0, 1) := dk_42 (dk_at dksX5_tellsOf_0 0 rfl rfl)
theorem dX5_tellsOf_1 : decode cX5_tellsOf 1 = .ok (.getfield 55, 3) := dk_180 0 55 (dk_at dksX5_tellsOf_0 1 rfl rfl)
theorem dX5_tellsOf_4 : decode cX5_tellsOf 4 = .ok (.bipush 40, 2) := dk_16 40 (dk_at dksX5_tellsOf_0 4 rfl rfl)
theorem dX5_tellsOf_6 : decode cX5_tellsOf 6 = .ok (.if_icmp .ne 60, 3) := dk_160 0 60 (dk_at dksX5_tellsOf_0 6 rfl rfl)
theorem dX5_tellsOf_9 : decode cX5_tellsOf 9 = .ok (.aload_n 0, 1) := dk_42 (dk_at dksX5_tellsOf_0 9 rfl rfl)
theorem dX5_tellsOf_10 : decode cX5_tellsOf 10 = .ok (.getfield 48, 3) := dk_180 0 48 (dk_at dksX5_tellsOf_0 10 rfl rfl)
theorem dX5_tellsOf_13 : decode cX5_tellsOf 13 = .ok (.iconst 0, 1) := dk_3 (dk_at dksX5_tellsOf_0 13 rfl rfl)
theorem dX5_tellsOf_14 : decode cX5_tellsOf 14 = .ok (.aaload, 1) := dk_50 (dk_at dksX5_tellsOf_0 14 rfl rfl)
theorem dX5_tellsOf_15 : decode cX5_tellsOf 15 = .ok (.astore_n 3, 1) := dk_78 (dk_at dksX5_tellsOf_0 15 rfl rfl)
theorem dX5_tellsOf_16 : decode cX5_tellsOf 16 = .ok (.iconst 1, 1) := dk_4 (dk_at dksX5_tellsOf_0 16 rfl rfl)
theorem dX5_tellsOf_17 : decode cX5_tellsOf 17 = .ok (.istore 4, 2) := dk_54 4 (dk_at dksX5_tellsOf_0 17 rfl rfl)
theorem dX5_tellsOf_19 : decode cX5_tellsOf 19 = .ok (.iload 4, 2) := dk_21 4 (dk_at dksX5_tellsOf_0 19 rfl rfl)
theorem dX5_tellsOf_21 : decode cX5_tellsOf 21 = .ok (.bipush 40, 2) := dk_16 40 (dk_at dksX5_tellsOf_0 21 rfl rfl)
theorem dX5_tellsOf_23 : decode cX5_tellsOf 23 = .ok (.if_icmp .ge 25, 3) := dk_162 0 25 (dk_at dksX5_tellsOf_1 0 rfl rfl)
theorem dX5_tellsOf_26 : decode cX5_tellsOf 26 = .ok (.aload_n 0, 1) := dk_42 (dk_at dksX5_tellsOf_1 3 rfl rfl)
theorem dX5_tellsOf_27 : decode cX5_tellsOf 27 = .ok (.getfield 48, 3) := dk_180 0 48 (dk_at dksX5_tellsOf_1 4 rfl rfl)
theorem dX5_tellsOf_30 : decode cX5_tellsOf 30 = .ok (.iload 4, 2) := dk_21 4 (dk_at dksX5_tellsOf_1 7 rfl rfl)
theorem dX5_tellsOf_32 : decode cX5_tellsOf 32 = .ok (.iconst 1, 1) := dk_4 (dk_at dksX5_tellsOf_1 9 rfl rfl)
theorem dX5_tellsOf_33 : decode cX5_tellsOf 33 = .ok (.isub, 1) := dk_100 (dk_at dksX5_tellsOf_1 10 rfl rfl)
theorem dX5_tellsOf_34 : decode cX5_tellsOf 34 = .ok (.aload_n 0, 1) := dk_42 (dk_at dksX5_tellsOf_1 11 rfl rfl)
theorem dX5_tellsOf_35 : decode cX5_tellsOf 35 = .ok (.getfield 48, 3) := dk_180 0 48 (dk_at dksX5_tellsOf_1 12 rfl rfl)
theorem dX5_tellsOf_38 : decode cX5_tellsOf 38 = .ok (.iload 4, 2) := dk_21 4 (dk_at dksX5_tellsOf_1 15 rfl rfl)
theorem dX5_tellsOf_40 : decode cX5_tellsOf 40 = .ok (.aaload, 1) := dk_50 (dk_at dksX5_tellsOf_1 17 rfl rfl)
theorem dX5_tellsOf_41 : decode cX5_tellsOf 41 = .ok (.aastore, 1) := dk_83 (dk_at dksX5_tellsOf_1 18 rfl rfl)
theorem dX5_tellsOf_42 : decode cX5_tellsOf 42 = .ok (.iinc 4 1, 3) := dk_132 4 1 (dk_at dksX5_tellsOf_1 19 rfl rfl)
theorem dX5_tellsOf_45 : decode cX5_tellsOf 45 = .ok (.goto (-26), 3) := dk_167 255 230 (dk_at dksX5_tellsOf_2 0 rfl rfl)
theorem dX5_tellsOf_48 : decode cX5_tellsOf 48 = .ok (.aload_n 0, 1) := dk_42 (dk_at dksX5_tellsOf_2 3 rfl rfl)
theorem dX5_tellsOf_49 : decode cX5_tellsOf 49 = .ok (.getfield 48, 3) := dk_180 0 48 (dk_at dksX5_tellsOf_2 4 rfl rfl)
theorem dX5_tellsOf_52 : decode cX5_tellsOf 52 = .ok (.bipush 39, 2) := dk_16 39 (dk_at dksX5_tellsOf_2 7 rfl rfl)
theorem dX5_tellsOf_54 : decode cX5_tellsOf 54 = .ok (.aload_n 3, 1) := dk_45 (dk_at dksX5_tellsOf_2 9 rfl rfl)
theorem dX5_tellsOf_55 : decode cX5_tellsOf 55 = .ok (.aastore, 1) := dk_83 (dk_at dksX5_tellsOf_2 10 rfl rfl)
theorem dX5_tellsOf_56 : decode cX5_tellsOf 56 = .ok (.aload_n 0, 1) := dk_42 (dk_at dksX5_tellsOf_2 11 rfl rfl)
theorem dX5_tellsOf_57 : decode cX5_tellsOf 57 = .ok (.dup, 1) := dk_89 (dk_at dksX5_tellsOf_2 12 rfl rfl)
theorem dX5_tellsOf_58 : decode cX5_tellsOf 58 = .ok (.getfield 55, 3) := dk_180 0 55 (dk_at dksX5_tellsOf_2 13 rfl rfl)
theorem dX5_tellsOf_61 : decode cX5_tellsOf 61 = .ok (.iconst 1, 1) := dk_4 (dk_at dksX5_tellsOf_2 16 rfl rfl)
theorem dX5_tellsOf_62 : decode cX5_tellsOf 62 = .ok (.isub, 1) := dk_100 (dk_at dksX5_tellsOf_2 17 rfl rfl)
theorem dX5_tellsOf_63 : decode cX5_tellsOf 63 = .ok (.putfield 55, 3) := dk_181 0 55 (dk_at dksX5_tellsOf_2 18 rfl rfl)
theorem dX5_tellsOf_66 : decode cX5_tellsOf 66 = .ok (.aload_n 0, 1) := dk_42 (dk_at dksX5_tellsOf_2 21 rfl rfl)
theorem dX5_tellsOf_67 : decode cX5_tellsOf 67 = .ok (.getfield 48, 3) := dk_180 0 48 (dk_at dksX5_tellsOf_3 0 rfl rfl)
theorem dX5_tellsOf_70 : decode cX5_tellsOf 70 = .ok (.aload_n 0, 1) := dk_42 (dk_at dksX5_tellsOf_3 3 rfl rfl)
theorem dX5_tellsOf_71 : decode cX5_tellsOf 71 = .ok (.getfield 55, 3) := dk_180 0 55 (dk_at dksX5_tellsOf_3 4 rfl rfl)
theorem dX5_tellsOf_74 : decode cX5_tellsOf 74 = .ok (.aaload, 1) := dk_50 (dk_at dksX5_tellsOf_3 7 rfl rfl)
theorem dX5_tellsOf_75 : decode cX5_tellsOf 75 = .ok (.iconst 0, 1) := dk_3 (dk_at dksX5_tellsOf_3 8 rfl rfl)
theorem dX5_tellsOf_76 : decode cX5_tellsOf 76 = .ok (.aload_n 0, 1) := dk_42 (dk_at dksX5_tellsOf_3 9 rfl rfl)
theorem dX5_tellsOf_77 : decode cX5_tellsOf 77 = .ok (.getfield 51, 3) := dk_180 0 51 (dk_at dksX5_tellsOf_3 10 rfl rfl)
theorem dX5_tellsOf_80 : decode cX5_tellsOf 80 = .ok (.iastore, 1) := dk_79 (dk_at dksX5_tellsOf_3 13 rfl rfl)
theorem dX5_tellsOf_81 : decode cX5_tellsOf 81 = .ok (.aload_n 0, 1) := dk_42 (dk_at dksX5_tellsOf_3 14 rfl rfl)
theorem dX5_tellsOf_82 : decode cX5_tellsOf 82 = .ok (.getfield 48, 3) := dk_180 0 48 (dk_at dksX5_tellsOf_3 15 rfl rfl)
theorem dX5_tellsOf_85 : decode cX5_tellsOf 85 = .ok (.aload_n 0, 1) := dk_42 (dk_at dksX5_tellsOf_3 18 rfl rfl)
theorem dX5_tellsOf_86 : decode cX5_tellsOf 86 = .ok (.getfield 55, 3) := dk_180 0 55 (dk_at dksX5_tellsOf_3 19 rfl rfl)
theorem dX5_tellsOf_89 : decode cX5_tellsOf 89 = .ok (.aaload, 1) := dk_50 (dk_at dksX5_tellsOf_3 22 rfl rfl)
theorem dX5_tellsOf_90 : decode cX5_tellsOf 90 = .ok (.iconst 1, 1) := dk_4 (dk_at dksX5_tellsOf_3 23 rfl rfl)
theorem dX5_tellsOf_91 : decode cX5_tellsOf 91 = .ok (.iload_n 1, 1) := dk_27 (dk_at dksX5_tellsOf_4 0 rfl rfl)
theorem dX5_tellsOf_92 : decode cX5_tellsOf 92 = .ok (.iastore, 1) := dk_79 (dk_at dksX5_tellsOf_4 1 rfl rfl)
theorem dX5_tellsOf_93 : decode cX5_tellsOf 93 = .ok (.aload_n 0, 1) := dk_42 (dk_at dksX5_tellsOf_4 2 rfl rfl)
theorem dX5_tellsOf_94 : decode cX5_tellsOf 94 = .ok (.getfield 48, 3) := dk_180 0 48 (dk_at dksX5_tellsOf_4 3 rfl rfl)
theorem dX5_tellsOf_97 : decode cX5_tellsOf 97 = .ok (.aload_n 0, 1) := dk_42 (dk_at dksX5_tellsOf_4 6 rfl rfl)
theorem dX5_tellsOf_98 : decode cX5_tellsOf 98 = .ok (.getfield 55, 3) := dk_180 0 55 (dk_at dksX5_tellsOf_4 7 rfl rfl)
theorem dX5_tellsOf_101 : decode cX5_tellsOf 101 = .ok (.aaload, 1) := dk_50 (dk_at dksX5_tellsOf_4 10 rfl rfl)
theorem dX5_tellsOf_102 : decode cX5_tellsOf 102 = .ok (.iconst 2, 1) := dk_5 (dk_at dksX5_tellsOf_4 11 rfl rfl)
theorem dX5_tellsOf_103 : decode cX5_tellsOf 103 = .ok (.iload_n 2, 1) := dk_28 (dk_at dksX5_tellsOf_4 12 rfl rfl)
theorem dX5_tellsOf_104 : decode cX5_tellsOf 104 = .ok (.iastore, 1) := dk_79 (dk_at dksX5_tellsOf_4 13 rfl rfl)
theorem dX5_tellsOf_105 : decode cX5_tellsOf 105 = .ok (.aload_n 0, 1) := dk_42 (dk_at dksX5_tellsOf_4 14 rfl rfl)
theorem dX5_tellsOf_106 : decode cX5_tellsOf 106 = .ok (.dup, 1) := dk_89 (dk_at dksX5_tellsOf_4 15 rfl rfl)
theorem dX5_tellsOf_107 : decode cX5_tellsOf 107 = .ok (.getfield 55, 3) := dk_180 0 55 (dk_at dksX5_tellsOf_4 16 rfl rfl)
theorem dX5_tellsOf_110 : decode cX5_tellsOf 110 = .ok (.iconst 1, 1) := dk_4 (dk_at dksX5_tellsOf_4 19 rfl rfl)
theorem dX5_tellsOf_111 : decode cX5_tellsOf 111 = .ok (.iadd, 1) := dk_96 (dk_at dksX5_tellsOf_4 20 rfl rfl)
theorem dX5_tellsOf_112 : decode cX5_tellsOf 112 = .ok (.putfield 55, 3) := dk_181 0 55 (dk_at dksX5_tellsOf_4 21 rfl rfl)
theorem dX5_tellsOf_115 : decode cX5_tellsOf 115 = .ok (.return_, 1) := dk_177 (dk_at dksX5_tellsOf_5 0 rfl rfl)
abbrev cX5_mending : ByteArray := prog_19_method_10_code
def yX5_mending : MethodName := ⟨RX5, "mending", "(I)I"⟩
def dkwX5_mending_7 : List UInt8 := [182, 0, 142, 16, 9, 184, 0, 157, 172]
abbrev dktX5_mending_7 : List UInt8 := dkwX5_mending_7 ++ []
def dkwX5_mending_6 : List UInt8 := [180, 0, 43, 27, 46, 133, 80, 42, 180, 0, 3, 180, 0, 92, 180, 0, 154, 42, 180, 0, 3, 180, 0, 102]
abbrev dktX5_mending_6 : List UInt8 := dkwX5_mending_6 ++ dktX5_mending_7
def dkwX5_mending_5 : List UInt8 := [16, 7, 42, 180, 0, 28, 28, 46, 133, 80, 42, 180, 0, 3, 180, 0, 102, 180, 0, 106, 16, 8, 42]
abbrev dktX5_mending_5 : List UInt8 := dkwX5_mending_5 ++ dktX5_mending_6
def dkwX5_mending_4 : List UInt8 := [180, 0, 106, 16, 6, 42, 180, 0, 37, 27, 46, 133, 80, 42, 180, 0, 3, 180, 0, 102, 180, 0, 106]
abbrev dktX5_mending_4 : List UInt8 := dkwX5_mending_4 ++ dktX5_mending_5
def dkwX5_mending_3 : List UInt8 := [180, 0, 3, 180, 0, 102, 180, 0, 106, 7, 42, 180, 0, 51, 133, 80, 42, 180, 0, 3, 180, 0, 102]
abbrev dktX5_mending_3 : List UInt8 := dkwX5_mending_3 ++ dktX5_mending_4
def dkwX5_mending_2 : List UInt8 := [46, 133, 80, 42, 180, 0, 3, 180, 0, 102, 180, 0, 106, 4, 42, 180, 0, 25, 28, 46, 133, 80, 42]
abbrev dktX5_mending_2 : List UInt8 := dkwX5_mending_2 ++ dktX5_mending_3
def dkwX5_mending_1 : List UInt8 := [27, 182, 0, 84, 180, 0, 112, 61, 42, 180, 0, 3, 180, 0, 102, 180, 0, 106, 3, 42, 180, 0, 34, 28]
abbrev dktX5_mending_1 : List UInt8 := dkwX5_mending_1 ++ dktX5_mending_2
def dkwX5_mending_0 : List UInt8 := [42, 180, 0, 3, 180, 0, 92, 180, 0, 154, 199, 0, 10, 42, 180, 0, 37, 27, 46, 172, 42, 180, 0, 3]
abbrev dktX5_mending_0 : List UInt8 := dkwX5_mending_0 ++ dktX5_mending_1
theorem dksX5_mending_0 : cX5_mending.data.toList.drop 0 = dktX5_mending_0 := by decide +kernel
theorem dksX5_mending_1 : cX5_mending.data.toList.drop 24 = dktX5_mending_1 := dk_seg dksX5_mending_0 24 rfl rfl
theorem dksX5_mending_2 : cX5_mending.data.toList.drop 48 = dktX5_mending_2 := dk_seg dksX5_mending_1 24 rfl rfl
theorem dksX5_mending_3 : cX5_mending.data.toList.drop 71 = dktX5_mending_3 := dk_seg dksX5_mending_2 23 rfl rfl
theorem dksX5_mending_4 : cX5_mending.data.toList.drop 94 = dktX5_mending_4 := dk_seg dksX5_mending_3 23 rfl rfl
theorem dksX5_mending_5 : cX5_mending.data.toList.drop 117 = dktX5_mending_5 := dk_seg dksX5_mending_4 23 rfl rfl
theorem dksX5_mending_6 : cX5_mending.data.toList.drop 140 = dktX5_mending_6 := dk_seg dksX5_mending_5 23 rfl rfl
theorem dksX5_mending_7 : cX5_mending.data.toList.drop 164 = dktX5_mending_7 := dk_seg dksX5_mending_6 24 rfl rfl
theorem dX5_mending_0 : decode cX5_mending 0 = .ok (.aload_n 0, 1) := dk_42 (dk_at dksX5_mending_0 0 rfl rfl)
theorem dX5_mending_1 : decode cX5_mending 1 = .ok (.getfield 3, 3) := dk_180 0 3 (dk_at dksX5_mending_0 1 rfl rfl)
theorem dX5_mending_4 : decode cX5_mending 4 = .ok (.getfield 92, 3) := dk_180 0 92 (dk_at dksX5_mending_0 4 rfl rfl)
theorem dX5_mending_7 : decode cX5_mending 7 = .ok (.getfield 154, 3) := dk_180 0 154 (dk_at dksX5_mending_0 7 rfl rfl)
theorem dX5_mending_10 : decode cX5_mending 10 = .ok (.ifnonnull 10, 3) := dk_199 0 10 (dk_at dksX5_mending_0 10 rfl rfl)
theorem dX5_mending_13 : decode cX5_mending 13 = .ok (.aload_n 0, 1) := dk_42 (dk_at dksX5_mending_0 13 rfl rfl)
theorem dX5_mending_14 : decode cX5_mending 14 = .ok (.getfield 37, 3) := dk_180 0 37 (dk_at dksX5_mending_0 14 rfl rfl)
theorem dX5_mending_17 : decode cX5_mending 17 = .ok (.iload_n 1, 1) := dk_27 (dk_at dksX5_mending_0 17 rfl rfl)
theorem dX5_mending_18 : decode cX5_mending 18 = .ok (.iaload, 1) := dk_46 (dk_at dksX5_mending_0 18 rfl rfl)
theorem dX5_mending_19 : decode cX5_mending 19 = .ok (.ireturn, 1) := dk_172 (dk_at dksX5_mending_0 19 rfl rfl)
theorem dX5_mending_20 : decode cX5_mending 20 = .ok (.aload_n 0, 1) := dk_42 (dk_at dksX5_mending_0 20 rfl rfl)
theorem dX5_mending_21 : decode cX5_mending 21 = .ok (.getfield 3, 3) := dk_180 0 3 (dk_at dksX5_mending_0 21 rfl rfl)
theorem dX5_mending_24 : decode cX5_mending 24 = .ok (.iload_n 1, 1) := dk_27 (dk_at dksX5_mending_1 0 rfl rfl)
theorem dX5_mending_25 : decode cX5_mending 25 = .ok (.invokevirtual 84, 3) := dk_182 0 84 (dk_at dksX5_mending_1 1 rfl rfl)
theorem dX5_mending_28 : decode cX5_mending 28 = .ok (.getfield 112, 3) := dk_180 0 112 (dk_at dksX5_mending_1 4 rfl rfl)
theorem dX5_mending_31 : decode cX5_mending 31 = .ok (.istore_n 2, 1) := dk_61 (dk_at dksX5_mending_1 7 rfl rfl)
theorem dX5_mending_32 : decode cX5_mending 32 = .ok (.aload_n 0, 1) := dk_42 (dk_at dksX5_mending_1 8 rfl rfl)
theorem dX5_mending_33 : decode cX5_mending 33 = .ok (.getfield 3, 3) := dk_180 0 3 (dk_at dksX5_mending_1 9 rfl rfl)
theorem dX5_mending_36 : decode cX5_mending 36 = .ok (.getfield 102, 3) := dk_180 0 102 (dk_at dksX5_mending_1 12 rfl rfl)
theorem dX5_mending_39 : decode cX5_mending 39 = .ok (.getfield 106, 3) := dk_180 0 106 (dk_at dksX5_mending_1 15 rfl rfl)
theorem dX5_mending_42 : decode cX5_mending 42 = .ok (.iconst 0, 1) := dk_3 (dk_at dksX5_mending_1 18 rfl rfl)
theorem dX5_mending_43 : decode cX5_mending 43 = .ok (.aload_n 0, 1) := dk_42 (dk_at dksX5_mending_1 19 rfl rfl)
theorem dX5_mending_44 : decode cX5_mending 44 = .ok (.getfield 34, 3) := dk_180 0 34 (dk_at dksX5_mending_1 20 rfl rfl)
theorem dX5_mending_47 : decode cX5_mending 47 = .ok (.iload_n 2, 1) := dk_28 (dk_at dksX5_mending_1 23 rfl rfl)
theorem dX5_mending_48 : decode cX5_mending 48 = .ok (.iaload, 1) := dk_46 (dk_at dksX5_mending_2 0 rfl rfl)
theorem dX5_mending_49 : decode cX5_mending 49 = .ok (.i2l, 1) := dk_133 (dk_at dksX5_mending_2 1 rfl rfl)
theorem dX5_mending_50 : decode cX5_mending 50 = .ok (.lastore, 1) := dk_80 (dk_at dksX5_mending_2 2 rfl rfl)
theorem dX5_mending_51 : decode cX5_mending 51 = .ok (.aload_n 0, 1) := dk_42 (dk_at dksX5_mending_2 3 rfl rfl)
theorem dX5_mending_52 : decode cX5_mending 52 = .ok (.getfield 3, 3) := dk_180 0 3 (dk_at dksX5_mending_2 4 rfl rfl)
theorem dX5_mending_55 : decode cX5_mending 55 = .ok (.getfield 102, 3) := dk_180 0 102 (dk_at dksX5_mending_2 7 rfl rfl)
theorem dX5_mending_58 : decode cX5_mending 58 = .ok (.getfield 106, 3) := dk_180 0 106 (dk_at dksX5_mending_2 10 rfl rfl)
theorem dX5_mending_61 : decode cX5_mending 61 = .ok (.iconst 1, 1) := dk_4 (dk_at dksX5_mending_2 13 rfl rfl)
theorem dX5_mending_62 : decode cX5_mending 62 = .ok (.aload_n 0, 1) := dk_42 (dk_at dksX5_mending_2 14 rfl rfl)
theorem dX5_mending_63 : decode cX5_mending 63 = .ok (.getfield 25, 3) := dk_180 0 25 (dk_at dksX5_mending_2 15 rfl rfl)
theorem dX5_mending_66 : decode cX5_mending 66 = .ok (.iload_n 2, 1) := dk_28 (dk_at dksX5_mending_2 18 rfl rfl)
theorem dX5_mending_67 : decode cX5_mending 67 = .ok (.iaload, 1) := dk_46 (dk_at dksX5_mending_2 19 rfl rfl)
theorem dX5_mending_68 : decode cX5_mending 68 = .ok (.i2l, 1) := dk_133 (dk_at dksX5_mending_2 20 rfl rfl)
theorem dX5_mending_69 : decode cX5_mending 69 = .ok (.lastore, 1) := dk_80 (dk_at dksX5_mending_2 21 rfl rfl)
theorem dX5_mending_70 : decode cX5_mending 70 = .ok (.aload_n 0, 1) := dk_42 (dk_at dksX5_mending_2 22 rfl rfl)
theorem dX5_mending_71 : decode cX5_mending 71 = .ok (.getfield 3, 3) := dk_180 0 3 (dk_at dksX5_mending_3 0 rfl rfl)
theorem dX5_mending_74 : decode cX5_mending 74 = .ok (.getfield 102, 3) := dk_180 0 102 (dk_at dksX5_mending_3 3 rfl rfl)
theorem dX5_mending_77 : decode cX5_mending 77 = .ok (.getfield 106, 3) := dk_180 0 106 (dk_at dksX5_mending_3 6 rfl rfl)
theorem dX5_mending_80 : decode cX5_mending 80 = .ok (.iconst 4, 1) := dk_7 (dk_at dksX5_mending_3 9 rfl rfl)
theorem dX5_mending_81 : decode cX5_mending 81 = .ok (.aload_n 0, 1) := dk_42 (dk_at dksX5_mending_3 10 rfl rfl)
theorem dX5_mending_82 : decode cX5_mending 82 = .ok (.getfield 51, 3) := dk_180 0 51 (dk_at dksX5_mending_3 11 rfl rfl)
theorem dX5_mending_85 : decode cX5_mending 85 = .ok (.i2l, 1) := dk_133 (dk_at dksX5_mending_3 14 rfl rfl)
theorem dX5_mending_86 : decode cX5_mending 86 = .ok (.lastore, 1) := dk_80 (dk_at dksX5_mending_3 15 rfl rfl)
theorem dX5_mending_87 : decode cX5_mending 87 = .ok (.aload_n 0, 1) := dk_42 (dk_at dksX5_mending_3 16 rfl rfl)
theorem dX5_mending_88 : decode cX5_mending 88 = .ok (.getfield 3, 3) := dk_180 0 3 (dk_at dksX5_mending_3 17 rfl rfl)
theorem dX5_mending_91 : decode cX5_mending 91 = .ok (.getfield 102, 3) := dk_180 0 102 (dk_at dksX5_mending_3 20 rfl rfl)
theorem dX5_mending_94 : decode cX5_mending 94 = .ok (.getfield 106, 3) := dk_180 0 106 (dk_at dksX5_mending_4 0 rfl rfl)
theorem dX5_mending_97 : decode cX5_mending 97 = .ok (.bipush 6, 2) := dk_16 6 (dk_at dksX5_mending_4 3 rfl rfl)
theorem dX5_mending_99 : decode cX5_mending 99 = .ok (.aload_n 0, 1) := dk_42 (dk_at dksX5_mending_4 5 rfl rfl)
theorem dX5_mending_100 : decode cX5_mending 100 = .ok (.getfield 37, 3) := dk_180 0 37 (dk_at dksX5_mending_4 6 rfl rfl)
theorem dX5_mending_103 : decode cX5_mending 103 = .ok (.iload_n 1, 1) := dk_27 (dk_at dksX5_mending_4 9 rfl rfl)
theorem dX5_mending_104 : decode cX5_mending 104 = .ok (.iaload, 1) := dk_46 (dk_at dksX5_mending_4 10 rfl rfl)
theorem dX5_mending_105 : decode cX5_mending 105 = .ok (.i2l, 1) := dk_133 (dk_at dksX5_mending_4 11 rfl rfl)
theorem dX5_mending_106 : decode cX5_mending 106 = .ok (.lastore, 1) := dk_80 (dk_at dksX5_mending_4 12 rfl rfl)
theorem dX5_mending_107 : decode cX5_mending 107 = .ok (.aload_n 0, 1) := dk_42 (dk_at dksX5_mending_4 13 rfl rfl)
theorem dX5_mending_108 : decode cX5_mending 108 = .ok (.getfield 3, 3) := dk_180 0 3 (dk_at dksX5_mending_4 14 rfl rfl)
theorem dX5_mending_111 : decode cX5_mending 111 = .ok (.getfield 102, 3) := dk_180 0 102 (dk_at dksX5_mending_4 17 rfl rfl)
theorem dX5_mending_114 : decode cX5_mending 114 = .ok (.getfield 106, 3) := dk_180 0 106 (dk_at dksX5_mending_4 20 rfl rfl)
theorem dX5_mending_117 : decode cX5_mending 117 = .ok (.bipush 7, 2) := dk_16 7 (dk_at dksX5_mending_5 0 rfl rfl)
theorem dX5_mending_119 : decode cX5_mending 119 = .ok (.aload_n 0, 1) := dk_42 (dk_at dksX5_mending_5 2 rfl rfl)
theorem dX5_mending_120 : decode cX5_mending 120 = .ok (.getfield 28, 3) := dk_180 0 28 (dk_at dksX5_mending_5 3 rfl rfl)
theorem dX5_mending_123 : decode cX5_mending 123 = .ok (.iload_n 2, 1) := dk_28 (dk_at dksX5_mending_5 6 rfl rfl)
theorem dX5_mending_124 : decode cX5_mending 124 = .ok (.iaload, 1) := dk_46 (dk_at dksX5_mending_5 7 rfl rfl)
theorem dX5_mending_125 : decode cX5_mending 125 = .ok (.i2l, 1) := dk_133 (dk_at dksX5_mending_5 8 rfl rfl)
theorem dX5_mending_126 : decode cX5_mending 126 = .ok (.lastore, 1) := dk_80 (dk_at dksX5_mending_5 9 rfl rfl)
theorem dX5_mending_127 : decode cX5_mending 127 = .ok (.aload_n 0, 1) := dk_42 (dk_at dksX5_mending_5 10 rfl rfl)
theorem dX5_mending_128 : decode cX5_mending 128 = .ok (.getfield 3, 3) := dk_180 0 3 (dk_at dksX5_mending_5 11 rfl rfl)
theorem dX5_mending_131 : decode cX5_mending 131 = .ok (.getfield 102, 3) := dk_180 0 102 (dk_at dksX5_mending_5 14 rfl rfl)
theorem dX5_mending_134 : decode cX5_mending 134 = .ok (.getfield 106, 3) := dk_180 0 106 (dk_at dksX5_mending_5 17 rfl rfl)
theorem dX5_mending_137 : decode cX5_mending 137 = .ok (.bipush 8, 2) := dk_16 8 (dk_at dksX5_mending_5 20 rfl rfl)
theorem dX5_mending_139 : decode cX5_mending 139 = .ok (.aload_n 0, 1) := dk_42 (dk_at dksX5_mending_5 22 rfl rfl)
theorem dX5_mending_140 : decode cX5_mending 140 = .ok (.getfield 43, 3) := dk_180 0 43 (dk_at dksX5_mending_6 0 rfl rfl)
theorem dX5_mending_143 : decode cX5_mending 143 = .ok (.iload_n 1, 1) := dk_27 (dk_at dksX5_mending_6 3 rfl rfl)
theorem dX5_mending_144 : decode cX5_mending 144 = .ok (.iaload, 1) := dk_46 (dk_at dksX5_mending_6 4 rfl rfl)
theorem dX5_mending_145 : decode cX5_mending 145 = .ok (.i2l, 1) := dk_133 (dk_at dksX5_mending_6 5 rfl rfl)
theorem dX5_mending_146 : decode cX5_mending 146 = .ok (.lastore, 1) := dk_80 (dk_at dksX5_mending_6 6 rfl rfl)
theorem dX5_mending_147 : decode cX5_mending 147 = .ok (.aload_n 0, 1) := dk_42 (dk_at dksX5_mending_6 7 rfl rfl)
theorem dX5_mending_148 : decode cX5_mending 148 = .ok (.getfield 3, 3) := dk_180 0 3 (dk_at dksX5_mending_6 8 rfl rfl)
theorem dX5_mending_151 : decode cX5_mending 151 = .ok (.getfield 92, 3) := dk_180 0 92 (dk_at dksX5_mending_6 11 rfl rfl)
theorem dX5_mending_154 : decode cX5_mending 154 = .ok (.getfield 154, 3) := dk_180 0 154 (dk_at dksX5_mending_6 14 rfl rfl)
theorem dX5_mending_157 : decode cX5_mending 157 = .ok (.aload_n 0, 1) := dk_42 (dk_at dksX5_mending_6 17 rfl rfl)
theorem dX5_mending_158 : decode cX5_mending 158 = .ok (.getfield 3, 3) := dk_180 0 3 (dk_at dksX5_mending_6 18 rfl rfl)
theorem dX5_mending_161 : decode cX5_mending 161 = .ok (.getfield 102, 3) := dk_180 0 102 (dk_at dksX5_mending_6 21 rfl rfl)
theorem dX5_mending_164 : decode cX5_mending 164 = .ok (.invokevirtual 142, 3) := dk_182 0 142 (dk_at dksX5_mending_7 0 rfl rfl)
theorem dX5_mending_167 : decode cX5_mending 167 = .ok (.bipush 9, 2) := dk_16 9 (dk_at dksX5_mending_7 3 rfl rfl)
theorem dX5_mending_169 : decode cX5_mending 169 = .ok (.invokestatic 157, 3) := dk_184 0 157 (dk_at dksX5_mending_7 5 rfl rfl)
theorem dX5_mending_172 : decode cX5_mending 172 = .ok (.ireturn, 1) := dk_172 (dk_at dksX5_mending_7 8 rfl rfl)
abbrev cX5_starving : ByteArray := prog_19_method_11_code
def yX5_starving : MethodName := ⟨RX5, "starving", "(I)I"⟩
def dkwX5_starving_5 : List UInt8 := [180, 0, 161, 42, 180, 0, 3, 180, 0, 102, 182, 0, 142, 16, 99, 184, 0, 157, 172]
abbrev dktX5_starving_5 : List UInt8 := dkwX5_starving_5 ++ []
def dkwX5_starving_4 : List UInt8 := [180, 0, 102, 180, 0, 106, 16, 7, 42, 180, 0, 28, 27, 46, 133, 80, 42, 180, 0, 3, 180, 0, 92]
abbrev dktX5_starving_4 : List UInt8 := dkwX5_starving_4 ++ dktX5_starving_5
def dkwX5_starving_3 : List UInt8 := [46, 133, 80, 42, 180, 0, 3, 180, 0, 102, 180, 0, 106, 7, 42, 180, 0, 51, 133, 80, 42, 180, 0, 3]
abbrev dktX5_starving_3 : List UInt8 := dkwX5_starving_3 ++ dktX5_starving_4
def dkwX5_starving_2 : List UInt8 := [42, 180, 0, 34, 27, 46, 133, 80, 42, 180, 0, 3, 180, 0, 102, 180, 0, 106, 4, 42, 180, 0, 25, 27]
abbrev dktX5_starving_2 : List UInt8 := dkwX5_starving_2 ++ dktX5_starving_3
def dkwX5_starving_1 : List UInt8 := [180, 0, 28, 27, 46, 100, 133, 16, 99, 184, 0, 157, 172, 42, 180, 0, 3, 180, 0, 102, 180, 0, 106, 3]
abbrev dktX5_starving_1 : List UInt8 := dkwX5_starving_1 ++ dktX5_starving_2
def dkwX5_starving_0 : List UInt8 := [42, 180, 0, 3, 180, 0, 92, 180, 0, 161, 199, 0, 26, 42, 180, 0, 25, 27, 46, 16, 9, 96, 42]
abbrev dktX5_starving_0 : List UInt8 := dkwX5_starving_0 ++ dktX5_starving_1
theorem dksX5_starving_0 : cX5_starving.data.toList.drop 0 = dktX5_starving_0 := by decide +kernel
theorem dksX5_starving_1 : cX5_starving.data.toList.drop 23 = dktX5_starving_1 := dk_seg dksX5_starving_0 23 rfl rfl
theorem dksX5_starving_2 : cX5_starving.data.toList.drop 47 = dktX5_starving_2 := dk_seg dksX5_starving_1 24 rfl rfl
theorem dksX5_starving_3 : cX5_starving.data.toList.drop 71 = dktX5_starving_3 := dk_seg dksX5_starving_2 24 rfl rfl
theorem dksX5_starving_4 : cX5_starving.data.toList.drop 95 = dktX5_starving_4 := dk_seg dksX5_starving_3 24 rfl rfl
theorem dksX5_starving_5 : cX5_starving.data.toList.drop 118 = dktX5_starving_5 := dk_seg dksX5_starving_4 23 rfl rfl
theorem dX5_starving_0 : decode cX5_starving 0 = .ok (.aload_n 0, 1) := dk_42 (dk_at dksX5_starving_0 0 rfl rfl)
theorem dX5_starving_1 : decode cX5_starving 1 = .ok (.getfield 3, 3) := dk_180 0 3 (dk_at dksX5_starving_0 1 rfl rfl)
theorem dX5_starving_4 : decode cX5_starving 4 = .ok (.getfield 92, 3) := dk_180 0 92 (dk_at dksX5_starving_0 4 rfl rfl)
theorem dX5_starving_7 : decode cX5_starving 7 = .ok (.getfield 161, 3) := dk_180 0 161 (dk_at dksX5_starving_0 7 rfl rfl)
theorem dX5_starving_10 : decode cX5_starving 10 = .ok (.ifnonnull 26, 3) := dk_199 0 26 (dk_at dksX5_starving_0 10 rfl rfl)
theorem dX5_starving_13 : decode cX5_starving 13 = .ok (.aload_n 0, 1) := dk_42 (dk_at dksX5_starving_0 13 rfl rfl)
theorem dX5_starving_14 : decode cX5_starving 14 = .ok (.getfield 25, 3) := dk_180 0 25 (dk_at dksX5_starving_0 14 rfl rfl)
theorem dX5_starving_17 : decode cX5_starving 17 = .ok (.iload_n 1, 1) := dk_27 (dk_at dksX5_starving_0 17 rfl rfl)
theorem dX5_starving_18 : decode cX5_starving 18 = .ok (.iaload, 1) := dk_46 (dk_at dksX5_starving_0 18 rfl rfl)
theorem dX5_starving_19 : decode cX5_starving 19 = .ok (.bipush 9, 2) := dk_16 9 (dk_at dksX5_starving_0 19 rfl rfl)
theorem dX5_starving_21 : decode cX5_starving 21 = .ok (.iadd, 1) := dk_96 (dk_at dksX5_starving_0 21 rfl rfl)
theorem dX5_starving_22 : decode cX5_starving 22 = .ok (.aload_n 0, 1) := dk_42 (dk_at dksX5_starving_0 22 rfl rfl)
theorem dX5_starving_23 : decode cX5_starving 23 = .ok (.getfield 28, 3) := dk_180 0 28 (dk_at dksX5_starving_1 0 rfl rfl)
theorem dX5_starving_26 : decode cX5_starving 26 = .ok (.iload_n 1, 1) := dk_27 (dk_at dksX5_starving_1 3 rfl rfl)
theorem dX5_starving_27 : decode cX5_starving 27 = .ok (.iaload, 1) := dk_46 (dk_at dksX5_starving_1 4 rfl rfl)
theorem dX5_starving_28 : decode cX5_starving 28 = .ok (.isub, 1) := dk_100 (dk_at dksX5_starving_1 5 rfl rfl)
theorem dX5_starving_29 : decode cX5_starving 29 = .ok (.i2l, 1) := dk_133 (dk_at dksX5_starving_1 6 rfl rfl)
theorem dX5_starving_30 : decode cX5_starving 30 = .ok (.bipush 99, 2) := dk_16 99 (dk_at dksX5_starving_1 7 rfl rfl)
theorem dX5_starving_32 : decode cX5_starving 32 = .ok (.invokestatic 157, 3) := dk_184 0 157 (dk_at dksX5_starving_1 9 rfl rfl)
theorem dX5_starving_35 : decode cX5_starving 35 = .ok (.ireturn, 1) := dk_172 (dk_at dksX5_starving_1 12 rfl rfl)
theorem dX5_starving_36 : decode cX5_starving 36 = .ok (.aload_n 0, 1) := dk_42 (dk_at dksX5_starving_1 13 rfl rfl)
theorem dX5_starving_37 : decode cX5_starving 37 = .ok (.getfield 3, 3) := dk_180 0 3 (dk_at dksX5_starving_1 14 rfl rfl)
theorem dX5_starving_40 : decode cX5_starving 40 = .ok (.getfield 102, 3) := dk_180 0 102 (dk_at dksX5_starving_1 17 rfl rfl)
theorem dX5_starving_43 : decode cX5_starving 43 = .ok (.getfield 106, 3) := dk_180 0 106 (dk_at dksX5_starving_1 20 rfl rfl)
theorem dX5_starving_46 : decode cX5_starving 46 = .ok (.iconst 0, 1) := dk_3 (dk_at dksX5_starving_1 23 rfl rfl)
theorem dX5_starving_47 : decode cX5_starving 47 = .ok (.aload_n 0, 1) := dk_42 (dk_at dksX5_starving_2 0 rfl rfl)
theorem dX5_starving_48 : decode cX5_starving 48 = .ok (.getfield 34, 3) := dk_180 0 34 (dk_at dksX5_starving_2 1 rfl rfl)
theorem dX5_starving_51 : decode cX5_starving 51 = .ok (.iload_n 1, 1) := dk_27 (dk_at dksX5_starving_2 4 rfl rfl)
theorem dX5_starving_52 : decode cX5_starving 52 = .ok (.iaload, 1) := dk_46 (dk_at dksX5_starving_2 5 rfl rfl)
theorem dX5_starving_53 : decode cX5_starving 53 = .ok (.i2l, 1) := dk_133 (dk_at dksX5_starving_2 6 rfl rfl)
theorem dX5_starving_54 : decode cX5_starving 54 = .ok (.lastore, 1) := dk_80 (dk_at dksX5_starving_2 7 rfl rfl)
theorem dX5_starving_55 : decode cX5_starving 55 = .ok (.aload_n 0, 1) := dk_42 (dk_at dksX5_starving_2 8 rfl rfl)
theorem dX5_starving_56 : decode cX5_starving 56 = .ok (.getfield 3, 3) := dk_180 0 3 (dk_at dksX5_starving_2 9 rfl rfl)
theorem dX5_starving_59 : decode cX5_starving 59 = .ok (.getfield 102, 3) := dk_180 0 102 (dk_at dksX5_starving_2 12 rfl rfl)
theorem dX5_starving_62 : decode cX5_starving 62 = .ok (.getfield 106, 3) := dk_180 0 106 (dk_at dksX5_starving_2 15 rfl rfl)
theorem dX5_starving_65 : decode cX5_starving 65 = .ok (.iconst 1, 1) := dk_4 (dk_at dksX5_starving_2 18 rfl rfl)
theorem dX5_starving_66 : decode cX5_starving 66 = .ok (.aload_n 0, 1) := dk_42 (dk_at dksX5_starving_2 19 rfl rfl)
theorem dX5_starving_67 : decode cX5_starving 67 = .ok (.getfield 25, 3) := dk_180 0 25 (dk_at dksX5_starving_2 20 rfl rfl)
theorem dX5_starving_70 : decode cX5_starving 70 = .ok (.iload_n 1, 1) := dk_27 (dk_at dksX5_starving_2 23 rfl rfl)
theorem dX5_starving_71 : decode cX5_starving 71 = .ok (.iaload, 1) := dk_46 (dk_at dksX5_starving_3 0 rfl rfl)
theorem dX5_starving_72 : decode cX5_starving 72 = .ok (.i2l, 1) := dk_133 (dk_at dksX5_starving_3 1 rfl rfl)
theorem dX5_starving_73 : decode cX5_starving 73 = .ok (.lastore, 1) := dk_80 (dk_at dksX5_starving_3 2 rfl rfl)
theorem dX5_starving_74 : decode cX5_starving 74 = .ok (.aload_n 0, 1) := dk_42 (dk_at dksX5_starving_3 3 rfl rfl)
theorem dX5_starving_75 : decode cX5_starving 75 = .ok (.getfield 3, 3) := dk_180 0 3 (dk_at dksX5_starving_3 4 rfl rfl)
theorem dX5_starving_78 : decode cX5_starving 78 = .ok (.getfield 102, 3) := dk_180 0 102 (dk_at dksX5_starving_3 7 rfl rfl)
theorem dX5_starving_81 : decode cX5_starving 81 = .ok (.getfield 106, 3) := dk_180 0 106 (dk_at dksX5_starving_3 10 rfl rfl)
theorem dX5_starving_84 : decode cX5_starving 84 = .ok (.iconst 4, 1) := dk_7 (dk_at dksX5_starving_3 13 rfl rfl)
theorem dX5_starving_85 : decode cX5_starving 85 = .ok (.aload_n 0, 1) := dk_42 (dk_at dksX5_starving_3 14 rfl rfl)
theorem dX5_starving_86 : decode cX5_starving 86 = .ok (.getfield 51, 3) := dk_180 0 51 (dk_at dksX5_starving_3 15 rfl rfl)
theorem dX5_starving_89 : decode cX5_starving 89 = .ok (.i2l, 1) := dk_133 (dk_at dksX5_starving_3 18 rfl rfl)
theorem dX5_starving_90 : decode cX5_starving 90 = .ok (.lastore, 1) := dk_80 (dk_at dksX5_starving_3 19 rfl rfl)
theorem dX5_starving_91 : decode cX5_starving 91 = .ok (.aload_n 0, 1) := dk_42 (dk_at dksX5_starving_3 20 rfl rfl)
theorem dX5_starving_92 : decode cX5_starving 92 = .ok (.getfield 3, 3) := dk_180 0 3 (dk_at dksX5_starving_3 21 rfl rfl)
theorem dX5_starving_95 : decode cX5_starving 95 = .ok (.getfield 102, 3) := dk_180 0 102 (dk_at dksX5_starving_4 0 rfl rfl)
theorem dX5_starving_98 : decode cX5_starving 98 = .ok (.getfield 106, 3) := dk_180 0 106 (dk_at dksX5_starving_4 3 rfl rfl)
theorem dX5_starving_101 : decode cX5_starving 101 = .ok (.bipush 7, 2) := dk_16 7 (dk_at dksX5_starving_4 6 rfl rfl)
theorem dX5_starving_103 : decode cX5_starving 103 = .ok (.aload_n 0, 1) := dk_42 (dk_at dksX5_starving_4 8 rfl rfl)
theorem dX5_starving_104 : decode cX5_starving 104 = .ok (.getfield 28, 3) := dk_180 0 28 (dk_at dksX5_starving_4 9 rfl rfl)
theorem dX5_starving_107 : decode cX5_starving 107 = .ok (.iload_n 1, 1) := dk_27 (dk_at dksX5_starving_4 12 rfl rfl)
theorem dX5_starving_108 : decode cX5_starving 108 = .ok (.iaload, 1) := dk_46 (dk_at dksX5_starving_4 13 rfl rfl)
theorem dX5_starving_109 : decode cX5_starving 109 = .ok (.i2l, 1) := dk_133 (dk_at dksX5_starving_4 14 rfl rfl)
theorem dX5_starving_110 : decode cX5_starving 110 = .ok (.lastore, 1) := dk_80 (dk_at dksX5_starving_4 15 rfl rfl)
theorem dX5_starving_111 : decode cX5_starving 111 = .ok (.aload_n 0, 1) := dk_42 (dk_at dksX5_starving_4 16 rfl rfl)
theorem dX5_starving_112 : decode cX5_starving 112 = .ok (.getfield 3, 3) := dk_180 0 3 (dk_at dksX5_starving_4 17 rfl rfl)
theorem dX5_starving_115 : decode cX5_starving 115 = .ok (.getfield 92, 3) := dk_180 0 92 (dk_at dksX5_starving_4 20 rfl rfl)
theorem dX5_starving_118 : decode cX5_starving 118 = .ok (.getfield 161, 3) := dk_180 0 161 (dk_at dksX5_starving_5 0 rfl rfl)
theorem dX5_starving_121 : decode cX5_starving 121 = .ok (.aload_n 0, 1) := dk_42 (dk_at dksX5_starving_5 3 rfl rfl)
theorem dX5_starving_122 : decode cX5_starving 122 = .ok (.getfield 3, 3) := dk_180 0 3 (dk_at dksX5_starving_5 4 rfl rfl)
theorem dX5_starving_125 : decode cX5_starving 125 = .ok (.getfield 102, 3) := dk_180 0 102 (dk_at dksX5_starving_5 7 rfl rfl)
theorem dX5_starving_128 : decode cX5_starving 128 = .ok (.invokevirtual 142, 3) := dk_182 0 142 (dk_at dksX5_starving_5 10 rfl rfl)
theorem dX5_starving_131 : decode cX5_starving 131 = .ok (.bipush 99, 2) := dk_16 99 (dk_at dksX5_starving_5 13 rfl rfl)
theorem dX5_starving_133 : decode cX5_starving 133 = .ok (.invokestatic 157, 3) := dk_184 0 157 (dk_at dksX5_starving_5 15 rfl rfl)
theorem dX5_starving_136 : decode cX5_starving 136 = .ok (.ireturn, 1) := dk_172 (dk_at dksX5_starving_5 18 rfl rfl)
theorem q168 : (Jvm.Cond.initialized "MarriageHerring$State") ∈ lw_all := lw_g (lw_at lw_m1 12 rfl) rfl
theorem q253 : (Jvm.Cond.fieldLinkNest "MarriageHerring$State" (129 : Nat) "MarriageHerring$Coast" "lures" "LMarriageHerring$Value;" "MarriageHerring") ∈ lw_tbl := lw_at lw_m1 97 rfl
theorem q255 : (Jvm.Cond.fieldLinkNest "MarriageHerring$State" (154 : Nat) "MarriageHerring$Coast" "mends" "LMarriageHerring$Value;" "MarriageHerring") ∈ lw_tbl := lw_at lw_m1 99 rfl
theorem q257 : (Jvm.Cond.fieldLinkNest "MarriageHerring$State" (161 : Nat) "MarriageHerring$Coast" "starves" "LMarriageHerring$Value;" "MarriageHerring") ∈ lw_tbl := lw_at lw_m1 101 rfl
theorem q259 : (Jvm.Cond.fieldLinkNest "MarriageHerring$State" (96 : Nat) "MarriageHerring$Coast" "counts" "LMarriageHerring$Test;" "MarriageHerring") ∈ lw_tbl := lw_at lw_m1 103 rfl
theorem q392 : (Jvm.Cond.fieldLinkNest "MarriageHerring$State" (106 : Nat) "MarriageHerring$Moment" "of" "[J" "MarriageHerring") ∈ lw_tbl := lw_at lw_m1 236 rfl
theorem q399 : (Jvm.Cond.instantiable "MarriageHerring$State" (14 : Nat)) ∈ lw_all := lw_g (lw_at lw_m2 3 rfl) rfl
theorem q401 : (Jvm.Cond.instanceMethod ({ cls := "MarriageHerring$State", name := "<init>", desc := "(LMarriageHerring;)V" } : Jvm.MethodName)) ∈ lw_all := lw_g (lw_at lw_m2 5 rfl) rfl
theorem q402 : (Jvm.Cond.code ({ cls := "MarriageHerring$State", name := "<init>", desc := "(LMarriageHerring;)V" } : Jvm.MethodName) prog_19_method_1_code (2 : Nat) (Option.none : Option Jvm.ClassFile.FieldType)) ∈ lw_all := lw_g (lw_at lw_m2 6 rfl) rfl
theorem q403 : (Jvm.Cond.methodLink "MarriageHerring$State" (9 : Nat) ({ cls := "java/lang/Object", name := "<init>", desc := "()V" } : Jvm.MethodName)) ∈ lw_all := lw_g (lw_at lw_m2 7 rfl) rfl
theorem q404 : (Jvm.Cond.classLink "MarriageHerring$State" (46 : Nat) "[[I") ∈ lw_all := lw_g (lw_at lw_m2 8 rfl) rfl
theorem q406 : (Jvm.Cond.fieldLink "MarriageHerring$State" (51 : Nat) "MarriageHerring$State" "year" "I") ∈ lw_all := lw_g (lw_at lw_m2 10 rfl) rfl
theorem q408 : (Jvm.Cond.fieldLink "MarriageHerring$State" (55 : Nat) "MarriageHerring$State" "keeps" "I") ∈ lw_all := lw_g (lw_at lw_m2 12 rfl) rfl
theorem q410 : (Jvm.Cond.fieldLink "MarriageHerring$State" (15 : Nat) "MarriageHerring$State" "mile" "[I") ∈ lw_all := lw_g (lw_at lw_m2 14 rfl) rfl
theorem q412 : (Jvm.Cond.fieldLink "MarriageHerring$State" (19 : Nat) "MarriageHerring$State" "at" "[I") ∈ lw_all := lw_g (lw_at lw_m2 16 rfl) rfl
theorem q414 : (Jvm.Cond.fieldLink "MarriageHerring$State" (22 : Nat) "MarriageHerring$State" "to" "[I") ∈ lw_all := lw_g (lw_at lw_m2 18 rfl) rfl
theorem q415 : (Jvm.Cond.fieldLink "MarriageHerring$State" (25 : Nat) "MarriageHerring$State" "hunger" "[I") ∈ lw_all := lw_g (lw_at lw_m2 19 rfl) rfl
theorem q417 : (Jvm.Cond.fieldLink "MarriageHerring$State" (28 : Nat) "MarriageHerring$State" "took" "[I") ∈ lw_all := lw_g (lw_at lw_m2 21 rfl) rfl
theorem q419 : (Jvm.Cond.fieldLink "MarriageHerring$State" (31 : Nat) "MarriageHerring$State" "before" "[I") ∈ lw_all := lw_g (lw_at lw_m2 23 rfl) rfl
theorem q421 : (Jvm.Cond.fieldLink "MarriageHerring$State" (34 : Nat) "MarriageHerring$State" "vowed" "[I") ∈ lw_all := lw_g (lw_at lw_m2 25 rfl) rfl
theorem q422 : (Jvm.Cond.fieldLink "MarriageHerring$State" (37 : Nat) "MarriageHerring$State" "by" "[I") ∈ lw_all := lw_g (lw_at lw_m2 26 rfl) rfl
theorem q424 : (Jvm.Cond.fieldLink "MarriageHerring$State" (40 : Nat) "MarriageHerring$State" "next" "[I") ∈ lw_all := lw_g (lw_at lw_m2 28 rfl) rfl
theorem q425 : (Jvm.Cond.fieldLink "MarriageHerring$State" (43 : Nat) "MarriageHerring$State" "since" "[I") ∈ lw_all := lw_g (lw_at lw_m2 29 rfl) rfl
theorem q427 : (Jvm.Cond.fieldLink "MarriageHerring$State" (48 : Nat) "MarriageHerring$State" "rows" "[[I") ∈ lw_all := lw_g (lw_at lw_m2 31 rfl) rfl
theorem q429 : (Jvm.Cond.fieldLink "MarriageHerring$State" (3 : Nat) "MarriageHerring$State" "this$0" "LMarriageHerring;") ∈ lw_all := lw_g (lw_at lw_m2 33 rfl) rfl
theorem q430 : (Jvm.Cond.lays "MarriageHerring$State" "MarriageHerring$State" "year" "I") ∈ lw_all := lw_g (lw_at lw_m2 34 rfl) rfl
theorem q431 : (Jvm.Cond.soleField "MarriageHerring$State" "year") ∈ lw_all := lw_g (lw_at lw_m2 35 rfl) rfl
theorem q432 : (Jvm.Cond.lays "MarriageHerring$State" "MarriageHerring$State" "keeps" "I") ∈ lw_all := lw_g (lw_at lw_m2 36 rfl) rfl
theorem q433 : (Jvm.Cond.soleField "MarriageHerring$State" "keeps") ∈ lw_all := lw_g (lw_at lw_m2 37 rfl) rfl
theorem q434 : (Jvm.Cond.laysFinal "MarriageHerring$State" "MarriageHerring$State" "mile" "[I") ∈ lw_all := lw_g (lw_at lw_m2 38 rfl) rfl
theorem q435 : (Jvm.Cond.soleField "MarriageHerring$State" "mile") ∈ lw_all := lw_g (lw_at lw_m2 39 rfl) rfl
theorem q436 : (Jvm.Cond.laysFinal "MarriageHerring$State" "MarriageHerring$State" "at" "[I") ∈ lw_all := lw_g (lw_at lw_m2 40 rfl) rfl
theorem q437 : (Jvm.Cond.soleField "MarriageHerring$State" "at") ∈ lw_all := lw_g (lw_at lw_m2 41 rfl) rfl
theorem q438 : (Jvm.Cond.laysFinal "MarriageHerring$State" "MarriageHerring$State" "to" "[I") ∈ lw_all := lw_g (lw_at lw_m2 42 rfl) rfl
theorem q439 : (Jvm.Cond.soleField "MarriageHerring$State" "to") ∈ lw_all := lw_g (lw_at lw_m2 43 rfl) rfl
theorem q440 : (Jvm.Cond.laysFinal "MarriageHerring$State" "MarriageHerring$State" "hunger" "[I") ∈ lw_all := lw_g (lw_at lw_m2 44 rfl) rfl
theorem q441 : (Jvm.Cond.soleField "MarriageHerring$State" "hunger") ∈ lw_all := lw_g (lw_at lw_m2 45 rfl) rfl
theorem q442 : (Jvm.Cond.laysFinal "MarriageHerring$State" "MarriageHerring$State" "took" "[I") ∈ lw_all := lw_g (lw_at lw_m2 46 rfl) rfl
theorem q443 : (Jvm.Cond.soleField "MarriageHerring$State" "took") ∈ lw_all := lw_g (lw_at lw_m2 47 rfl) rfl
theorem q444 : (Jvm.Cond.laysFinal "MarriageHerring$State" "MarriageHerring$State" "before" "[I") ∈ lw_all := lw_g (lw_at lw_m2 48 rfl) rfl
theorem q445 : (Jvm.Cond.soleField "MarriageHerring$State" "before") ∈ lw_all := lw_g (lw_at lw_m2 49 rfl) rfl
theorem q446 : (Jvm.Cond.laysFinal "MarriageHerring$State" "MarriageHerring$State" "vowed" "[I") ∈ lw_all := lw_g (lw_at lw_m2 50 rfl) rfl
theorem q447 : (Jvm.Cond.soleField "MarriageHerring$State" "vowed") ∈ lw_all := lw_g (lw_at lw_m2 51 rfl) rfl
theorem q448 : (Jvm.Cond.laysFinal "MarriageHerring$State" "MarriageHerring$State" "by" "[I") ∈ lw_all := lw_g (lw_at lw_m2 52 rfl) rfl
theorem q449 : (Jvm.Cond.soleField "MarriageHerring$State" "by") ∈ lw_all := lw_g (lw_at lw_m2 53 rfl) rfl
theorem q450 : (Jvm.Cond.laysFinal "MarriageHerring$State" "MarriageHerring$State" "next" "[I") ∈ lw_all := lw_g (lw_at lw_m2 54 rfl) rfl
theorem q451 : (Jvm.Cond.soleField "MarriageHerring$State" "next") ∈ lw_all := lw_g (lw_at lw_m2 55 rfl) rfl
theorem q452 : (Jvm.Cond.laysFinal "MarriageHerring$State" "MarriageHerring$State" "since" "[I") ∈ lw_all := lw_g (lw_at lw_m2 56 rfl) rfl
theorem q453 : (Jvm.Cond.soleField "MarriageHerring$State" "since") ∈ lw_all := lw_g (lw_at lw_m2 57 rfl) rfl
theorem q454 : (Jvm.Cond.laysFinal "MarriageHerring$State" "MarriageHerring$State" "rows" "[[I") ∈ lw_all := lw_g (lw_at lw_m2 58 rfl) rfl
theorem q455 : (Jvm.Cond.soleField "MarriageHerring$State" "rows") ∈ lw_all := lw_g (lw_at lw_m2 59 rfl) rfl
theorem q456 : (Jvm.Cond.laysFinal "MarriageHerring$State" "MarriageHerring$State" "this$0" "LMarriageHerring;") ∈ lw_all := lw_g (lw_at lw_m2 60 rfl) rfl
theorem q457 : (Jvm.Cond.soleField "MarriageHerring$State" "this$0") ∈ lw_all := lw_g (lw_at lw_m2 61 rfl) rfl
theorem q458 : (Jvm.Cond.superclass "MarriageHerring$State" "java/lang/Object") ∈ lw_all := lw_g (lw_at lw_m2 62 rfl) rfl
theorem q464 : (Jvm.Cond.fieldLinkNest "MarriageHerring$State" (92 : Nat) "MarriageHerring" "coast" "LMarriageHerring$Coast;" "MarriageHerring") ∈ lw_tbl := lw_at lw_m2 68 rfl
theorem q472 : (Jvm.Cond.fieldLinkNest "MarriageHerring$State" (102 : Nat) "MarriageHerring" "moment" "LMarriageHerring$Moment;" "MarriageHerring") ∈ lw_tbl := lw_at lw_m2 76 rfl
theorem q834 : (Jvm.Cond.fieldLinkNest "MarriageHerring$State" (133 : Nat) "MarriageHerring$Bay" "mile" "I" "MarriageHerring") ∈ lw_tbl := lw_at lw_m3 198 rfl
theorem q837 : (Jvm.Cond.fieldLinkNest "MarriageHerring$State" (77 : Nat) "MarriageHerring$Bay" "hunger" "I" "MarriageHerring") ∈ lw_tbl := lw_at lw_m3 201 rfl
theorem q902 : (Jvm.Cond.selects "MarriageHerring$State" ({ cls := "java/lang/Object", name := "getClass", desc := "()Ljava/lang/Class;" } : Jvm.MethodName) ({ cls := "java/lang/Object", name := "getClass", desc := "()Ljava/lang/Class;" } : Jvm.MethodName)) ∈ lw_all := lw_g (lw_at lw_m4 26 rfl) rfl
theorem q936 : (Jvm.Cond.fieldLinkNest "MarriageHerring$State" (112 : Nat) "MarriageHerring$Couple" "bay" "I" "MarriageHerring") ∈ lw_tbl := lw_at lw_m4 60 rfl
theorem q939 : (Jvm.Cond.fieldLinkNest "MarriageHerring$State" (88 : Nat) "MarriageHerring$Couple" "by" "I" "MarriageHerring") ∈ lw_tbl := lw_at lw_m4 63 rfl
theorem q958 : (Jvm.Cond.fieldLinkNest "MarriageHerring$State" (66 : Nat) "MarriageHerring$Herring" "mile" "I" "MarriageHerring") ∈ lw_tbl := lw_at lw_m4 82 rfl
theorem q960 : (Jvm.Cond.fieldLinkNest "MarriageHerring$State" (139 : Nat) "MarriageHerring$Herring" "size" "I" "MarriageHerring") ∈ lw_tbl := lw_at lw_m4 84 rfl
theorem q1248 : (Jvm.Cond.instanceMethod ({ cls := "MarriageHerring$State", name := "begins", desc := "()V" } : Jvm.MethodName)) ∈ lw_all := lw_g (lw_at lw_m5 132 rfl) rfl
theorem q1249 : (Jvm.Cond.selects "MarriageHerring$State" ({ cls := "MarriageHerring$State", name := "begins", desc := "()V" } : Jvm.MethodName) ({ cls := "MarriageHerring$State", name := "begins", desc := "()V" } : Jvm.MethodName)) ∈ lw_all := lw_g (lw_at lw_m5 133 rfl) rfl
theorem q1250 : (Jvm.Cond.code ({ cls := "MarriageHerring$State", name := "begins", desc := "()V" } : Jvm.MethodName) prog_19_method_2_code (2 : Nat) (Option.none : Option Jvm.ClassFile.FieldType)) ∈ lw_all := lw_g (lw_at lw_m5 134 rfl) rfl
theorem q1251 : (Jvm.Cond.methodLinkNest "MarriageHerring$State" (58 : Nat) ({ cls := "MarriageHerring", name := "shoals", desc := "()I" } : Jvm.MethodName) "MarriageHerring") ∈ lw_tbl := lw_at lw_m5 135 rfl
theorem q1257 : (Jvm.Cond.methodLinkNest "MarriageHerring$State" (62 : Nat) ({ cls := "MarriageHerring", name := "shoalOf", desc := "(I)LMarriageHerring$Herring;" } : Jvm.MethodName) "MarriageHerring") ∈ lw_tbl := lw_at lw_m5 141 rfl
theorem q1264 : (Jvm.Cond.methodLinkNest "MarriageHerring$State" (70 : Nat) ({ cls := "MarriageHerring", name := "bays", desc := "()I" } : Jvm.MethodName) "MarriageHerring") ∈ lw_tbl := lw_at lw_m5 148 rfl
theorem q1268 : (Jvm.Cond.methodLinkNest "MarriageHerring$State" (73 : Nat) ({ cls := "MarriageHerring", name := "bayOf", desc := "(I)LMarriageHerring$Bay;" } : Jvm.MethodName) "MarriageHerring") ∈ lw_tbl := lw_at lw_m5 152 rfl
theorem q1273 : (Jvm.Cond.methodLinkNest "MarriageHerring$State" (81 : Nat) ({ cls := "MarriageHerring", name := "pairs", desc := "()I" } : Jvm.MethodName) "MarriageHerring") ∈ lw_tbl := lw_at lw_m5 157 rfl
theorem q1277 : (Jvm.Cond.methodLinkNest "MarriageHerring$State" (84 : Nat) ({ cls := "MarriageHerring", name := "pairOf", desc := "(I)LMarriageHerring$Couple;" } : Jvm.MethodName) "MarriageHerring") ∈ lw_tbl := lw_at lw_m5 161 rfl
theorem q1294 : (Jvm.Cond.instanceMethod ({ cls := "MarriageHerring$State", name := "isCounted", desc := "(I)Z" } : Jvm.MethodName)) ∈ lw_all := lw_g (lw_at lw_m5 178 rfl) rfl
theorem q1295 : (Jvm.Cond.selects "MarriageHerring$State" ({ cls := "MarriageHerring$State", name := "isCounted", desc := "(I)Z" } : Jvm.MethodName) ({ cls := "MarriageHerring$State", name := "isCounted", desc := "(I)Z" } : Jvm.MethodName)) ∈ lw_all := lw_g (lw_at lw_m5 179 rfl) rfl
theorem q1296 : (Jvm.Cond.code ({ cls := "MarriageHerring$State", name := "isCounted", desc := "(I)Z" } : Jvm.MethodName) prog_19_method_4_code (2 : Nat) (Option.some Jvm.ClassFile.FieldType.boolean)) ∈ lw_all := lw_g (lw_at lw_m5 180 rfl) rfl
theorem q1297 : (Jvm.Cond.methodLink "MarriageHerring$State" (115 : Nat) ({ cls := "MarriageHerring$Test", name := "holds", desc := "(LMarriageHerring$Moment;)Z" } : Jvm.MethodName)) ∈ lw_all := lw_g (lw_at lw_m5 181 rfl) rfl
theorem q1354 : (Jvm.Cond.instanceMethod ({ cls := "MarriageHerring$State", name := "vowsOf", desc := "(I)I" } : Jvm.MethodName)) ∈ lw_all := lw_g (lw_at lw_m5 238 rfl) rfl
theorem q1355 : (Jvm.Cond.selects "MarriageHerring$State" ({ cls := "MarriageHerring$State", name := "vowsOf", desc := "(I)I" } : Jvm.MethodName) ({ cls := "MarriageHerring$State", name := "vowsOf", desc := "(I)I" } : Jvm.MethodName)) ∈ lw_all := lw_g (lw_at lw_m5 239 rfl) rfl
theorem q1356 : (Jvm.Cond.code ({ cls := "MarriageHerring$State", name := "vowsOf", desc := "(I)I" } : Jvm.MethodName) prog_19_method_5_code (4 : Nat) (Option.some Jvm.ClassFile.FieldType.int)) ∈ lw_all := lw_g (lw_at lw_m6 0 rfl) rfl
theorem q1357 : (Jvm.Cond.methodLink "MarriageHerring$State" (121 : Nat) ({ cls := "MarriageHerring$State", name := "isCounted", desc := "(I)Z" } : Jvm.MethodName)) ∈ lw_all := lw_g (lw_at lw_m6 1 rfl) rfl
theorem q1384 : (Jvm.Cond.instanceMethod ({ cls := "MarriageHerring$State", name := "tookAll", desc := "()I" } : Jvm.MethodName)) ∈ lw_all := lw_g (lw_at lw_m6 28 rfl) rfl
theorem q1385 : (Jvm.Cond.selects "MarriageHerring$State" ({ cls := "MarriageHerring$State", name := "tookAll", desc := "()I" } : Jvm.MethodName) ({ cls := "MarriageHerring$State", name := "tookAll", desc := "()I" } : Jvm.MethodName)) ∈ lw_all := lw_g (lw_at lw_m6 29 rfl) rfl
theorem q1386 : (Jvm.Cond.code ({ cls := "MarriageHerring$State", name := "tookAll", desc := "()I" } : Jvm.MethodName) prog_19_method_16_code (3 : Nat) (Option.some Jvm.ClassFile.FieldType.int)) ∈ lw_all := lw_g (lw_at lw_m6 30 rfl) rfl
theorem q1444 : (Jvm.Cond.instanceMethod ({ cls := "MarriageHerring$State", name := "lureNow", desc := "(II)J" } : Jvm.MethodName)) ∈ lw_all := lw_g (lw_at lw_m6 88 rfl) rfl
theorem q1445 : (Jvm.Cond.selects "MarriageHerring$State" ({ cls := "MarriageHerring$State", name := "lureNow", desc := "(II)J" } : Jvm.MethodName) ({ cls := "MarriageHerring$State", name := "lureNow", desc := "(II)J" } : Jvm.MethodName)) ∈ lw_all := lw_g (lw_at lw_m6 89 rfl) rfl
theorem q1446 : (Jvm.Cond.code ({ cls := "MarriageHerring$State", name := "lureNow", desc := "(II)J" } : Jvm.MethodName) prog_19_method_8_code (3 : Nat) (Option.some Jvm.ClassFile.FieldType.long)) ∈ lw_all := lw_g (lw_at lw_m6 90 rfl) rfl
theorem q1447 : (Jvm.Cond.methodLink "MarriageHerring$State" (147 : Nat) ({ cls := "MarriageHerring$State", name := "vows", desc := "()V" } : Jvm.MethodName)) ∈ lw_all := lw_g (lw_at lw_m6 91 rfl) rfl
theorem q1448 : (Jvm.Cond.privateMethod ({ cls := "MarriageHerring$State", name := "vows", desc := "()V" } : Jvm.MethodName)) ∈ lw_tbl := lw_at lw_m6 92 rfl
theorem q1449 : (Jvm.Cond.instanceMethod ({ cls := "MarriageHerring$State", name := "vows", desc := "()V" } : Jvm.MethodName)) ∈ lw_all := lw_g (lw_at lw_m6 93 rfl) rfl
theorem q1450 : (Jvm.Cond.code ({ cls := "MarriageHerring$State", name := "vows", desc := "()V" } : Jvm.MethodName) prog_19_method_6_code (2 : Nat) (Option.none : Option Jvm.ClassFile.FieldType)) ∈ lw_all := lw_g (lw_at lw_m6 94 rfl) rfl
theorem q1451 : (Jvm.Cond.methodLink "MarriageHerring$State" (125 : Nat) ({ cls := "MarriageHerring$State", name := "vowsOf", desc := "(I)I" } : Jvm.MethodName)) ∈ lw_all := lw_g (lw_at lw_m6 95 rfl) rfl
theorem q1452 : (Jvm.Cond.methodLink "MarriageHerring$State" (150 : Nat) ({ cls := "MarriageHerring$State", name := "luring", desc := "(II)J" } : Jvm.MethodName)) ∈ lw_all := lw_g (lw_at lw_m6 96 rfl) rfl
theorem q1453 : (Jvm.Cond.privateMethod ({ cls := "MarriageHerring$State", name := "luring", desc := "(II)J" } : Jvm.MethodName)) ∈ lw_tbl := lw_at lw_m6 97 rfl
theorem q1454 : (Jvm.Cond.instanceMethod ({ cls := "MarriageHerring$State", name := "luring", desc := "(II)J" } : Jvm.MethodName)) ∈ lw_all := lw_g (lw_at lw_m6 98 rfl) rfl
theorem q1455 : (Jvm.Cond.code ({ cls := "MarriageHerring$State", name := "luring", desc := "(II)J" } : Jvm.MethodName) prog_19_method_7_code (3 : Nat) (Option.some Jvm.ClassFile.FieldType.long)) ∈ lw_all := lw_g (lw_at lw_m6 99 rfl) rfl
theorem q1456 : (Jvm.Cond.methodLink "MarriageHerring$State" (134 : Nat) ({ cls := "java/lang/Math", name := "abs", desc := "(I)I" } : Jvm.MethodName)) ∈ lw_all := lw_g (lw_at lw_m6 100 rfl) rfl
theorem q1459 : (Jvm.Cond.methodLink "MarriageHerring$State" (142 : Nat) ({ cls := "MarriageHerring$Value", name := "at", desc := "(LMarriageHerring$Moment;)J" } : Jvm.MethodName)) ∈ lw_all := lw_g (lw_at lw_m6 103 rfl) rfl
theorem q1474 : (Jvm.Cond.instanceMethod ({ cls := "MarriageHerring$State", name := "copy", desc := "(LMarriageHerring$State;)LMarriageHerring$State;" } : Jvm.MethodName)) ∈ lw_all := lw_g (lw_at lw_m6 118 rfl) rfl
theorem q1475 : (Jvm.Cond.selects "MarriageHerring$State" ({ cls := "MarriageHerring$State", name := "copy", desc := "(LMarriageHerring$State;)LMarriageHerring$State;" } : Jvm.MethodName) ({ cls := "MarriageHerring$State", name := "copy", desc := "(LMarriageHerring$State;)LMarriageHerring$State;" } : Jvm.MethodName)) ∈ lw_all := lw_g (lw_at lw_m6 119 rfl) rfl
theorem q1476 : (Jvm.Cond.code ({ cls := "MarriageHerring$State", name := "copy", desc := "(LMarriageHerring$State;)LMarriageHerring$State;" } : Jvm.MethodName) prog_19_method_3_code (4 : Nat) (Option.some (Jvm.ClassFile.FieldType.object "MarriageHerring$State"))) ∈ lw_all := lw_g (lw_at lw_m6 120 rfl) rfl
theorem q1478 : (Jvm.Cond.instanceMethod ({ cls := "MarriageHerring$State", name := "goesBy", desc := "(I)LMarriageHerring$State;" } : Jvm.MethodName)) ∈ lw_all := lw_g (lw_at lw_m6 122 rfl) rfl
theorem q1479 : (Jvm.Cond.selects "MarriageHerring$State" ({ cls := "MarriageHerring$State", name := "goesBy", desc := "(I)LMarriageHerring$State;" } : Jvm.MethodName) ({ cls := "MarriageHerring$State", name := "goesBy", desc := "(I)LMarriageHerring$State;" } : Jvm.MethodName)) ∈ lw_all := lw_g (lw_at lw_m6 123 rfl) rfl
theorem q1480 : (Jvm.Cond.code ({ cls := "MarriageHerring$State", name := "goesBy", desc := "(I)LMarriageHerring$State;" } : Jvm.MethodName) prog_19_method_15_code (3 : Nat) (Option.some (Jvm.ClassFile.FieldType.object "MarriageHerring$State"))) ∈ lw_all := lw_g (lw_at lw_m6 124 rfl) rfl
theorem q1481 : (Jvm.Cond.methodLink "MarriageHerring$State" (184 : Nat) ({ cls := "MarriageHerring$State", name := "goes", desc := "()I" } : Jvm.MethodName)) ∈ lw_all := lw_g (lw_at lw_m6 125 rfl) rfl
theorem q1482 : (Jvm.Cond.instanceMethod ({ cls := "MarriageHerring$State", name := "goes", desc := "()I" } : Jvm.MethodName)) ∈ lw_all := lw_g (lw_at lw_m6 126 rfl) rfl
theorem q1483 : (Jvm.Cond.selects "MarriageHerring$State" ({ cls := "MarriageHerring$State", name := "goes", desc := "()I" } : Jvm.MethodName) ({ cls := "MarriageHerring$State", name := "goes", desc := "()I" } : Jvm.MethodName)) ∈ lw_all := lw_g (lw_at lw_m6 127 rfl) rfl
theorem q1484 : (Jvm.Cond.code ({ cls := "MarriageHerring$State", name := "goes", desc := "()I" } : Jvm.MethodName) prog_19_method_14_code (3 : Nat) (Option.some Jvm.ClassFile.FieldType.int)) ∈ lw_all := lw_g (lw_at lw_m6 128 rfl) rfl
theorem q1485 : (Jvm.Cond.methodLink "MarriageHerring$State" (168 : Nat) ({ cls := "MarriageHerring$State", name := "choice", desc := "(I)I" } : Jvm.MethodName)) ∈ lw_all := lw_g (lw_at lw_m6 129 rfl) rfl
theorem q1486 : (Jvm.Cond.privateMethod ({ cls := "MarriageHerring$State", name := "choice", desc := "(I)I" } : Jvm.MethodName)) ∈ lw_tbl := lw_at lw_m6 130 rfl
theorem q1487 : (Jvm.Cond.instanceMethod ({ cls := "MarriageHerring$State", name := "choice", desc := "(I)I" } : Jvm.MethodName)) ∈ lw_all := lw_g (lw_at lw_m6 131 rfl) rfl
theorem q1488 : (Jvm.Cond.code ({ cls := "MarriageHerring$State", name := "choice", desc := "(I)I" } : Jvm.MethodName) prog_19_method_9_code (8 : Nat) (Option.some Jvm.ClassFile.FieldType.int)) ∈ lw_all := lw_g (lw_at lw_m6 132 rfl) rfl
theorem q1489 : (Jvm.Cond.methodLink "MarriageHerring$State" (171 : Nat) ({ cls := "MarriageHerring$State", name := "come", desc := "()I" } : Jvm.MethodName)) ∈ lw_all := lw_g (lw_at lw_m6 133 rfl) rfl
theorem q1490 : (Jvm.Cond.privateMethod ({ cls := "MarriageHerring$State", name := "come", desc := "()I" } : Jvm.MethodName)) ∈ lw_tbl := lw_at lw_m6 134 rfl
theorem q1491 : (Jvm.Cond.instanceMethod ({ cls := "MarriageHerring$State", name := "come", desc := "()I" } : Jvm.MethodName)) ∈ lw_all := lw_g (lw_at lw_m6 135 rfl) rfl
theorem q1492 : (Jvm.Cond.code ({ cls := "MarriageHerring$State", name := "come", desc := "()I" } : Jvm.MethodName) prog_19_method_13_code (3 : Nat) (Option.some Jvm.ClassFile.FieldType.int)) ∈ lw_all := lw_g (lw_at lw_m6 136 rfl) rfl
theorem q1493 : (Jvm.Cond.methodLink "MarriageHerring$State" (164 : Nat) ({ cls := "MarriageHerring$State", name := "tellsOf", desc := "(II)V" } : Jvm.MethodName)) ∈ lw_all := lw_g (lw_at lw_m6 137 rfl) rfl
theorem q1494 : (Jvm.Cond.privateMethod ({ cls := "MarriageHerring$State", name := "tellsOf", desc := "(II)V" } : Jvm.MethodName)) ∈ lw_tbl := lw_at lw_m6 138 rfl
theorem q1495 : (Jvm.Cond.instanceMethod ({ cls := "MarriageHerring$State", name := "tellsOf", desc := "(II)V" } : Jvm.MethodName)) ∈ lw_all := lw_g (lw_at lw_m6 139 rfl) rfl
theorem q1496 : (Jvm.Cond.code ({ cls := "MarriageHerring$State", name := "tellsOf", desc := "(II)V" } : Jvm.MethodName) prog_19_method_12_code (5 : Nat) (Option.none : Option Jvm.ClassFile.FieldType)) ∈ lw_all := lw_g (lw_at lw_m6 140 rfl) rfl
theorem q1497 : (Jvm.Cond.methodLink "MarriageHerring$State" (174 : Nat) ({ cls := "MarriageHerring$State", name := "mending", desc := "(I)I" } : Jvm.MethodName)) ∈ lw_all := lw_g (lw_at lw_m6 141 rfl) rfl
theorem q1498 : (Jvm.Cond.privateMethod ({ cls := "MarriageHerring$State", name := "mending", desc := "(I)I" } : Jvm.MethodName)) ∈ lw_tbl := lw_at lw_m6 142 rfl
theorem q1499 : (Jvm.Cond.instanceMethod ({ cls := "MarriageHerring$State", name := "mending", desc := "(I)I" } : Jvm.MethodName)) ∈ lw_all := lw_g (lw_at lw_m6 143 rfl) rfl
theorem q1500 : (Jvm.Cond.code ({ cls := "MarriageHerring$State", name := "mending", desc := "(I)I" } : Jvm.MethodName) prog_19_method_10_code (3 : Nat) (Option.some Jvm.ClassFile.FieldType.int)) ∈ lw_all := lw_g (lw_at lw_m6 144 rfl) rfl
theorem q1501 : (Jvm.Cond.methodLinkNest "MarriageHerring$State" (157 : Nat) ({ cls := "MarriageHerring", name := "within", desc := "(JI)I" } : Jvm.MethodName) "MarriageHerring") ∈ lw_tbl := lw_at lw_m6 145 rfl
theorem q1504 : (Jvm.Cond.methodLink "MarriageHerring$State" (177 : Nat) ({ cls := "java/lang/Math", name := "min", desc := "(II)I" } : Jvm.MethodName)) ∈ lw_all := lw_g (lw_at lw_m6 148 rfl) rfl
theorem q1505 : (Jvm.Cond.methodLink "MarriageHerring$State" (181 : Nat) ({ cls := "MarriageHerring$State", name := "starving", desc := "(I)I" } : Jvm.MethodName)) ∈ lw_all := lw_g (lw_at lw_m6 149 rfl) rfl
theorem q1506 : (Jvm.Cond.privateMethod ({ cls := "MarriageHerring$State", name := "starving", desc := "(I)I" } : Jvm.MethodName)) ∈ lw_tbl := lw_at lw_m6 150 rfl
theorem q1507 : (Jvm.Cond.instanceMethod ({ cls := "MarriageHerring$State", name := "starving", desc := "(I)I" } : Jvm.MethodName)) ∈ lw_all := lw_g (lw_at lw_m6 151 rfl) rfl
theorem q1508 : (Jvm.Cond.code ({ cls := "MarriageHerring$State", name := "starving", desc := "(I)I" } : Jvm.MethodName) prog_19_method_11_code (2 : Nat) (Option.some Jvm.ClassFile.FieldType.int)) ∈ lw_all := lw_g (lw_at lw_m6 152 rfl) rfl
theorem q2577 : (Jvm.Cond.castable "MarriageHerring$State" "java/lang/Object") ∈ lw_tbl := lw_at lw_m11 21 rfl
theorem in_X5 : ∀ w ∈ wsX50, w ∈ lw_all := lw_in wsX50 [430, 432, 434, 436, 438, 440, 442, 444, 446, 448, 450, 452, 454, 456] (by decide +kernel) (by decide +kernel)
/-! MarriageHerring$Named -/
set_option maxRecDepth 100000
def RX7 : String := "MarriageHerring$Named"
abbrev cX7_find : ByteArray := prog_14_method_2_code
def yX7_find : MethodName := ⟨RX7, "find", "(Ljava/util/List;Ljava/lang/String;)I"⟩
def dkwX7_find_1 : List UInt8 := [180, 0, 9, 43, 182, 0, 25, 153, 0, 5, 28, 172, 132, 2, 1, 167, 255, 221, 2, 172]
abbrev dktX7_find_1 : List UInt8 := dkwX7_find_1 ++ []
def dkwX7_find_0 : List UInt8 := [3, 61, 28, 42, 185, 0, 15, 1, 0, 162, 0, 31, 42, 28, 185, 0, 21, 2, 0, 192, 0, 10]
abbrev dktX7_find_0 : List UInt8 := dkwX7_find_0 ++ dktX7_find_1
theorem dksX7_find_0 : cX7_find.data.toList.drop 0 = dktX7_find_0 := by decide +kernel
theorem dksX7_find_1 : cX7_find.data.toList.drop 22 = dktX7_find_1 := dk_seg dksX7_find_0 22 rfl rfl
theorem dX7_find_0 : decode cX7_find 0 = .ok (.iconst 0, 1) := dk_3 (dk_at dksX7_find_0 0 rfl rfl)
theorem dX7_find_1 : decode cX7_find 1 = .ok (.istore_n 2, 1) := dk_61 (dk_at dksX7_find_0 1 rfl rfl)
theorem dX7_find_2 : decode cX7_find 2 = .ok (.iload_n 2, 1) := dk_28 (dk_at dksX7_find_0 2 rfl rfl)
theorem dX7_find_3 : decode cX7_find 3 = .ok (.aload_n 0, 1) := dk_42 (dk_at dksX7_find_0 3 rfl rfl)
theorem dX7_find_4 : decode cX7_find 4 = .ok (.invokeinterface 15 1, 5) := by decide +kernel
theorem dX7_find_9 : decode cX7_find 9 = .ok (.if_icmp .ge 31, 3) := dk_162 0 31 (dk_at dksX7_find_0 9 rfl rfl)
theorem dX7_find_12 : decode cX7_find 12 = .ok (.aload_n 0, 1) := dk_42 (dk_at dksX7_find_0 12 rfl rfl)
theorem dX7_find_13 : decode cX7_find 13 = .ok (.iload_n 2, 1) := dk_28 (dk_at dksX7_find_0 13 rfl rfl)
theorem dX7_find_14 : decode cX7_find 14 = .ok (.invokeinterface 21 2, 5) := by decide +kernel
theorem dX7_find_19 : decode cX7_find 19 = .ok (.checkcast 10, 3) := dk_192 0 10 (dk_at dksX7_find_0 19 rfl rfl)
theorem dX7_find_22 : decode cX7_find 22 = .ok (.getfield 9, 3) := dk_180 0 9 (dk_at dksX7_find_1 0 rfl rfl)
theorem dX7_find_25 : decode cX7_find 25 = .ok (.aload_n 1, 1) := dk_43 (dk_at dksX7_find_1 3 rfl rfl)
theorem dX7_find_26 : decode cX7_find 26 = .ok (.invokevirtual 25, 3) := dk_182 0 25 (dk_at dksX7_find_1 4 rfl rfl)
theorem dX7_find_29 : decode cX7_find 29 = .ok (.ifCond .eq 5, 3) := dk_153 0 5 (dk_at dksX7_find_1 7 rfl rfl)
theorem dX7_find_32 : decode cX7_find 32 = .ok (.iload_n 2, 1) := dk_28 (dk_at dksX7_find_1 10 rfl rfl)
theorem dX7_find_33 : decode cX7_find 33 = .ok (.ireturn, 1) := dk_172 (dk_at dksX7_find_1 11 rfl rfl)
theorem dX7_find_34 : decode cX7_find 34 = .ok (.iinc 2 1, 3) := dk_132 2 1 (dk_at dksX7_find_1 12 rfl rfl)
theorem dX7_find_37 : decode cX7_find 37 = .ok (.goto (-35), 3) := dk_167 255 221 (dk_at dksX7_find_1 15 rfl rfl)
theorem dX7_find_40 : decode cX7_find 40 = .ok (.iconst (-1), 1) := dk_2 (dk_at dksX7_find_1 18 rfl rfl)
theorem dX7_find_41 : decode cX7_find 41 = .ok (.ireturn, 1) := dk_172 (dk_at dksX7_find_1 19 rfl rfl)
abbrev cX7_init : ByteArray := prog_14_method_1_code
def yX7_init : MethodName := ⟨RX7, "<init>", "(Ljava/lang/String;)V"⟩
def dkwX7_init_0 : List UInt8 := [42, 183, 0, 3, 42, 43, 181, 0, 9, 177]
abbrev dktX7_init_0 : List UInt8 := dkwX7_init_0 ++ []
theorem dksX7_init_0 : cX7_init.data.toList.drop 0 = dktX7_init_0 := by decide +kernel
theorem dX7_init_0 : decode cX7_init 0 = .ok (.aload_n 0, 1) := dk_42 (dk_at dksX7_init_0 0 rfl rfl)
theorem dX7_init_1 : decode cX7_init 1 = .ok (.invokespecial 3, 3) := dk_183 0 3 (dk_at dksX7_init_0 1 rfl rfl)
theorem dX7_init_4 : decode cX7_init 4 = .ok (.aload_n 0, 1) := dk_42 (dk_at dksX7_init_0 4 rfl rfl)
theorem dX7_init_5 : decode cX7_init 5 = .ok (.aload_n 1, 1) := dk_43 (dk_at dksX7_init_0 5 rfl rfl)
theorem dX7_init_6 : decode cX7_init 6 = .ok (.putfield 9, 3) := dk_181 0 9 (dk_at dksX7_init_0 6 rfl rfl)
theorem dX7_init_9 : decode cX7_init 9 = .ok (.return_, 1) := dk_177 (dk_at dksX7_init_0 9 rfl rfl)
abbrev cX7_signAt : ByteArray := prog_14_method_3_code
def yX7_signAt : MethodName := ⟨RX7, "signAt", "(I)I"⟩
def dkwX7_signAt_1 : List UInt8 := [167, 0, 4, 3, 172]
abbrev dktX7_signAt_1 : List UInt8 := dkwX7_signAt_1 ++ []
def dkwX7_signAt_0 : List UInt8 := [27, 42, 180, 0, 9, 182, 0, 31, 162, 0, 19, 42, 180, 0, 9, 27, 182, 0, 34, 16, 97, 100, 4, 96]
abbrev dktX7_signAt_0 : List UInt8 := dkwX7_signAt_0 ++ dktX7_signAt_1
theorem dksX7_signAt_0 : cX7_signAt.data.toList.drop 0 = dktX7_signAt_0 := by decide +kernel
theorem dksX7_signAt_1 : cX7_signAt.data.toList.drop 24 = dktX7_signAt_1 := dk_seg dksX7_signAt_0 24 rfl rfl
theorem dX7_signAt_0 : decode cX7_signAt 0 = .ok (.iload_n 1, 1) := dk_27 (dk_at dksX7_signAt_0 0 rfl rfl)
theorem dX7_signAt_1 : decode cX7_signAt 1 = .ok (.aload_n 0, 1) := dk_42 (dk_at dksX7_signAt_0 1 rfl rfl)
theorem dX7_signAt_2 : decode cX7_signAt 2 = .ok (.getfield 9, 3) := dk_180 0 9 (dk_at dksX7_signAt_0 2 rfl rfl)
theorem dX7_signAt_5 : decode cX7_signAt 5 = .ok (.invokevirtual 31, 3) := dk_182 0 31 (dk_at dksX7_signAt_0 5 rfl rfl)
theorem dX7_signAt_8 : decode cX7_signAt 8 = .ok (.if_icmp .ge 19, 3) := dk_162 0 19 (dk_at dksX7_signAt_0 8 rfl rfl)
theorem dX7_signAt_11 : decode cX7_signAt 11 = .ok (.aload_n 0, 1) := dk_42 (dk_at dksX7_signAt_0 11 rfl rfl)
theorem dX7_signAt_12 : decode cX7_signAt 12 = .ok (.getfield 9, 3) := dk_180 0 9 (dk_at dksX7_signAt_0 12 rfl rfl)
theorem dX7_signAt_15 : decode cX7_signAt 15 = .ok (.iload_n 1, 1) := dk_27 (dk_at dksX7_signAt_0 15 rfl rfl)
theorem dX7_signAt_16 : decode cX7_signAt 16 = .ok (.invokevirtual 34, 3) := dk_182 0 34 (dk_at dksX7_signAt_0 16 rfl rfl)
theorem dX7_signAt_19 : decode cX7_signAt 19 = .ok (.bipush 97, 2) := dk_16 97 (dk_at dksX7_signAt_0 19 rfl rfl)
theorem dX7_signAt_21 : decode cX7_signAt 21 = .ok (.isub, 1) := dk_100 (dk_at dksX7_signAt_0 21 rfl rfl)
theorem dX7_signAt_22 : decode cX7_signAt 22 = .ok (.iconst 1, 1) := dk_4 (dk_at dksX7_signAt_0 22 rfl rfl)
theorem dX7_signAt_23 : decode cX7_signAt 23 = .ok (.iadd, 1) := dk_96 (dk_at dksX7_signAt_0 23 rfl rfl)
theorem dX7_signAt_24 : decode cX7_signAt 24 = .ok (.goto 4, 3) := dk_167 0 4 (dk_at dksX7_signAt_1 0 rfl rfl)
theorem dX7_signAt_27 : decode cX7_signAt 27 = .ok (.iconst 0, 1) := dk_3 (dk_at dksX7_signAt_1 3 rfl rfl)
theorem dX7_signAt_28 : decode cX7_signAt 28 = .ok (.ireturn, 1) := dk_172 (dk_at dksX7_signAt_1 4 rfl rfl)
theorem q175 : (Jvm.Cond.initialized "MarriageHerring$Named") ∈ lw_all := lw_g (lw_at lw_m1 19 rfl) rfl
theorem q782 : (Jvm.Cond.static ({ cls := "MarriageHerring$Named", name := "find", desc := "(Ljava/util/List;Ljava/lang/String;)I" } : Jvm.MethodName)) ∈ lw_all := lw_g (lw_at lw_m3 146 rfl) rfl
theorem q783 : (Jvm.Cond.code ({ cls := "MarriageHerring$Named", name := "find", desc := "(Ljava/util/List;Ljava/lang/String;)I" } : Jvm.MethodName) prog_14_method_2_code (3 : Nat) (Option.some Jvm.ClassFile.FieldType.int)) ∈ lw_all := lw_g (lw_at lw_m3 147 rfl) rfl
theorem q784 : (Jvm.Cond.interfaceEntry "MarriageHerring$Named" (15 : Nat)) ∈ lw_tbl := lw_at lw_m3 148 rfl
theorem q785 : (Jvm.Cond.methodLink "MarriageHerring$Named" (15 : Nat) ({ cls := "java/util/List", name := "size", desc := "()I" } : Jvm.MethodName)) ∈ lw_all := lw_g (lw_at lw_m3 149 rfl) rfl
theorem q786 : (Jvm.Cond.interfaceEntry "MarriageHerring$Named" (21 : Nat)) ∈ lw_tbl := lw_at lw_m3 150 rfl
theorem q787 : (Jvm.Cond.methodLink "MarriageHerring$Named" (21 : Nat) ({ cls := "java/util/List", name := "get", desc := "(I)Ljava/lang/Object;" } : Jvm.MethodName)) ∈ lw_all := lw_g (lw_at lw_m3 151 rfl) rfl
theorem q805 : (Jvm.Cond.classLink "MarriageHerring$Named" (10 : Nat) "MarriageHerring$Named") ∈ lw_all := lw_g (lw_at lw_m3 169 rfl) rfl
theorem q806 : (Jvm.Cond.methodLink "MarriageHerring$Named" (25 : Nat) ({ cls := "java/lang/String", name := "equals", desc := "(Ljava/lang/Object;)Z" } : Jvm.MethodName)) ∈ lw_all := lw_g (lw_at lw_m3 170 rfl) rfl
theorem q830 : (Jvm.Cond.instanceMethod ({ cls := "MarriageHerring$Named", name := "<init>", desc := "(Ljava/lang/String;)V" } : Jvm.MethodName)) ∈ lw_all := lw_g (lw_at lw_m3 194 rfl) rfl
theorem q831 : (Jvm.Cond.code ({ cls := "MarriageHerring$Named", name := "<init>", desc := "(Ljava/lang/String;)V" } : Jvm.MethodName) prog_14_method_1_code (2 : Nat) (Option.none : Option Jvm.ClassFile.FieldType)) ∈ lw_all := lw_g (lw_at lw_m3 195 rfl) rfl
theorem q832 : (Jvm.Cond.methodLink "MarriageHerring$Named" (3 : Nat) ({ cls := "java/lang/Object", name := "<init>", desc := "()V" } : Jvm.MethodName)) ∈ lw_all := lw_g (lw_at lw_m3 196 rfl) rfl
theorem q838 : (Jvm.Cond.fieldLink "MarriageHerring$Named" (9 : Nat) "MarriageHerring$Named" "name" "Ljava/lang/String;") ∈ lw_all := lw_g (lw_at lw_m3 202 rfl) rfl
theorem q844 : (Jvm.Cond.soleField "MarriageHerring$Named" "name") ∈ lw_all := lw_g (lw_at lw_m3 208 rfl) rfl
theorem q1394 : (Jvm.Cond.instanceMethod ({ cls := "MarriageHerring$Named", name := "signAt", desc := "(I)I" } : Jvm.MethodName)) ∈ lw_all := lw_g (lw_at lw_m6 38 rfl) rfl
theorem q1395 : (Jvm.Cond.sameMethod "MarriageHerring$Named" "MarriageHerring$Named" "signAt" "(I)I") ∈ lw_all := lw_g (lw_at lw_m6 39 rfl) rfl
theorem q1399 : (Jvm.Cond.code ({ cls := "MarriageHerring$Named", name := "signAt", desc := "(I)I" } : Jvm.MethodName) prog_14_method_3_code (2 : Nat) (Option.some Jvm.ClassFile.FieldType.int)) ∈ lw_all := lw_g (lw_at lw_m6 43 rfl) rfl
theorem q1400 : (Jvm.Cond.methodLink "MarriageHerring$Named" (31 : Nat) ({ cls := "java/lang/String", name := "length", desc := "()I" } : Jvm.MethodName)) ∈ lw_all := lw_g (lw_at lw_m6 44 rfl) rfl
theorem q1401 : (Jvm.Cond.methodLink "MarriageHerring$Named" (34 : Nat) ({ cls := "java/lang/String", name := "charAt", desc := "(I)C" } : Jvm.MethodName)) ∈ lw_all := lw_g (lw_at lw_m6 45 rfl) rfl
/-! MarriageHerring$Bay -/
set_option maxRecDepth 100000
def RX8 : String := "MarriageHerring$Bay"
def TX8 : u_T := fun k => match k with
  | 0 => ("MarriageHerring$Named", "name", "Ljava/lang/String;", true)
  | 1 => ("MarriageHerring$Bay", "mile", "I", true)
  | _ => ("MarriageHerring$Bay", "hunger", "I", true)
def tyX8 : Nat → FieldType := fun k => match k with
  | 0 => .object "java/lang/String"
  | 1 => .int
  | _ => .int
abbrev wsX80 : List Cond := u_ws RX8 TX8 3
theorem nmX8 : ∀ a, a < 3 → ∀ b, b < 3 → a ≠ b → (TX8 a).2.1 ≠ (TX8 b).2.1 := by decide +kernel
theorem tyX8_ok : ∀ k, k < 3 → parseFieldDescriptor (TX8 k).2.2.1 = some (tyX8 k) := by decide +kernel
abbrev cX8_init : ByteArray := prog_4_method_1_code
def yX8_init : MethodName := ⟨RX8, "<init>", "(Ljava/lang/String;II)V"⟩
def dkwX8_init_0 : List UInt8 := [42, 43, 183, 0, 1, 42, 28, 181, 0, 7, 42, 29, 181, 0, 13, 177]
abbrev dktX8_init_0 : List UInt8 := dkwX8_init_0 ++ []
theorem dksX8_init_0 : cX8_init.data.toList.drop 0 = dktX8_init_0 := by decide +kernel
theorem dX8_init_0 : decode cX8_init 0 = .ok (.aload_n 0, 1) := dk_42 (dk_at dksX8_init_0 0 rfl rfl)
theorem dX8_init_1 : decode cX8_init 1 = .ok (.aload_n 1, 1) := dk_43 (dk_at dksX8_init_0 1 rfl rfl)
theorem dX8_init_2 : decode cX8_init 2 = .ok (.invokespecial 1, 3) := dk_183 0 1 (dk_at dksX8_init_0 2 rfl rfl)
theorem dX8_init_5 : decode cX8_init 5 = .ok (.aload_n 0, 1) := dk_42 (dk_at dksX8_init_0 5 rfl rfl)
theorem dX8_init_6 : decode cX8_init 6 = .ok (.iload_n 2, 1) := dk_28 (dk_at dksX8_init_0 6 rfl rfl)
theorem dX8_init_7 : decode cX8_init 7 = .ok (.putfield 7, 3) := dk_181 0 7 (dk_at dksX8_init_0 7 rfl rfl)
theorem dX8_init_10 : decode cX8_init 10 = .ok (.aload_n 0, 1) := dk_42 (dk_at dksX8_init_0 10 rfl rfl)
theorem dX8_init_11 : decode cX8_init 11 = .ok (.iload_n 3, 1) := dk_29 (dk_at dksX8_init_0 11 rfl rfl)
theorem dX8_init_12 : decode cX8_init 12 = .ok (.putfield 13, 3) := dk_181 0 13 (dk_at dksX8_init_0 12 rfl rfl)
theorem dX8_init_15 : decode cX8_init 15 = .ok (.return_, 1) := dk_177 (dk_at dksX8_init_0 15 rfl rfl)
theorem q177 : (Jvm.Cond.initialized "MarriageHerring$Bay") ∈ lw_all := lw_g (lw_at lw_m1 21 rfl) rfl
theorem q824 : (Jvm.Cond.instantiable "MarriageHerring$Bay" (3 : Nat)) ∈ lw_all := lw_g (lw_at lw_m3 188 rfl) rfl
theorem q827 : (Jvm.Cond.instanceMethod ({ cls := "MarriageHerring$Bay", name := "<init>", desc := "(Ljava/lang/String;II)V" } : Jvm.MethodName)) ∈ lw_all := lw_g (lw_at lw_m3 191 rfl) rfl
theorem q828 : (Jvm.Cond.code ({ cls := "MarriageHerring$Bay", name := "<init>", desc := "(Ljava/lang/String;II)V" } : Jvm.MethodName) prog_4_method_1_code (4 : Nat) (Option.none : Option Jvm.ClassFile.FieldType)) ∈ lw_all := lw_g (lw_at lw_m3 192 rfl) rfl
theorem q829 : (Jvm.Cond.methodLink "MarriageHerring$Bay" (1 : Nat) ({ cls := "MarriageHerring$Named", name := "<init>", desc := "(Ljava/lang/String;)V" } : Jvm.MethodName)) ∈ lw_all := lw_g (lw_at lw_m3 193 rfl) rfl
theorem q833 : (Jvm.Cond.fieldLink "MarriageHerring$Bay" (7 : Nat) "MarriageHerring$Bay" "mile" "I") ∈ lw_all := lw_g (lw_at lw_m3 197 rfl) rfl
theorem q836 : (Jvm.Cond.fieldLink "MarriageHerring$Bay" (13 : Nat) "MarriageHerring$Bay" "hunger" "I") ∈ lw_all := lw_g (lw_at lw_m3 200 rfl) rfl
theorem q839 : (Jvm.Cond.laysFinal "MarriageHerring$Bay" "MarriageHerring$Bay" "mile" "I") ∈ lw_all := lw_g (lw_at lw_m3 203 rfl) rfl
theorem q840 : (Jvm.Cond.soleField "MarriageHerring$Bay" "mile") ∈ lw_all := lw_g (lw_at lw_m3 204 rfl) rfl
theorem q841 : (Jvm.Cond.laysFinal "MarriageHerring$Bay" "MarriageHerring$Bay" "hunger" "I") ∈ lw_all := lw_g (lw_at lw_m3 205 rfl) rfl
theorem q842 : (Jvm.Cond.soleField "MarriageHerring$Bay" "hunger") ∈ lw_all := lw_g (lw_at lw_m3 206 rfl) rfl
theorem q843 : (Jvm.Cond.laysFinal "MarriageHerring$Bay" "MarriageHerring$Named" "name" "Ljava/lang/String;") ∈ lw_all := lw_g (lw_at lw_m3 207 rfl) rfl
theorem q845 : (Jvm.Cond.superclass "MarriageHerring$Bay" "MarriageHerring$Named") ∈ lw_all := lw_g (lw_at lw_m3 209 rfl) rfl
theorem q888 : (Jvm.Cond.selects "MarriageHerring$Bay" ({ cls := "java/lang/Object", name := "getClass", desc := "()Ljava/lang/Class;" } : Jvm.MethodName) ({ cls := "java/lang/Object", name := "getClass", desc := "()Ljava/lang/Class;" } : Jvm.MethodName)) ∈ lw_all := lw_g (lw_at lw_m4 12 rfl) rfl
theorem q1396 : (Jvm.Cond.selects "MarriageHerring$Bay" ({ cls := "MarriageHerring$Named", name := "signAt", desc := "(I)I" } : Jvm.MethodName) ({ cls := "MarriageHerring$Named", name := "signAt", desc := "(I)I" } : Jvm.MethodName)) ∈ lw_all := lw_g (lw_at lw_m6 40 rfl) rfl
theorem q2565 : (Jvm.Cond.castable "MarriageHerring$Bay" "MarriageHerring$Named") ∈ lw_tbl := lw_at lw_m11 9 rfl
theorem q2587 : (Jvm.Cond.castable "MarriageHerring$Bay" "java/lang/Object") ∈ lw_tbl := lw_at lw_m11 31 rfl
theorem in_X8 : ∀ w ∈ wsX80, w ∈ lw_all := lw_in wsX80 [843, 839, 841] (by decide +kernel) (by decide +kernel)
/-! MarriageHerring$Couple -/
set_option maxRecDepth 100000
def RX9 : String := "MarriageHerring$Couple"
def TX9 : u_T := fun k => match k with
  | 0 => ("MarriageHerring$Named", "name", "Ljava/lang/String;", true)
  | 1 => ("MarriageHerring$Couple", "bay", "I", true)
  | _ => ("MarriageHerring$Couple", "by", "I", true)
def tyX9 : Nat → FieldType := fun k => match k with
  | 0 => .object "java/lang/String"
  | 1 => .int
  | _ => .int
abbrev wsX90 : List Cond := u_ws RX9 TX9 3
theorem nmX9 : ∀ a, a < 3 → ∀ b, b < 3 → a ≠ b → (TX9 a).2.1 ≠ (TX9 b).2.1 := by decide +kernel
theorem tyX9_ok : ∀ k, k < 3 → parseFieldDescriptor (TX9 k).2.2.1 = some (tyX9 k) := by decide +kernel
abbrev cX9_init : ByteArray := prog_7_method_1_code
def yX9_init : MethodName := ⟨RX9, "<init>", "(Ljava/lang/String;II)V"⟩
def dkwX9_init_0 : List UInt8 := [42, 43, 183, 0, 1, 42, 28, 181, 0, 7, 42, 29, 181, 0, 13, 177]
abbrev dktX9_init_0 : List UInt8 := dkwX9_init_0 ++ []
theorem dksX9_init_0 : cX9_init.data.toList.drop 0 = dktX9_init_0 := by decide +kernel
theorem dX9_init_0 : decode cX9_init 0 = .ok (.aload_n 0, 1) := dk_42 (dk_at dksX9_init_0 0 rfl rfl)
theorem dX9_init_1 : decode cX9_init 1 = .ok (.aload_n 1, 1) := dk_43 (dk_at dksX9_init_0 1 rfl rfl)
theorem dX9_init_2 : decode cX9_init 2 = .ok (.invokespecial 1, 3) := dk_183 0 1 (dk_at dksX9_init_0 2 rfl rfl)
theorem dX9_init_5 : decode cX9_init 5 = .ok (.aload_n 0, 1) := dk_42 (dk_at dksX9_init_0 5 rfl rfl)
theorem dX9_init_6 : decode cX9_init 6 = .ok (.iload_n 2, 1) := dk_28 (dk_at dksX9_init_0 6 rfl rfl)
theorem dX9_init_7 : decode cX9_init 7 = .ok (.putfield 7, 3) := dk_181 0 7 (dk_at dksX9_init_0 7 rfl rfl)
theorem dX9_init_10 : decode cX9_init 10 = .ok (.aload_n 0, 1) := dk_42 (dk_at dksX9_init_0 10 rfl rfl)
theorem dX9_init_11 : decode cX9_init 11 = .ok (.iload_n 3, 1) := dk_29 (dk_at dksX9_init_0 11 rfl rfl)
theorem dX9_init_12 : decode cX9_init 12 = .ok (.putfield 13, 3) := dk_181 0 13 (dk_at dksX9_init_0 12 rfl rfl)
theorem dX9_init_15 : decode cX9_init 15 = .ok (.return_, 1) := dk_177 (dk_at dksX9_init_0 15 rfl rfl)
theorem q181 : (Jvm.Cond.initialized "MarriageHerring$Couple") ∈ lw_all := lw_g (lw_at lw_m1 25 rfl) rfl
theorem q891 : (Jvm.Cond.selects "MarriageHerring$Couple" ({ cls := "java/lang/Object", name := "getClass", desc := "()Ljava/lang/Class;" } : Jvm.MethodName) ({ cls := "java/lang/Object", name := "getClass", desc := "()Ljava/lang/Class;" } : Jvm.MethodName)) ∈ lw_all := lw_g (lw_at lw_m4 15 rfl) rfl
theorem q929 : (Jvm.Cond.instantiable "MarriageHerring$Couple" (3 : Nat)) ∈ lw_all := lw_g (lw_at lw_m4 53 rfl) rfl
theorem q932 : (Jvm.Cond.instanceMethod ({ cls := "MarriageHerring$Couple", name := "<init>", desc := "(Ljava/lang/String;II)V" } : Jvm.MethodName)) ∈ lw_all := lw_g (lw_at lw_m4 56 rfl) rfl
theorem q933 : (Jvm.Cond.code ({ cls := "MarriageHerring$Couple", name := "<init>", desc := "(Ljava/lang/String;II)V" } : Jvm.MethodName) prog_7_method_1_code (4 : Nat) (Option.none : Option Jvm.ClassFile.FieldType)) ∈ lw_all := lw_g (lw_at lw_m4 57 rfl) rfl
theorem q934 : (Jvm.Cond.methodLink "MarriageHerring$Couple" (1 : Nat) ({ cls := "MarriageHerring$Named", name := "<init>", desc := "(Ljava/lang/String;)V" } : Jvm.MethodName)) ∈ lw_all := lw_g (lw_at lw_m4 58 rfl) rfl
theorem q935 : (Jvm.Cond.fieldLink "MarriageHerring$Couple" (7 : Nat) "MarriageHerring$Couple" "bay" "I") ∈ lw_all := lw_g (lw_at lw_m4 59 rfl) rfl
theorem q938 : (Jvm.Cond.fieldLink "MarriageHerring$Couple" (13 : Nat) "MarriageHerring$Couple" "by" "I") ∈ lw_all := lw_g (lw_at lw_m4 62 rfl) rfl
theorem q940 : (Jvm.Cond.laysFinal "MarriageHerring$Couple" "MarriageHerring$Couple" "bay" "I") ∈ lw_all := lw_g (lw_at lw_m4 64 rfl) rfl
theorem q941 : (Jvm.Cond.soleField "MarriageHerring$Couple" "bay") ∈ lw_all := lw_g (lw_at lw_m4 65 rfl) rfl
theorem q942 : (Jvm.Cond.laysFinal "MarriageHerring$Couple" "MarriageHerring$Couple" "by" "I") ∈ lw_all := lw_g (lw_at lw_m4 66 rfl) rfl
theorem q943 : (Jvm.Cond.soleField "MarriageHerring$Couple" "by") ∈ lw_all := lw_g (lw_at lw_m4 67 rfl) rfl
theorem q944 : (Jvm.Cond.laysFinal "MarriageHerring$Couple" "MarriageHerring$Named" "name" "Ljava/lang/String;") ∈ lw_all := lw_g (lw_at lw_m4 68 rfl) rfl
theorem q945 : (Jvm.Cond.superclass "MarriageHerring$Couple" "MarriageHerring$Named") ∈ lw_all := lw_g (lw_at lw_m4 69 rfl) rfl
theorem q1397 : (Jvm.Cond.selects "MarriageHerring$Couple" ({ cls := "MarriageHerring$Named", name := "signAt", desc := "(I)I" } : Jvm.MethodName) ({ cls := "MarriageHerring$Named", name := "signAt", desc := "(I)I" } : Jvm.MethodName)) ∈ lw_all := lw_g (lw_at lw_m6 41 rfl) rfl
theorem q2566 : (Jvm.Cond.castable "MarriageHerring$Couple" "MarriageHerring$Named") ∈ lw_tbl := lw_at lw_m11 10 rfl
theorem q2588 : (Jvm.Cond.castable "MarriageHerring$Couple" "java/lang/Object") ∈ lw_tbl := lw_at lw_m11 32 rfl
theorem in_X9 : ∀ w ∈ wsX90, w ∈ lw_all := lw_in wsX90 [944, 940, 942] (by decide +kernel) (by decide +kernel)
