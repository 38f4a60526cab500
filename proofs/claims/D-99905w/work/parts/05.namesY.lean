/-! MarriageHerring$Herring -/
set_option maxRecDepth 100000
def RX10 : String := "MarriageHerring$Herring"
def TX10 : u_T := fun k => match k with
  | 0 => ("MarriageHerring$Named", "name", "Ljava/lang/String;", true)
  | 1 => ("MarriageHerring$Herring", "mile", "I", true)
  | _ => ("MarriageHerring$Herring", "size", "I", true)
def tyX10 : Nat → FieldType := fun k => match k with
  | 0 => .object "java/lang/String"
  | 1 => .int
  | _ => .int
abbrev wsX100 : List Cond := u_ws RX10 TX10 3
theorem nmX10 : ∀ a, a < 3 → ∀ b, b < 3 → a ≠ b → (TX10 a).2.1 ≠ (TX10 b).2.1 := by decide +kernel
theorem tyX10_ok : ∀ k, k < 3 → parseFieldDescriptor (TX10 k).2.2.1 = some (tyX10 k) := by decide +kernel
abbrev cX10_init : ByteArray := prog_11_method_1_code
def yX10_init : MethodName := ⟨RX10, "<init>", "(Ljava/lang/String;II)V"⟩
def dkwX10_init_0 : List UInt8 := [42, 43, 183, 0, 1, 42, 28, 181, 0, 7, 42, 29, 181, 0, 13, 177]
abbrev dktX10_init_0 : List UInt8 := dkwX10_init_0 ++ []
theorem dksX10_init_0 : cX10_init.data.toList.drop 0 = dktX10_init_0 := by decide +kernel
theorem dX10_init_0 : decode cX10_init 0 = .ok (.aload_n 0, 1) := dk_42 (dk_at dksX10_init_0 0 rfl rfl)
theorem dX10_init_1 : decode cX10_init 1 = .ok (.aload_n 1, 1) := dk_43 (dk_at dksX10_init_0 1 rfl rfl)
theorem dX10_init_2 : decode cX10_init 2 = .ok (.invokespecial 1, 3) := dk_183 0 1 (dk_at dksX10_init_0 2 rfl rfl)
theorem dX10_init_5 : decode cX10_init 5 = .ok (.aload_n 0, 1) := dk_42 (dk_at dksX10_init_0 5 rfl rfl)
theorem dX10_init_6 : decode cX10_init 6 = .ok (.iload_n 2, 1) := dk_28 (dk_at dksX10_init_0 6 rfl rfl)
theorem dX10_init_7 : decode cX10_init 7 = .ok (.putfield 7, 3) := dk_181 0 7 (dk_at dksX10_init_0 7 rfl rfl)
theorem dX10_init_10 : decode cX10_init 10 = .ok (.aload_n 0, 1) := dk_42 (dk_at dksX10_init_0 10 rfl rfl)
theorem dX10_init_11 : decode cX10_init 11 = .ok (.iload_n 3, 1) := dk_29 (dk_at dksX10_init_0 11 rfl rfl)
theorem dX10_init_12 : decode cX10_init 12 = .ok (.putfield 13, 3) := dk_181 0 13 (dk_at dksX10_init_0 12 rfl rfl)
theorem dX10_init_15 : decode cX10_init 15 = .ok (.return_, 1) := dk_177 (dk_at dksX10_init_0 15 rfl rfl)
theorem q182 : (Jvm.Cond.initialized "MarriageHerring$Herring") ∈ lw_all := lw_g (lw_at lw_m1 26 rfl) rfl
theorem q895 : (Jvm.Cond.selects "MarriageHerring$Herring" ({ cls := "java/lang/Object", name := "getClass", desc := "()Ljava/lang/Class;" } : Jvm.MethodName) ({ cls := "java/lang/Object", name := "getClass", desc := "()Ljava/lang/Class;" } : Jvm.MethodName)) ∈ lw_all := lw_g (lw_at lw_m4 19 rfl) rfl
theorem q951 : (Jvm.Cond.instantiable "MarriageHerring$Herring" (3 : Nat)) ∈ lw_all := lw_g (lw_at lw_m4 75 rfl) rfl
theorem q954 : (Jvm.Cond.instanceMethod ({ cls := "MarriageHerring$Herring", name := "<init>", desc := "(Ljava/lang/String;II)V" } : Jvm.MethodName)) ∈ lw_all := lw_g (lw_at lw_m4 78 rfl) rfl
theorem q955 : (Jvm.Cond.code ({ cls := "MarriageHerring$Herring", name := "<init>", desc := "(Ljava/lang/String;II)V" } : Jvm.MethodName) prog_11_method_1_code (4 : Nat) (Option.none : Option Jvm.ClassFile.FieldType)) ∈ lw_all := lw_g (lw_at lw_m4 79 rfl) rfl
theorem q956 : (Jvm.Cond.methodLink "MarriageHerring$Herring" (1 : Nat) ({ cls := "MarriageHerring$Named", name := "<init>", desc := "(Ljava/lang/String;)V" } : Jvm.MethodName)) ∈ lw_all := lw_g (lw_at lw_m4 80 rfl) rfl
theorem q957 : (Jvm.Cond.fieldLink "MarriageHerring$Herring" (7 : Nat) "MarriageHerring$Herring" "mile" "I") ∈ lw_all := lw_g (lw_at lw_m4 81 rfl) rfl
theorem q959 : (Jvm.Cond.fieldLink "MarriageHerring$Herring" (13 : Nat) "MarriageHerring$Herring" "size" "I") ∈ lw_all := lw_g (lw_at lw_m4 83 rfl) rfl
theorem q962 : (Jvm.Cond.laysFinal "MarriageHerring$Herring" "MarriageHerring$Herring" "mile" "I") ∈ lw_all := lw_g (lw_at lw_m4 86 rfl) rfl
theorem q963 : (Jvm.Cond.soleField "MarriageHerring$Herring" "mile") ∈ lw_all := lw_g (lw_at lw_m4 87 rfl) rfl
theorem q964 : (Jvm.Cond.laysFinal "MarriageHerring$Herring" "MarriageHerring$Herring" "size" "I") ∈ lw_all := lw_g (lw_at lw_m4 88 rfl) rfl
theorem q965 : (Jvm.Cond.soleField "MarriageHerring$Herring" "size") ∈ lw_all := lw_g (lw_at lw_m4 89 rfl) rfl
theorem q966 : (Jvm.Cond.laysFinal "MarriageHerring$Herring" "MarriageHerring$Named" "name" "Ljava/lang/String;") ∈ lw_all := lw_g (lw_at lw_m4 90 rfl) rfl
theorem q967 : (Jvm.Cond.superclass "MarriageHerring$Herring" "MarriageHerring$Named") ∈ lw_all := lw_g (lw_at lw_m4 91 rfl) rfl
theorem q1398 : (Jvm.Cond.selects "MarriageHerring$Herring" ({ cls := "MarriageHerring$Named", name := "signAt", desc := "(I)I" } : Jvm.MethodName) ({ cls := "MarriageHerring$Named", name := "signAt", desc := "(I)I" } : Jvm.MethodName)) ∈ lw_all := lw_g (lw_at lw_m6 42 rfl) rfl
theorem q2567 : (Jvm.Cond.castable "MarriageHerring$Herring" "MarriageHerring$Named") ∈ lw_tbl := lw_at lw_m11 11 rfl
theorem q2589 : (Jvm.Cond.castable "MarriageHerring$Herring" "java/lang/Object") ∈ lw_tbl := lw_at lw_m11 33 rfl
theorem in_X10 : ∀ w ∈ wsX100, w ∈ lw_all := lw_in wsX100 [966, 962, 964] (by decide +kernel) (by decide +kernel)
/-! MarriageHerring$Value -/
set_option maxRecDepth 100000
def RX11 : String := "MarriageHerring$Value"
abbrev cX11_init : ByteArray := prog_22_method_1_code
def yX11_init : MethodName := ⟨RX11, "<init>", "()V"⟩
theorem dX11_init_0 : decode cX11_init 0 = .ok (.aload_n 0, 1) := by decide +kernel
theorem dX11_init_1 : decode cX11_init 1 = .ok (.invokespecial 1, 3) := by decide +kernel
theorem dX11_init_4 : decode cX11_init 4 = .ok (.return_, 1) := by decide +kernel
theorem q183 : (Jvm.Cond.initialized "MarriageHerring$Value") ∈ lw_all := lw_g (lw_at lw_m1 27 rfl) rfl
theorem q990 : (Jvm.Cond.instanceMethod ({ cls := "MarriageHerring$Value", name := "<init>", desc := "()V" } : Jvm.MethodName)) ∈ lw_all := lw_g (lw_at lw_m4 114 rfl) rfl
theorem q991 : (Jvm.Cond.code ({ cls := "MarriageHerring$Value", name := "<init>", desc := "()V" } : Jvm.MethodName) prog_22_method_1_code (1 : Nat) (Option.none : Option Jvm.ClassFile.FieldType)) ∈ lw_all := lw_g (lw_at lw_m4 115 rfl) rfl
theorem q992 : (Jvm.Cond.methodLink "MarriageHerring$Value" (1 : Nat) ({ cls := "java/lang/Object", name := "<init>", desc := "()V" } : Jvm.MethodName)) ∈ lw_all := lw_g (lw_at lw_m4 116 rfl) rfl
theorem q1318 : (Jvm.Cond.declares ({ cls := "MarriageHerring$Value", name := "at", desc := "(LMarriageHerring$Moment;)J" } : Jvm.MethodName)) ∈ lw_tbl := lw_at lw_m5 202 rfl
theorem q1319 : (Jvm.Cond.sameMethod "MarriageHerring$Value" "MarriageHerring$Value" "at" "(LMarriageHerring$Moment;)J") ∈ lw_all := lw_g (lw_at lw_m5 203 rfl) rfl
/-! MarriageHerring$Chain -/
set_option maxRecDepth 100000
def RX12 : String := "MarriageHerring$Chain"
def TX12 : u_T := fun k => match k with
  | 0 => ("MarriageHerring$Chain", "values", "Ljava/util/List;", true)
  | _ => ("MarriageHerring$Chain", "signs", "Ljava/lang/StringBuilder;", true)
def tyX12 : Nat → FieldType := fun k => match k with
  | 0 => .object "java/util/List"
  | _ => .object "java/lang/StringBuilder"
abbrev wsX120 : List Cond := u_ws RX12 TX12 2
theorem nmX12 : ∀ a, a < 2 → ∀ b, b < 2 → a ≠ b → (TX12 a).2.1 ≠ (TX12 b).2.1 := by decide +kernel
theorem tyX12_ok : ∀ k, k < 2 → parseFieldDescriptor (TX12 k).2.2.1 = some (tyX12 k) := by decide +kernel
abbrev cX12_init : ByteArray := prog_5_method_1_code
def yX12_init : MethodName := ⟨RX12, "<init>", "()V"⟩
def dkwX12_init_1 : List UInt8 := [181, 0, 21, 177]
abbrev dktX12_init_1 : List UInt8 := dkwX12_init_1 ++ []
def dkwX12_init_0 : List UInt8 := [42, 183, 0, 1, 42, 187, 0, 7, 89, 5, 183, 0, 9, 181, 0, 12, 42, 187, 0, 18, 89, 183, 0, 20]
abbrev dktX12_init_0 : List UInt8 := dkwX12_init_0 ++ dktX12_init_1
theorem dksX12_init_0 : cX12_init.data.toList.drop 0 = dktX12_init_0 := by decide +kernel
theorem dksX12_init_1 : cX12_init.data.toList.drop 24 = dktX12_init_1 := dk_seg dksX12_init_0 24 rfl rfl
theorem dX12_init_0 : decode cX12_init 0 = .ok (.aload_n 0, 1) := dk_42 (dk_at dksX12_init_0 0 rfl rfl)
theorem dX12_init_1 : decode cX12_init 1 = .ok (.invokespecial 1, 3) := dk_183 0 1 (dk_at dksX12_init_0 1 rfl rfl)
theorem dX12_init_4 : decode cX12_init 4 = .ok (.aload_n 0, 1) := dk_42 (dk_at dksX12_init_0 4 rfl rfl)
theorem dX12_init_5 : decode cX12_init 5 = .ok (.new 7, 3) := dk_187 0 7 (dk_at dksX12_init_0 5 rfl rfl)
theorem dX12_init_8 : decode cX12_init 8 = .ok (.dup, 1) := dk_89 (dk_at dksX12_init_0 8 rfl rfl)
theorem dX12_init_9 : decode cX12_init 9 = .ok (.iconst 2, 1) := dk_5 (dk_at dksX12_init_0 9 rfl rfl)
theorem dX12_init_10 : decode cX12_init 10 = .ok (.invokespecial 9, 3) := dk_183 0 9 (dk_at dksX12_init_0 10 rfl rfl)
theorem dX12_init_13 : decode cX12_init 13 = .ok (.putfield 12, 3) := dk_181 0 12 (dk_at dksX12_init_0 13 rfl rfl)
theorem dX12_init_16 : decode cX12_init 16 = .ok (.aload_n 0, 1) := dk_42 (dk_at dksX12_init_0 16 rfl rfl)
theorem dX12_init_17 : decode cX12_init 17 = .ok (.new 18, 3) := dk_187 0 18 (dk_at dksX12_init_0 17 rfl rfl)
theorem dX12_init_20 : decode cX12_init 20 = .ok (.dup, 1) := dk_89 (dk_at dksX12_init_0 20 rfl rfl)
theorem dX12_init_21 : decode cX12_init 21 = .ok (.invokespecial 20, 3) := dk_183 0 20 (dk_at dksX12_init_0 21 rfl rfl)
theorem dX12_init_24 : decode cX12_init 24 = .ok (.putfield 21, 3) := dk_181 0 21 (dk_at dksX12_init_1 0 rfl rfl)
theorem dX12_init_27 : decode cX12_init 27 = .ok (.return_, 1) := dk_177 (dk_at dksX12_init_1 3 rfl rfl)
abbrev cX12_add : ByteArray := prog_5_method_2_code
def yX12_add : MethodName := ⟨RX12, "add", "(CLMarriageHerring$Value;)V"⟩
def dkwX12_add_0 : List UInt8 := [42, 180, 0, 21, 27, 182, 0, 25, 87, 42, 180, 0, 12, 44, 185, 0, 29, 2, 0, 87, 177]
abbrev dktX12_add_0 : List UInt8 := dkwX12_add_0 ++ []
theorem dksX12_add_0 : cX12_add.data.toList.drop 0 = dktX12_add_0 := by decide +kernel
theorem dX12_add_0 : decode cX12_add 0 = .ok (.aload_n 0, 1) := dk_42 (dk_at dksX12_add_0 0 rfl rfl)
theorem dX12_add_1 : decode cX12_add 1 = .ok (.getfield 21, 3) := dk_180 0 21 (dk_at dksX12_add_0 1 rfl rfl)
theorem dX12_add_4 : decode cX12_add 4 = .ok (.iload_n 1, 1) := dk_27 (dk_at dksX12_add_0 4 rfl rfl)
theorem dX12_add_5 : decode cX12_add 5 = .ok (.invokevirtual 25, 3) := dk_182 0 25 (dk_at dksX12_add_0 5 rfl rfl)
theorem dX12_add_8 : decode cX12_add 8 = .ok (.pop, 1) := dk_87 (dk_at dksX12_add_0 8 rfl rfl)
theorem dX12_add_9 : decode cX12_add 9 = .ok (.aload_n 0, 1) := dk_42 (dk_at dksX12_add_0 9 rfl rfl)
theorem dX12_add_10 : decode cX12_add 10 = .ok (.getfield 12, 3) := dk_180 0 12 (dk_at dksX12_add_0 10 rfl rfl)
theorem dX12_add_13 : decode cX12_add 13 = .ok (.aload_n 2, 1) := dk_44 (dk_at dksX12_add_0 13 rfl rfl)
theorem dX12_add_14 : decode cX12_add 14 = .ok (.invokeinterface 29 2, 5) := by decide +kernel
theorem dX12_add_19 : decode cX12_add 19 = .ok (.pop, 1) := dk_87 (dk_at dksX12_add_0 19 rfl rfl)
theorem dX12_add_20 : decode cX12_add 20 = .ok (.return_, 1) := dk_177 (dk_at dksX12_add_0 20 rfl rfl)
abbrev cX12_at : ByteArray := prog_5_method_3_code
def yX12_at : MethodName := ⟨RX12, "at", "(LMarriageHerring$Moment;)J"⟩
def dkwX12_at_3 : List UInt8 := [132, 4, 1, 167, 255, 204, 32, 173]
abbrev dktX12_at_3 : List UInt8 := dkwX12_at_3 ++ []
def dkwX12_at_2 : List UInt8 := [180, 0, 12, 21, 4, 185, 0, 35, 2, 0, 192, 0, 2, 43, 182, 0, 39, 184, 0, 51, 184, 0, 55, 65]
abbrev dktX12_at_2 : List UInt8 := dkwX12_at_2 ++ dktX12_at_3
def dkwX12_at_1 : List UInt8 := [180, 0, 12, 185, 0, 43, 1, 0, 162, 0, 44, 42, 180, 0, 21, 21, 4, 182, 0, 47, 32, 42]
abbrev dktX12_at_1 : List UInt8 := dkwX12_at_1 ++ dktX12_at_2
def dkwX12_at_0 : List UInt8 := [42, 180, 0, 12, 3, 185, 0, 35, 2, 0, 192, 0, 2, 43, 182, 0, 39, 65, 4, 54, 4, 21, 4, 42]
abbrev dktX12_at_0 : List UInt8 := dkwX12_at_0 ++ dktX12_at_1
theorem dksX12_at_0 : cX12_at.data.toList.drop 0 = dktX12_at_0 := by decide +kernel
theorem dksX12_at_1 : cX12_at.data.toList.drop 24 = dktX12_at_1 := dk_seg dksX12_at_0 24 rfl rfl
theorem dksX12_at_2 : cX12_at.data.toList.drop 46 = dktX12_at_2 := dk_seg dksX12_at_1 22 rfl rfl
theorem dksX12_at_3 : cX12_at.data.toList.drop 70 = dktX12_at_3 := dk_seg dksX12_at_2 24 rfl rfl
theorem dX12_at_0 : decode cX12_at 0 = .ok (.aload_n 0, 1) := dk_42 (dk_at dksX12_at_0 0 rfl rfl)
theorem dX12_at_1 : decode cX12_at 1 = .ok (.getfield 12, 3) := dk_180 0 12 (dk_at dksX12_at_0 1 rfl rfl)
theorem dX12_at_4 : decode cX12_at 4 = .ok (.iconst 0, 1) := dk_3 (dk_at dksX12_at_0 4 rfl rfl)
theorem dX12_at_5 : decode cX12_at 5 = .ok (.invokeinterface 35 2, 5) := by decide +kernel
theorem dX12_at_10 : decode cX12_at 10 = .ok (.checkcast 2, 3) := dk_192 0 2 (dk_at dksX12_at_0 10 rfl rfl)
theorem dX12_at_13 : decode cX12_at 13 = .ok (.aload_n 1, 1) := dk_43 (dk_at dksX12_at_0 13 rfl rfl)
theorem dX12_at_14 : decode cX12_at 14 = .ok (.invokevirtual 39, 3) := dk_182 0 39 (dk_at dksX12_at_0 14 rfl rfl)
theorem dX12_at_17 : decode cX12_at 17 = .ok (.lstore_n 2, 1) := dk_65 (dk_at dksX12_at_0 17 rfl rfl)
theorem dX12_at_18 : decode cX12_at 18 = .ok (.iconst 1, 1) := dk_4 (dk_at dksX12_at_0 18 rfl rfl)
theorem dX12_at_19 : decode cX12_at 19 = .ok (.istore 4, 2) := dk_54 4 (dk_at dksX12_at_0 19 rfl rfl)
theorem dX12_at_21 : decode cX12_at 21 = .ok (.iload 4, 2) := dk_21 4 (dk_at dksX12_at_0 21 rfl rfl)
theorem dX12_at_23 : decode cX12_at 23 = .ok (.aload_n 0, 1) := dk_42 (dk_at dksX12_at_0 23 rfl rfl)
theorem dX12_at_24 : decode cX12_at 24 = .ok (.getfield 12, 3) := dk_180 0 12 (dk_at dksX12_at_1 0 rfl rfl)
theorem dX12_at_27 : decode cX12_at 27 = .ok (.invokeinterface 43 1, 5) := by decide +kernel
theorem dX12_at_32 : decode cX12_at 32 = .ok (.if_icmp .ge 44, 3) := dk_162 0 44 (dk_at dksX12_at_1 8 rfl rfl)
theorem dX12_at_35 : decode cX12_at 35 = .ok (.aload_n 0, 1) := dk_42 (dk_at dksX12_at_1 11 rfl rfl)
theorem dX12_at_36 : decode cX12_at 36 = .ok (.getfield 21, 3) := dk_180 0 21 (dk_at dksX12_at_1 12 rfl rfl)
theorem dX12_at_39 : decode cX12_at 39 = .ok (.iload 4, 2) := dk_21 4 (dk_at dksX12_at_1 15 rfl rfl)
theorem dX12_at_41 : decode cX12_at 41 = .ok (.invokevirtual 47, 3) := dk_182 0 47 (dk_at dksX12_at_1 17 rfl rfl)
theorem dX12_at_44 : decode cX12_at 44 = .ok (.lload_n 2, 1) := dk_32 (dk_at dksX12_at_1 20 rfl rfl)
theorem dX12_at_45 : decode cX12_at 45 = .ok (.aload_n 0, 1) := dk_42 (dk_at dksX12_at_1 21 rfl rfl)
theorem dX12_at_46 : decode cX12_at 46 = .ok (.getfield 12, 3) := dk_180 0 12 (dk_at dksX12_at_2 0 rfl rfl)
theorem dX12_at_49 : decode cX12_at 49 = .ok (.iload 4, 2) := dk_21 4 (dk_at dksX12_at_2 3 rfl rfl)
theorem dX12_at_51 : decode cX12_at 51 = .ok (.invokeinterface 35 2, 5) := by decide +kernel
theorem dX12_at_56 : decode cX12_at 56 = .ok (.checkcast 2, 3) := dk_192 0 2 (dk_at dksX12_at_2 10 rfl rfl)
theorem dX12_at_59 : decode cX12_at 59 = .ok (.aload_n 1, 1) := dk_43 (dk_at dksX12_at_2 13 rfl rfl)
theorem dX12_at_60 : decode cX12_at 60 = .ok (.invokevirtual 39, 3) := dk_182 0 39 (dk_at dksX12_at_2 14 rfl rfl)
theorem dX12_at_63 : decode cX12_at 63 = .ok (.invokestatic 51, 3) := dk_184 0 51 (dk_at dksX12_at_2 17 rfl rfl)
theorem dX12_at_66 : decode cX12_at 66 = .ok (.invokestatic 55, 3) := dk_184 0 55 (dk_at dksX12_at_2 20 rfl rfl)
theorem dX12_at_69 : decode cX12_at 69 = .ok (.lstore_n 2, 1) := dk_65 (dk_at dksX12_at_2 23 rfl rfl)
theorem dX12_at_70 : decode cX12_at 70 = .ok (.iinc 4 1, 3) := dk_132 4 1 (dk_at dksX12_at_3 0 rfl rfl)
theorem dX12_at_73 : decode cX12_at 73 = .ok (.goto (-52), 3) := dk_167 255 204 (dk_at dksX12_at_3 3 rfl rfl)
theorem dX12_at_76 : decode cX12_at 76 = .ok (.lload_n 2, 1) := dk_32 (dk_at dksX12_at_3 6 rfl rfl)
theorem dX12_at_77 : decode cX12_at 77 = .ok (.lreturn, 1) := dk_173 (dk_at dksX12_at_3 7 rfl rfl)
abbrev cX12_two : ByteArray := prog_5_method_4_code
def yX12_two : MethodName := ⟨RX12, "two", "(CJJ)J"⟩
def dkwX12_two_3 : List UInt8 := [184, 0, 61, 173]
abbrev dktX12_two_3 : List UInt8 := dkwX12_two_3 ++ []
def dkwX12_two_2 : List UInt8 := [31, 33, 97, 173, 31, 33, 101, 173, 31, 33, 105, 173, 33, 9, 148, 154, 0, 7, 9, 167, 0, 8, 31, 33]
abbrev dktX12_two_2 : List UInt8 := dkwX12_two_2 ++ dktX12_two_3
def dkwX12_two_1 : List UInt8 := [170, 0, 0, 0, 0, 0, 43, 0, 0, 0, 42, 0, 0, 0, 45, 0, 0, 0, 39, 0, 0, 0, 31, 0, 0, 0, 43, 0, 0, 0, 35]
abbrev dktX12_two_1 : List UInt8 := dkwX12_two_1 ++ dktX12_two_2
def dkwX12_two_0 : List UInt8 := [26]
abbrev dktX12_two_0 : List UInt8 := dkwX12_two_0 ++ dktX12_two_1
theorem dksX12_two_0 : cX12_two.data.toList.drop 0 = dktX12_two_0 := by decide +kernel
theorem dksX12_two_1 : cX12_two.data.toList.drop 1 = dktX12_two_1 := dk_seg dksX12_two_0 1 rfl rfl
theorem dksX12_two_2 : cX12_two.data.toList.drop 32 = dktX12_two_2 := dk_seg dksX12_two_1 31 rfl rfl
theorem dksX12_two_3 : cX12_two.data.toList.drop 56 = dktX12_two_3 := dk_seg dksX12_two_2 24 rfl rfl
theorem dX12_two_0 : decode cX12_two 0 = .ok (.iload_n 0, 1) := dk_26 (dk_at dksX12_two_0 0 rfl rfl)
theorem dX12_two_1 : decode cX12_two 1 = .ok (.tableswitch 43 42 45 #[39, 31, 43, 35], 31) := by decide +kernel
theorem dX12_two_32 : decode cX12_two 32 = .ok (.lload_n 1, 1) := dk_31 (dk_at dksX12_two_2 0 rfl rfl)
theorem dX12_two_33 : decode cX12_two 33 = .ok (.lload_n 3, 1) := dk_33 (dk_at dksX12_two_2 1 rfl rfl)
theorem dX12_two_34 : decode cX12_two 34 = .ok (.ladd, 1) := dk_97 (dk_at dksX12_two_2 2 rfl rfl)
theorem dX12_two_35 : decode cX12_two 35 = .ok (.lreturn, 1) := dk_173 (dk_at dksX12_two_2 3 rfl rfl)
theorem dX12_two_36 : decode cX12_two 36 = .ok (.lload_n 1, 1) := dk_31 (dk_at dksX12_two_2 4 rfl rfl)
theorem dX12_two_37 : decode cX12_two 37 = .ok (.lload_n 3, 1) := dk_33 (dk_at dksX12_two_2 5 rfl rfl)
theorem dX12_two_38 : decode cX12_two 38 = .ok (.lsub, 1) := dk_101 (dk_at dksX12_two_2 6 rfl rfl)
theorem dX12_two_39 : decode cX12_two 39 = .ok (.lreturn, 1) := dk_173 (dk_at dksX12_two_2 7 rfl rfl)
theorem dX12_two_40 : decode cX12_two 40 = .ok (.lload_n 1, 1) := dk_31 (dk_at dksX12_two_2 8 rfl rfl)
theorem dX12_two_41 : decode cX12_two 41 = .ok (.lload_n 3, 1) := dk_33 (dk_at dksX12_two_2 9 rfl rfl)
theorem dX12_two_42 : decode cX12_two 42 = .ok (.lmul, 1) := dk_105 (dk_at dksX12_two_2 10 rfl rfl)
theorem dX12_two_43 : decode cX12_two 43 = .ok (.lreturn, 1) := dk_173 (dk_at dksX12_two_2 11 rfl rfl)
theorem dX12_two_44 : decode cX12_two 44 = .ok (.lload_n 3, 1) := dk_33 (dk_at dksX12_two_2 12 rfl rfl)
theorem dX12_two_45 : decode cX12_two 45 = .ok (.lconst 0, 1) := dk_9 (dk_at dksX12_two_2 13 rfl rfl)
theorem dX12_two_46 : decode cX12_two 46 = .ok (.lcmp, 1) := dk_148 (dk_at dksX12_two_2 14 rfl rfl)
theorem dX12_two_47 : decode cX12_two 47 = .ok (.ifCond .ne 7, 3) := dk_154 0 7 (dk_at dksX12_two_2 15 rfl rfl)
theorem dX12_two_50 : decode cX12_two 50 = .ok (.lconst 0, 1) := dk_9 (dk_at dksX12_two_2 18 rfl rfl)
theorem dX12_two_51 : decode cX12_two 51 = .ok (.goto 8, 3) := dk_167 0 8 (dk_at dksX12_two_2 19 rfl rfl)
theorem dX12_two_54 : decode cX12_two 54 = .ok (.lload_n 1, 1) := dk_31 (dk_at dksX12_two_2 22 rfl rfl)
theorem dX12_two_55 : decode cX12_two 55 = .ok (.lload_n 3, 1) := dk_33 (dk_at dksX12_two_2 23 rfl rfl)
theorem dX12_two_56 : decode cX12_two 56 = .ok (.invokestatic 61, 3) := dk_184 0 61 (dk_at dksX12_two_3 0 rfl rfl)
theorem dX12_two_59 : decode cX12_two 59 = .ok (.lreturn, 1) := dk_173 (dk_at dksX12_two_3 3 rfl rfl)
theorem q184 : (Jvm.Cond.initialized "MarriageHerring$Chain") ∈ lw_all := lw_g (lw_at lw_m1 28 rfl) rfl
theorem q889 : (Jvm.Cond.selects "MarriageHerring$Chain" ({ cls := "java/lang/Object", name := "getClass", desc := "()Ljava/lang/Class;" } : Jvm.MethodName) ({ cls := "java/lang/Object", name := "getClass", desc := "()Ljava/lang/Class;" } : Jvm.MethodName)) ∈ lw_all := lw_g (lw_at lw_m4 13 rfl) rfl
theorem q985 : (Jvm.Cond.instantiable "MarriageHerring$Chain" (2 : Nat)) ∈ lw_all := lw_g (lw_at lw_m4 109 rfl) rfl
theorem q987 : (Jvm.Cond.instanceMethod ({ cls := "MarriageHerring$Chain", name := "<init>", desc := "()V" } : Jvm.MethodName)) ∈ lw_all := lw_g (lw_at lw_m4 111 rfl) rfl
theorem q988 : (Jvm.Cond.code ({ cls := "MarriageHerring$Chain", name := "<init>", desc := "()V" } : Jvm.MethodName) prog_5_method_1_code (1 : Nat) (Option.none : Option Jvm.ClassFile.FieldType)) ∈ lw_all := lw_g (lw_at lw_m4 112 rfl) rfl
theorem q989 : (Jvm.Cond.methodLinkNest "MarriageHerring$Chain" (1 : Nat) ({ cls := "MarriageHerring$Value", name := "<init>", desc := "()V" } : Jvm.MethodName) "MarriageHerring") ∈ lw_tbl := lw_at lw_m4 113 rfl
theorem q993 : (Jvm.Cond.classLink "MarriageHerring$Chain" (7 : Nat) "java/util/ArrayList") ∈ lw_all := lw_g (lw_at lw_m4 117 rfl) rfl
theorem q994 : (Jvm.Cond.methodLink "MarriageHerring$Chain" (9 : Nat) ({ cls := "java/util/ArrayList", name := "<init>", desc := "(I)V" } : Jvm.MethodName)) ∈ lw_all := lw_g (lw_at lw_m4 118 rfl) rfl
theorem q995 : (Jvm.Cond.classLink "MarriageHerring$Chain" (18 : Nat) "java/lang/StringBuilder") ∈ lw_all := lw_g (lw_at lw_m4 119 rfl) rfl
theorem q997 : (Jvm.Cond.methodLink "MarriageHerring$Chain" (20 : Nat) ({ cls := "java/lang/StringBuilder", name := "<init>", desc := "()V" } : Jvm.MethodName)) ∈ lw_all := lw_g (lw_at lw_m4 121 rfl) rfl
theorem q1018 : (Jvm.Cond.fieldLink "MarriageHerring$Chain" (12 : Nat) "MarriageHerring$Chain" "values" "Ljava/util/List;") ∈ lw_all := lw_g (lw_at lw_m4 142 rfl) rfl
theorem q1019 : (Jvm.Cond.fieldLink "MarriageHerring$Chain" (21 : Nat) "MarriageHerring$Chain" "signs" "Ljava/lang/StringBuilder;") ∈ lw_all := lw_g (lw_at lw_m4 143 rfl) rfl
theorem q1020 : (Jvm.Cond.laysFinal "MarriageHerring$Chain" "MarriageHerring$Chain" "values" "Ljava/util/List;") ∈ lw_all := lw_g (lw_at lw_m4 144 rfl) rfl
theorem q1021 : (Jvm.Cond.soleField "MarriageHerring$Chain" "values") ∈ lw_all := lw_g (lw_at lw_m4 145 rfl) rfl
theorem q1022 : (Jvm.Cond.laysFinal "MarriageHerring$Chain" "MarriageHerring$Chain" "signs" "Ljava/lang/StringBuilder;") ∈ lw_all := lw_g (lw_at lw_m4 146 rfl) rfl
theorem q1023 : (Jvm.Cond.soleField "MarriageHerring$Chain" "signs") ∈ lw_all := lw_g (lw_at lw_m4 147 rfl) rfl
theorem q1024 : (Jvm.Cond.superclass "MarriageHerring$Chain" "MarriageHerring$Value") ∈ lw_all := lw_g (lw_at lw_m4 148 rfl) rfl
theorem q1111 : (Jvm.Cond.instanceMethod ({ cls := "MarriageHerring$Chain", name := "add", desc := "(CLMarriageHerring$Value;)V" } : Jvm.MethodName)) ∈ lw_all := lw_g (lw_at lw_m4 235 rfl) rfl
theorem q1112 : (Jvm.Cond.selects "MarriageHerring$Chain" ({ cls := "MarriageHerring$Chain", name := "add", desc := "(CLMarriageHerring$Value;)V" } : Jvm.MethodName) ({ cls := "MarriageHerring$Chain", name := "add", desc := "(CLMarriageHerring$Value;)V" } : Jvm.MethodName)) ∈ lw_all := lw_g (lw_at lw_m4 236 rfl) rfl
theorem q1113 : (Jvm.Cond.code ({ cls := "MarriageHerring$Chain", name := "add", desc := "(CLMarriageHerring$Value;)V" } : Jvm.MethodName) prog_5_method_2_code (3 : Nat) (Option.none : Option Jvm.ClassFile.FieldType)) ∈ lw_all := lw_g (lw_at lw_m4 237 rfl) rfl
theorem q1114 : (Jvm.Cond.methodLink "MarriageHerring$Chain" (25 : Nat) ({ cls := "java/lang/StringBuilder", name := "append", desc := "(C)Ljava/lang/StringBuilder;" } : Jvm.MethodName)) ∈ lw_all := lw_g (lw_at lw_m4 238 rfl) rfl
theorem q1169 : (Jvm.Cond.interfaceEntry "MarriageHerring$Chain" (29 : Nat)) ∈ lw_tbl := lw_at lw_m5 53 rfl
theorem q1170 : (Jvm.Cond.methodLink "MarriageHerring$Chain" (29 : Nat) ({ cls := "java/util/List", name := "add", desc := "(Ljava/lang/Object;)Z" } : Jvm.MethodName)) ∈ lw_all := lw_g (lw_at lw_m5 54 rfl) rfl
theorem q1334 : (Jvm.Cond.selects "MarriageHerring$Chain" ({ cls := "MarriageHerring$Value", name := "at", desc := "(LMarriageHerring$Moment;)J" } : Jvm.MethodName) ({ cls := "MarriageHerring$Chain", name := "at", desc := "(LMarriageHerring$Moment;)J" } : Jvm.MethodName)) ∈ lw_all := lw_g (lw_at lw_m5 218 rfl) rfl
theorem q1335 : (Jvm.Cond.instanceMethod ({ cls := "MarriageHerring$Chain", name := "at", desc := "(LMarriageHerring$Moment;)J" } : Jvm.MethodName)) ∈ lw_all := lw_g (lw_at lw_m5 219 rfl) rfl
theorem q1336 : (Jvm.Cond.code ({ cls := "MarriageHerring$Chain", name := "at", desc := "(LMarriageHerring$Moment;)J" } : Jvm.MethodName) prog_5_method_3_code (5 : Nat) (Option.some Jvm.ClassFile.FieldType.long)) ∈ lw_all := lw_g (lw_at lw_m5 220 rfl) rfl
theorem q1337 : (Jvm.Cond.interfaceEntry "MarriageHerring$Chain" (35 : Nat)) ∈ lw_tbl := lw_at lw_m5 221 rfl
theorem q1338 : (Jvm.Cond.methodLink "MarriageHerring$Chain" (35 : Nat) ({ cls := "java/util/List", name := "get", desc := "(I)Ljava/lang/Object;" } : Jvm.MethodName)) ∈ lw_all := lw_g (lw_at lw_m5 222 rfl) rfl
theorem q1339 : (Jvm.Cond.classLink "MarriageHerring$Chain" (2 : Nat) "MarriageHerring$Value") ∈ lw_all := lw_g (lw_at lw_m5 223 rfl) rfl
theorem q1340 : (Jvm.Cond.methodLink "MarriageHerring$Chain" (39 : Nat) ({ cls := "MarriageHerring$Value", name := "at", desc := "(LMarriageHerring$Moment;)J" } : Jvm.MethodName)) ∈ lw_all := lw_g (lw_at lw_m5 224 rfl) rfl
theorem q1359 : (Jvm.Cond.interfaceEntry "MarriageHerring$Chain" (43 : Nat)) ∈ lw_tbl := lw_at lw_m6 3 rfl
theorem q1360 : (Jvm.Cond.methodLink "MarriageHerring$Chain" (43 : Nat) ({ cls := "java/util/List", name := "size", desc := "()I" } : Jvm.MethodName)) ∈ lw_all := lw_g (lw_at lw_m6 4 rfl) rfl
theorem q1361 : (Jvm.Cond.methodLink "MarriageHerring$Chain" (47 : Nat) ({ cls := "java/lang/StringBuilder", name := "charAt", desc := "(I)C" } : Jvm.MethodName)) ∈ lw_all := lw_g (lw_at lw_m6 5 rfl) rfl
theorem q1371 : (Jvm.Cond.methodLink "MarriageHerring$Chain" (51 : Nat) ({ cls := "MarriageHerring$Chain", name := "two", desc := "(CJJ)J" } : Jvm.MethodName)) ∈ lw_all := lw_g (lw_at lw_m6 15 rfl) rfl
theorem q1372 : (Jvm.Cond.static ({ cls := "MarriageHerring$Chain", name := "two", desc := "(CJJ)J" } : Jvm.MethodName)) ∈ lw_all := lw_g (lw_at lw_m6 16 rfl) rfl
theorem q1373 : (Jvm.Cond.code ({ cls := "MarriageHerring$Chain", name := "two", desc := "(CJJ)J" } : Jvm.MethodName) prog_5_method_4_code (5 : Nat) (Option.some Jvm.ClassFile.FieldType.long)) ∈ lw_all := lw_g (lw_at lw_m6 17 rfl) rfl
theorem q1374 : (Jvm.Cond.methodLink "MarriageHerring$Chain" (61 : Nat) ({ cls := "java/lang/Math", name := "floorDiv", desc := "(JJ)J" } : Jvm.MethodName)) ∈ lw_all := lw_g (lw_at lw_m6 18 rfl) rfl
theorem q1377 : (Jvm.Cond.methodLinkNest "MarriageHerring$Chain" (55 : Nat) ({ cls := "MarriageHerring", name := "held", desc := "(J)J" } : Jvm.MethodName) "MarriageHerring") ∈ lw_tbl := lw_at lw_m6 21 rfl
theorem q2573 : (Jvm.Cond.castable "MarriageHerring$Chain" "MarriageHerring$Value") ∈ lw_tbl := lw_at lw_m11 17 rfl
theorem q2590 : (Jvm.Cond.castable "MarriageHerring$Chain" "java/lang/Object") ∈ lw_tbl := lw_at lw_m11 34 rfl
theorem in_X12 : ∀ w ∈ wsX120, w ∈ lw_all := lw_in wsX120 [1020, 1022] (by decide +kernel) (by decide +kernel)
/-! MarriageHerring$Pair -/
set_option maxRecDepth 100000
def RX13 : String := "MarriageHerring$Pair"
def TX13 : u_T := fun k => match k with
  | 0 => ("MarriageHerring$Pair", "most", "Z", true)
  | 1 => ("MarriageHerring$Pair", "first", "LMarriageHerring$Value;", true)
  | _ => ("MarriageHerring$Pair", "second", "LMarriageHerring$Value;", true)
def tyX13 : Nat → FieldType := fun k => match k with
  | 0 => .boolean
  | 1 => .object "MarriageHerring$Value"
  | _ => .object "MarriageHerring$Value"
abbrev wsX130 : List Cond := u_ws RX13 TX13 3
theorem nmX13 : ∀ a, a < 3 → ∀ b, b < 3 → a ≠ b → (TX13 a).2.1 ≠ (TX13 b).2.1 := by decide +kernel
theorem tyX13_ok : ∀ k, k < 3 → parseFieldDescriptor (TX13 k).2.2.1 = some (tyX13 k) := by decide +kernel
abbrev cX13_init : ByteArray := prog_16_method_1_code
def yX13_init : MethodName := ⟨RX13, "<init>", "(ZLMarriageHerring$Value;LMarriageHerring$Value;)V"⟩
def dkwX13_init_0 : List UInt8 := [42, 183, 0, 1, 42, 27, 181, 0, 7, 42, 44, 181, 0, 13, 42, 45, 181, 0, 17, 177]
abbrev dktX13_init_0 : List UInt8 := dkwX13_init_0 ++ []
theorem dksX13_init_0 : cX13_init.data.toList.drop 0 = dktX13_init_0 := by decide +kernel
theorem dX13_init_0 : decode cX13_init 0 = .ok (.aload_n 0, 1) := dk_42 (dk_at dksX13_init_0 0 rfl rfl)
theorem dX13_init_1 : decode cX13_init 1 = .ok (.invokespecial 1, 3) := dk_183 0 1 (dk_at dksX13_init_0 1 rfl rfl)
theorem dX13_init_4 : decode cX13_init 4 = .ok (.aload_n 0, 1) := dk_42 (dk_at dksX13_init_0 4 rfl rfl)
theorem dX13_init_5 : decode cX13_init 5 = .ok (.iload_n 1, 1) := dk_27 (dk_at dksX13_init_0 5 rfl rfl)
theorem dX13_init_6 : decode cX13_init 6 = .ok (.putfield 7, 3) := dk_181 0 7 (dk_at dksX13_init_0 6 rfl rfl)
theorem dX13_init_9 : decode cX13_init 9 = .ok (.aload_n 0, 1) := dk_42 (dk_at dksX13_init_0 9 rfl rfl)
theorem dX13_init_10 : decode cX13_init 10 = .ok (.aload_n 2, 1) := dk_44 (dk_at dksX13_init_0 10 rfl rfl)
theorem dX13_init_11 : decode cX13_init 11 = .ok (.putfield 13, 3) := dk_181 0 13 (dk_at dksX13_init_0 11 rfl rfl)
theorem dX13_init_14 : decode cX13_init 14 = .ok (.aload_n 0, 1) := dk_42 (dk_at dksX13_init_0 14 rfl rfl)
theorem dX13_init_15 : decode cX13_init 15 = .ok (.aload_n 3, 1) := dk_45 (dk_at dksX13_init_0 15 rfl rfl)
theorem dX13_init_16 : decode cX13_init 16 = .ok (.putfield 17, 3) := dk_181 0 17 (dk_at dksX13_init_0 16 rfl rfl)
theorem dX13_init_19 : decode cX13_init 19 = .ok (.return_, 1) := dk_177 (dk_at dksX13_init_0 19 rfl rfl)
abbrev cX13_at : ByteArray := prog_16_method_2_code
def yX13_at : MethodName := ⟨RX13, "at", "(LMarriageHerring$Moment;)J"⟩
def dkwX13_at_1 : List UInt8 := [22, 4, 148, 158, 0, 7, 4, 167, 0, 4, 3, 160, 0, 7, 32, 167, 0, 5, 22, 4, 173]
abbrev dktX13_at_1 : List UInt8 := dkwX13_at_1 ++ []
def dkwX13_at_0 : List UInt8 := [42, 180, 0, 13, 43, 182, 0, 20, 65, 42, 180, 0, 17, 43, 182, 0, 20, 55, 4, 42, 180, 0, 7, 32]
abbrev dktX13_at_0 : List UInt8 := dkwX13_at_0 ++ dktX13_at_1
theorem dksX13_at_0 : cX13_at.data.toList.drop 0 = dktX13_at_0 := by decide +kernel
theorem dksX13_at_1 : cX13_at.data.toList.drop 24 = dktX13_at_1 := dk_seg dksX13_at_0 24 rfl rfl
theorem dX13_at_0 : decode cX13_at 0 = .ok (.aload_n 0, 1) := dk_42 (dk_at dksX13_at_0 0 rfl rfl)
theorem dX13_at_1 : decode cX13_at 1 = .ok (.getfield 13, 3) := dk_180 0 13 (dk_at dksX13_at_0 1 rfl rfl)
theorem dX13_at_4 : decode cX13_at 4 = .ok (.aload_n 1, 1) := dk_43 (dk_at dksX13_at_0 4 rfl rfl)
theorem dX13_at_5 : decode cX13_at 5 = .ok (.invokevirtual 20, 3) := dk_182 0 20 (dk_at dksX13_at_0 5 rfl rfl)
theorem dX13_at_8 : decode cX13_at 8 = .ok (.lstore_n 2, 1) := dk_65 (dk_at dksX13_at_0 8 rfl rfl)
theorem dX13_at_9 : decode cX13_at 9 = .ok (.aload_n 0, 1) := dk_42 (dk_at dksX13_at_0 9 rfl rfl)
theorem dX13_at_10 : decode cX13_at 10 = .ok (.getfield 17, 3) := dk_180 0 17 (dk_at dksX13_at_0 10 rfl rfl)
theorem dX13_at_13 : decode cX13_at 13 = .ok (.aload_n 1, 1) := dk_43 (dk_at dksX13_at_0 13 rfl rfl)
theorem dX13_at_14 : decode cX13_at 14 = .ok (.invokevirtual 20, 3) := dk_182 0 20 (dk_at dksX13_at_0 14 rfl rfl)
theorem dX13_at_17 : decode cX13_at 17 = .ok (.lstore 4, 2) := dk_55 4 (dk_at dksX13_at_0 17 rfl rfl)
theorem dX13_at_19 : decode cX13_at 19 = .ok (.aload_n 0, 1) := dk_42 (dk_at dksX13_at_0 19 rfl rfl)
theorem dX13_at_20 : decode cX13_at 20 = .ok (.getfield 7, 3) := dk_180 0 7 (dk_at dksX13_at_0 20 rfl rfl)
theorem dX13_at_23 : decode cX13_at 23 = .ok (.lload_n 2, 1) := dk_32 (dk_at dksX13_at_0 23 rfl rfl)
theorem dX13_at_24 : decode cX13_at 24 = .ok (.lload 4, 2) := dk_22 4 (dk_at dksX13_at_1 0 rfl rfl)
theorem dX13_at_26 : decode cX13_at 26 = .ok (.lcmp, 1) := dk_148 (dk_at dksX13_at_1 2 rfl rfl)
theorem dX13_at_27 : decode cX13_at 27 = .ok (.ifCond .le 7, 3) := dk_158 0 7 (dk_at dksX13_at_1 3 rfl rfl)
theorem dX13_at_30 : decode cX13_at 30 = .ok (.iconst 1, 1) := dk_4 (dk_at dksX13_at_1 6 rfl rfl)
theorem dX13_at_31 : decode cX13_at 31 = .ok (.goto 4, 3) := dk_167 0 4 (dk_at dksX13_at_1 7 rfl rfl)
theorem dX13_at_34 : decode cX13_at 34 = .ok (.iconst 0, 1) := dk_3 (dk_at dksX13_at_1 10 rfl rfl)
theorem dX13_at_35 : decode cX13_at 35 = .ok (.if_icmp .ne 7, 3) := dk_160 0 7 (dk_at dksX13_at_1 11 rfl rfl)
theorem dX13_at_38 : decode cX13_at 38 = .ok (.lload_n 2, 1) := dk_32 (dk_at dksX13_at_1 14 rfl rfl)
theorem dX13_at_39 : decode cX13_at 39 = .ok (.goto 5, 3) := dk_167 0 5 (dk_at dksX13_at_1 15 rfl rfl)
theorem dX13_at_42 : decode cX13_at 42 = .ok (.lload 4, 2) := dk_22 4 (dk_at dksX13_at_1 18 rfl rfl)
theorem dX13_at_44 : decode cX13_at 44 = .ok (.lreturn, 1) := dk_173 (dk_at dksX13_at_1 20 rfl rfl)
theorem q187 : (Jvm.Cond.initialized "MarriageHerring$Pair") ∈ lw_all := lw_g (lw_at lw_m1 31 rfl) rfl
theorem q899 : (Jvm.Cond.selects "MarriageHerring$Pair" ({ cls := "java/lang/Object", name := "getClass", desc := "()Ljava/lang/Class;" } : Jvm.MethodName) ({ cls := "java/lang/Object", name := "getClass", desc := "()Ljava/lang/Class;" } : Jvm.MethodName)) ∈ lw_all := lw_g (lw_at lw_m4 23 rfl) rfl
theorem q1046 : (Jvm.Cond.instantiable "MarriageHerring$Pair" (3 : Nat)) ∈ lw_all := lw_g (lw_at lw_m4 170 rfl) rfl
theorem q1048 : (Jvm.Cond.instanceMethod ({ cls := "MarriageHerring$Pair", name := "<init>", desc := "(ZLMarriageHerring$Value;LMarriageHerring$Value;)V" } : Jvm.MethodName)) ∈ lw_all := lw_g (lw_at lw_m4 172 rfl) rfl
theorem q1049 : (Jvm.Cond.code ({ cls := "MarriageHerring$Pair", name := "<init>", desc := "(ZLMarriageHerring$Value;LMarriageHerring$Value;)V" } : Jvm.MethodName) prog_16_method_1_code (4 : Nat) (Option.none : Option Jvm.ClassFile.FieldType)) ∈ lw_all := lw_g (lw_at lw_m4 173 rfl) rfl
theorem q1050 : (Jvm.Cond.methodLinkNest "MarriageHerring$Pair" (1 : Nat) ({ cls := "MarriageHerring$Value", name := "<init>", desc := "()V" } : Jvm.MethodName) "MarriageHerring") ∈ lw_tbl := lw_at lw_m4 174 rfl
theorem q1051 : (Jvm.Cond.fieldLink "MarriageHerring$Pair" (7 : Nat) "MarriageHerring$Pair" "most" "Z") ∈ lw_all := lw_g (lw_at lw_m4 175 rfl) rfl
theorem q1052 : (Jvm.Cond.fieldLink "MarriageHerring$Pair" (13 : Nat) "MarriageHerring$Pair" "first" "LMarriageHerring$Value;") ∈ lw_all := lw_g (lw_at lw_m4 176 rfl) rfl
theorem q1053 : (Jvm.Cond.fieldLink "MarriageHerring$Pair" (17 : Nat) "MarriageHerring$Pair" "second" "LMarriageHerring$Value;") ∈ lw_all := lw_g (lw_at lw_m4 177 rfl) rfl
theorem q1054 : (Jvm.Cond.laysFinal "MarriageHerring$Pair" "MarriageHerring$Pair" "most" "Z") ∈ lw_all := lw_g (lw_at lw_m4 178 rfl) rfl
theorem q1055 : (Jvm.Cond.soleField "MarriageHerring$Pair" "most") ∈ lw_all := lw_g (lw_at lw_m4 179 rfl) rfl
theorem q1056 : (Jvm.Cond.laysFinal "MarriageHerring$Pair" "MarriageHerring$Pair" "first" "LMarriageHerring$Value;") ∈ lw_all := lw_g (lw_at lw_m4 180 rfl) rfl
theorem q1057 : (Jvm.Cond.soleField "MarriageHerring$Pair" "first") ∈ lw_all := lw_g (lw_at lw_m4 181 rfl) rfl
theorem q1058 : (Jvm.Cond.laysFinal "MarriageHerring$Pair" "MarriageHerring$Pair" "second" "LMarriageHerring$Value;") ∈ lw_all := lw_g (lw_at lw_m4 182 rfl) rfl
theorem q1059 : (Jvm.Cond.soleField "MarriageHerring$Pair" "second") ∈ lw_all := lw_g (lw_at lw_m4 183 rfl) rfl
theorem q1060 : (Jvm.Cond.superclass "MarriageHerring$Pair" "MarriageHerring$Value") ∈ lw_all := lw_g (lw_at lw_m4 184 rfl) rfl
theorem q1346 : (Jvm.Cond.instanceMethod ({ cls := "MarriageHerring$Pair", name := "at", desc := "(LMarriageHerring$Moment;)J" } : Jvm.MethodName)) ∈ lw_all := lw_g (lw_at lw_m5 230 rfl) rfl
theorem q1347 : (Jvm.Cond.code ({ cls := "MarriageHerring$Pair", name := "at", desc := "(LMarriageHerring$Moment;)J" } : Jvm.MethodName) prog_16_method_2_code (6 : Nat) (Option.some Jvm.ClassFile.FieldType.long)) ∈ lw_all := lw_g (lw_at lw_m5 231 rfl) rfl
theorem q1348 : (Jvm.Cond.methodLink "MarriageHerring$Pair" (20 : Nat) ({ cls := "MarriageHerring$Value", name := "at", desc := "(LMarriageHerring$Moment;)J" } : Jvm.MethodName)) ∈ lw_all := lw_g (lw_at lw_m5 232 rfl) rfl
theorem q1380 : (Jvm.Cond.selects "MarriageHerring$Pair" ({ cls := "MarriageHerring$Value", name := "at", desc := "(LMarriageHerring$Moment;)J" } : Jvm.MethodName) ({ cls := "MarriageHerring$Pair", name := "at", desc := "(LMarriageHerring$Moment;)J" } : Jvm.MethodName)) ∈ lw_all := lw_g (lw_at lw_m6 24 rfl) rfl
theorem q2576 : (Jvm.Cond.castable "MarriageHerring$Pair" "MarriageHerring$Value") ∈ lw_tbl := lw_at lw_m11 20 rfl
theorem q2592 : (Jvm.Cond.castable "MarriageHerring$Pair" "java/lang/Object") ∈ lw_tbl := lw_at lw_m11 36 rfl
theorem in_X13 : ∀ w ∈ wsX130, w ∈ lw_all := lw_in wsX130 [1054, 1056, 1058] (by decide +kernel) (by decide +kernel)
/-! MarriageHerring$Fixed -/
set_option maxRecDepth 100000
def RX14 : String := "MarriageHerring$Fixed"
def TX14 : u_T := fun k => match k with
  | _ => ("MarriageHerring$Fixed", "value", "J", true)
def tyX14 : Nat → FieldType := fun k => match k with
  | _ => .long
abbrev wsX140 : List Cond := u_ws RX14 TX14 1
theorem nmX14 : ∀ a, a < 1 → ∀ b, b < 1 → a ≠ b → (TX14 a).2.1 ≠ (TX14 b).2.1 := by decide +kernel
theorem tyX14_ok : ∀ k, k < 1 → parseFieldDescriptor (TX14 k).2.2.1 = some (tyX14 k) := by decide +kernel
abbrev cX14_init : ByteArray := prog_10_method_1_code
def yX14_init : MethodName := ⟨RX14, "<init>", "(J)V"⟩
def dkwX14_init_0 : List UInt8 := [42, 183, 0, 1, 42, 31, 181, 0, 7, 177]
abbrev dktX14_init_0 : List UInt8 := dkwX14_init_0 ++ []
theorem dksX14_init_0 : cX14_init.data.toList.drop 0 = dktX14_init_0 := by decide +kernel
theorem dX14_init_0 : decode cX14_init 0 = .ok (.aload_n 0, 1) := dk_42 (dk_at dksX14_init_0 0 rfl rfl)
theorem dX14_init_1 : decode cX14_init 1 = .ok (.invokespecial 1, 3) := dk_183 0 1 (dk_at dksX14_init_0 1 rfl rfl)
theorem dX14_init_4 : decode cX14_init 4 = .ok (.aload_n 0, 1) := dk_42 (dk_at dksX14_init_0 4 rfl rfl)
theorem dX14_init_5 : decode cX14_init 5 = .ok (.lload_n 1, 1) := dk_31 (dk_at dksX14_init_0 5 rfl rfl)
theorem dX14_init_6 : decode cX14_init 6 = .ok (.putfield 7, 3) := dk_181 0 7 (dk_at dksX14_init_0 6 rfl rfl)
theorem dX14_init_9 : decode cX14_init 9 = .ok (.return_, 1) := dk_177 (dk_at dksX14_init_0 9 rfl rfl)
abbrev cX14_at : ByteArray := prog_10_method_2_code
def yX14_at : MethodName := ⟨RX14, "at", "(LMarriageHerring$Moment;)J"⟩
theorem dX14_at_0 : decode cX14_at 0 = .ok (.aload_n 0, 1) := by decide +kernel
theorem dX14_at_1 : decode cX14_at 1 = .ok (.getfield 7, 3) := by decide +kernel
theorem dX14_at_4 : decode cX14_at 4 = .ok (.lreturn, 1) := by decide +kernel
theorem q188 : (Jvm.Cond.initialized "MarriageHerring$Fixed") ∈ lw_all := lw_g (lw_at lw_m1 32 rfl) rfl
theorem q894 : (Jvm.Cond.selects "MarriageHerring$Fixed" ({ cls := "java/lang/Object", name := "getClass", desc := "()Ljava/lang/Class;" } : Jvm.MethodName) ({ cls := "java/lang/Object", name := "getClass", desc := "()Ljava/lang/Class;" } : Jvm.MethodName)) ∈ lw_all := lw_g (lw_at lw_m4 18 rfl) rfl
theorem q1062 : (Jvm.Cond.instantiable "MarriageHerring$Fixed" (1 : Nat)) ∈ lw_all := lw_g (lw_at lw_m4 186 rfl) rfl
theorem q1064 : (Jvm.Cond.instanceMethod ({ cls := "MarriageHerring$Fixed", name := "<init>", desc := "(J)V" } : Jvm.MethodName)) ∈ lw_all := lw_g (lw_at lw_m4 188 rfl) rfl
theorem q1065 : (Jvm.Cond.code ({ cls := "MarriageHerring$Fixed", name := "<init>", desc := "(J)V" } : Jvm.MethodName) prog_10_method_1_code (3 : Nat) (Option.none : Option Jvm.ClassFile.FieldType)) ∈ lw_all := lw_g (lw_at lw_m4 189 rfl) rfl
theorem q1066 : (Jvm.Cond.methodLinkNest "MarriageHerring$Fixed" (1 : Nat) ({ cls := "MarriageHerring$Value", name := "<init>", desc := "()V" } : Jvm.MethodName) "MarriageHerring") ∈ lw_tbl := lw_at lw_m4 190 rfl
theorem q1067 : (Jvm.Cond.fieldLink "MarriageHerring$Fixed" (7 : Nat) "MarriageHerring$Fixed" "value" "J") ∈ lw_all := lw_g (lw_at lw_m4 191 rfl) rfl
theorem q1068 : (Jvm.Cond.laysFinal "MarriageHerring$Fixed" "MarriageHerring$Fixed" "value" "J") ∈ lw_all := lw_g (lw_at lw_m4 192 rfl) rfl
theorem q1069 : (Jvm.Cond.soleField "MarriageHerring$Fixed" "value") ∈ lw_all := lw_g (lw_at lw_m4 193 rfl) rfl
theorem q1070 : (Jvm.Cond.superclass "MarriageHerring$Fixed" "MarriageHerring$Value") ∈ lw_all := lw_g (lw_at lw_m4 194 rfl) rfl
theorem q1341 : (Jvm.Cond.instanceMethod ({ cls := "MarriageHerring$Fixed", name := "at", desc := "(LMarriageHerring$Moment;)J" } : Jvm.MethodName)) ∈ lw_all := lw_g (lw_at lw_m5 225 rfl) rfl
theorem q1342 : (Jvm.Cond.code ({ cls := "MarriageHerring$Fixed", name := "at", desc := "(LMarriageHerring$Moment;)J" } : Jvm.MethodName) prog_10_method_2_code (2 : Nat) (Option.some Jvm.ClassFile.FieldType.long)) ∈ lw_all := lw_g (lw_at lw_m5 226 rfl) rfl
theorem q1378 : (Jvm.Cond.selects "MarriageHerring$Fixed" ({ cls := "MarriageHerring$Value", name := "at", desc := "(LMarriageHerring$Moment;)J" } : Jvm.MethodName) ({ cls := "MarriageHerring$Fixed", name := "at", desc := "(LMarriageHerring$Moment;)J" } : Jvm.MethodName)) ∈ lw_all := lw_g (lw_at lw_m6 22 rfl) rfl
theorem q2574 : (Jvm.Cond.castable "MarriageHerring$Fixed" "MarriageHerring$Value") ∈ lw_tbl := lw_at lw_m11 18 rfl
theorem q2593 : (Jvm.Cond.castable "MarriageHerring$Fixed" "java/lang/Object") ∈ lw_tbl := lw_at lw_m11 37 rfl
theorem in_X14 : ∀ w ∈ wsX140, w ∈ lw_all := lw_in wsX140 [1068] (by decide +kernel) (by decide +kernel)
/-! MarriageHerring$Asked -/
set_option maxRecDepth 100000
def RX15 : String := "MarriageHerring$Asked"
def TX15 : u_T := fun k => match k with
  | _ => ("MarriageHerring$Asked", "what", "I", true)
def tyX15 : Nat → FieldType := fun k => match k with
  | _ => .int
abbrev wsX150 : List Cond := u_ws RX15 TX15 1
theorem nmX15 : ∀ a, a < 1 → ∀ b, b < 1 → a ≠ b → (TX15 a).2.1 ≠ (TX15 b).2.1 := by decide +kernel
theorem tyX15_ok : ∀ k, k < 1 → parseFieldDescriptor (TX15 k).2.2.1 = some (tyX15 k) := by decide +kernel
abbrev cX15_init : ByteArray := prog_3_method_1_code
def yX15_init : MethodName := ⟨RX15, "<init>", "(I)V"⟩
def dkwX15_init_0 : List UInt8 := [42, 183, 0, 1, 42, 27, 181, 0, 7, 177]
abbrev dktX15_init_0 : List UInt8 := dkwX15_init_0 ++ []
theorem dksX15_init_0 : cX15_init.data.toList.drop 0 = dktX15_init_0 := by decide +kernel
theorem dX15_init_0 : decode cX15_init 0 = .ok (.aload_n 0, 1) := dk_42 (dk_at dksX15_init_0 0 rfl rfl)
theorem dX15_init_1 : decode cX15_init 1 = .ok (.invokespecial 1, 3) := dk_183 0 1 (dk_at dksX15_init_0 1 rfl rfl)
theorem dX15_init_4 : decode cX15_init 4 = .ok (.aload_n 0, 1) := dk_42 (dk_at dksX15_init_0 4 rfl rfl)
theorem dX15_init_5 : decode cX15_init 5 = .ok (.iload_n 1, 1) := dk_27 (dk_at dksX15_init_0 5 rfl rfl)
theorem dX15_init_6 : decode cX15_init 6 = .ok (.putfield 7, 3) := dk_181 0 7 (dk_at dksX15_init_0 6 rfl rfl)
theorem dX15_init_9 : decode cX15_init 9 = .ok (.return_, 1) := dk_177 (dk_at dksX15_init_0 9 rfl rfl)
abbrev cX15_at : ByteArray := prog_3_method_2_code
def yX15_at : MethodName := ⟨RX15, "at", "(LMarriageHerring$Moment;)J"⟩
def dkwX15_at_0 : List UInt8 := [43, 180, 0, 13, 42, 180, 0, 7, 47, 184, 0, 19, 173]
abbrev dktX15_at_0 : List UInt8 := dkwX15_at_0 ++ []
theorem dksX15_at_0 : cX15_at.data.toList.drop 0 = dktX15_at_0 := by decide +kernel
theorem dX15_at_0 : decode cX15_at 0 = .ok (.aload_n 1, 1) := dk_43 (dk_at dksX15_at_0 0 rfl rfl)
theorem dX15_at_1 : decode cX15_at 1 = .ok (.getfield 13, 3) := dk_180 0 13 (dk_at dksX15_at_0 1 rfl rfl)
theorem dX15_at_4 : decode cX15_at 4 = .ok (.aload_n 0, 1) := dk_42 (dk_at dksX15_at_0 4 rfl rfl)
theorem dX15_at_5 : decode cX15_at 5 = .ok (.getfield 7, 3) := dk_180 0 7 (dk_at dksX15_at_0 5 rfl rfl)
theorem dX15_at_8 : decode cX15_at 8 = .ok (.laload, 1) := dk_47 (dk_at dksX15_at_0 8 rfl rfl)
theorem dX15_at_9 : decode cX15_at 9 = .ok (.invokestatic 19, 3) := dk_184 0 19 (dk_at dksX15_at_0 9 rfl rfl)
theorem dX15_at_12 : decode cX15_at 12 = .ok (.lreturn, 1) := dk_173 (dk_at dksX15_at_0 12 rfl rfl)
theorem q189 : (Jvm.Cond.initialized "MarriageHerring$Asked") ∈ lw_all := lw_g (lw_at lw_m1 33 rfl) rfl
theorem q391 : (Jvm.Cond.fieldLinkNest "MarriageHerring$Asked" (13 : Nat) "MarriageHerring$Moment" "of" "[J" "MarriageHerring") ∈ lw_tbl := lw_at lw_m1 235 rfl
theorem q887 : (Jvm.Cond.selects "MarriageHerring$Asked" ({ cls := "java/lang/Object", name := "getClass", desc := "()Ljava/lang/Class;" } : Jvm.MethodName) ({ cls := "java/lang/Object", name := "getClass", desc := "()Ljava/lang/Class;" } : Jvm.MethodName)) ∈ lw_all := lw_g (lw_at lw_m4 11 rfl) rfl
theorem q1077 : (Jvm.Cond.instantiable "MarriageHerring$Asked" (1 : Nat)) ∈ lw_all := lw_g (lw_at lw_m4 201 rfl) rfl
theorem q1079 : (Jvm.Cond.instanceMethod ({ cls := "MarriageHerring$Asked", name := "<init>", desc := "(I)V" } : Jvm.MethodName)) ∈ lw_all := lw_g (lw_at lw_m4 203 rfl) rfl
theorem q1080 : (Jvm.Cond.code ({ cls := "MarriageHerring$Asked", name := "<init>", desc := "(I)V" } : Jvm.MethodName) prog_3_method_1_code (2 : Nat) (Option.none : Option Jvm.ClassFile.FieldType)) ∈ lw_all := lw_g (lw_at lw_m4 204 rfl) rfl
theorem q1081 : (Jvm.Cond.methodLinkNest "MarriageHerring$Asked" (1 : Nat) ({ cls := "MarriageHerring$Value", name := "<init>", desc := "()V" } : Jvm.MethodName) "MarriageHerring") ∈ lw_tbl := lw_at lw_m4 205 rfl
theorem q1082 : (Jvm.Cond.fieldLink "MarriageHerring$Asked" (7 : Nat) "MarriageHerring$Asked" "what" "I") ∈ lw_all := lw_g (lw_at lw_m4 206 rfl) rfl
theorem q1083 : (Jvm.Cond.laysFinal "MarriageHerring$Asked" "MarriageHerring$Asked" "what" "I") ∈ lw_all := lw_g (lw_at lw_m4 207 rfl) rfl
theorem q1084 : (Jvm.Cond.soleField "MarriageHerring$Asked" "what") ∈ lw_all := lw_g (lw_at lw_m4 208 rfl) rfl
theorem q1085 : (Jvm.Cond.superclass "MarriageHerring$Asked" "MarriageHerring$Value") ∈ lw_all := lw_g (lw_at lw_m4 209 rfl) rfl
theorem q1320 : (Jvm.Cond.selects "MarriageHerring$Asked" ({ cls := "MarriageHerring$Value", name := "at", desc := "(LMarriageHerring$Moment;)J" } : Jvm.MethodName) ({ cls := "MarriageHerring$Asked", name := "at", desc := "(LMarriageHerring$Moment;)J" } : Jvm.MethodName)) ∈ lw_all := lw_g (lw_at lw_m5 204 rfl) rfl
theorem q1321 : (Jvm.Cond.instanceMethod ({ cls := "MarriageHerring$Asked", name := "at", desc := "(LMarriageHerring$Moment;)J" } : Jvm.MethodName)) ∈ lw_all := lw_g (lw_at lw_m5 205 rfl) rfl
theorem q1322 : (Jvm.Cond.code ({ cls := "MarriageHerring$Asked", name := "at", desc := "(LMarriageHerring$Moment;)J" } : Jvm.MethodName) prog_3_method_2_code (2 : Nat) (Option.some Jvm.ClassFile.FieldType.long)) ∈ lw_all := lw_g (lw_at lw_m5 206 rfl) rfl
theorem q1323 : (Jvm.Cond.methodLinkNest "MarriageHerring$Asked" (19 : Nat) ({ cls := "MarriageHerring", name := "held", desc := "(J)J" } : Jvm.MethodName) "MarriageHerring") ∈ lw_tbl := lw_at lw_m5 207 rfl
theorem q2572 : (Jvm.Cond.castable "MarriageHerring$Asked" "MarriageHerring$Value") ∈ lw_tbl := lw_at lw_m11 16 rfl
theorem q2594 : (Jvm.Cond.castable "MarriageHerring$Asked" "java/lang/Object") ∈ lw_tbl := lw_at lw_m11 38 rfl
theorem in_X15 : ∀ w ∈ wsX150, w ∈ lw_all := lw_in wsX150 [1083] (by decide +kernel) (by decide +kernel)
/-! MarriageHerring$Looked -/
set_option maxRecDepth 100000
def RX16 : String := "MarriageHerring$Looked"
def TX16 : u_T := fun k => match k with
  | 0 => ("MarriageHerring$Looked", "what", "I", true)
  | 1 => ("MarriageHerring$Looked", "of", "LMarriageHerring$Value;", true)
  | _ => ("MarriageHerring$Looked", "this$0", "LMarriageHerring;", true)
def tyX16 : Nat → FieldType := fun k => match k with
  | 0 => .int
  | 1 => .object "MarriageHerring$Value"
  | _ => .object "MarriageHerring"
abbrev wsX160 : List Cond := u_ws RX16 TX16 3
theorem nmX16 : ∀ a, a < 3 → ∀ b, b < 3 → a ≠ b → (TX16 a).2.1 ≠ (TX16 b).2.1 := by decide +kernel
theorem tyX16_ok : ∀ k, k < 3 → parseFieldDescriptor (TX16 k).2.2.1 = some (tyX16 k) := by decide +kernel
abbrev cX16_init : ByteArray := prog_12_method_1_code
def yX16_init : MethodName := ⟨RX16, "<init>", "(LMarriageHerring;ILMarriageHerring$Value;)V"⟩
def dkwX16_init_0 : List UInt8 := [42, 43, 181, 0, 1, 42, 183, 0, 7, 42, 28, 181, 0, 13, 42, 45, 181, 0, 17, 177]
abbrev dktX16_init_0 : List UInt8 := dkwX16_init_0 ++ []
theorem dksX16_init_0 : cX16_init.data.toList.drop 0 = dktX16_init_0 := by decide +kernel
theorem dX16_init_0 : decode cX16_init 0 = .ok (.aload_n 0, 1) := dk_42 (dk_at dksX16_init_0 0 rfl rfl)
theorem dX16_init_1 : decode cX16_init 1 = .ok (.aload_n 1, 1) := dk_43 (dk_at dksX16_init_0 1 rfl rfl)
theorem dX16_init_2 : decode cX16_init 2 = .ok (.putfield 1, 3) := dk_181 0 1 (dk_at dksX16_init_0 2 rfl rfl)
theorem dX16_init_5 : decode cX16_init 5 = .ok (.aload_n 0, 1) := dk_42 (dk_at dksX16_init_0 5 rfl rfl)
theorem dX16_init_6 : decode cX16_init 6 = .ok (.invokespecial 7, 3) := dk_183 0 7 (dk_at dksX16_init_0 6 rfl rfl)
theorem dX16_init_9 : decode cX16_init 9 = .ok (.aload_n 0, 1) := dk_42 (dk_at dksX16_init_0 9 rfl rfl)
theorem dX16_init_10 : decode cX16_init 10 = .ok (.iload_n 2, 1) := dk_28 (dk_at dksX16_init_0 10 rfl rfl)
theorem dX16_init_11 : decode cX16_init 11 = .ok (.putfield 13, 3) := dk_181 0 13 (dk_at dksX16_init_0 11 rfl rfl)
theorem dX16_init_14 : decode cX16_init 14 = .ok (.aload_n 0, 1) := dk_42 (dk_at dksX16_init_0 14 rfl rfl)
theorem dX16_init_15 : decode cX16_init 15 = .ok (.aload_n 3, 1) := dk_45 (dk_at dksX16_init_0 15 rfl rfl)
theorem dX16_init_16 : decode cX16_init 16 = .ok (.putfield 17, 3) := dk_181 0 17 (dk_at dksX16_init_0 16 rfl rfl)
theorem dX16_init_19 : decode cX16_init 19 = .ok (.return_, 1) := dk_177 (dk_at dksX16_init_0 19 rfl rfl)
abbrev cX16_at : ByteArray := prog_12_method_2_code
def yX16_at : MethodName := ⟨RX16, "at", "(LMarriageHerring$Moment;)J"⟩
def dkwX16_at_0 : List UInt8 := [42, 180, 0, 1, 42, 180, 0, 13, 42, 180, 0, 17, 43, 182, 0, 21, 182, 0, 25, 184, 0, 31, 173]
abbrev dktX16_at_0 : List UInt8 := dkwX16_at_0 ++ []
theorem dksX16_at_0 : cX16_at.data.toList.drop 0 = dktX16_at_0 := by decide +kernel
theorem dX16_at_0 : decode cX16_at 0 = .ok (.aload_n 0, 1) := dk_42 (dk_at dksX16_at_0 0 rfl rfl)
theorem dX16_at_1 : decode cX16_at 1 = .ok (.getfield 1, 3) := dk_180 0 1 (dk_at dksX16_at_0 1 rfl rfl)
theorem dX16_at_4 : decode cX16_at 4 = .ok (.aload_n 0, 1) := dk_42 (dk_at dksX16_at_0 4 rfl rfl)
theorem dX16_at_5 : decode cX16_at 5 = .ok (.getfield 13, 3) := dk_180 0 13 (dk_at dksX16_at_0 5 rfl rfl)
theorem dX16_at_8 : decode cX16_at 8 = .ok (.aload_n 0, 1) := dk_42 (dk_at dksX16_at_0 8 rfl rfl)
theorem dX16_at_9 : decode cX16_at 9 = .ok (.getfield 17, 3) := dk_180 0 17 (dk_at dksX16_at_0 9 rfl rfl)
theorem dX16_at_12 : decode cX16_at 12 = .ok (.aload_n 1, 1) := dk_43 (dk_at dksX16_at_0 12 rfl rfl)
theorem dX16_at_13 : decode cX16_at 13 = .ok (.invokevirtual 21, 3) := dk_182 0 21 (dk_at dksX16_at_0 13 rfl rfl)
theorem dX16_at_16 : decode cX16_at 16 = .ok (.invokevirtual 25, 3) := dk_182 0 25 (dk_at dksX16_at_0 16 rfl rfl)
theorem dX16_at_19 : decode cX16_at 19 = .ok (.invokestatic 31, 3) := dk_184 0 31 (dk_at dksX16_at_0 19 rfl rfl)
theorem dX16_at_22 : decode cX16_at 22 = .ok (.lreturn, 1) := dk_173 (dk_at dksX16_at_0 22 rfl rfl)
theorem q190 : (Jvm.Cond.initialized "MarriageHerring$Looked") ∈ lw_all := lw_g (lw_at lw_m1 34 rfl) rfl
theorem q896 : (Jvm.Cond.selects "MarriageHerring$Looked" ({ cls := "java/lang/Object", name := "getClass", desc := "()Ljava/lang/Class;" } : Jvm.MethodName) ({ cls := "java/lang/Object", name := "getClass", desc := "()Ljava/lang/Class;" } : Jvm.MethodName)) ∈ lw_all := lw_g (lw_at lw_m4 20 rfl) rfl
theorem q1093 : (Jvm.Cond.instantiable "MarriageHerring$Looked" (3 : Nat)) ∈ lw_all := lw_g (lw_at lw_m4 217 rfl) rfl
theorem q1095 : (Jvm.Cond.instanceMethod ({ cls := "MarriageHerring$Looked", name := "<init>", desc := "(LMarriageHerring;ILMarriageHerring$Value;)V" } : Jvm.MethodName)) ∈ lw_all := lw_g (lw_at lw_m4 219 rfl) rfl
theorem q1096 : (Jvm.Cond.code ({ cls := "MarriageHerring$Looked", name := "<init>", desc := "(LMarriageHerring;ILMarriageHerring$Value;)V" } : Jvm.MethodName) prog_12_method_1_code (4 : Nat) (Option.none : Option Jvm.ClassFile.FieldType)) ∈ lw_all := lw_g (lw_at lw_m4 220 rfl) rfl
theorem q1097 : (Jvm.Cond.methodLinkNest "MarriageHerring$Looked" (7 : Nat) ({ cls := "MarriageHerring$Value", name := "<init>", desc := "()V" } : Jvm.MethodName) "MarriageHerring") ∈ lw_tbl := lw_at lw_m4 221 rfl
theorem q1098 : (Jvm.Cond.fieldLink "MarriageHerring$Looked" (13 : Nat) "MarriageHerring$Looked" "what" "I") ∈ lw_all := lw_g (lw_at lw_m4 222 rfl) rfl
theorem q1099 : (Jvm.Cond.fieldLink "MarriageHerring$Looked" (17 : Nat) "MarriageHerring$Looked" "of" "LMarriageHerring$Value;") ∈ lw_all := lw_g (lw_at lw_m4 223 rfl) rfl
theorem q1100 : (Jvm.Cond.fieldLink "MarriageHerring$Looked" (1 : Nat) "MarriageHerring$Looked" "this$0" "LMarriageHerring;") ∈ lw_all := lw_g (lw_at lw_m4 224 rfl) rfl
theorem q1101 : (Jvm.Cond.laysFinal "MarriageHerring$Looked" "MarriageHerring$Looked" "what" "I") ∈ lw_all := lw_g (lw_at lw_m4 225 rfl) rfl
theorem q1102 : (Jvm.Cond.soleField "MarriageHerring$Looked" "what") ∈ lw_all := lw_g (lw_at lw_m4 226 rfl) rfl
theorem q1103 : (Jvm.Cond.laysFinal "MarriageHerring$Looked" "MarriageHerring$Looked" "of" "LMarriageHerring$Value;") ∈ lw_all := lw_g (lw_at lw_m4 227 rfl) rfl
theorem q1104 : (Jvm.Cond.soleField "MarriageHerring$Looked" "of") ∈ lw_all := lw_g (lw_at lw_m4 228 rfl) rfl
theorem q1105 : (Jvm.Cond.laysFinal "MarriageHerring$Looked" "MarriageHerring$Looked" "this$0" "LMarriageHerring;") ∈ lw_all := lw_g (lw_at lw_m4 229 rfl) rfl
theorem q1106 : (Jvm.Cond.soleField "MarriageHerring$Looked" "this$0") ∈ lw_all := lw_g (lw_at lw_m4 230 rfl) rfl
theorem q1107 : (Jvm.Cond.superclass "MarriageHerring$Looked" "MarriageHerring$Value") ∈ lw_all := lw_g (lw_at lw_m4 231 rfl) rfl
theorem q1343 : (Jvm.Cond.instanceMethod ({ cls := "MarriageHerring$Looked", name := "at", desc := "(LMarriageHerring$Moment;)J" } : Jvm.MethodName)) ∈ lw_all := lw_g (lw_at lw_m5 227 rfl) rfl
theorem q1344 : (Jvm.Cond.code ({ cls := "MarriageHerring$Looked", name := "at", desc := "(LMarriageHerring$Moment;)J" } : Jvm.MethodName) prog_12_method_2_code (2 : Nat) (Option.some Jvm.ClassFile.FieldType.long)) ∈ lw_all := lw_g (lw_at lw_m5 228 rfl) rfl
theorem q1345 : (Jvm.Cond.methodLink "MarriageHerring$Looked" (21 : Nat) ({ cls := "MarriageHerring$Value", name := "at", desc := "(LMarriageHerring$Moment;)J" } : Jvm.MethodName)) ∈ lw_all := lw_g (lw_at lw_m5 229 rfl) rfl
theorem q1349 : (Jvm.Cond.methodLinkNest "MarriageHerring$Looked" (25 : Nat) ({ cls := "MarriageHerring", name := "looked", desc := "(IJ)J" } : Jvm.MethodName) "MarriageHerring") ∈ lw_tbl := lw_at lw_m5 233 rfl
theorem q1358 : (Jvm.Cond.methodLinkNest "MarriageHerring$Looked" (31 : Nat) ({ cls := "MarriageHerring", name := "held", desc := "(J)J" } : Jvm.MethodName) "MarriageHerring") ∈ lw_tbl := lw_at lw_m6 2 rfl
theorem q1379 : (Jvm.Cond.selects "MarriageHerring$Looked" ({ cls := "MarriageHerring$Value", name := "at", desc := "(LMarriageHerring$Moment;)J" } : Jvm.MethodName) ({ cls := "MarriageHerring$Looked", name := "at", desc := "(LMarriageHerring$Moment;)J" } : Jvm.MethodName)) ∈ lw_all := lw_g (lw_at lw_m6 23 rfl) rfl
theorem q2575 : (Jvm.Cond.castable "MarriageHerring$Looked" "MarriageHerring$Value") ∈ lw_tbl := lw_at lw_m11 19 rfl
theorem q2595 : (Jvm.Cond.castable "MarriageHerring$Looked" "java/lang/Object") ∈ lw_tbl := lw_at lw_m11 39 rfl
theorem in_X16 : ∀ w ∈ wsX160, w ∈ lw_all := lw_in wsX160 [1101, 1103, 1105] (by decide +kernel) (by decide +kernel)
/-! MarriageHerring$Test -/
set_option maxRecDepth 100000
def RX17 : String := "MarriageHerring$Test"
abbrev cX17_init : ByteArray := prog_20_method_1_code
def yX17_init : MethodName := ⟨RX17, "<init>", "()V"⟩
theorem dX17_init_0 : decode cX17_init 0 = .ok (.aload_n 0, 1) := by decide +kernel
theorem dX17_init_1 : decode cX17_init 1 = .ok (.invokespecial 1, 3) := by decide +kernel
theorem dX17_init_4 : decode cX17_init 4 = .ok (.return_, 1) := by decide +kernel
theorem q191 : (Jvm.Cond.initialized "MarriageHerring$Test") ∈ lw_all := lw_g (lw_at lw_m1 35 rfl) rfl
theorem q1185 : (Jvm.Cond.instanceMethod ({ cls := "MarriageHerring$Test", name := "<init>", desc := "()V" } : Jvm.MethodName)) ∈ lw_all := lw_g (lw_at lw_m5 69 rfl) rfl
theorem q1186 : (Jvm.Cond.code ({ cls := "MarriageHerring$Test", name := "<init>", desc := "()V" } : Jvm.MethodName) prog_20_method_1_code (1 : Nat) (Option.none : Option Jvm.ClassFile.FieldType)) ∈ lw_all := lw_g (lw_at lw_m5 70 rfl) rfl
theorem q1187 : (Jvm.Cond.methodLink "MarriageHerring$Test" (1 : Nat) ({ cls := "java/lang/Object", name := "<init>", desc := "()V" } : Jvm.MethodName)) ∈ lw_all := lw_g (lw_at lw_m5 71 rfl) rfl
theorem q1298 : (Jvm.Cond.declares ({ cls := "MarriageHerring$Test", name := "holds", desc := "(LMarriageHerring$Moment;)Z" } : Jvm.MethodName)) ∈ lw_tbl := lw_at lw_m5 182 rfl
theorem q1299 : (Jvm.Cond.sameMethod "MarriageHerring$Test" "MarriageHerring$Test" "holds" "(LMarriageHerring$Moment;)Z") ∈ lw_all := lw_g (lw_at lw_m5 183 rfl) rfl
/-! MarriageHerring$Facts -/
set_option maxRecDepth 100000
def RX18 : String := "MarriageHerring$Facts"
def TX18 : u_T := fun k => match k with
  | 0 => ("MarriageHerring$Facts", "tests", "Ljava/util/List;", true)
  | _ => ("MarriageHerring$Facts", "all", "Z", true)
def tyX18 : Nat → FieldType := fun k => match k with
  | 0 => .object "java/util/List"
  | _ => .boolean
abbrev wsX180 : List Cond := u_ws RX18 TX18 2
theorem nmX18 : ∀ a, a < 2 → ∀ b, b < 2 → a ≠ b → (TX18 a).2.1 ≠ (TX18 b).2.1 := by decide +kernel
theorem tyX18_ok : ∀ k, k < 2 → parseFieldDescriptor (TX18 k).2.2.1 = some (tyX18 k) := by decide +kernel
abbrev cX18_init : ByteArray := prog_8_method_1_code
def yX18_init : MethodName := ⟨RX18, "<init>", "(Z)V"⟩
def dkwX18_init_0 : List UInt8 := [42, 183, 0, 1, 42, 187, 0, 7, 89, 5, 183, 0, 9, 181, 0, 12, 42, 27, 181, 0, 18, 177]
abbrev dktX18_init_0 : List UInt8 := dkwX18_init_0 ++ []
theorem dksX18_init_0 : cX18_init.data.toList.drop 0 = dktX18_init_0 := by decide +kernel
theorem dX18_init_0 : decode cX18_init 0 = .ok (.aload_n 0, 1) := dk_42 (dk_at dksX18_init_0 0 rfl rfl)
theorem dX18_init_1 : decode cX18_init 1 = .ok (.invokespecial 1, 3) := dk_183 0 1 (dk_at dksX18_init_0 1 rfl rfl)
theorem dX18_init_4 : decode cX18_init 4 = .ok (.aload_n 0, 1) := dk_42 (dk_at dksX18_init_0 4 rfl rfl)
theorem dX18_init_5 : decode cX18_init 5 = .ok (.new 7, 3) := dk_187 0 7 (dk_at dksX18_init_0 5 rfl rfl)
theorem dX18_init_8 : decode cX18_init 8 = .ok (.dup, 1) := dk_89 (dk_at dksX18_init_0 8 rfl rfl)
theorem dX18_init_9 : decode cX18_init 9 = .ok (.iconst 2, 1) := dk_5 (dk_at dksX18_init_0 9 rfl rfl)
theorem dX18_init_10 : decode cX18_init 10 = .ok (.invokespecial 9, 3) := dk_183 0 9 (dk_at dksX18_init_0 10 rfl rfl)
theorem dX18_init_13 : decode cX18_init 13 = .ok (.putfield 12, 3) := dk_181 0 12 (dk_at dksX18_init_0 13 rfl rfl)
theorem dX18_init_16 : decode cX18_init 16 = .ok (.aload_n 0, 1) := dk_42 (dk_at dksX18_init_0 16 rfl rfl)
theorem dX18_init_17 : decode cX18_init 17 = .ok (.iload_n 1, 1) := dk_27 (dk_at dksX18_init_0 17 rfl rfl)
theorem dX18_init_18 : decode cX18_init 18 = .ok (.putfield 18, 3) := dk_181 0 18 (dk_at dksX18_init_0 18 rfl rfl)
theorem dX18_init_21 : decode cX18_init 21 = .ok (.return_, 1) := dk_177 (dk_at dksX18_init_0 21 rfl rfl)
abbrev cX18_holds : ByteArray := prog_8_method_2_code
def yX18_holds : MethodName := ⟨RX18, "holds", "(LMarriageHerring$Moment;)Z"⟩
def dkwX18_holds_2 : List UInt8 := [154, 0, 7, 4, 167, 0, 4, 3, 172, 132, 2, 1, 167, 255, 203, 42, 180, 0, 18, 172]
abbrev dktX18_holds_2 : List UInt8 := dkwX18_holds_2 ++ []
def dkwX18_holds_1 : List UInt8 := [185, 0, 28, 2, 0, 192, 0, 2, 43, 182, 0, 32, 42, 180, 0, 18, 159, 0, 16, 42, 180, 0, 18]
abbrev dktX18_holds_1 : List UInt8 := dkwX18_holds_1 ++ dktX18_holds_2
def dkwX18_holds_0 : List UInt8 := [3, 61, 28, 42, 180, 0, 12, 185, 0, 22, 1, 0, 162, 0, 46, 42, 180, 0, 12, 28]
abbrev dktX18_holds_0 : List UInt8 := dkwX18_holds_0 ++ dktX18_holds_1
theorem dksX18_holds_0 : cX18_holds.data.toList.drop 0 = dktX18_holds_0 := by decide +kernel
theorem dksX18_holds_1 : cX18_holds.data.toList.drop 20 = dktX18_holds_1 := dk_seg dksX18_holds_0 20 rfl rfl
theorem dksX18_holds_2 : cX18_holds.data.toList.drop 43 = dktX18_holds_2 := dk_seg dksX18_holds_1 23 rfl rfl
theorem dX18_holds_0 : decode cX18_holds 0 = .ok (.iconst 0, 1) := dk_3 (dk_at dksX18_holds_0 0 rfl rfl)
theorem dX18_holds_1 : decode cX18_holds 1 = .ok (.istore_n 2, 1) := dk_61 (dk_at dksX18_holds_0 1 rfl rfl)
theorem dX18_holds_2 : decode cX18_holds 2 = .ok (.iload_n 2, 1) := dk_28 (dk_at dksX18_holds_0 2 rfl rfl)
theorem dX18_holds_3 : decode cX18_holds 3 = .ok (.aload_n 0, 1) := dk_42 (dk_at dksX18_holds_0 3 rfl rfl)
theorem dX18_holds_4 : decode cX18_holds 4 = .ok (.getfield 12, 3) := dk_180 0 12 (dk_at dksX18_holds_0 4 rfl rfl)
theorem dX18_holds_7 : decode cX18_holds 7 = .ok (.invokeinterface 22 1, 5) := by decide +kernel
theorem dX18_holds_12 : decode cX18_holds 12 = .ok (.if_icmp .ge 46, 3) := dk_162 0 46 (dk_at dksX18_holds_0 12 rfl rfl)
theorem dX18_holds_15 : decode cX18_holds 15 = .ok (.aload_n 0, 1) := dk_42 (dk_at dksX18_holds_0 15 rfl rfl)
theorem dX18_holds_16 : decode cX18_holds 16 = .ok (.getfield 12, 3) := dk_180 0 12 (dk_at dksX18_holds_0 16 rfl rfl)
theorem dX18_holds_19 : decode cX18_holds 19 = .ok (.iload_n 2, 1) := dk_28 (dk_at dksX18_holds_0 19 rfl rfl)
theorem dX18_holds_20 : decode cX18_holds 20 = .ok (.invokeinterface 28 2, 5) := by decide +kernel
theorem dX18_holds_25 : decode cX18_holds 25 = .ok (.checkcast 2, 3) := dk_192 0 2 (dk_at dksX18_holds_1 5 rfl rfl)
theorem dX18_holds_28 : decode cX18_holds 28 = .ok (.aload_n 1, 1) := dk_43 (dk_at dksX18_holds_1 8 rfl rfl)
theorem dX18_holds_29 : decode cX18_holds 29 = .ok (.invokevirtual 32, 3) := dk_182 0 32 (dk_at dksX18_holds_1 9 rfl rfl)
theorem dX18_holds_32 : decode cX18_holds 32 = .ok (.aload_n 0, 1) := dk_42 (dk_at dksX18_holds_1 12 rfl rfl)
theorem dX18_holds_33 : decode cX18_holds 33 = .ok (.getfield 18, 3) := dk_180 0 18 (dk_at dksX18_holds_1 13 rfl rfl)
theorem dX18_holds_36 : decode cX18_holds 36 = .ok (.if_icmp .eq 16, 3) := dk_159 0 16 (dk_at dksX18_holds_1 16 rfl rfl)
theorem dX18_holds_39 : decode cX18_holds 39 = .ok (.aload_n 0, 1) := dk_42 (dk_at dksX18_holds_1 19 rfl rfl)
theorem dX18_holds_40 : decode cX18_holds 40 = .ok (.getfield 18, 3) := dk_180 0 18 (dk_at dksX18_holds_1 20 rfl rfl)
theorem dX18_holds_43 : decode cX18_holds 43 = .ok (.ifCond .ne 7, 3) := dk_154 0 7 (dk_at dksX18_holds_2 0 rfl rfl)
theorem dX18_holds_46 : decode cX18_holds 46 = .ok (.iconst 1, 1) := dk_4 (dk_at dksX18_holds_2 3 rfl rfl)
theorem dX18_holds_47 : decode cX18_holds 47 = .ok (.goto 4, 3) := dk_167 0 4 (dk_at dksX18_holds_2 4 rfl rfl)
theorem dX18_holds_50 : decode cX18_holds 50 = .ok (.iconst 0, 1) := dk_3 (dk_at dksX18_holds_2 7 rfl rfl)
theorem dX18_holds_51 : decode cX18_holds 51 = .ok (.ireturn, 1) := dk_172 (dk_at dksX18_holds_2 8 rfl rfl)
theorem dX18_holds_52 : decode cX18_holds 52 = .ok (.iinc 2 1, 3) := dk_132 2 1 (dk_at dksX18_holds_2 9 rfl rfl)
theorem dX18_holds_55 : decode cX18_holds 55 = .ok (.goto (-53), 3) := dk_167 255 203 (dk_at dksX18_holds_2 12 rfl rfl)
theorem dX18_holds_58 : decode cX18_holds 58 = .ok (.aload_n 0, 1) := dk_42 (dk_at dksX18_holds_2 15 rfl rfl)
theorem dX18_holds_59 : decode cX18_holds 59 = .ok (.getfield 18, 3) := dk_180 0 18 (dk_at dksX18_holds_2 16 rfl rfl)
theorem dX18_holds_62 : decode cX18_holds 62 = .ok (.ireturn, 1) := dk_172 (dk_at dksX18_holds_2 19 rfl rfl)
theorem q192 : (Jvm.Cond.initialized "MarriageHerring$Facts") ∈ lw_all := lw_g (lw_at lw_m1 36 rfl) rfl
theorem q892 : (Jvm.Cond.selects "MarriageHerring$Facts" ({ cls := "java/lang/Object", name := "getClass", desc := "()Ljava/lang/Class;" } : Jvm.MethodName) ({ cls := "java/lang/Object", name := "getClass", desc := "()Ljava/lang/Class;" } : Jvm.MethodName)) ∈ lw_all := lw_g (lw_at lw_m4 16 rfl) rfl
theorem q1180 : (Jvm.Cond.instantiable "MarriageHerring$Facts" (2 : Nat)) ∈ lw_all := lw_g (lw_at lw_m5 64 rfl) rfl
theorem q1182 : (Jvm.Cond.instanceMethod ({ cls := "MarriageHerring$Facts", name := "<init>", desc := "(Z)V" } : Jvm.MethodName)) ∈ lw_all := lw_g (lw_at lw_m5 66 rfl) rfl
theorem q1183 : (Jvm.Cond.code ({ cls := "MarriageHerring$Facts", name := "<init>", desc := "(Z)V" } : Jvm.MethodName) prog_8_method_1_code (2 : Nat) (Option.none : Option Jvm.ClassFile.FieldType)) ∈ lw_all := lw_g (lw_at lw_m5 67 rfl) rfl
theorem q1184 : (Jvm.Cond.methodLinkNest "MarriageHerring$Facts" (1 : Nat) ({ cls := "MarriageHerring$Test", name := "<init>", desc := "()V" } : Jvm.MethodName) "MarriageHerring") ∈ lw_tbl := lw_at lw_m5 68 rfl
theorem q1188 : (Jvm.Cond.classLink "MarriageHerring$Facts" (7 : Nat) "java/util/ArrayList") ∈ lw_all := lw_g (lw_at lw_m5 72 rfl) rfl
theorem q1189 : (Jvm.Cond.methodLink "MarriageHerring$Facts" (9 : Nat) ({ cls := "java/util/ArrayList", name := "<init>", desc := "(I)V" } : Jvm.MethodName)) ∈ lw_all := lw_g (lw_at lw_m5 73 rfl) rfl
theorem q1190 : (Jvm.Cond.fieldLink "MarriageHerring$Facts" (12 : Nat) "MarriageHerring$Facts" "tests" "Ljava/util/List;") ∈ lw_all := lw_g (lw_at lw_m5 74 rfl) rfl
theorem q1192 : (Jvm.Cond.fieldLink "MarriageHerring$Facts" (18 : Nat) "MarriageHerring$Facts" "all" "Z") ∈ lw_all := lw_g (lw_at lw_m5 76 rfl) rfl
theorem q1193 : (Jvm.Cond.laysFinal "MarriageHerring$Facts" "MarriageHerring$Facts" "tests" "Ljava/util/List;") ∈ lw_all := lw_g (lw_at lw_m5 77 rfl) rfl
theorem q1194 : (Jvm.Cond.soleField "MarriageHerring$Facts" "tests") ∈ lw_all := lw_g (lw_at lw_m5 78 rfl) rfl
theorem q1195 : (Jvm.Cond.laysFinal "MarriageHerring$Facts" "MarriageHerring$Facts" "all" "Z") ∈ lw_all := lw_g (lw_at lw_m5 79 rfl) rfl
theorem q1196 : (Jvm.Cond.soleField "MarriageHerring$Facts" "all") ∈ lw_all := lw_g (lw_at lw_m5 80 rfl) rfl
theorem q1197 : (Jvm.Cond.superclass "MarriageHerring$Facts" "MarriageHerring$Test") ∈ lw_all := lw_g (lw_at lw_m5 81 rfl) rfl
theorem q1303 : (Jvm.Cond.selects "MarriageHerring$Facts" ({ cls := "MarriageHerring$Test", name := "holds", desc := "(LMarriageHerring$Moment;)Z" } : Jvm.MethodName) ({ cls := "MarriageHerring$Facts", name := "holds", desc := "(LMarriageHerring$Moment;)Z" } : Jvm.MethodName)) ∈ lw_all := lw_g (lw_at lw_m5 187 rfl) rfl
theorem q1304 : (Jvm.Cond.instanceMethod ({ cls := "MarriageHerring$Facts", name := "holds", desc := "(LMarriageHerring$Moment;)Z" } : Jvm.MethodName)) ∈ lw_all := lw_g (lw_at lw_m5 188 rfl) rfl
theorem q1305 : (Jvm.Cond.code ({ cls := "MarriageHerring$Facts", name := "holds", desc := "(LMarriageHerring$Moment;)Z" } : Jvm.MethodName) prog_8_method_2_code (3 : Nat) (Option.some Jvm.ClassFile.FieldType.boolean)) ∈ lw_all := lw_g (lw_at lw_m5 189 rfl) rfl
theorem q1306 : (Jvm.Cond.interfaceEntry "MarriageHerring$Facts" (22 : Nat)) ∈ lw_tbl := lw_at lw_m5 190 rfl
theorem q1307 : (Jvm.Cond.methodLink "MarriageHerring$Facts" (22 : Nat) ({ cls := "java/util/List", name := "size", desc := "()I" } : Jvm.MethodName)) ∈ lw_all := lw_g (lw_at lw_m5 191 rfl) rfl
theorem q1308 : (Jvm.Cond.interfaceEntry "MarriageHerring$Facts" (28 : Nat)) ∈ lw_tbl := lw_at lw_m5 192 rfl
theorem q1309 : (Jvm.Cond.methodLink "MarriageHerring$Facts" (28 : Nat) ({ cls := "java/util/List", name := "get", desc := "(I)Ljava/lang/Object;" } : Jvm.MethodName)) ∈ lw_all := lw_g (lw_at lw_m5 193 rfl) rfl
theorem q1310 : (Jvm.Cond.classLink "MarriageHerring$Facts" (2 : Nat) "MarriageHerring$Test") ∈ lw_all := lw_g (lw_at lw_m5 194 rfl) rfl
theorem q1311 : (Jvm.Cond.methodLink "MarriageHerring$Facts" (32 : Nat) ({ cls := "MarriageHerring$Test", name := "holds", desc := "(LMarriageHerring$Moment;)Z" } : Jvm.MethodName)) ∈ lw_all := lw_g (lw_at lw_m5 195 rfl) rfl
theorem q2569 : (Jvm.Cond.castable "MarriageHerring$Facts" "MarriageHerring$Test") ∈ lw_tbl := lw_at lw_m11 13 rfl
theorem q2596 : (Jvm.Cond.castable "MarriageHerring$Facts" "java/lang/Object") ∈ lw_tbl := lw_at lw_m11 40 rfl
theorem in_X18 : ∀ w ∈ wsX180, w ∈ lw_all := lw_in wsX180 [1193, 1195] (by decide +kernel) (by decide +kernel)
/-! MarriageHerring$Not -/
set_option maxRecDepth 100000
def RX19 : String := "MarriageHerring$Not"
def TX19 : u_T := fun k => match k with
  | _ => ("MarriageHerring$Not", "test", "LMarriageHerring$Test;", true)
def tyX19 : Nat → FieldType := fun k => match k with
  | _ => .object "MarriageHerring$Test"
abbrev wsX190 : List Cond := u_ws RX19 TX19 1
theorem nmX19 : ∀ a, a < 1 → ∀ b, b < 1 → a ≠ b → (TX19 a).2.1 ≠ (TX19 b).2.1 := by decide +kernel
theorem tyX19_ok : ∀ k, k < 1 → parseFieldDescriptor (TX19 k).2.2.1 = some (tyX19 k) := by decide +kernel
abbrev cX19_init : ByteArray := prog_15_method_1_code
def yX19_init : MethodName := ⟨RX19, "<init>", "(LMarriageHerring$Test;)V"⟩
def dkwX19_init_0 : List UInt8 := [42, 183, 0, 1, 42, 43, 181, 0, 7, 177]
abbrev dktX19_init_0 : List UInt8 := dkwX19_init_0 ++ []
theorem dksX19_init_0 : cX19_init.data.toList.drop 0 = dktX19_init_0 := by decide +kernel
theorem dX19_init_0 : decode cX19_init 0 = .ok (.aload_n 0, 1) := dk_42 (dk_at dksX19_init_0 0 rfl rfl)
theorem dX19_init_1 : decode cX19_init 1 = .ok (.invokespecial 1, 3) := dk_183 0 1 (dk_at dksX19_init_0 1 rfl rfl)
theorem dX19_init_4 : decode cX19_init 4 = .ok (.aload_n 0, 1) := dk_42 (dk_at dksX19_init_0 4 rfl rfl)
theorem dX19_init_5 : decode cX19_init 5 = .ok (.aload_n 1, 1) := dk_43 (dk_at dksX19_init_0 5 rfl rfl)
theorem dX19_init_6 : decode cX19_init 6 = .ok (.putfield 7, 3) := dk_181 0 7 (dk_at dksX19_init_0 6 rfl rfl)
theorem dX19_init_9 : decode cX19_init 9 = .ok (.return_, 1) := dk_177 (dk_at dksX19_init_0 9 rfl rfl)
abbrev cX19_holds : ByteArray := prog_15_method_2_code
def yX19_holds : MethodName := ⟨RX19, "holds", "(LMarriageHerring$Moment;)Z"⟩
def dkwX19_holds_0 : List UInt8 := [42, 180, 0, 7, 43, 182, 0, 13, 154, 0, 7, 4, 167, 0, 4, 3, 172]
abbrev dktX19_holds_0 : List UInt8 := dkwX19_holds_0 ++ []
theorem dksX19_holds_0 : cX19_holds.data.toList.drop 0 = dktX19_holds_0 := by decide +kernel
theorem dX19_holds_0 : decode cX19_holds 0 = .ok (.aload_n 0, 1) := dk_42 (dk_at dksX19_holds_0 0 rfl rfl)
theorem dX19_holds_1 : decode cX19_holds 1 = .ok (.getfield 7, 3) := dk_180 0 7 (dk_at dksX19_holds_0 1 rfl rfl)
theorem dX19_holds_4 : decode cX19_holds 4 = .ok (.aload_n 1, 1) := dk_43 (dk_at dksX19_holds_0 4 rfl rfl)
theorem dX19_holds_5 : decode cX19_holds 5 = .ok (.invokevirtual 13, 3) := dk_182 0 13 (dk_at dksX19_holds_0 5 rfl rfl)
theorem dX19_holds_8 : decode cX19_holds 8 = .ok (.ifCond .ne 7, 3) := dk_154 0 7 (dk_at dksX19_holds_0 8 rfl rfl)
theorem dX19_holds_11 : decode cX19_holds 11 = .ok (.iconst 1, 1) := dk_4 (dk_at dksX19_holds_0 11 rfl rfl)
theorem dX19_holds_12 : decode cX19_holds 12 = .ok (.goto 4, 3) := dk_167 0 4 (dk_at dksX19_holds_0 12 rfl rfl)
theorem dX19_holds_15 : decode cX19_holds 15 = .ok (.iconst 0, 1) := dk_3 (dk_at dksX19_holds_0 15 rfl rfl)
theorem dX19_holds_16 : decode cX19_holds 16 = .ok (.ireturn, 1) := dk_172 (dk_at dksX19_holds_0 16 rfl rfl)
theorem q193 : (Jvm.Cond.initialized "MarriageHerring$Not") ∈ lw_all := lw_g (lw_at lw_m1 37 rfl) rfl
theorem q898 : (Jvm.Cond.selects "MarriageHerring$Not" ({ cls := "java/lang/Object", name := "getClass", desc := "()Ljava/lang/Class;" } : Jvm.MethodName) ({ cls := "java/lang/Object", name := "getClass", desc := "()Ljava/lang/Class;" } : Jvm.MethodName)) ∈ lw_all := lw_g (lw_at lw_m4 22 rfl) rfl
theorem q1212 : (Jvm.Cond.instantiable "MarriageHerring$Not" (1 : Nat)) ∈ lw_all := lw_g (lw_at lw_m5 96 rfl) rfl
theorem q1214 : (Jvm.Cond.instanceMethod ({ cls := "MarriageHerring$Not", name := "<init>", desc := "(LMarriageHerring$Test;)V" } : Jvm.MethodName)) ∈ lw_all := lw_g (lw_at lw_m5 98 rfl) rfl
theorem q1215 : (Jvm.Cond.code ({ cls := "MarriageHerring$Not", name := "<init>", desc := "(LMarriageHerring$Test;)V" } : Jvm.MethodName) prog_15_method_1_code (2 : Nat) (Option.none : Option Jvm.ClassFile.FieldType)) ∈ lw_all := lw_g (lw_at lw_m5 99 rfl) rfl
theorem q1216 : (Jvm.Cond.methodLinkNest "MarriageHerring$Not" (1 : Nat) ({ cls := "MarriageHerring$Test", name := "<init>", desc := "()V" } : Jvm.MethodName) "MarriageHerring") ∈ lw_tbl := lw_at lw_m5 100 rfl
theorem q1217 : (Jvm.Cond.fieldLink "MarriageHerring$Not" (7 : Nat) "MarriageHerring$Not" "test" "LMarriageHerring$Test;") ∈ lw_all := lw_g (lw_at lw_m5 101 rfl) rfl
theorem q1218 : (Jvm.Cond.laysFinal "MarriageHerring$Not" "MarriageHerring$Not" "test" "LMarriageHerring$Test;") ∈ lw_all := lw_g (lw_at lw_m5 102 rfl) rfl
theorem q1219 : (Jvm.Cond.soleField "MarriageHerring$Not" "test") ∈ lw_all := lw_g (lw_at lw_m5 103 rfl) rfl
theorem q1220 : (Jvm.Cond.superclass "MarriageHerring$Not" "MarriageHerring$Test") ∈ lw_all := lw_g (lw_at lw_m5 104 rfl) rfl
theorem q1312 : (Jvm.Cond.instanceMethod ({ cls := "MarriageHerring$Not", name := "holds", desc := "(LMarriageHerring$Moment;)Z" } : Jvm.MethodName)) ∈ lw_all := lw_g (lw_at lw_m5 196 rfl) rfl
theorem q1313 : (Jvm.Cond.code ({ cls := "MarriageHerring$Not", name := "holds", desc := "(LMarriageHerring$Moment;)Z" } : Jvm.MethodName) prog_15_method_2_code (2 : Nat) (Option.some Jvm.ClassFile.FieldType.boolean)) ∈ lw_all := lw_g (lw_at lw_m5 197 rfl) rfl
theorem q1314 : (Jvm.Cond.methodLink "MarriageHerring$Not" (13 : Nat) ({ cls := "MarriageHerring$Test", name := "holds", desc := "(LMarriageHerring$Moment;)Z" } : Jvm.MethodName)) ∈ lw_all := lw_g (lw_at lw_m5 198 rfl) rfl
theorem q1381 : (Jvm.Cond.selects "MarriageHerring$Not" ({ cls := "MarriageHerring$Test", name := "holds", desc := "(LMarriageHerring$Moment;)Z" } : Jvm.MethodName) ({ cls := "MarriageHerring$Not", name := "holds", desc := "(LMarriageHerring$Moment;)Z" } : Jvm.MethodName)) ∈ lw_all := lw_g (lw_at lw_m6 25 rfl) rfl
theorem q2570 : (Jvm.Cond.castable "MarriageHerring$Not" "MarriageHerring$Test") ∈ lw_tbl := lw_at lw_m11 14 rfl
theorem q2597 : (Jvm.Cond.castable "MarriageHerring$Not" "java/lang/Object") ∈ lw_tbl := lw_at lw_m11 41 rfl
theorem in_X19 : ∀ w ∈ wsX190, w ∈ lw_all := lw_in wsX190 [1218] (by decide +kernel) (by decide +kernel)
/-! MarriageHerring$All -/
set_option maxRecDepth 100000
def RX20 : String := "MarriageHerring$All"
abbrev cX20_init : ByteArray := prog_2_method_1_code
def yX20_init : MethodName := ⟨RX20, "<init>", "()V"⟩
theorem dX20_init_0 : decode cX20_init 0 = .ok (.aload_n 0, 1) := by decide +kernel
theorem dX20_init_1 : decode cX20_init 1 = .ok (.invokespecial 1, 3) := by decide +kernel
theorem dX20_init_4 : decode cX20_init 4 = .ok (.return_, 1) := by decide +kernel
abbrev cX20_holds : ByteArray := prog_2_method_2_code
def yX20_holds : MethodName := ⟨RX20, "holds", "(LMarriageHerring$Moment;)Z"⟩
theorem dX20_holds_0 : decode cX20_holds 0 = .ok (.iconst 1, 1) := by decide +kernel
theorem dX20_holds_1 : decode cX20_holds 1 = .ok (.ireturn, 1) := by decide +kernel
theorem q194 : (Jvm.Cond.initialized "MarriageHerring$All") ∈ lw_all := lw_g (lw_at lw_m1 38 rfl) rfl
theorem q886 : (Jvm.Cond.selects "MarriageHerring$All" ({ cls := "java/lang/Object", name := "getClass", desc := "()Ljava/lang/Class;" } : Jvm.MethodName) ({ cls := "java/lang/Object", name := "getClass", desc := "()Ljava/lang/Class;" } : Jvm.MethodName)) ∈ lw_all := lw_g (lw_at lw_m4 10 rfl) rfl
theorem q1223 : (Jvm.Cond.instantiable "MarriageHerring$All" (0 : Nat)) ∈ lw_all := lw_g (lw_at lw_m5 107 rfl) rfl
theorem q1225 : (Jvm.Cond.instanceMethod ({ cls := "MarriageHerring$All", name := "<init>", desc := "()V" } : Jvm.MethodName)) ∈ lw_all := lw_g (lw_at lw_m5 109 rfl) rfl
theorem q1226 : (Jvm.Cond.code ({ cls := "MarriageHerring$All", name := "<init>", desc := "()V" } : Jvm.MethodName) prog_2_method_1_code (1 : Nat) (Option.none : Option Jvm.ClassFile.FieldType)) ∈ lw_all := lw_g (lw_at lw_m5 110 rfl) rfl
theorem q1227 : (Jvm.Cond.methodLinkNest "MarriageHerring$All" (1 : Nat) ({ cls := "MarriageHerring$Test", name := "<init>", desc := "()V" } : Jvm.MethodName) "MarriageHerring") ∈ lw_tbl := lw_at lw_m5 111 rfl
theorem q1228 : (Jvm.Cond.superclass "MarriageHerring$All" "MarriageHerring$Test") ∈ lw_all := lw_g (lw_at lw_m5 112 rfl) rfl
theorem q1300 : (Jvm.Cond.selects "MarriageHerring$All" ({ cls := "MarriageHerring$Test", name := "holds", desc := "(LMarriageHerring$Moment;)Z" } : Jvm.MethodName) ({ cls := "MarriageHerring$All", name := "holds", desc := "(LMarriageHerring$Moment;)Z" } : Jvm.MethodName)) ∈ lw_all := lw_g (lw_at lw_m5 184 rfl) rfl
theorem q1301 : (Jvm.Cond.instanceMethod ({ cls := "MarriageHerring$All", name := "holds", desc := "(LMarriageHerring$Moment;)Z" } : Jvm.MethodName)) ∈ lw_all := lw_g (lw_at lw_m5 185 rfl) rfl
theorem q1302 : (Jvm.Cond.code ({ cls := "MarriageHerring$All", name := "holds", desc := "(LMarriageHerring$Moment;)Z" } : Jvm.MethodName) prog_2_method_2_code (2 : Nat) (Option.some Jvm.ClassFile.FieldType.boolean)) ∈ lw_all := lw_g (lw_at lw_m5 186 rfl) rfl
theorem q2568 : (Jvm.Cond.castable "MarriageHerring$All" "MarriageHerring$Test") ∈ lw_tbl := lw_at lw_m11 12 rfl
theorem q2598 : (Jvm.Cond.castable "MarriageHerring$All" "java/lang/Object") ∈ lw_tbl := lw_at lw_m11 42 rfl
/-! MarriageHerring$Than -/
set_option maxRecDepth 100000
def RX21 : String := "MarriageHerring$Than"
def TX21 : u_T := fun k => match k with
  | 0 => ("MarriageHerring$Than", "a", "LMarriageHerring$Value;", true)
  | 1 => ("MarriageHerring$Than", "b", "LMarriageHerring$Value;", true)
  | _ => ("MarriageHerring$Than", "sign", "I", true)
def tyX21 : Nat → FieldType := fun k => match k with
  | 0 => .object "MarriageHerring$Value"
  | 1 => .object "MarriageHerring$Value"
  | _ => .int
abbrev wsX210 : List Cond := u_ws RX21 TX21 3
theorem nmX21 : ∀ a, a < 3 → ∀ b, b < 3 → a ≠ b → (TX21 a).2.1 ≠ (TX21 b).2.1 := by decide +kernel
theorem tyX21_ok : ∀ k, k < 3 → parseFieldDescriptor (TX21 k).2.2.1 = some (tyX21 k) := by decide +kernel
abbrev cX21_init : ByteArray := prog_21_method_1_code
def yX21_init : MethodName := ⟨RX21, "<init>", "(LMarriageHerring$Value;ILMarriageHerring$Value;)V"⟩
def dkwX21_init_0 : List UInt8 := [42, 183, 0, 1, 42, 43, 181, 0, 7, 42, 28, 181, 0, 13, 42, 45, 181, 0, 17, 177]
abbrev dktX21_init_0 : List UInt8 := dkwX21_init_0 ++ []
theorem dksX21_init_0 : cX21_init.data.toList.drop 0 = dktX21_init_0 := by decide +kernel
theorem dX21_init_0 : decode cX21_init 0 = .ok (.aload_n 0, 1) := dk_42 (dk_at dksX21_init_0 0 rfl rfl)
theorem dX21_init_1 : decode cX21_init 1 = .ok (.invokespecial 1, 3) := dk_183 0 1 (dk_at dksX21_init_0 1 rfl rfl)
theorem dX21_init_4 : decode cX21_init 4 = .ok (.aload_n 0, 1) := dk_42 (dk_at dksX21_init_0 4 rfl rfl)
theorem dX21_init_5 : decode cX21_init 5 = .ok (.aload_n 1, 1) := dk_43 (dk_at dksX21_init_0 5 rfl rfl)
theorem dX21_init_6 : decode cX21_init 6 = .ok (.putfield 7, 3) := dk_181 0 7 (dk_at dksX21_init_0 6 rfl rfl)
theorem dX21_init_9 : decode cX21_init 9 = .ok (.aload_n 0, 1) := dk_42 (dk_at dksX21_init_0 9 rfl rfl)
theorem dX21_init_10 : decode cX21_init 10 = .ok (.iload_n 2, 1) := dk_28 (dk_at dksX21_init_0 10 rfl rfl)
theorem dX21_init_11 : decode cX21_init 11 = .ok (.putfield 13, 3) := dk_181 0 13 (dk_at dksX21_init_0 11 rfl rfl)
theorem dX21_init_14 : decode cX21_init 14 = .ok (.aload_n 0, 1) := dk_42 (dk_at dksX21_init_0 14 rfl rfl)
theorem dX21_init_15 : decode cX21_init 15 = .ok (.aload_n 3, 1) := dk_45 (dk_at dksX21_init_0 15 rfl rfl)
theorem dX21_init_16 : decode cX21_init 16 = .ok (.putfield 17, 3) := dk_181 0 17 (dk_at dksX21_init_0 16 rfl rfl)
theorem dX21_init_19 : decode cX21_init 19 = .ok (.return_, 1) := dk_177 (dk_at dksX21_init_0 19 rfl rfl)
abbrev cX21_holds : ByteArray := prog_21_method_2_code
def yX21_holds : MethodName := ⟨RX21, "holds", "(LMarriageHerring$Moment;)Z"⟩
def dkwX21_holds_3 : List UInt8 := [154, 0, 7, 4, 167, 0, 4, 3, 172]
abbrev dktX21_holds_3 : List UInt8 := dkwX21_holds_3 ++ []
def dkwX21_holds_2 : List UInt8 := [16, 62, 160, 0, 18, 32, 22, 4, 148, 158, 0, 7, 4, 167, 0, 19, 3, 167, 0, 15, 32, 22, 4, 148]
abbrev dktX21_holds_2 : List UInt8 := dkwX21_holds_2 ++ dktX21_holds_3
def dkwX21_holds_1 : List UInt8 := [16, 60, 160, 0, 18, 32, 22, 4, 148, 156, 0, 7, 4, 167, 0, 43, 3, 167, 0, 39, 42, 180, 0, 13]
abbrev dktX21_holds_1 : List UInt8 := dkwX21_holds_1 ++ dktX21_holds_2
def dkwX21_holds_0 : List UInt8 := [42, 180, 0, 7, 43, 182, 0, 20, 65, 42, 180, 0, 17, 43, 182, 0, 20, 55, 4, 42, 180, 0, 13]
abbrev dktX21_holds_0 : List UInt8 := dkwX21_holds_0 ++ dktX21_holds_1
theorem dksX21_holds_0 : cX21_holds.data.toList.drop 0 = dktX21_holds_0 := by decide +kernel
theorem dksX21_holds_1 : cX21_holds.data.toList.drop 23 = dktX21_holds_1 := dk_seg dksX21_holds_0 23 rfl rfl
theorem dksX21_holds_2 : cX21_holds.data.toList.drop 47 = dktX21_holds_2 := dk_seg dksX21_holds_1 24 rfl rfl
theorem dksX21_holds_3 : cX21_holds.data.toList.drop 71 = dktX21_holds_3 := dk_seg dksX21_holds_2 24 rfl rfl
theorem dX21_holds_0 : decode cX21_holds 0 = .ok (.aload_n 0, 1) := dk_42 (dk_at dksX21_holds_0 0 rfl rfl)
theorem dX21_holds_1 : decode cX21_holds 1 = .ok (.getfield 7, 3) := dk_180 0 7 (dk_at dksX21_holds_0 1 rfl rfl)
theorem dX21_holds_4 : decode cX21_holds 4 = .ok (.aload_n 1, 1) := dk_43 (dk_at dksX21_holds_0 4 rfl rfl)
theorem dX21_holds_5 : decode cX21_holds 5 = .ok (.invokevirtual 20, 3) := dk_182 0 20 (dk_at dksX21_holds_0 5 rfl rfl)
theorem dX21_holds_8 : decode cX21_holds 8 = .ok (.lstore_n 2, 1) := dk_65 (dk_at dksX21_holds_0 8 rfl rfl)
theorem dX21_holds_9 : decode cX21_holds 9 = .ok (.aload_n 0, 1) := dk_42 (dk_at dksX21_holds_0 9 rfl rfl)
theorem dX21_holds_10 : decode cX21_holds 10 = .ok (.getfield 17, 3) := dk_180 0 17 (dk_at dksX21_holds_0 10 rfl rfl)
theorem dX21_holds_13 : decode cX21_holds 13 = .ok (.aload_n 1, 1) := dk_43 (dk_at dksX21_holds_0 13 rfl rfl)
theorem dX21_holds_14 : decode cX21_holds 14 = .ok (.invokevirtual 20, 3) := dk_182 0 20 (dk_at dksX21_holds_0 14 rfl rfl)
theorem dX21_holds_17 : decode cX21_holds 17 = .ok (.lstore 4, 2) := dk_55 4 (dk_at dksX21_holds_0 17 rfl rfl)
theorem dX21_holds_19 : decode cX21_holds 19 = .ok (.aload_n 0, 1) := dk_42 (dk_at dksX21_holds_0 19 rfl rfl)
theorem dX21_holds_20 : decode cX21_holds 20 = .ok (.getfield 13, 3) := dk_180 0 13 (dk_at dksX21_holds_0 20 rfl rfl)
theorem dX21_holds_23 : decode cX21_holds 23 = .ok (.bipush 60, 2) := dk_16 60 (dk_at dksX21_holds_1 0 rfl rfl)
theorem dX21_holds_25 : decode cX21_holds 25 = .ok (.if_icmp .ne 18, 3) := dk_160 0 18 (dk_at dksX21_holds_1 2 rfl rfl)
theorem dX21_holds_28 : decode cX21_holds 28 = .ok (.lload_n 2, 1) := dk_32 (dk_at dksX21_holds_1 5 rfl rfl)
theorem dX21_holds_29 : decode cX21_holds 29 = .ok (.lload 4, 2) := dk_22 4 (dk_at dksX21_holds_1 6 rfl rfl)
theorem dX21_holds_31 : decode cX21_holds 31 = .ok (.lcmp, 1) := dk_148 (dk_at dksX21_holds_1 8 rfl rfl)
theorem dX21_holds_32 : decode cX21_holds 32 = .ok (.ifCond .ge 7, 3) := dk_156 0 7 (dk_at dksX21_holds_1 9 rfl rfl)
theorem dX21_holds_35 : decode cX21_holds 35 = .ok (.iconst 1, 1) := dk_4 (dk_at dksX21_holds_1 12 rfl rfl)
theorem dX21_holds_36 : decode cX21_holds 36 = .ok (.goto 43, 3) := dk_167 0 43 (dk_at dksX21_holds_1 13 rfl rfl)
theorem dX21_holds_39 : decode cX21_holds 39 = .ok (.iconst 0, 1) := dk_3 (dk_at dksX21_holds_1 16 rfl rfl)
theorem dX21_holds_40 : decode cX21_holds 40 = .ok (.goto 39, 3) := dk_167 0 39 (dk_at dksX21_holds_1 17 rfl rfl)
theorem dX21_holds_43 : decode cX21_holds 43 = .ok (.aload_n 0, 1) := dk_42 (dk_at dksX21_holds_1 20 rfl rfl)
theorem dX21_holds_44 : decode cX21_holds 44 = .ok (.getfield 13, 3) := dk_180 0 13 (dk_at dksX21_holds_1 21 rfl rfl)
theorem dX21_holds_47 : decode cX21_holds 47 = .ok (.bipush 62, 2) := dk_16 62 (dk_at dksX21_holds_2 0 rfl rfl)
theorem dX21_holds_49 : decode cX21_holds 49 = .ok (.if_icmp .ne 18, 3) := dk_160 0 18 (dk_at dksX21_holds_2 2 rfl rfl)
theorem dX21_holds_52 : decode cX21_holds 52 = .ok (.lload_n 2, 1) := dk_32 (dk_at dksX21_holds_2 5 rfl rfl)
theorem dX21_holds_53 : decode cX21_holds 53 = .ok (.lload 4, 2) := dk_22 4 (dk_at dksX21_holds_2 6 rfl rfl)
theorem dX21_holds_55 : decode cX21_holds 55 = .ok (.lcmp, 1) := dk_148 (dk_at dksX21_holds_2 8 rfl rfl)
theorem dX21_holds_56 : decode cX21_holds 56 = .ok (.ifCond .le 7, 3) := dk_158 0 7 (dk_at dksX21_holds_2 9 rfl rfl)
theorem dX21_holds_59 : decode cX21_holds 59 = .ok (.iconst 1, 1) := dk_4 (dk_at dksX21_holds_2 12 rfl rfl)
theorem dX21_holds_60 : decode cX21_holds 60 = .ok (.goto 19, 3) := dk_167 0 19 (dk_at dksX21_holds_2 13 rfl rfl)
theorem dX21_holds_63 : decode cX21_holds 63 = .ok (.iconst 0, 1) := dk_3 (dk_at dksX21_holds_2 16 rfl rfl)
theorem dX21_holds_64 : decode cX21_holds 64 = .ok (.goto 15, 3) := dk_167 0 15 (dk_at dksX21_holds_2 17 rfl rfl)
theorem dX21_holds_67 : decode cX21_holds 67 = .ok (.lload_n 2, 1) := dk_32 (dk_at dksX21_holds_2 20 rfl rfl)
theorem dX21_holds_68 : decode cX21_holds 68 = .ok (.lload 4, 2) := dk_22 4 (dk_at dksX21_holds_2 21 rfl rfl)
theorem dX21_holds_70 : decode cX21_holds 70 = .ok (.lcmp, 1) := dk_148 (dk_at dksX21_holds_2 23 rfl rfl)
theorem dX21_holds_71 : decode cX21_holds 71 = .ok (.ifCond .ne 7, 3) := dk_154 0 7 (dk_at dksX21_holds_3 0 rfl rfl)
theorem dX21_holds_74 : decode cX21_holds 74 = .ok (.iconst 1, 1) := dk_4 (dk_at dksX21_holds_3 3 rfl rfl)
theorem dX21_holds_75 : decode cX21_holds 75 = .ok (.goto 4, 3) := dk_167 0 4 (dk_at dksX21_holds_3 4 rfl rfl)
theorem dX21_holds_78 : decode cX21_holds 78 = .ok (.iconst 0, 1) := dk_3 (dk_at dksX21_holds_3 7 rfl rfl)
theorem dX21_holds_79 : decode cX21_holds 79 = .ok (.ireturn, 1) := dk_172 (dk_at dksX21_holds_3 8 rfl rfl)
theorem q195 : (Jvm.Cond.initialized "MarriageHerring$Than") ∈ lw_all := lw_g (lw_at lw_m1 39 rfl) rfl
theorem q903 : (Jvm.Cond.selects "MarriageHerring$Than" ({ cls := "java/lang/Object", name := "getClass", desc := "()Ljava/lang/Class;" } : Jvm.MethodName) ({ cls := "java/lang/Object", name := "getClass", desc := "()Ljava/lang/Class;" } : Jvm.MethodName)) ∈ lw_all := lw_g (lw_at lw_m4 27 rfl) rfl
theorem q1230 : (Jvm.Cond.instantiable "MarriageHerring$Than" (3 : Nat)) ∈ lw_all := lw_g (lw_at lw_m5 114 rfl) rfl
theorem q1232 : (Jvm.Cond.instanceMethod ({ cls := "MarriageHerring$Than", name := "<init>", desc := "(LMarriageHerring$Value;ILMarriageHerring$Value;)V" } : Jvm.MethodName)) ∈ lw_all := lw_g (lw_at lw_m5 116 rfl) rfl
theorem q1233 : (Jvm.Cond.code ({ cls := "MarriageHerring$Than", name := "<init>", desc := "(LMarriageHerring$Value;ILMarriageHerring$Value;)V" } : Jvm.MethodName) prog_21_method_1_code (4 : Nat) (Option.none : Option Jvm.ClassFile.FieldType)) ∈ lw_all := lw_g (lw_at lw_m5 117 rfl) rfl
theorem q1234 : (Jvm.Cond.methodLinkNest "MarriageHerring$Than" (1 : Nat) ({ cls := "MarriageHerring$Test", name := "<init>", desc := "()V" } : Jvm.MethodName) "MarriageHerring") ∈ lw_tbl := lw_at lw_m5 118 rfl
theorem q1235 : (Jvm.Cond.fieldLink "MarriageHerring$Than" (7 : Nat) "MarriageHerring$Than" "a" "LMarriageHerring$Value;") ∈ lw_all := lw_g (lw_at lw_m5 119 rfl) rfl
theorem q1236 : (Jvm.Cond.fieldLink "MarriageHerring$Than" (17 : Nat) "MarriageHerring$Than" "b" "LMarriageHerring$Value;") ∈ lw_all := lw_g (lw_at lw_m5 120 rfl) rfl
theorem q1237 : (Jvm.Cond.fieldLink "MarriageHerring$Than" (13 : Nat) "MarriageHerring$Than" "sign" "I") ∈ lw_all := lw_g (lw_at lw_m5 121 rfl) rfl
theorem q1238 : (Jvm.Cond.laysFinal "MarriageHerring$Than" "MarriageHerring$Than" "a" "LMarriageHerring$Value;") ∈ lw_all := lw_g (lw_at lw_m5 122 rfl) rfl
theorem q1239 : (Jvm.Cond.soleField "MarriageHerring$Than" "a") ∈ lw_all := lw_g (lw_at lw_m5 123 rfl) rfl
theorem q1240 : (Jvm.Cond.laysFinal "MarriageHerring$Than" "MarriageHerring$Than" "b" "LMarriageHerring$Value;") ∈ lw_all := lw_g (lw_at lw_m5 124 rfl) rfl
theorem q1241 : (Jvm.Cond.soleField "MarriageHerring$Than" "b") ∈ lw_all := lw_g (lw_at lw_m5 125 rfl) rfl
theorem q1242 : (Jvm.Cond.laysFinal "MarriageHerring$Than" "MarriageHerring$Than" "sign" "I") ∈ lw_all := lw_g (lw_at lw_m5 126 rfl) rfl
theorem q1243 : (Jvm.Cond.soleField "MarriageHerring$Than" "sign") ∈ lw_all := lw_g (lw_at lw_m5 127 rfl) rfl
theorem q1244 : (Jvm.Cond.superclass "MarriageHerring$Than" "MarriageHerring$Test") ∈ lw_all := lw_g (lw_at lw_m5 128 rfl) rfl
theorem q1315 : (Jvm.Cond.instanceMethod ({ cls := "MarriageHerring$Than", name := "holds", desc := "(LMarriageHerring$Moment;)Z" } : Jvm.MethodName)) ∈ lw_all := lw_g (lw_at lw_m5 199 rfl) rfl
theorem q1316 : (Jvm.Cond.code ({ cls := "MarriageHerring$Than", name := "holds", desc := "(LMarriageHerring$Moment;)Z" } : Jvm.MethodName) prog_21_method_2_code (6 : Nat) (Option.some Jvm.ClassFile.FieldType.boolean)) ∈ lw_all := lw_g (lw_at lw_m5 200 rfl) rfl
theorem q1317 : (Jvm.Cond.methodLink "MarriageHerring$Than" (20 : Nat) ({ cls := "MarriageHerring$Value", name := "at", desc := "(LMarriageHerring$Moment;)J" } : Jvm.MethodName)) ∈ lw_all := lw_g (lw_at lw_m5 201 rfl) rfl
theorem q1382 : (Jvm.Cond.selects "MarriageHerring$Than" ({ cls := "MarriageHerring$Test", name := "holds", desc := "(LMarriageHerring$Moment;)Z" } : Jvm.MethodName) ({ cls := "MarriageHerring$Than", name := "holds", desc := "(LMarriageHerring$Moment;)Z" } : Jvm.MethodName)) ∈ lw_all := lw_g (lw_at lw_m6 26 rfl) rfl
theorem q2571 : (Jvm.Cond.castable "MarriageHerring$Than" "MarriageHerring$Test") ∈ lw_tbl := lw_at lw_m11 15 rfl
theorem q2599 : (Jvm.Cond.castable "MarriageHerring$Than" "java/lang/Object") ∈ lw_tbl := lw_at lw_m11 43 rfl
theorem in_X21 : ∀ w ∈ wsX210, w ∈ lw_all := lw_in wsX210 [1238, 1240, 1242] (by decide +kernel) (by decide +kernel)
/-! MarriageHerring$Question -/
set_option maxRecDepth 100000
def RX22 : String := "MarriageHerring$Question"
def TX22 : u_T := fun k => match k with
  | 0 => ("MarriageHerring$Question", "what", "I", true)
  | 1 => ("MarriageHerring$Question", "test", "LMarriageHerring$Test;", true)
  | 2 => ("MarriageHerring$Question", "sum", "LMarriageHerring$Value;", true)
  | 3 => ("MarriageHerring$Question", "found", "J", false)
  | _ => ("MarriageHerring$Question", "has", "Z", false)
def tyX22 : Nat → FieldType := fun k => match k with
  | 0 => .int
  | 1 => .object "MarriageHerring$Test"
  | 2 => .object "MarriageHerring$Value"
  | 3 => .long
  | _ => .boolean
abbrev wsX220 : List Cond := u_ws RX22 TX22 5
theorem nmX22 : ∀ a, a < 5 → ∀ b, b < 5 → a ≠ b → (TX22 a).2.1 ≠ (TX22 b).2.1 := by decide +kernel
theorem tyX22_ok : ∀ k, k < 5 → parseFieldDescriptor (TX22 k).2.2.1 = some (tyX22 k) := by decide +kernel
abbrev cX22_init : ByteArray := prog_17_method_1_code
def yX22_init : MethodName := ⟨RX22, "<init>", "(ILMarriageHerring$Test;LMarriageHerring$Value;)V"⟩
def dkwX22_init_1 : List UInt8 := [181, 0, 25, 177]
abbrev dktX22_init_1 : List UInt8 := dkwX22_init_1 ++ []
def dkwX22_init_0 : List UInt8 := [42, 183, 0, 3, 42, 20, 0, 9, 181, 0, 11, 42, 27, 181, 0, 17, 42, 44, 181, 0, 21, 42, 45]
abbrev dktX22_init_0 : List UInt8 := dkwX22_init_0 ++ dktX22_init_1
theorem dksX22_init_0 : cX22_init.data.toList.drop 0 = dktX22_init_0 := by decide +kernel
theorem dksX22_init_1 : cX22_init.data.toList.drop 23 = dktX22_init_1 := dk_seg dksX22_init_0 23 rfl rfl
theorem dX22_init_0 : decode cX22_init 0 = .ok (.aload_n 0, 1) := dk_42 (dk_at dksX22_init_0 0 rfl rfl)
theorem dX22_init_1 : decode cX22_init 1 = .ok (.invokespecial 3, 3) := dk_183 0 3 (dk_at dksX22_init_0 1 rfl rfl)
theorem dX22_init_4 : decode cX22_init 4 = .ok (.aload_n 0, 1) := dk_42 (dk_at dksX22_init_0 4 rfl rfl)
theorem dX22_init_5 : decode cX22_init 5 = .ok (.ldc2_w 9, 3) := dk_20 0 9 (dk_at dksX22_init_0 5 rfl rfl)
theorem dX22_init_8 : decode cX22_init 8 = .ok (.putfield 11, 3) := dk_181 0 11 (dk_at dksX22_init_0 8 rfl rfl)
theorem dX22_init_11 : decode cX22_init 11 = .ok (.aload_n 0, 1) := dk_42 (dk_at dksX22_init_0 11 rfl rfl)
theorem dX22_init_12 : decode cX22_init 12 = .ok (.iload_n 1, 1) := dk_27 (dk_at dksX22_init_0 12 rfl rfl)
theorem dX22_init_13 : decode cX22_init 13 = .ok (.putfield 17, 3) := dk_181 0 17 (dk_at dksX22_init_0 13 rfl rfl)
theorem dX22_init_16 : decode cX22_init 16 = .ok (.aload_n 0, 1) := dk_42 (dk_at dksX22_init_0 16 rfl rfl)
theorem dX22_init_17 : decode cX22_init 17 = .ok (.aload_n 2, 1) := dk_44 (dk_at dksX22_init_0 17 rfl rfl)
theorem dX22_init_18 : decode cX22_init 18 = .ok (.putfield 21, 3) := dk_181 0 21 (dk_at dksX22_init_0 18 rfl rfl)
theorem dX22_init_21 : decode cX22_init 21 = .ok (.aload_n 0, 1) := dk_42 (dk_at dksX22_init_0 21 rfl rfl)
theorem dX22_init_22 : decode cX22_init 22 = .ok (.aload_n 3, 1) := dk_45 (dk_at dksX22_init_0 22 rfl rfl)
theorem dX22_init_23 : decode cX22_init 23 = .ok (.putfield 25, 3) := dk_181 0 25 (dk_at dksX22_init_1 0 rfl rfl)
theorem dX22_init_26 : decode cX22_init 26 = .ok (.return_, 1) := dk_177 (dk_at dksX22_init_1 3 rfl rfl)
abbrev cX22_meets : ByteArray := prog_17_method_2_code
def yX22_meets : MethodName := ⟨RX22, "meets", "(ILMarriageHerring$Moment;)V"⟩
def dkwX22_meets_6 : List UInt8 := [181, 0, 11, 42, 4, 181, 0, 41, 177]
abbrev dktX22_meets_6 : List UInt8 := dkwX22_meets_6 ++ []
def dkwX22_meets_5 : List UInt8 := [7, 160, 0, 14, 42, 180, 0, 11, 33, 184, 0, 35, 167, 0, 11, 42, 180, 0, 11, 33, 184, 0, 51]
abbrev dktX22_meets_5 : List UInt8 := dkwX22_meets_5 ++ dktX22_meets_6
def dkwX22_meets_4 : List UInt8 := [167, 0, 47, 42, 180, 0, 17, 6, 160, 0, 12, 42, 180, 0, 11, 33, 97, 167, 0, 30, 42, 180, 0, 17]
abbrev dktX22_meets_4 : List UInt8 := dkwX22_meets_4 ++ dktX22_meets_5
def dkwX22_meets_3 : List UInt8 := [181, 0, 41, 177, 42, 180, 0, 25, 44, 182, 0, 45, 66, 42, 42, 180, 0, 41, 154, 0, 7, 33]
abbrev dktX22_meets_3 : List UInt8 := dkwX22_meets_3 ++ dktX22_meets_4
def dkwX22_meets_2 : List UInt8 := [154, 0, 17, 42, 180, 0, 41, 153, 0, 10, 42, 180, 0, 11, 167, 0, 5, 27, 133, 181, 0, 11, 42, 4]
abbrev dktX22_meets_2 : List UInt8 := dkwX22_meets_2 ++ dktX22_meets_3
def dkwX22_meets_1 : List UInt8 := [180, 0, 17, 5, 160, 0, 16, 9, 42, 180, 0, 11, 184, 0, 35, 10, 97, 167, 0, 26, 42, 180, 0, 17]
abbrev dktX22_meets_1 : List UInt8 := dkwX22_meets_1 ++ dktX22_meets_2
def dkwX22_meets_0 : List UInt8 := [42, 180, 0, 17, 6, 162, 0, 69, 42, 180, 0, 21, 44, 182, 0, 29, 154, 0, 4, 177, 42, 42]
abbrev dktX22_meets_0 : List UInt8 := dkwX22_meets_0 ++ dktX22_meets_1
theorem dksX22_meets_0 : cX22_meets.data.toList.drop 0 = dktX22_meets_0 := by decide +kernel
theorem dksX22_meets_1 : cX22_meets.data.toList.drop 22 = dktX22_meets_1 := dk_seg dksX22_meets_0 22 rfl rfl
theorem dksX22_meets_2 : cX22_meets.data.toList.drop 46 = dktX22_meets_2 := dk_seg dksX22_meets_1 24 rfl rfl
theorem dksX22_meets_3 : cX22_meets.data.toList.drop 70 = dktX22_meets_3 := dk_seg dksX22_meets_2 24 rfl rfl
theorem dksX22_meets_4 : cX22_meets.data.toList.drop 92 = dktX22_meets_4 := dk_seg dksX22_meets_3 22 rfl rfl
theorem dksX22_meets_5 : cX22_meets.data.toList.drop 116 = dktX22_meets_5 := dk_seg dksX22_meets_4 24 rfl rfl
theorem dksX22_meets_6 : cX22_meets.data.toList.drop 139 = dktX22_meets_6 := dk_seg dksX22_meets_5 23 rfl rfl
theorem dX22_meets_0 : decode cX22_meets 0 = .ok (.aload_n 0, 1) := dk_42 (dk_at dksX22_meets_0 0 rfl rfl)
theorem dX22_meets_1 : decode cX22_meets 1 = .ok (.getfield 17, 3) := dk_180 0 17 (dk_at dksX22_meets_0 1 rfl rfl)
theorem dX22_meets_4 : decode cX22_meets 4 = .ok (.iconst 3, 1) := dk_6 (dk_at dksX22_meets_0 4 rfl rfl)
theorem dX22_meets_5 : decode cX22_meets 5 = .ok (.if_icmp .ge 69, 3) := dk_162 0 69 (dk_at dksX22_meets_0 5 rfl rfl)
theorem dX22_meets_8 : decode cX22_meets 8 = .ok (.aload_n 0, 1) := dk_42 (dk_at dksX22_meets_0 8 rfl rfl)
theorem dX22_meets_9 : decode cX22_meets 9 = .ok (.getfield 21, 3) := dk_180 0 21 (dk_at dksX22_meets_0 9 rfl rfl)
theorem dX22_meets_12 : decode cX22_meets 12 = .ok (.aload_n 2, 1) := dk_44 (dk_at dksX22_meets_0 12 rfl rfl)
theorem dX22_meets_13 : decode cX22_meets 13 = .ok (.invokevirtual 29, 3) := dk_182 0 29 (dk_at dksX22_meets_0 13 rfl rfl)
theorem dX22_meets_16 : decode cX22_meets 16 = .ok (.ifCond .ne 4, 3) := dk_154 0 4 (dk_at dksX22_meets_0 16 rfl rfl)
theorem dX22_meets_19 : decode cX22_meets 19 = .ok (.return_, 1) := dk_177 (dk_at dksX22_meets_0 19 rfl rfl)
theorem dX22_meets_20 : decode cX22_meets 20 = .ok (.aload_n 0, 1) := dk_42 (dk_at dksX22_meets_0 20 rfl rfl)
theorem dX22_meets_21 : decode cX22_meets 21 = .ok (.aload_n 0, 1) := dk_42 (dk_at dksX22_meets_0 21 rfl rfl)
theorem dX22_meets_22 : decode cX22_meets 22 = .ok (.getfield 17, 3) := dk_180 0 17 (dk_at dksX22_meets_1 0 rfl rfl)
theorem dX22_meets_25 : decode cX22_meets 25 = .ok (.iconst 2, 1) := dk_5 (dk_at dksX22_meets_1 3 rfl rfl)
theorem dX22_meets_26 : decode cX22_meets 26 = .ok (.if_icmp .ne 16, 3) := dk_160 0 16 (dk_at dksX22_meets_1 4 rfl rfl)
theorem dX22_meets_29 : decode cX22_meets 29 = .ok (.lconst 0, 1) := dk_9 (dk_at dksX22_meets_1 7 rfl rfl)
theorem dX22_meets_30 : decode cX22_meets 30 = .ok (.aload_n 0, 1) := dk_42 (dk_at dksX22_meets_1 8 rfl rfl)
theorem dX22_meets_31 : decode cX22_meets 31 = .ok (.getfield 11, 3) := dk_180 0 11 (dk_at dksX22_meets_1 9 rfl rfl)
theorem dX22_meets_34 : decode cX22_meets 34 = .ok (.invokestatic 35, 3) := dk_184 0 35 (dk_at dksX22_meets_1 12 rfl rfl)
theorem dX22_meets_37 : decode cX22_meets 37 = .ok (.lconst 1, 1) := dk_10 (dk_at dksX22_meets_1 15 rfl rfl)
theorem dX22_meets_38 : decode cX22_meets 38 = .ok (.ladd, 1) := dk_97 (dk_at dksX22_meets_1 16 rfl rfl)
theorem dX22_meets_39 : decode cX22_meets 39 = .ok (.goto 26, 3) := dk_167 0 26 (dk_at dksX22_meets_1 17 rfl rfl)
theorem dX22_meets_42 : decode cX22_meets 42 = .ok (.aload_n 0, 1) := dk_42 (dk_at dksX22_meets_1 20 rfl rfl)
theorem dX22_meets_43 : decode cX22_meets 43 = .ok (.getfield 17, 3) := dk_180 0 17 (dk_at dksX22_meets_1 21 rfl rfl)
theorem dX22_meets_46 : decode cX22_meets 46 = .ok (.ifCond .ne 17, 3) := dk_154 0 17 (dk_at dksX22_meets_2 0 rfl rfl)
theorem dX22_meets_49 : decode cX22_meets 49 = .ok (.aload_n 0, 1) := dk_42 (dk_at dksX22_meets_2 3 rfl rfl)
theorem dX22_meets_50 : decode cX22_meets 50 = .ok (.getfield 41, 3) := dk_180 0 41 (dk_at dksX22_meets_2 4 rfl rfl)
theorem dX22_meets_53 : decode cX22_meets 53 = .ok (.ifCond .eq 10, 3) := dk_153 0 10 (dk_at dksX22_meets_2 7 rfl rfl)
theorem dX22_meets_56 : decode cX22_meets 56 = .ok (.aload_n 0, 1) := dk_42 (dk_at dksX22_meets_2 10 rfl rfl)
theorem dX22_meets_57 : decode cX22_meets 57 = .ok (.getfield 11, 3) := dk_180 0 11 (dk_at dksX22_meets_2 11 rfl rfl)
theorem dX22_meets_60 : decode cX22_meets 60 = .ok (.goto 5, 3) := dk_167 0 5 (dk_at dksX22_meets_2 14 rfl rfl)
theorem dX22_meets_63 : decode cX22_meets 63 = .ok (.iload_n 1, 1) := dk_27 (dk_at dksX22_meets_2 17 rfl rfl)
theorem dX22_meets_64 : decode cX22_meets 64 = .ok (.i2l, 1) := dk_133 (dk_at dksX22_meets_2 18 rfl rfl)
theorem dX22_meets_65 : decode cX22_meets 65 = .ok (.putfield 11, 3) := dk_181 0 11 (dk_at dksX22_meets_2 19 rfl rfl)
theorem dX22_meets_68 : decode cX22_meets 68 = .ok (.aload_n 0, 1) := dk_42 (dk_at dksX22_meets_2 22 rfl rfl)
theorem dX22_meets_69 : decode cX22_meets 69 = .ok (.iconst 1, 1) := dk_4 (dk_at dksX22_meets_2 23 rfl rfl)
theorem dX22_meets_70 : decode cX22_meets 70 = .ok (.putfield 41, 3) := dk_181 0 41 (dk_at dksX22_meets_3 0 rfl rfl)
theorem dX22_meets_73 : decode cX22_meets 73 = .ok (.return_, 1) := dk_177 (dk_at dksX22_meets_3 3 rfl rfl)
theorem dX22_meets_74 : decode cX22_meets 74 = .ok (.aload_n 0, 1) := dk_42 (dk_at dksX22_meets_3 4 rfl rfl)
theorem dX22_meets_75 : decode cX22_meets 75 = .ok (.getfield 25, 3) := dk_180 0 25 (dk_at dksX22_meets_3 5 rfl rfl)
theorem dX22_meets_78 : decode cX22_meets 78 = .ok (.aload_n 2, 1) := dk_44 (dk_at dksX22_meets_3 8 rfl rfl)
theorem dX22_meets_79 : decode cX22_meets 79 = .ok (.invokevirtual 45, 3) := dk_182 0 45 (dk_at dksX22_meets_3 9 rfl rfl)
theorem dX22_meets_82 : decode cX22_meets 82 = .ok (.lstore_n 3, 1) := dk_66 (dk_at dksX22_meets_3 12 rfl rfl)
theorem dX22_meets_83 : decode cX22_meets 83 = .ok (.aload_n 0, 1) := dk_42 (dk_at dksX22_meets_3 13 rfl rfl)
theorem dX22_meets_84 : decode cX22_meets 84 = .ok (.aload_n 0, 1) := dk_42 (dk_at dksX22_meets_3 14 rfl rfl)
theorem dX22_meets_85 : decode cX22_meets 85 = .ok (.getfield 41, 3) := dk_180 0 41 (dk_at dksX22_meets_3 15 rfl rfl)
theorem dX22_meets_88 : decode cX22_meets 88 = .ok (.ifCond .ne 7, 3) := dk_154 0 7 (dk_at dksX22_meets_3 18 rfl rfl)
theorem dX22_meets_91 : decode cX22_meets 91 = .ok (.lload_n 3, 1) := dk_33 (dk_at dksX22_meets_3 21 rfl rfl)
theorem dX22_meets_92 : decode cX22_meets 92 = .ok (.goto 47, 3) := dk_167 0 47 (dk_at dksX22_meets_4 0 rfl rfl)
theorem dX22_meets_95 : decode cX22_meets 95 = .ok (.aload_n 0, 1) := dk_42 (dk_at dksX22_meets_4 3 rfl rfl)
theorem dX22_meets_96 : decode cX22_meets 96 = .ok (.getfield 17, 3) := dk_180 0 17 (dk_at dksX22_meets_4 4 rfl rfl)
theorem dX22_meets_99 : decode cX22_meets 99 = .ok (.iconst 3, 1) := dk_6 (dk_at dksX22_meets_4 7 rfl rfl)
theorem dX22_meets_100 : decode cX22_meets 100 = .ok (.if_icmp .ne 12, 3) := dk_160 0 12 (dk_at dksX22_meets_4 8 rfl rfl)
theorem dX22_meets_103 : decode cX22_meets 103 = .ok (.aload_n 0, 1) := dk_42 (dk_at dksX22_meets_4 11 rfl rfl)
theorem dX22_meets_104 : decode cX22_meets 104 = .ok (.getfield 11, 3) := dk_180 0 11 (dk_at dksX22_meets_4 12 rfl rfl)
theorem dX22_meets_107 : decode cX22_meets 107 = .ok (.lload_n 3, 1) := dk_33 (dk_at dksX22_meets_4 15 rfl rfl)
theorem dX22_meets_108 : decode cX22_meets 108 = .ok (.ladd, 1) := dk_97 (dk_at dksX22_meets_4 16 rfl rfl)
theorem dX22_meets_109 : decode cX22_meets 109 = .ok (.goto 30, 3) := dk_167 0 30 (dk_at dksX22_meets_4 17 rfl rfl)
theorem dX22_meets_112 : decode cX22_meets 112 = .ok (.aload_n 0, 1) := dk_42 (dk_at dksX22_meets_4 20 rfl rfl)
theorem dX22_meets_113 : decode cX22_meets 113 = .ok (.getfield 17, 3) := dk_180 0 17 (dk_at dksX22_meets_4 21 rfl rfl)
theorem dX22_meets_116 : decode cX22_meets 116 = .ok (.iconst 4, 1) := dk_7 (dk_at dksX22_meets_5 0 rfl rfl)
theorem dX22_meets_117 : decode cX22_meets 117 = .ok (.if_icmp .ne 14, 3) := dk_160 0 14 (dk_at dksX22_meets_5 1 rfl rfl)
theorem dX22_meets_120 : decode cX22_meets 120 = .ok (.aload_n 0, 1) := dk_42 (dk_at dksX22_meets_5 4 rfl rfl)
theorem dX22_meets_121 : decode cX22_meets 121 = .ok (.getfield 11, 3) := dk_180 0 11 (dk_at dksX22_meets_5 5 rfl rfl)
theorem dX22_meets_124 : decode cX22_meets 124 = .ok (.lload_n 3, 1) := dk_33 (dk_at dksX22_meets_5 8 rfl rfl)
theorem dX22_meets_125 : decode cX22_meets 125 = .ok (.invokestatic 35, 3) := dk_184 0 35 (dk_at dksX22_meets_5 9 rfl rfl)
theorem dX22_meets_128 : decode cX22_meets 128 = .ok (.goto 11, 3) := dk_167 0 11 (dk_at dksX22_meets_5 12 rfl rfl)
theorem dX22_meets_131 : decode cX22_meets 131 = .ok (.aload_n 0, 1) := dk_42 (dk_at dksX22_meets_5 15 rfl rfl)
theorem dX22_meets_132 : decode cX22_meets 132 = .ok (.getfield 11, 3) := dk_180 0 11 (dk_at dksX22_meets_5 16 rfl rfl)
theorem dX22_meets_135 : decode cX22_meets 135 = .ok (.lload_n 3, 1) := dk_33 (dk_at dksX22_meets_5 19 rfl rfl)
theorem dX22_meets_136 : decode cX22_meets 136 = .ok (.invokestatic 51, 3) := dk_184 0 51 (dk_at dksX22_meets_5 20 rfl rfl)
theorem dX22_meets_139 : decode cX22_meets 139 = .ok (.putfield 11, 3) := dk_181 0 11 (dk_at dksX22_meets_6 0 rfl rfl)
theorem dX22_meets_142 : decode cX22_meets 142 = .ok (.aload_n 0, 1) := dk_42 (dk_at dksX22_meets_6 3 rfl rfl)
theorem dX22_meets_143 : decode cX22_meets 143 = .ok (.iconst 1, 1) := dk_4 (dk_at dksX22_meets_6 4 rfl rfl)
theorem dX22_meets_144 : decode cX22_meets 144 = .ok (.putfield 41, 3) := dk_181 0 41 (dk_at dksX22_meets_6 5 rfl rfl)
theorem dX22_meets_147 : decode cX22_meets 147 = .ok (.return_, 1) := dk_177 (dk_at dksX22_meets_6 8 rfl rfl)
abbrev cX22_answer : ByteArray := prog_17_method_3_code
def yX22_answer : MethodName := ⟨RX22, "answer", "()J"⟩
def dkwX22_answer_0 : List UInt8 := [42, 180, 0, 41, 154, 0, 11, 42, 180, 0, 17, 5, 162, 0, 10, 42, 180, 0, 11, 167, 0, 4, 9, 173]
abbrev dktX22_answer_0 : List UInt8 := dkwX22_answer_0 ++ []
theorem dksX22_answer_0 : cX22_answer.data.toList.drop 0 = dktX22_answer_0 := by decide +kernel
theorem dX22_answer_0 : decode cX22_answer 0 = .ok (.aload_n 0, 1) := dk_42 (dk_at dksX22_answer_0 0 rfl rfl)
theorem dX22_answer_1 : decode cX22_answer 1 = .ok (.getfield 41, 3) := dk_180 0 41 (dk_at dksX22_answer_0 1 rfl rfl)
theorem dX22_answer_4 : decode cX22_answer 4 = .ok (.ifCond .ne 11, 3) := dk_154 0 11 (dk_at dksX22_answer_0 4 rfl rfl)
theorem dX22_answer_7 : decode cX22_answer 7 = .ok (.aload_n 0, 1) := dk_42 (dk_at dksX22_answer_0 7 rfl rfl)
theorem dX22_answer_8 : decode cX22_answer 8 = .ok (.getfield 17, 3) := dk_180 0 17 (dk_at dksX22_answer_0 8 rfl rfl)
theorem dX22_answer_11 : decode cX22_answer 11 = .ok (.iconst 2, 1) := dk_5 (dk_at dksX22_answer_0 11 rfl rfl)
theorem dX22_answer_12 : decode cX22_answer 12 = .ok (.if_icmp .ge 10, 3) := dk_162 0 10 (dk_at dksX22_answer_0 12 rfl rfl)
theorem dX22_answer_15 : decode cX22_answer 15 = .ok (.aload_n 0, 1) := dk_42 (dk_at dksX22_answer_0 15 rfl rfl)
theorem dX22_answer_16 : decode cX22_answer 16 = .ok (.getfield 11, 3) := dk_180 0 11 (dk_at dksX22_answer_0 16 rfl rfl)
theorem dX22_answer_19 : decode cX22_answer 19 = .ok (.goto 4, 3) := dk_167 0 4 (dk_at dksX22_answer_0 19 rfl rfl)
theorem dX22_answer_22 : decode cX22_answer 22 = .ok (.lconst 0, 1) := dk_9 (dk_at dksX22_answer_0 22 rfl rfl)
theorem dX22_answer_23 : decode cX22_answer 23 = .ok (.lreturn, 1) := dk_173 (dk_at dksX22_answer_0 23 rfl rfl)
theorem q197 : (Jvm.Cond.initialized "MarriageHerring$Question") ∈ lw_all := lw_g (lw_at lw_m1 41 rfl) rfl
theorem q900 : (Jvm.Cond.selects "MarriageHerring$Question" ({ cls := "java/lang/Object", name := "getClass", desc := "()Ljava/lang/Class;" } : Jvm.MethodName) ({ cls := "java/lang/Object", name := "getClass", desc := "()Ljava/lang/Class;" } : Jvm.MethodName)) ∈ lw_all := lw_g (lw_at lw_m4 24 rfl) rfl
theorem q1627 : (Jvm.Cond.instantiable "MarriageHerring$Question" (5 : Nat)) ∈ lw_all := lw_g (lw_at lw_m7 31 rfl) rfl
theorem q1629 : (Jvm.Cond.instanceMethod ({ cls := "MarriageHerring$Question", name := "<init>", desc := "(ILMarriageHerring$Test;LMarriageHerring$Value;)V" } : Jvm.MethodName)) ∈ lw_all := lw_g (lw_at lw_m7 33 rfl) rfl
theorem q1630 : (Jvm.Cond.code ({ cls := "MarriageHerring$Question", name := "<init>", desc := "(ILMarriageHerring$Test;LMarriageHerring$Value;)V" } : Jvm.MethodName) prog_17_method_1_code (4 : Nat) (Option.none : Option Jvm.ClassFile.FieldType)) ∈ lw_all := lw_g (lw_at lw_m7 34 rfl) rfl
theorem q1631 : (Jvm.Cond.methodLink "MarriageHerring$Question" (3 : Nat) ({ cls := "java/lang/Object", name := "<init>", desc := "()V" } : Jvm.MethodName)) ∈ lw_all := lw_g (lw_at lw_m7 35 rfl) rfl
theorem q1632 : (Jvm.Cond.constantLong "MarriageHerring$Question" (9 : Nat) (-1 : Int64)) ∈ lw_all := lw_g (lw_at lw_m7 36 rfl) rfl
theorem q1633 : (Jvm.Cond.fieldLink "MarriageHerring$Question" (17 : Nat) "MarriageHerring$Question" "what" "I") ∈ lw_all := lw_g (lw_at lw_m7 37 rfl) rfl
theorem q1634 : (Jvm.Cond.fieldLink "MarriageHerring$Question" (21 : Nat) "MarriageHerring$Question" "test" "LMarriageHerring$Test;") ∈ lw_all := lw_g (lw_at lw_m7 38 rfl) rfl
theorem q1635 : (Jvm.Cond.fieldLink "MarriageHerring$Question" (25 : Nat) "MarriageHerring$Question" "sum" "LMarriageHerring$Value;") ∈ lw_all := lw_g (lw_at lw_m7 39 rfl) rfl
theorem q1636 : (Jvm.Cond.fieldLink "MarriageHerring$Question" (11 : Nat) "MarriageHerring$Question" "found" "J") ∈ lw_all := lw_g (lw_at lw_m7 40 rfl) rfl
theorem q1637 : (Jvm.Cond.fieldLink "MarriageHerring$Question" (41 : Nat) "MarriageHerring$Question" "has" "Z") ∈ lw_all := lw_g (lw_at lw_m7 41 rfl) rfl
theorem q1638 : (Jvm.Cond.laysFinal "MarriageHerring$Question" "MarriageHerring$Question" "what" "I") ∈ lw_all := lw_g (lw_at lw_m7 42 rfl) rfl
theorem q1639 : (Jvm.Cond.soleField "MarriageHerring$Question" "what") ∈ lw_all := lw_g (lw_at lw_m7 43 rfl) rfl
theorem q1640 : (Jvm.Cond.laysFinal "MarriageHerring$Question" "MarriageHerring$Question" "test" "LMarriageHerring$Test;") ∈ lw_all := lw_g (lw_at lw_m7 44 rfl) rfl
theorem q1641 : (Jvm.Cond.soleField "MarriageHerring$Question" "test") ∈ lw_all := lw_g (lw_at lw_m7 45 rfl) rfl
theorem q1642 : (Jvm.Cond.laysFinal "MarriageHerring$Question" "MarriageHerring$Question" "sum" "LMarriageHerring$Value;") ∈ lw_all := lw_g (lw_at lw_m7 46 rfl) rfl
theorem q1643 : (Jvm.Cond.soleField "MarriageHerring$Question" "sum") ∈ lw_all := lw_g (lw_at lw_m7 47 rfl) rfl
theorem q1644 : (Jvm.Cond.lays "MarriageHerring$Question" "MarriageHerring$Question" "found" "J") ∈ lw_all := lw_g (lw_at lw_m7 48 rfl) rfl
theorem q1645 : (Jvm.Cond.soleField "MarriageHerring$Question" "found") ∈ lw_all := lw_g (lw_at lw_m7 49 rfl) rfl
theorem q1646 : (Jvm.Cond.lays "MarriageHerring$Question" "MarriageHerring$Question" "has" "Z") ∈ lw_all := lw_g (lw_at lw_m7 50 rfl) rfl
theorem q1647 : (Jvm.Cond.soleField "MarriageHerring$Question" "has") ∈ lw_all := lw_g (lw_at lw_m7 51 rfl) rfl
theorem q1648 : (Jvm.Cond.superclass "MarriageHerring$Question" "java/lang/Object") ∈ lw_all := lw_g (lw_at lw_m7 52 rfl) rfl
theorem q1650 : (Jvm.Cond.instanceMethod ({ cls := "MarriageHerring$Question", name := "meets", desc := "(ILMarriageHerring$Moment;)V" } : Jvm.MethodName)) ∈ lw_all := lw_g (lw_at lw_m7 54 rfl) rfl
theorem q1651 : (Jvm.Cond.selects "MarriageHerring$Question" ({ cls := "MarriageHerring$Question", name := "meets", desc := "(ILMarriageHerring$Moment;)V" } : Jvm.MethodName) ({ cls := "MarriageHerring$Question", name := "meets", desc := "(ILMarriageHerring$Moment;)V" } : Jvm.MethodName)) ∈ lw_all := lw_g (lw_at lw_m7 55 rfl) rfl
theorem q1652 : (Jvm.Cond.code ({ cls := "MarriageHerring$Question", name := "meets", desc := "(ILMarriageHerring$Moment;)V" } : Jvm.MethodName) prog_17_method_2_code (5 : Nat) (Option.none : Option Jvm.ClassFile.FieldType)) ∈ lw_all := lw_g (lw_at lw_m7 56 rfl) rfl
theorem q1653 : (Jvm.Cond.methodLink "MarriageHerring$Question" (29 : Nat) ({ cls := "MarriageHerring$Test", name := "holds", desc := "(LMarriageHerring$Moment;)Z" } : Jvm.MethodName)) ∈ lw_all := lw_g (lw_at lw_m7 57 rfl) rfl
theorem q1654 : (Jvm.Cond.methodLink "MarriageHerring$Question" (35 : Nat) ({ cls := "java/lang/Math", name := "max", desc := "(JJ)J" } : Jvm.MethodName)) ∈ lw_all := lw_g (lw_at lw_m7 58 rfl) rfl
theorem q1655 : (Jvm.Cond.methodLink "MarriageHerring$Question" (45 : Nat) ({ cls := "MarriageHerring$Value", name := "at", desc := "(LMarriageHerring$Moment;)J" } : Jvm.MethodName)) ∈ lw_all := lw_g (lw_at lw_m7 59 rfl) rfl
theorem q1656 : (Jvm.Cond.methodLink "MarriageHerring$Question" (51 : Nat) ({ cls := "java/lang/Math", name := "min", desc := "(JJ)J" } : Jvm.MethodName)) ∈ lw_all := lw_g (lw_at lw_m7 60 rfl) rfl
theorem q1658 : (Jvm.Cond.instanceMethod ({ cls := "MarriageHerring$Question", name := "answer", desc := "()J" } : Jvm.MethodName)) ∈ lw_all := lw_g (lw_at lw_m7 62 rfl) rfl
theorem q1659 : (Jvm.Cond.selects "MarriageHerring$Question" ({ cls := "MarriageHerring$Question", name := "answer", desc := "()J" } : Jvm.MethodName) ({ cls := "MarriageHerring$Question", name := "answer", desc := "()J" } : Jvm.MethodName)) ∈ lw_all := lw_g (lw_at lw_m7 63 rfl) rfl
theorem q1660 : (Jvm.Cond.code ({ cls := "MarriageHerring$Question", name := "answer", desc := "()J" } : Jvm.MethodName) prog_17_method_3_code (1 : Nat) (Option.some Jvm.ClassFile.FieldType.long)) ∈ lw_all := lw_g (lw_at lw_m7 64 rfl) rfl
theorem q2600 : (Jvm.Cond.castable "MarriageHerring$Question" "java/lang/Object") ∈ lw_tbl := lw_at lw_m11 44 rfl
theorem in_X22 : ∀ w ∈ wsX220, w ∈ lw_all := lw_in wsX220 [1638, 1640, 1642, 1644, 1646] (by decide +kernel) (by decide +kernel)
theorem q156 : (Jvm.Cond.initialized "MarriageHerringLaw") ∈ lw_all := lw_g (lw_at lw_m1 0 rfl) rfl
set_option maxRecDepth 100000
theorem q198 : (Jvm.Cond.classLink "MarriageHerringLaw" (7 : Nat) "MarriageHerring") ∈ lw_all := lw_g (lw_at lw_m1 42 rfl) rfl
theorem q200 : (Jvm.Cond.methodLink "MarriageHerringLaw" (9 : Nat) ({ cls := "MarriageHerring", name := "<init>", desc := "()V" } : Jvm.MethodName)) ∈ lw_all := lw_g (lw_at lw_m1 44 rfl) rfl
theorem q534 : (Jvm.Cond.methodLink "MarriageHerringLaw" (13 : Nat) ({ cls := "MarriageHerring", name := "feed", desc := "(IIIII)I" } : Jvm.MethodName)) ∈ lw_all := lw_g (lw_at lw_m2 138 rfl) rfl
theorem q546 : (Jvm.Cond.methodLink "MarriageHerringLaw" (18 : Nat) ({ cls := "MarriageHerring", name := "end", desc := "(I)Z" } : Jvm.MethodName)) ∈ lw_all := lw_g (lw_at lw_m2 150 rfl) rfl
theorem q550 : (Jvm.Cond.methodLink "MarriageHerringLaw" (23 : Nat) ({ cls := "MarriageHerring", name := "coast", desc := "()I" } : Jvm.MethodName)) ∈ lw_all := lw_g (lw_at lw_m2 154 rfl) rfl
theorem q1282 : (Jvm.Cond.methodLink "MarriageHerringLaw" (28 : Nat) ({ cls := "MarriageHerring", name := "fault", desc := "(I)I" } : Jvm.MethodName)) ∈ lw_all := lw_g (lw_at lw_m5 166 rfl) rfl
theorem q1286 : (Jvm.Cond.methodLink "MarriageHerringLaw" (33 : Nat) ({ cls := "MarriageHerring", name := "has", desc := "(I)I" } : Jvm.MethodName)) ∈ lw_all := lw_g (lw_at lw_m5 170 rfl) rfl
theorem q1387 : (Jvm.Cond.methodLink "MarriageHerringLaw" (37 : Nat) ({ cls := "MarriageHerring", name := "letter", desc := "(III)I" } : Jvm.MethodName)) ∈ lw_all := lw_g (lw_at lw_m6 31 rfl) rfl
theorem q1412 : (Jvm.Cond.methodLink "MarriageHerringLaw" (42 : Nat) ({ cls := "MarriageHerring", name := "bay", desc := "(II)I" } : Jvm.MethodName)) ∈ lw_all := lw_g (lw_at lw_m6 56 rfl) rfl
theorem q1421 : (Jvm.Cond.methodLink "MarriageHerringLaw" (47 : Nat) ({ cls := "MarriageHerring", name := "pair", desc := "(II)I" } : Jvm.MethodName)) ∈ lw_all := lw_g (lw_at lw_m6 65 rfl) rfl
theorem q1430 : (Jvm.Cond.methodLink "MarriageHerringLaw" (51 : Nat) ({ cls := "MarriageHerring", name := "shoal", desc := "(II)I" } : Jvm.MethodName)) ∈ lw_all := lw_g (lw_at lw_m6 74 rfl) rfl
theorem q1439 : (Jvm.Cond.methodLink "MarriageHerringLaw" (55 : Nat) ({ cls := "MarriageHerring", name := "lure", desc := "(II)J" } : Jvm.MethodName)) ∈ lw_all := lw_g (lw_at lw_m6 83 rfl) rfl
theorem q1461 : (Jvm.Cond.methodLink "MarriageHerringLaw" (60 : Nat) ({ cls := "MarriageHerring", name := "kept", desc := "(II)I" } : Jvm.MethodName)) ∈ lw_all := lw_g (lw_at lw_m6 105 rfl) rfl
theorem q1465 : (Jvm.Cond.methodLink "MarriageHerringLaw" (64 : Nat) ({ cls := "MarriageHerring", name := "later", desc := "(II)I" } : Jvm.MethodName)) ∈ lw_all := lw_g (lw_at lw_m6 109 rfl) rfl
theorem q1509 : (Jvm.Cond.methodLink "MarriageHerringLaw" (68 : Nat) ({ cls := "MarriageHerring", name := "caught", desc := "(II)I" } : Jvm.MethodName)) ∈ lw_all := lw_g (lw_at lw_m6 153 rfl) rfl
theorem q1514 : (Jvm.Cond.methodLink "MarriageHerringLaw" (72 : Nat) ({ cls := "MarriageHerring", name := "hungry", desc := "(II)I" } : Jvm.MethodName)) ∈ lw_all := lw_g (lw_at lw_m6 158 rfl) rfl
theorem q1518 : (Jvm.Cond.methodLink "MarriageHerringLaw" (76 : Nat) ({ cls := "MarriageHerring", name := "steady", desc := "()I" } : Jvm.MethodName)) ∈ lw_all := lw_g (lw_at lw_m6 162 rfl) rfl
theorem q1526 : (Jvm.Cond.methodLink "MarriageHerringLaw" (80 : Nat) ({ cls := "MarriageHerring", name := "reconcile", desc := "(III)I" } : Jvm.MethodName)) ∈ lw_all := lw_g (lw_at lw_m6 170 rfl) rfl
theorem q1541 : (Jvm.Cond.methodLink "MarriageHerringLaw" (84 : Nat) ({ cls := "MarriageHerring", name := "hinge", desc := "(II)I" } : Jvm.MethodName)) ∈ lw_all := lw_g (lw_at lw_m6 185 rfl) rfl
theorem q1546 : (Jvm.Cond.methodLink "MarriageHerringLaw" (88 : Nat) ({ cls := "MarriageHerring", name := "odds", desc := "(II)I" } : Jvm.MethodName)) ∈ lw_all := lw_g (lw_at lw_m6 190 rfl) rfl
theorem q1554 : (Jvm.Cond.methodLink "MarriageHerringLaw" (92 : Nat) ({ cls := "MarriageHerring", name := "see", desc := "()I" } : Jvm.MethodName)) ∈ lw_all := lw_g (lw_at lw_m6 198 rfl) rfl
theorem q1562 : (Jvm.Cond.methodLink "MarriageHerringLaw" (96 : Nat) ({ cls := "MarriageHerring", name := "trues", desc := "(I)I" } : Jvm.MethodName)) ∈ lw_all := lw_g (lw_at lw_m6 206 rfl) rfl
theorem q1570 : (Jvm.Cond.methodLink "MarriageHerringLaw" (100 : Nat) ({ cls := "MarriageHerring", name := "tells", desc := "(II)I" } : Jvm.MethodName)) ∈ lw_all := lw_g (lw_at lw_m6 214 rfl) rfl
theorem q1580 : (Jvm.Cond.methodLink "MarriageHerringLaw" (121 : Nat) ({ cls := "MarriageHerring", name := "undo", desc := "()Z" } : Jvm.MethodName)) ∈ lw_all := lw_g (lw_at lw_m6 224 rfl) rfl
theorem q1584 : (Jvm.Cond.methodLink "MarriageHerringLaw" (104 : Nat) ({ cls := "MarriageHerring", name := "sit", desc := "(II)Z" } : Jvm.MethodName)) ∈ lw_all := lw_g (lw_at lw_m6 228 rfl) rfl
theorem q1592 : (Jvm.Cond.methodLink "MarriageHerringLaw" (109 : Nat) ({ cls := "MarriageHerring", name := "give", desc := "(II)Z" } : Jvm.MethodName)) ∈ lw_all := lw_g (lw_at lw_m6 236 rfl) rfl
theorem q1596 : (Jvm.Cond.methodLink "MarriageHerringLaw" (113 : Nat) ({ cls := "MarriageHerring", name := "years", desc := "(I)I" } : Jvm.MethodName)) ∈ lw_all := lw_g (lw_at lw_m7 0 rfl) rfl
theorem q1600 : (Jvm.Cond.methodLink "MarriageHerringLaw" (117 : Nat) ({ cls := "MarriageHerring", name := "chance", desc := "(I)I" } : Jvm.MethodName)) ∈ lw_all := lw_g (lw_at lw_m7 4 rfl) rfl
theorem q1612 : (Jvm.Cond.methodLink "MarriageHerringLaw" (126 : Nat) ({ cls := "MarriageHerring", name := "seed", desc := "(I)Z" } : Jvm.MethodName)) ∈ lw_all := lw_g (lw_at lw_m7 16 rfl) rfl
theorem q1616 : (Jvm.Cond.methodLink "MarriageHerringLaw" (130 : Nat) ({ cls := "MarriageHerring", name := "ask", desc := "()J" } : Jvm.MethodName)) ∈ lw_all := lw_g (lw_at lw_m7 20 rfl) rfl
theorem q1661 : (Jvm.Cond.methodLink "MarriageHerringLaw" (135 : Nat) ({ cls := "MarriageHerring", name := "image", desc := "()I" } : Jvm.MethodName)) ∈ lw_all := lw_g (lw_at lw_m7 65 rfl) rfl
theorem q1672 : (Jvm.Cond.methodLink "MarriageHerringLaw" (139 : Nat) ({ cls := "MarriageHerring", name := "octet", desc := "(I)I" } : Jvm.MethodName)) ∈ lw_all := lw_g (lw_at lw_m7 76 rfl) rfl
theorem q1676 : (Jvm.Cond.methodLink "MarriageHerringLaw" (143 : Nat) ({ cls := "MarriageHerring", name := "on", desc := "()Z" } : Jvm.MethodName)) ∈ lw_all := lw_g (lw_at lw_m7 80 rfl) rfl
theorem q1696 : (Jvm.Cond.methodLink "MarriageHerringLaw" (147 : Nat) ({ cls := "MarriageHerring", name := "status", desc := "(I)I" } : Jvm.MethodName)) ∈ lw_all := lw_g (lw_at lw_m7 100 rfl) rfl
theorem q1700 : (Jvm.Cond.classLink "MarriageHerringLaw" (10 : Nat) "MarriageHerringModel") ∈ lw_all := lw_g (lw_at lw_m7 104 rfl) rfl
theorem q1702 : (Jvm.Cond.methodLink "MarriageHerringLaw" (12 : Nat) ({ cls := "MarriageHerringModel", name := "<init>", desc := "()V" } : Jvm.MethodName)) ∈ lw_all := lw_g (lw_at lw_m7 106 rfl) rfl
theorem q2031 : (Jvm.Cond.methodLink "MarriageHerringLaw" (17 : Nat) ({ cls := "MarriageHerringModel", name := "feed", desc := "(IIIII)I" } : Jvm.MethodName)) ∈ lw_all := lw_g (lw_at lw_m8 195 rfl) rfl
theorem q2035 : (Jvm.Cond.methodLink "MarriageHerringLaw" (22 : Nat) ({ cls := "MarriageHerringModel", name := "end", desc := "(I)Z" } : Jvm.MethodName)) ∈ lw_all := lw_g (lw_at lw_m8 199 rfl) rfl
theorem q2039 : (Jvm.Cond.methodLink "MarriageHerringLaw" (27 : Nat) ({ cls := "MarriageHerringModel", name := "coast", desc := "()I" } : Jvm.MethodName)) ∈ lw_all := lw_g (lw_at lw_m8 203 rfl) rfl
theorem q2216 : (Jvm.Cond.methodLink "MarriageHerringLaw" (32 : Nat) ({ cls := "MarriageHerringModel", name := "fault", desc := "(I)I" } : Jvm.MethodName)) ∈ lw_all := lw_g (lw_at lw_m9 140 rfl) rfl
theorem q2220 : (Jvm.Cond.methodLink "MarriageHerringLaw" (36 : Nat) ({ cls := "MarriageHerringModel", name := "has", desc := "(I)I" } : Jvm.MethodName)) ∈ lw_all := lw_g (lw_at lw_m9 144 rfl) rfl
theorem q2300 : (Jvm.Cond.methodLink "MarriageHerringLaw" (41 : Nat) ({ cls := "MarriageHerringModel", name := "letter", desc := "(III)I" } : Jvm.MethodName)) ∈ lw_all := lw_g (lw_at lw_m9 224 rfl) rfl
theorem q2306 : (Jvm.Cond.methodLink "MarriageHerringLaw" (46 : Nat) ({ cls := "MarriageHerringModel", name := "bay", desc := "(II)I" } : Jvm.MethodName)) ∈ lw_all := lw_g (lw_at lw_m9 230 rfl) rfl
theorem q2318 : (Jvm.Cond.methodLink "MarriageHerringLaw" (50 : Nat) ({ cls := "MarriageHerringModel", name := "pair", desc := "(II)I" } : Jvm.MethodName)) ∈ lw_all := lw_g (lw_at lw_m10 2 rfl) rfl
theorem q2326 : (Jvm.Cond.methodLink "MarriageHerringLaw" (54 : Nat) ({ cls := "MarriageHerringModel", name := "shoal", desc := "(II)I" } : Jvm.MethodName)) ∈ lw_all := lw_g (lw_at lw_m10 10 rfl) rfl
theorem q2338 : (Jvm.Cond.methodLink "MarriageHerringLaw" (59 : Nat) ({ cls := "MarriageHerringModel", name := "lure", desc := "(II)J" } : Jvm.MethodName)) ∈ lw_all := lw_g (lw_at lw_m10 22 rfl) rfl
theorem q2347 : (Jvm.Cond.methodLink "MarriageHerringLaw" (63 : Nat) ({ cls := "MarriageHerringModel", name := "kept", desc := "(II)I" } : Jvm.MethodName)) ∈ lw_all := lw_g (lw_at lw_m10 31 rfl) rfl
theorem q2351 : (Jvm.Cond.methodLink "MarriageHerringLaw" (67 : Nat) ({ cls := "MarriageHerringModel", name := "later", desc := "(II)I" } : Jvm.MethodName)) ∈ lw_all := lw_g (lw_at lw_m10 35 rfl) rfl
theorem q2403 : (Jvm.Cond.methodLink "MarriageHerringLaw" (71 : Nat) ({ cls := "MarriageHerringModel", name := "caught", desc := "(II)I" } : Jvm.MethodName)) ∈ lw_all := lw_g (lw_at lw_m10 87 rfl) rfl
theorem q2407 : (Jvm.Cond.methodLink "MarriageHerringLaw" (75 : Nat) ({ cls := "MarriageHerringModel", name := "hungry", desc := "(II)I" } : Jvm.MethodName)) ∈ lw_all := lw_g (lw_at lw_m10 91 rfl) rfl
theorem q2411 : (Jvm.Cond.methodLink "MarriageHerringLaw" (79 : Nat) ({ cls := "MarriageHerringModel", name := "steady", desc := "()I" } : Jvm.MethodName)) ∈ lw_all := lw_g (lw_at lw_m10 95 rfl) rfl
theorem q2419 : (Jvm.Cond.methodLink "MarriageHerringLaw" (83 : Nat) ({ cls := "MarriageHerringModel", name := "reconcile", desc := "(III)I" } : Jvm.MethodName)) ∈ lw_all := lw_g (lw_at lw_m10 103 rfl) rfl
theorem q2434 : (Jvm.Cond.methodLink "MarriageHerringLaw" (87 : Nat) ({ cls := "MarriageHerringModel", name := "hinge", desc := "(II)I" } : Jvm.MethodName)) ∈ lw_all := lw_g (lw_at lw_m10 118 rfl) rfl
theorem q2438 : (Jvm.Cond.methodLink "MarriageHerringLaw" (91 : Nat) ({ cls := "MarriageHerringModel", name := "odds", desc := "(II)I" } : Jvm.MethodName)) ∈ lw_all := lw_g (lw_at lw_m10 122 rfl) rfl
theorem q2442 : (Jvm.Cond.methodLink "MarriageHerringLaw" (95 : Nat) ({ cls := "MarriageHerringModel", name := "see", desc := "()I" } : Jvm.MethodName)) ∈ lw_all := lw_g (lw_at lw_m10 126 rfl) rfl
theorem q2450 : (Jvm.Cond.methodLink "MarriageHerringLaw" (99 : Nat) ({ cls := "MarriageHerringModel", name := "trues", desc := "(I)I" } : Jvm.MethodName)) ∈ lw_all := lw_g (lw_at lw_m10 134 rfl) rfl
theorem q2462 : (Jvm.Cond.methodLink "MarriageHerringLaw" (103 : Nat) ({ cls := "MarriageHerringModel", name := "tells", desc := "(II)I" } : Jvm.MethodName)) ∈ lw_all := lw_g (lw_at lw_m10 146 rfl) rfl
theorem q2470 : (Jvm.Cond.methodLink "MarriageHerringLaw" (125 : Nat) ({ cls := "MarriageHerringModel", name := "undo", desc := "()Z" } : Jvm.MethodName)) ∈ lw_all := lw_g (lw_at lw_m10 154 rfl) rfl
theorem q2474 : (Jvm.Cond.methodLink "MarriageHerringLaw" (108 : Nat) ({ cls := "MarriageHerringModel", name := "sit", desc := "(II)Z" } : Jvm.MethodName)) ∈ lw_all := lw_g (lw_at lw_m10 158 rfl) rfl
theorem q2486 : (Jvm.Cond.methodLink "MarriageHerringLaw" (112 : Nat) ({ cls := "MarriageHerringModel", name := "give", desc := "(II)Z" } : Jvm.MethodName)) ∈ lw_all := lw_g (lw_at lw_m10 170 rfl) rfl
theorem q2491 : (Jvm.Cond.methodLink "MarriageHerringLaw" (116 : Nat) ({ cls := "MarriageHerringModel", name := "years", desc := "(I)I" } : Jvm.MethodName)) ∈ lw_all := lw_g (lw_at lw_m10 175 rfl) rfl
theorem q2495 : (Jvm.Cond.methodLink "MarriageHerringLaw" (129 : Nat) ({ cls := "MarriageHerringModel", name := "seed", desc := "(I)Z" } : Jvm.MethodName)) ∈ lw_all := lw_g (lw_at lw_m10 179 rfl) rfl
theorem q2499 : (Jvm.Cond.methodLink "MarriageHerringLaw" (120 : Nat) ({ cls := "MarriageHerringModel", name := "chance", desc := "(I)I" } : Jvm.MethodName)) ∈ lw_all := lw_g (lw_at lw_m10 183 rfl) rfl
theorem q2511 : (Jvm.Cond.methodLink "MarriageHerringLaw" (134 : Nat) ({ cls := "MarriageHerringModel", name := "ask", desc := "()J" } : Jvm.MethodName)) ∈ lw_all := lw_g (lw_at lw_m10 195 rfl) rfl
theorem q2532 : (Jvm.Cond.methodLink "MarriageHerringLaw" (138 : Nat) ({ cls := "MarriageHerringModel", name := "image", desc := "()I" } : Jvm.MethodName)) ∈ lw_all := lw_g (lw_at lw_m10 216 rfl) rfl
theorem q2543 : (Jvm.Cond.methodLink "MarriageHerringLaw" (142 : Nat) ({ cls := "MarriageHerringModel", name := "octet", desc := "(I)I" } : Jvm.MethodName)) ∈ lw_all := lw_g (lw_at lw_m10 227 rfl) rfl
theorem q2547 : (Jvm.Cond.methodLink "MarriageHerringLaw" (146 : Nat) ({ cls := "MarriageHerringModel", name := "on", desc := "()Z" } : Jvm.MethodName)) ∈ lw_all := lw_g (lw_at lw_m10 231 rfl) rfl
theorem q2555 : (Jvm.Cond.methodLink "MarriageHerringLaw" (150 : Nat) ({ cls := "MarriageHerringModel", name := "status", desc := "(I)I" } : Jvm.MethodName)) ∈ lw_all := lw_g (lw_at lw_m10 239 rfl) rfl
theorem q1135 : (Jvm.Cond.sameMethod "[B" "java/lang/Object" "clone" "()Ljava/lang/Object;") ∈ lw_all := lw_g (lw_at lw_m5 19 rfl) rfl
set_option maxRecDepth 100000
theorem q1138 : (Jvm.Cond.selects "[B" ({ cls := "[B", name := "clone", desc := "()Ljava/lang/Object;" } : Jvm.MethodName) ({ cls := "java/lang/Object", name := "clone", desc := "()Ljava/lang/Object;" } : Jvm.MethodName)) ∈ lw_all := lw_g (lw_at lw_m5 22 rfl) rfl
theorem q1139 : (Jvm.Cond.castable "[B" "java/lang/Cloneable") ∈ lw_tbl := lw_at lw_m5 23 rfl
theorem q2606 : (Jvm.Cond.castable "[B" "java/lang/Object") ∈ lw_tbl := lw_at lw_m11 50 rfl
theorem q2612 : (Jvm.Cond.castable "[C" "java/lang/Object") ∈ lw_tbl := lw_at lw_m11 56 rfl
set_option maxRecDepth 100000
theorem q2609 : (Jvm.Cond.castable "[I" "java/lang/Object") ∈ lw_tbl := lw_at lw_m11 53 rfl
set_option maxRecDepth 100000
theorem q2607 : (Jvm.Cond.castable "[J" "java/lang/Object") ∈ lw_tbl := lw_at lw_m11 51 rfl
set_option maxRecDepth 100000
theorem q2611 : (Jvm.Cond.castable "[LMarriageHerring$State;" "java/lang/Object") ∈ lw_tbl := lw_at lw_m11 55 rfl
set_option maxRecDepth 100000
theorem q2602 : (Jvm.Cond.sameMethod "[Ljava/lang/Object;" "java/lang/Object" "getClass" "()Ljava/lang/Class;") ∈ lw_all := lw_g (lw_at lw_m11 46 rfl) rfl
set_option maxRecDepth 100000
theorem q2603 : (Jvm.Cond.selects "[Ljava/lang/Object;" ({ cls := "java/lang/Object", name := "getClass", desc := "()Ljava/lang/Class;" } : Jvm.MethodName) ({ cls := "java/lang/Object", name := "getClass", desc := "()Ljava/lang/Class;" } : Jvm.MethodName)) ∈ lw_all := lw_g (lw_at lw_m11 47 rfl) rfl
theorem q2605 : (Jvm.Cond.castable "[Ljava/lang/Object;" "java/lang/Object") ∈ lw_tbl := lw_at lw_m11 49 rfl
theorem q2613 : (Jvm.Cond.castable "[Ljava/lang/String;" "java/lang/Object") ∈ lw_tbl := lw_at lw_m11 57 rfl
set_option maxRecDepth 100000
theorem q2608 : (Jvm.Cond.castable "[[I" "java/lang/Object") ∈ lw_tbl := lw_at lw_m11 52 rfl
set_option maxRecDepth 100000
theorem q2610 : (Jvm.Cond.castable "[[[I" "java/lang/Object") ∈ lw_tbl := lw_at lw_m11 54 rfl
set_option maxRecDepth 100000
theorem q180 : (Jvm.Cond.initialized "java/lang/System") ∈ lw_all := lw_g (lw_at lw_m1 24 rfl) rfl
set_option maxRecDepth 100000
theorem q919 : (Jvm.Cond.static ({ cls := "java/lang/System", name := "arraycopy", desc := "(Ljava/lang/Object;ILjava/lang/Object;II)V" } : Jvm.MethodName)) ∈ lw_all := lw_g (lw_at lw_m4 43 rfl) rfl
theorem q920 : (Jvm.Cond.native ({ cls := "java/lang/System", name := "arraycopy", desc := "(Ljava/lang/Object;ILjava/lang/Object;II)V" } : Jvm.MethodName)) ∈ lw_all := lw_g (lw_at lw_m4 44 rfl) rfl
theorem q747 : (Jvm.Cond.interfaceMethod "java/util/List" "java/util/List" "size" "()I") ∈ lw_tbl := lw_at lw_m3 111 rfl
set_option maxRecDepth 100000
theorem q748 : (Jvm.Cond.declares ({ cls := "java/util/List", name := "size", desc := "()I" } : Jvm.MethodName)) ∈ lw_tbl := lw_at lw_m3 112 rfl
theorem q788 : (Jvm.Cond.interfaceMethod "java/util/List" "java/util/List" "get" "(I)Ljava/lang/Object;") ∈ lw_tbl := lw_at lw_m3 152 rfl
theorem q789 : (Jvm.Cond.declares ({ cls := "java/util/List", name := "get", desc := "(I)Ljava/lang/Object;" } : Jvm.MethodName)) ∈ lw_tbl := lw_at lw_m3 153 rfl
theorem q848 : (Jvm.Cond.interfaceMethod "java/util/List" "java/util/List" "add" "(Ljava/lang/Object;)Z") ∈ lw_tbl := lw_at lw_m3 212 rfl
theorem q849 : (Jvm.Cond.declares ({ cls := "java/util/List", name := "add", desc := "(Ljava/lang/Object;)Z" } : Jvm.MethodName)) ∈ lw_tbl := lw_at lw_m3 213 rfl
theorem q702 : (Jvm.Cond.interfaceMethod "jdk/internal/access/JavaLangAccess" "jdk/internal/access/JavaLangAccess" "getUTF16Char" "([BI)C") ∈ lw_tbl := lw_at lw_m3 66 rfl
set_option maxRecDepth 100000
theorem q703 : (Jvm.Cond.declares ({ cls := "jdk/internal/access/JavaLangAccess", name := "getUTF16Char", desc := "([BI)C" } : Jvm.MethodName)) ∈ lw_tbl := lw_at lw_m3 67 rfl
theorem q225 : (Jvm.Cond.arrayOver (Jvm.ClassFile.FieldType.object "java/lang/Object")) ∈ lw_tbl := lw_at lw_m1 69 rfl
set_option maxRecDepth 100000
theorem q358 : (Jvm.Cond.arrayClass Jvm.ClassFile.FieldType.byte) ∈ lw_all := lw_g (lw_at lw_m1 202 rfl) rfl
theorem q397 : (Jvm.Cond.arrayClass Jvm.ClassFile.FieldType.long) ∈ lw_all := lw_g (lw_at lw_m2 1 rfl) rfl
theorem q405 : (Jvm.Cond.arrayOver (Jvm.ClassFile.FieldType.array Jvm.ClassFile.FieldType.int)) ∈ lw_tbl := lw_at lw_m2 9 rfl
theorem q459 : (Jvm.Cond.arrayClass Jvm.ClassFile.FieldType.int) ∈ lw_all := lw_g (lw_at lw_m2 63 rfl) rfl
theorem q462 : (Jvm.Cond.arrayOver (Jvm.ClassFile.FieldType.array (Jvm.ClassFile.FieldType.array Jvm.ClassFile.FieldType.int))) ∈ lw_tbl := lw_at lw_m2 66 rfl
theorem q463 : (Jvm.Cond.arrayOver (Jvm.ClassFile.FieldType.object "MarriageHerring$State")) ∈ lw_tbl := lw_at lw_m2 67 rfl
theorem q672 : (Jvm.Cond.arrayClass Jvm.ClassFile.FieldType.char) ∈ lw_all := lw_g (lw_at lw_m3 36 rfl) rfl
theorem q2614 : (Jvm.Cond.arrayClass Jvm.ClassFile.FieldType.short) ∈ lw_all := lw_g (lw_at lw_m11 58 rfl) rfl
theorem q2642 : (Jvm.Cond.arrayOver (Jvm.ClassFile.FieldType.object "java/lang/String")) ∈ lw_tbl := lw_at lw_m11 86 rfl
