/-! PluralBranches$Decimal -/
set_option maxRecDepth 100000
def RX1 : String := "PluralBranches$Decimal"
def TX1 : u_T := fun k => match k with
  | 0 => ("PluralBranches$Decimal", "digits", "I", true)
  | 1 => ("PluralBranches$Decimal", "scale", "I", true)
  | 2 => ("PluralBranches$Decimal", "whole", "J", true)
  | 3 => ("PluralBranches$Decimal", "part", "J", true)
  | 4 => ("PluralBranches$Decimal", "kept", "I", false)
  | _ => ("PluralBranches$Decimal", "trimmed", "J", false)
def tyX1 : Nat → FieldType := fun k => match k with
  | 0 => .int
  | 1 => .int
  | 2 => .long
  | 3 => .long
  | 4 => .int
  | _ => .long
abbrev wsX10 : List Cond := u_ws RX1 TX1 6
theorem nmX1 : ∀ a, a < 6 → ∀ b, b < 6 → a ≠ b → (TX1 a).2.1 ≠ (TX1 b).2.1 := by decide +kernel
theorem tyX1_ok : ∀ k, k < 6 → parseFieldDescriptor (TX1 k).2.2.1 = some (tyX1 k) := by decide +kernel
abbrev cX1_init : ByteArray := prog_7_method_1_code
def yX1_init : MethodName := ⟨RX1, "<init>", "(I)V"⟩
def dkwX1_init_0 : List UInt8 := [42, 27, 3, 183, 0, 3, 177]
abbrev dktX1_init_0 : List UInt8 := dkwX1_init_0 ++ []
theorem dksX1_init_0 : cX1_init.data.toList.drop 0 = dktX1_init_0 := by decide +kernel
theorem dX1_init_0 : decode cX1_init 0 = .ok (.aload_n 0, 1) := dk_42 (dk_at dksX1_init_0 0 rfl rfl)
theorem dX1_init_1 : decode cX1_init 1 = .ok (.iload_n 1, 1) := dk_27 (dk_at dksX1_init_0 1 rfl rfl)
theorem dX1_init_2 : decode cX1_init 2 = .ok (.iconst 0, 1) := dk_3 (dk_at dksX1_init_0 2 rfl rfl)
theorem dX1_init_3 : decode cX1_init 3 = .ok (.invokespecial 3, 3) := dk_183 0 3 (dk_at dksX1_init_0 3 rfl rfl)
theorem dX1_init_6 : decode cX1_init 6 = .ok (.return_, 1) := dk_177 (dk_at dksX1_init_0 6 rfl rfl)
abbrev cX1_init_2 : ByteArray := prog_7_method_2_code
def yX1_init_2 : MethodName := ⟨RX1, "<init>", "(II)V"⟩
def dkwX1_init_2_4 : List UInt8 := [109, 181, 0, 41, 42, 89, 180, 0, 14, 4, 100, 181, 0, 14, 167, 255, 214, 177]
abbrev dktX1_init_2_4 : List UInt8 := dkwX1_init_2_4 ++ []
def dkwX1_init_2_3 : List UInt8 := [158, 0, 41, 42, 180, 0, 41, 20, 0, 48, 113, 9, 148, 154, 0, 28, 42, 89, 180, 0, 41, 20, 0, 48]
abbrev dktX1_init_2_3 : List UInt8 := dkwX1_init_2_3 ++ dktX1_init_2_4
def dkwX1_init_2_2 : List UInt8 := [42, 42, 180, 0, 38, 181, 0, 41, 42, 42, 180, 0, 14, 28, 184, 0, 44, 181, 0, 14, 42, 180, 0, 14]
abbrev dktX1_init_2_2 : List UInt8 := dkwX1_init_2_2 ++ dktX1_init_2_3
def dkwX1_init_2_1 : List UInt8 := [184, 0, 24, 66, 42, 33, 28, 184, 0, 30, 109, 181, 0, 34, 42, 33, 28, 184, 0, 30, 113, 181, 0, 38]
abbrev dktX1_init_2_1 : List UInt8 := dkwX1_init_2_1 ++ dktX1_init_2_2
def dkwX1_init_2_0 : List UInt8 := [42, 183, 0, 9, 42, 16, 7, 181, 0, 14, 42, 27, 181, 0, 18, 42, 28, 181, 0, 21, 27, 133]
abbrev dktX1_init_2_0 : List UInt8 := dkwX1_init_2_0 ++ dktX1_init_2_1
theorem dksX1_init_2_0 : cX1_init_2.data.toList.drop 0 = dktX1_init_2_0 := by decide +kernel
theorem dksX1_init_2_1 : cX1_init_2.data.toList.drop 22 = dktX1_init_2_1 := dk_seg dksX1_init_2_0 22 rfl rfl
theorem dksX1_init_2_2 : cX1_init_2.data.toList.drop 46 = dktX1_init_2_2 := dk_seg dksX1_init_2_1 24 rfl rfl
theorem dksX1_init_2_3 : cX1_init_2.data.toList.drop 70 = dktX1_init_2_3 := dk_seg dksX1_init_2_2 24 rfl rfl
theorem dksX1_init_2_4 : cX1_init_2.data.toList.drop 94 = dktX1_init_2_4 := dk_seg dksX1_init_2_3 24 rfl rfl
theorem dX1_init_2_0 : decode cX1_init_2 0 = .ok (.aload_n 0, 1) := dk_42 (dk_at dksX1_init_2_0 0 rfl rfl)
theorem dX1_init_2_1 : decode cX1_init_2 1 = .ok (.invokespecial 9, 3) := dk_183 0 9 (dk_at dksX1_init_2_0 1 rfl rfl)
theorem dX1_init_2_4 : decode cX1_init_2 4 = .ok (.aload_n 0, 1) := dk_42 (dk_at dksX1_init_2_0 4 rfl rfl)
theorem dX1_init_2_5 : decode cX1_init_2 5 = .ok (.bipush 7, 2) := dk_16 7 (dk_at dksX1_init_2_0 5 rfl rfl)
theorem dX1_init_2_7 : decode cX1_init_2 7 = .ok (.putfield 14, 3) := dk_181 0 14 (dk_at dksX1_init_2_0 7 rfl rfl)
theorem dX1_init_2_10 : decode cX1_init_2 10 = .ok (.aload_n 0, 1) := dk_42 (dk_at dksX1_init_2_0 10 rfl rfl)
theorem dX1_init_2_11 : decode cX1_init_2 11 = .ok (.iload_n 1, 1) := dk_27 (dk_at dksX1_init_2_0 11 rfl rfl)
theorem dX1_init_2_12 : decode cX1_init_2 12 = .ok (.putfield 18, 3) := dk_181 0 18 (dk_at dksX1_init_2_0 12 rfl rfl)
theorem dX1_init_2_15 : decode cX1_init_2 15 = .ok (.aload_n 0, 1) := dk_42 (dk_at dksX1_init_2_0 15 rfl rfl)
theorem dX1_init_2_16 : decode cX1_init_2 16 = .ok (.iload_n 2, 1) := dk_28 (dk_at dksX1_init_2_0 16 rfl rfl)
theorem dX1_init_2_17 : decode cX1_init_2 17 = .ok (.putfield 21, 3) := dk_181 0 21 (dk_at dksX1_init_2_0 17 rfl rfl)
theorem dX1_init_2_20 : decode cX1_init_2 20 = .ok (.iload_n 1, 1) := dk_27 (dk_at dksX1_init_2_0 20 rfl rfl)
theorem dX1_init_2_21 : decode cX1_init_2 21 = .ok (.i2l, 1) := dk_133 (dk_at dksX1_init_2_0 21 rfl rfl)
theorem dX1_init_2_22 : decode cX1_init_2 22 = .ok (.invokestatic 24, 3) := dk_184 0 24 (dk_at dksX1_init_2_1 0 rfl rfl)
theorem dX1_init_2_25 : decode cX1_init_2 25 = .ok (.lstore_n 3, 1) := dk_66 (dk_at dksX1_init_2_1 3 rfl rfl)
theorem dX1_init_2_26 : decode cX1_init_2 26 = .ok (.aload_n 0, 1) := dk_42 (dk_at dksX1_init_2_1 4 rfl rfl)
theorem dX1_init_2_27 : decode cX1_init_2 27 = .ok (.lload_n 3, 1) := dk_33 (dk_at dksX1_init_2_1 5 rfl rfl)
theorem dX1_init_2_28 : decode cX1_init_2 28 = .ok (.iload_n 2, 1) := dk_28 (dk_at dksX1_init_2_1 6 rfl rfl)
theorem dX1_init_2_29 : decode cX1_init_2 29 = .ok (.invokestatic 30, 3) := dk_184 0 30 (dk_at dksX1_init_2_1 7 rfl rfl)
theorem dX1_init_2_32 : decode cX1_init_2 32 = .ok (.ldiv, 1) := dk_109 (dk_at dksX1_init_2_1 10 rfl rfl)
theorem dX1_init_2_33 : decode cX1_init_2 33 = .ok (.putfield 34, 3) := dk_181 0 34 (dk_at dksX1_init_2_1 11 rfl rfl)
theorem dX1_init_2_36 : decode cX1_init_2 36 = .ok (.aload_n 0, 1) := dk_42 (dk_at dksX1_init_2_1 14 rfl rfl)
theorem dX1_init_2_37 : decode cX1_init_2 37 = .ok (.lload_n 3, 1) := dk_33 (dk_at dksX1_init_2_1 15 rfl rfl)
theorem dX1_init_2_38 : decode cX1_init_2 38 = .ok (.iload_n 2, 1) := dk_28 (dk_at dksX1_init_2_1 16 rfl rfl)
theorem dX1_init_2_39 : decode cX1_init_2 39 = .ok (.invokestatic 30, 3) := dk_184 0 30 (dk_at dksX1_init_2_1 17 rfl rfl)
theorem dX1_init_2_42 : decode cX1_init_2 42 = .ok (.lrem, 1) := dk_113 (dk_at dksX1_init_2_1 20 rfl rfl)
theorem dX1_init_2_43 : decode cX1_init_2 43 = .ok (.putfield 38, 3) := dk_181 0 38 (dk_at dksX1_init_2_1 21 rfl rfl)
theorem dX1_init_2_46 : decode cX1_init_2 46 = .ok (.aload_n 0, 1) := dk_42 (dk_at dksX1_init_2_2 0 rfl rfl)
theorem dX1_init_2_47 : decode cX1_init_2 47 = .ok (.aload_n 0, 1) := dk_42 (dk_at dksX1_init_2_2 1 rfl rfl)
theorem dX1_init_2_48 : decode cX1_init_2 48 = .ok (.getfield 38, 3) := dk_180 0 38 (dk_at dksX1_init_2_2 2 rfl rfl)
theorem dX1_init_2_51 : decode cX1_init_2 51 = .ok (.putfield 41, 3) := dk_181 0 41 (dk_at dksX1_init_2_2 5 rfl rfl)
theorem dX1_init_2_54 : decode cX1_init_2 54 = .ok (.aload_n 0, 1) := dk_42 (dk_at dksX1_init_2_2 8 rfl rfl)
theorem dX1_init_2_55 : decode cX1_init_2 55 = .ok (.aload_n 0, 1) := dk_42 (dk_at dksX1_init_2_2 9 rfl rfl)
theorem dX1_init_2_56 : decode cX1_init_2 56 = .ok (.getfield 14, 3) := dk_180 0 14 (dk_at dksX1_init_2_2 10 rfl rfl)
theorem dX1_init_2_59 : decode cX1_init_2 59 = .ok (.iload_n 2, 1) := dk_28 (dk_at dksX1_init_2_2 13 rfl rfl)
theorem dX1_init_2_60 : decode cX1_init_2 60 = .ok (.invokestatic 44, 3) := dk_184 0 44 (dk_at dksX1_init_2_2 14 rfl rfl)
theorem dX1_init_2_63 : decode cX1_init_2 63 = .ok (.putfield 14, 3) := dk_181 0 14 (dk_at dksX1_init_2_2 17 rfl rfl)
theorem dX1_init_2_66 : decode cX1_init_2 66 = .ok (.aload_n 0, 1) := dk_42 (dk_at dksX1_init_2_2 20 rfl rfl)
theorem dX1_init_2_67 : decode cX1_init_2 67 = .ok (.getfield 14, 3) := dk_180 0 14 (dk_at dksX1_init_2_2 21 rfl rfl)
theorem dX1_init_2_70 : decode cX1_init_2 70 = .ok (.ifCond .le 41, 3) := dk_158 0 41 (dk_at dksX1_init_2_3 0 rfl rfl)
theorem dX1_init_2_73 : decode cX1_init_2 73 = .ok (.aload_n 0, 1) := dk_42 (dk_at dksX1_init_2_3 3 rfl rfl)
theorem dX1_init_2_74 : decode cX1_init_2 74 = .ok (.getfield 41, 3) := dk_180 0 41 (dk_at dksX1_init_2_3 4 rfl rfl)
theorem dX1_init_2_77 : decode cX1_init_2 77 = .ok (.ldc2_w 48, 3) := dk_20 0 48 (dk_at dksX1_init_2_3 7 rfl rfl)
theorem dX1_init_2_80 : decode cX1_init_2 80 = .ok (.lrem, 1) := dk_113 (dk_at dksX1_init_2_3 10 rfl rfl)
theorem dX1_init_2_81 : decode cX1_init_2 81 = .ok (.lconst 0, 1) := dk_9 (dk_at dksX1_init_2_3 11 rfl rfl)
theorem dX1_init_2_82 : decode cX1_init_2 82 = .ok (.lcmp, 1) := dk_148 (dk_at dksX1_init_2_3 12 rfl rfl)
theorem dX1_init_2_83 : decode cX1_init_2 83 = .ok (.ifCond .ne 28, 3) := dk_154 0 28 (dk_at dksX1_init_2_3 13 rfl rfl)
theorem dX1_init_2_86 : decode cX1_init_2 86 = .ok (.aload_n 0, 1) := dk_42 (dk_at dksX1_init_2_3 16 rfl rfl)
theorem dX1_init_2_87 : decode cX1_init_2 87 = .ok (.dup, 1) := dk_89 (dk_at dksX1_init_2_3 17 rfl rfl)
theorem dX1_init_2_88 : decode cX1_init_2 88 = .ok (.getfield 41, 3) := dk_180 0 41 (dk_at dksX1_init_2_3 18 rfl rfl)
theorem dX1_init_2_91 : decode cX1_init_2 91 = .ok (.ldc2_w 48, 3) := dk_20 0 48 (dk_at dksX1_init_2_3 21 rfl rfl)
theorem dX1_init_2_94 : decode cX1_init_2 94 = .ok (.ldiv, 1) := dk_109 (dk_at dksX1_init_2_4 0 rfl rfl)
theorem dX1_init_2_95 : decode cX1_init_2 95 = .ok (.putfield 41, 3) := dk_181 0 41 (dk_at dksX1_init_2_4 1 rfl rfl)
theorem dX1_init_2_98 : decode cX1_init_2 98 = .ok (.aload_n 0, 1) := dk_42 (dk_at dksX1_init_2_4 4 rfl rfl)
theorem dX1_init_2_99 : decode cX1_init_2 99 = .ok (.dup, 1) := dk_89 (dk_at dksX1_init_2_4 5 rfl rfl)
theorem dX1_init_2_100 : decode cX1_init_2 100 = .ok (.getfield 14, 3) := dk_180 0 14 (dk_at dksX1_init_2_4 6 rfl rfl)
theorem dX1_init_2_103 : decode cX1_init_2 103 = .ok (.iconst 1, 1) := dk_4 (dk_at dksX1_init_2_4 9 rfl rfl)
theorem dX1_init_2_104 : decode cX1_init_2 104 = .ok (.isub, 1) := dk_100 (dk_at dksX1_init_2_4 10 rfl rfl)
theorem dX1_init_2_105 : decode cX1_init_2 105 = .ok (.putfield 14, 3) := dk_181 0 14 (dk_at dksX1_init_2_4 11 rfl rfl)
theorem dX1_init_2_108 : decode cX1_init_2 108 = .ok (.goto (-42), 3) := dk_167 255 214 (dk_at dksX1_init_2_4 14 rfl rfl)
theorem dX1_init_2_111 : decode cX1_init_2 111 = .ok (.return_, 1) := dk_177 (dk_at dksX1_init_2_4 17 rfl rfl)
abbrev cX1_operand : ByteArray := prog_7_method_3_code
def yX1_operand : MethodName := ⟨RX1, "operand", "(I)J"⟩
def dkwX1_operand_3 : List UInt8 := [180, 0, 41, 173]
abbrev dktX1_operand_3 : List UInt8 := dkwX1_operand_3 ++ []
def dkwX1_operand_2 : List UInt8 := [42, 180, 0, 34, 173, 42, 180, 0, 21, 133, 173, 42, 180, 0, 38, 173, 42, 180, 0, 14, 133, 173, 42]
abbrev dktX1_operand_2 : List UInt8 := dkwX1_operand_2 ++ dktX1_operand_3
def dkwX1_operand_1 : List UInt8 := [170, 0, 0, 0, 0, 0, 53, 0, 0, 0, 0, 0, 0, 0, 3, 0, 0, 0, 31, 0, 0, 0, 36, 0, 0, 0, 42, 0, 0, 0, 47]
abbrev dktX1_operand_1 : List UInt8 := dkwX1_operand_1 ++ dktX1_operand_2
def dkwX1_operand_0 : List UInt8 := [27]
abbrev dktX1_operand_0 : List UInt8 := dkwX1_operand_0 ++ dktX1_operand_1
theorem dksX1_operand_0 : cX1_operand.data.toList.drop 0 = dktX1_operand_0 := by decide +kernel
theorem dksX1_operand_1 : cX1_operand.data.toList.drop 1 = dktX1_operand_1 := dk_seg dksX1_operand_0 1 rfl rfl
theorem dksX1_operand_2 : cX1_operand.data.toList.drop 32 = dktX1_operand_2 := dk_seg dksX1_operand_1 31 rfl rfl
theorem dksX1_operand_3 : cX1_operand.data.toList.drop 55 = dktX1_operand_3 := dk_seg dksX1_operand_2 23 rfl rfl
theorem dX1_operand_0 : decode cX1_operand 0 = .ok (.iload_n 1, 1) := dk_27 (dk_at dksX1_operand_0 0 rfl rfl)
theorem dX1_operand_1 : decode cX1_operand 1 = .ok (.tableswitch 53 0 3 #[31, 36, 42, 47], 31) := by decide +kernel
theorem dX1_operand_32 : decode cX1_operand 32 = .ok (.aload_n 0, 1) := dk_42 (dk_at dksX1_operand_2 0 rfl rfl)
theorem dX1_operand_33 : decode cX1_operand 33 = .ok (.getfield 34, 3) := dk_180 0 34 (dk_at dksX1_operand_2 1 rfl rfl)
theorem dX1_operand_36 : decode cX1_operand 36 = .ok (.lreturn, 1) := dk_173 (dk_at dksX1_operand_2 4 rfl rfl)
theorem dX1_operand_37 : decode cX1_operand 37 = .ok (.aload_n 0, 1) := dk_42 (dk_at dksX1_operand_2 5 rfl rfl)
theorem dX1_operand_38 : decode cX1_operand 38 = .ok (.getfield 21, 3) := dk_180 0 21 (dk_at dksX1_operand_2 6 rfl rfl)
theorem dX1_operand_41 : decode cX1_operand 41 = .ok (.i2l, 1) := dk_133 (dk_at dksX1_operand_2 9 rfl rfl)
theorem dX1_operand_42 : decode cX1_operand 42 = .ok (.lreturn, 1) := dk_173 (dk_at dksX1_operand_2 10 rfl rfl)
theorem dX1_operand_43 : decode cX1_operand 43 = .ok (.aload_n 0, 1) := dk_42 (dk_at dksX1_operand_2 11 rfl rfl)
theorem dX1_operand_44 : decode cX1_operand 44 = .ok (.getfield 38, 3) := dk_180 0 38 (dk_at dksX1_operand_2 12 rfl rfl)
theorem dX1_operand_47 : decode cX1_operand 47 = .ok (.lreturn, 1) := dk_173 (dk_at dksX1_operand_2 15 rfl rfl)
theorem dX1_operand_48 : decode cX1_operand 48 = .ok (.aload_n 0, 1) := dk_42 (dk_at dksX1_operand_2 16 rfl rfl)
theorem dX1_operand_49 : decode cX1_operand 49 = .ok (.getfield 14, 3) := dk_180 0 14 (dk_at dksX1_operand_2 17 rfl rfl)
theorem dX1_operand_52 : decode cX1_operand 52 = .ok (.i2l, 1) := dk_133 (dk_at dksX1_operand_2 20 rfl rfl)
theorem dX1_operand_53 : decode cX1_operand 53 = .ok (.lreturn, 1) := dk_173 (dk_at dksX1_operand_2 21 rfl rfl)
theorem dX1_operand_54 : decode cX1_operand 54 = .ok (.aload_n 0, 1) := dk_42 (dk_at dksX1_operand_2 22 rfl rfl)
theorem dX1_operand_55 : decode cX1_operand 55 = .ok (.getfield 41, 3) := dk_180 0 41 (dk_at dksX1_operand_3 0 rfl rfl)
theorem dX1_operand_58 : decode cX1_operand 58 = .ok (.lreturn, 1) := dk_173 (dk_at dksX1_operand_3 3 rfl rfl)
abbrev cX1_is : ByteArray := prog_7_method_4_code
def yX1_is : MethodName := ⟨RX1, "is", "(I)Z"⟩
def dkwX1_is_1 : List UInt8 := [155, 0, 7, 4, 167, 0, 4, 3, 172]
abbrev dktX1_is_1 : List UInt8 := dkwX1_is_1 ++ []
def dkwX1_is_0 : List UInt8 := [42, 180, 0, 38, 9, 148, 154, 0, 24, 42, 180, 0, 34, 27, 133, 148, 154, 0, 14, 42, 180, 0, 18]
abbrev dktX1_is_0 : List UInt8 := dkwX1_is_0 ++ dktX1_is_1
theorem dksX1_is_0 : cX1_is.data.toList.drop 0 = dktX1_is_0 := by decide +kernel
theorem dksX1_is_1 : cX1_is.data.toList.drop 23 = dktX1_is_1 := dk_seg dksX1_is_0 23 rfl rfl
theorem dX1_is_0 : decode cX1_is 0 = .ok (.aload_n 0, 1) := dk_42 (dk_at dksX1_is_0 0 rfl rfl)
theorem dX1_is_1 : decode cX1_is 1 = .ok (.getfield 38, 3) := dk_180 0 38 (dk_at dksX1_is_0 1 rfl rfl)
theorem dX1_is_4 : decode cX1_is 4 = .ok (.lconst 0, 1) := dk_9 (dk_at dksX1_is_0 4 rfl rfl)
theorem dX1_is_5 : decode cX1_is 5 = .ok (.lcmp, 1) := dk_148 (dk_at dksX1_is_0 5 rfl rfl)
theorem dX1_is_6 : decode cX1_is 6 = .ok (.ifCond .ne 24, 3) := dk_154 0 24 (dk_at dksX1_is_0 6 rfl rfl)
theorem dX1_is_9 : decode cX1_is 9 = .ok (.aload_n 0, 1) := dk_42 (dk_at dksX1_is_0 9 rfl rfl)
theorem dX1_is_10 : decode cX1_is 10 = .ok (.getfield 34, 3) := dk_180 0 34 (dk_at dksX1_is_0 10 rfl rfl)
theorem dX1_is_13 : decode cX1_is 13 = .ok (.iload_n 1, 1) := dk_27 (dk_at dksX1_is_0 13 rfl rfl)
theorem dX1_is_14 : decode cX1_is 14 = .ok (.i2l, 1) := dk_133 (dk_at dksX1_is_0 14 rfl rfl)
theorem dX1_is_15 : decode cX1_is 15 = .ok (.lcmp, 1) := dk_148 (dk_at dksX1_is_0 15 rfl rfl)
theorem dX1_is_16 : decode cX1_is 16 = .ok (.ifCond .ne 14, 3) := dk_154 0 14 (dk_at dksX1_is_0 16 rfl rfl)
theorem dX1_is_19 : decode cX1_is 19 = .ok (.aload_n 0, 1) := dk_42 (dk_at dksX1_is_0 19 rfl rfl)
theorem dX1_is_20 : decode cX1_is 20 = .ok (.getfield 18, 3) := dk_180 0 18 (dk_at dksX1_is_0 20 rfl rfl)
theorem dX1_is_23 : decode cX1_is 23 = .ok (.ifCond .lt 7, 3) := dk_155 0 7 (dk_at dksX1_is_1 0 rfl rfl)
theorem dX1_is_26 : decode cX1_is 26 = .ok (.iconst 1, 1) := dk_4 (dk_at dksX1_is_1 3 rfl rfl)
theorem dX1_is_27 : decode cX1_is 27 = .ok (.goto 4, 3) := dk_167 0 4 (dk_at dksX1_is_1 4 rfl rfl)
theorem dX1_is_30 : decode cX1_is 30 = .ok (.iconst 0, 1) := dk_3 (dk_at dksX1_is_1 7 rfl rfl)
theorem dX1_is_31 : decode cX1_is 31 = .ok (.ireturn, 1) := dk_172 (dk_at dksX1_is_1 8 rfl rfl)
abbrev cX1_rounded : ByteArray := prog_7_method_5_code
def yX1_rounded : MethodName := ⟨RX1, "rounded", "(I)J"⟩
def dkwX1_rounded_4 : List UInt8 := [180, 0, 18, 156, 0, 9, 22, 6, 117, 167, 0, 5, 22, 6, 173]
abbrev dktX1_rounded_4 : List UInt8 := dkwX1_rounded_4 ++ []
def dkwX1_rounded_3 : List UInt8 := [148, 154, 0, 18, 22, 6, 20, 0, 50, 113, 10, 148, 154, 0, 7, 10, 167, 0, 4, 9, 97, 55, 6, 42]
abbrev dktX1_rounded_3 : List UInt8 := dkwX1_rounded_3 ++ dktX1_rounded_4
def dkwX1_rounded_2 : List UInt8 := [55, 6, 20, 0, 50, 22, 4, 32, 113, 105, 55, 8, 22, 6, 22, 8, 32, 148, 157, 0, 21, 22, 8, 32]
abbrev dktX1_rounded_2 : List UInt8 := dkwX1_rounded_2 ++ dktX1_rounded_3
def dkwX1_rounded_1 : List UInt8 := [42, 180, 0, 21, 27, 100, 184, 0, 30, 65, 42, 180, 0, 18, 133, 184, 0, 24, 55, 4, 22, 4, 32, 109]
abbrev dktX1_rounded_1 : List UInt8 := dkwX1_rounded_1 ++ dktX1_rounded_2
def dkwX1_rounded_0 : List UInt8 := [27, 42, 180, 0, 21, 161, 0, 19, 42, 180, 0, 18, 133, 27, 42, 180, 0, 21, 100, 184, 0, 30, 105, 173]
abbrev dktX1_rounded_0 : List UInt8 := dkwX1_rounded_0 ++ dktX1_rounded_1
theorem dksX1_rounded_0 : cX1_rounded.data.toList.drop 0 = dktX1_rounded_0 := by decide +kernel
theorem dksX1_rounded_1 : cX1_rounded.data.toList.drop 24 = dktX1_rounded_1 := dk_seg dksX1_rounded_0 24 rfl rfl
theorem dksX1_rounded_2 : cX1_rounded.data.toList.drop 48 = dktX1_rounded_2 := dk_seg dksX1_rounded_1 24 rfl rfl
theorem dksX1_rounded_3 : cX1_rounded.data.toList.drop 72 = dktX1_rounded_3 := dk_seg dksX1_rounded_2 24 rfl rfl
theorem dksX1_rounded_4 : cX1_rounded.data.toList.drop 96 = dktX1_rounded_4 := dk_seg dksX1_rounded_3 24 rfl rfl
theorem dX1_rounded_0 : decode cX1_rounded 0 = .ok (.iload_n 1, 1) := dk_27 (dk_at dksX1_rounded_0 0 rfl rfl)
theorem dX1_rounded_1 : decode cX1_rounded 1 = .ok (.aload_n 0, 1) := dk_42 (dk_at dksX1_rounded_0 1 rfl rfl)
theorem dX1_rounded_2 : decode cX1_rounded 2 = .ok (.getfield 21, 3) := dk_180 0 21 (dk_at dksX1_rounded_0 2 rfl rfl)
theorem dX1_rounded_5 : decode cX1_rounded 5 = .ok (.if_icmp .lt 19, 3) := dk_161 0 19 (dk_at dksX1_rounded_0 5 rfl rfl)
theorem dX1_rounded_8 : decode cX1_rounded 8 = .ok (.aload_n 0, 1) := dk_42 (dk_at dksX1_rounded_0 8 rfl rfl)
theorem dX1_rounded_9 : decode cX1_rounded 9 = .ok (.getfield 18, 3) := dk_180 0 18 (dk_at dksX1_rounded_0 9 rfl rfl)
theorem dX1_rounded_12 : decode cX1_rounded 12 = .ok (.i2l, 1) := dk_133 (dk_at dksX1_rounded_0 12 rfl rfl)
theorem dX1_rounded_13 : decode cX1_rounded 13 = .ok (.iload_n 1, 1) := dk_27 (dk_at dksX1_rounded_0 13 rfl rfl)
theorem dX1_rounded_14 : decode cX1_rounded 14 = .ok (.aload_n 0, 1) := dk_42 (dk_at dksX1_rounded_0 14 rfl rfl)
theorem dX1_rounded_15 : decode cX1_rounded 15 = .ok (.getfield 21, 3) := dk_180 0 21 (dk_at dksX1_rounded_0 15 rfl rfl)
theorem dX1_rounded_18 : decode cX1_rounded 18 = .ok (.isub, 1) := dk_100 (dk_at dksX1_rounded_0 18 rfl rfl)
theorem dX1_rounded_19 : decode cX1_rounded 19 = .ok (.invokestatic 30, 3) := dk_184 0 30 (dk_at dksX1_rounded_0 19 rfl rfl)
theorem dX1_rounded_22 : decode cX1_rounded 22 = .ok (.lmul, 1) := dk_105 (dk_at dksX1_rounded_0 22 rfl rfl)
theorem dX1_rounded_23 : decode cX1_rounded 23 = .ok (.lreturn, 1) := dk_173 (dk_at dksX1_rounded_0 23 rfl rfl)
theorem dX1_rounded_24 : decode cX1_rounded 24 = .ok (.aload_n 0, 1) := dk_42 (dk_at dksX1_rounded_1 0 rfl rfl)
theorem dX1_rounded_25 : decode cX1_rounded 25 = .ok (.getfield 21, 3) := dk_180 0 21 (dk_at dksX1_rounded_1 1 rfl rfl)
theorem dX1_rounded_28 : decode cX1_rounded 28 = .ok (.iload_n 1, 1) := dk_27 (dk_at dksX1_rounded_1 4 rfl rfl)
theorem dX1_rounded_29 : decode cX1_rounded 29 = .ok (.isub, 1) := dk_100 (dk_at dksX1_rounded_1 5 rfl rfl)
theorem dX1_rounded_30 : decode cX1_rounded 30 = .ok (.invokestatic 30, 3) := dk_184 0 30 (dk_at dksX1_rounded_1 6 rfl rfl)
theorem dX1_rounded_33 : decode cX1_rounded 33 = .ok (.lstore_n 2, 1) := dk_65 (dk_at dksX1_rounded_1 9 rfl rfl)
theorem dX1_rounded_34 : decode cX1_rounded 34 = .ok (.aload_n 0, 1) := dk_42 (dk_at dksX1_rounded_1 10 rfl rfl)
theorem dX1_rounded_35 : decode cX1_rounded 35 = .ok (.getfield 18, 3) := dk_180 0 18 (dk_at dksX1_rounded_1 11 rfl rfl)
theorem dX1_rounded_38 : decode cX1_rounded 38 = .ok (.i2l, 1) := dk_133 (dk_at dksX1_rounded_1 14 rfl rfl)
theorem dX1_rounded_39 : decode cX1_rounded 39 = .ok (.invokestatic 24, 3) := dk_184 0 24 (dk_at dksX1_rounded_1 15 rfl rfl)
theorem dX1_rounded_42 : decode cX1_rounded 42 = .ok (.lstore 4, 2) := dk_55 4 (dk_at dksX1_rounded_1 18 rfl rfl)
theorem dX1_rounded_44 : decode cX1_rounded 44 = .ok (.lload 4, 2) := dk_22 4 (dk_at dksX1_rounded_1 20 rfl rfl)
theorem dX1_rounded_46 : decode cX1_rounded 46 = .ok (.lload_n 2, 1) := dk_32 (dk_at dksX1_rounded_1 22 rfl rfl)
theorem dX1_rounded_47 : decode cX1_rounded 47 = .ok (.ldiv, 1) := dk_109 (dk_at dksX1_rounded_1 23 rfl rfl)
theorem dX1_rounded_48 : decode cX1_rounded 48 = .ok (.lstore 6, 2) := dk_55 6 (dk_at dksX1_rounded_2 0 rfl rfl)
theorem dX1_rounded_50 : decode cX1_rounded 50 = .ok (.ldc2_w 50, 3) := dk_20 0 50 (dk_at dksX1_rounded_2 2 rfl rfl)
theorem dX1_rounded_53 : decode cX1_rounded 53 = .ok (.lload 4, 2) := dk_22 4 (dk_at dksX1_rounded_2 5 rfl rfl)
theorem dX1_rounded_55 : decode cX1_rounded 55 = .ok (.lload_n 2, 1) := dk_32 (dk_at dksX1_rounded_2 7 rfl rfl)
theorem dX1_rounded_56 : decode cX1_rounded 56 = .ok (.lrem, 1) := dk_113 (dk_at dksX1_rounded_2 8 rfl rfl)
theorem dX1_rounded_57 : decode cX1_rounded 57 = .ok (.lmul, 1) := dk_105 (dk_at dksX1_rounded_2 9 rfl rfl)
theorem dX1_rounded_58 : decode cX1_rounded 58 = .ok (.lstore 8, 2) := dk_55 8 (dk_at dksX1_rounded_2 10 rfl rfl)
theorem dX1_rounded_60 : decode cX1_rounded 60 = .ok (.lload 6, 2) := dk_22 6 (dk_at dksX1_rounded_2 12 rfl rfl)
theorem dX1_rounded_62 : decode cX1_rounded 62 = .ok (.lload 8, 2) := dk_22 8 (dk_at dksX1_rounded_2 14 rfl rfl)
theorem dX1_rounded_64 : decode cX1_rounded 64 = .ok (.lload_n 2, 1) := dk_32 (dk_at dksX1_rounded_2 16 rfl rfl)
theorem dX1_rounded_65 : decode cX1_rounded 65 = .ok (.lcmp, 1) := dk_148 (dk_at dksX1_rounded_2 17 rfl rfl)
theorem dX1_rounded_66 : decode cX1_rounded 66 = .ok (.ifCond .gt 21, 3) := dk_157 0 21 (dk_at dksX1_rounded_2 18 rfl rfl)
theorem dX1_rounded_69 : decode cX1_rounded 69 = .ok (.lload 8, 2) := dk_22 8 (dk_at dksX1_rounded_2 21 rfl rfl)
theorem dX1_rounded_71 : decode cX1_rounded 71 = .ok (.lload_n 2, 1) := dk_32 (dk_at dksX1_rounded_2 23 rfl rfl)
theorem dX1_rounded_72 : decode cX1_rounded 72 = .ok (.lcmp, 1) := dk_148 (dk_at dksX1_rounded_3 0 rfl rfl)
theorem dX1_rounded_73 : decode cX1_rounded 73 = .ok (.ifCond .ne 18, 3) := dk_154 0 18 (dk_at dksX1_rounded_3 1 rfl rfl)
theorem dX1_rounded_76 : decode cX1_rounded 76 = .ok (.lload 6, 2) := dk_22 6 (dk_at dksX1_rounded_3 4 rfl rfl)
theorem dX1_rounded_78 : decode cX1_rounded 78 = .ok (.ldc2_w 50, 3) := dk_20 0 50 (dk_at dksX1_rounded_3 6 rfl rfl)
theorem dX1_rounded_81 : decode cX1_rounded 81 = .ok (.lrem, 1) := dk_113 (dk_at dksX1_rounded_3 9 rfl rfl)
theorem dX1_rounded_82 : decode cX1_rounded 82 = .ok (.lconst 1, 1) := dk_10 (dk_at dksX1_rounded_3 10 rfl rfl)
theorem dX1_rounded_83 : decode cX1_rounded 83 = .ok (.lcmp, 1) := dk_148 (dk_at dksX1_rounded_3 11 rfl rfl)
theorem dX1_rounded_84 : decode cX1_rounded 84 = .ok (.ifCond .ne 7, 3) := dk_154 0 7 (dk_at dksX1_rounded_3 12 rfl rfl)
theorem dX1_rounded_87 : decode cX1_rounded 87 = .ok (.lconst 1, 1) := dk_10 (dk_at dksX1_rounded_3 15 rfl rfl)
theorem dX1_rounded_88 : decode cX1_rounded 88 = .ok (.goto 4, 3) := dk_167 0 4 (dk_at dksX1_rounded_3 16 rfl rfl)
theorem dX1_rounded_91 : decode cX1_rounded 91 = .ok (.lconst 0, 1) := dk_9 (dk_at dksX1_rounded_3 19 rfl rfl)
theorem dX1_rounded_92 : decode cX1_rounded 92 = .ok (.ladd, 1) := dk_97 (dk_at dksX1_rounded_3 20 rfl rfl)
theorem dX1_rounded_93 : decode cX1_rounded 93 = .ok (.lstore 6, 2) := dk_55 6 (dk_at dksX1_rounded_3 21 rfl rfl)
theorem dX1_rounded_95 : decode cX1_rounded 95 = .ok (.aload_n 0, 1) := dk_42 (dk_at dksX1_rounded_3 23 rfl rfl)
theorem dX1_rounded_96 : decode cX1_rounded 96 = .ok (.getfield 18, 3) := dk_180 0 18 (dk_at dksX1_rounded_4 0 rfl rfl)
theorem dX1_rounded_99 : decode cX1_rounded 99 = .ok (.ifCond .ge 9, 3) := dk_156 0 9 (dk_at dksX1_rounded_4 3 rfl rfl)
theorem dX1_rounded_102 : decode cX1_rounded 102 = .ok (.lload 6, 2) := dk_22 6 (dk_at dksX1_rounded_4 6 rfl rfl)
theorem dX1_rounded_104 : decode cX1_rounded 104 = .ok (.lneg, 1) := dk_117 (dk_at dksX1_rounded_4 8 rfl rfl)
theorem dX1_rounded_105 : decode cX1_rounded 105 = .ok (.goto 5, 3) := dk_167 0 5 (dk_at dksX1_rounded_4 9 rfl rfl)
theorem dX1_rounded_108 : decode cX1_rounded 108 = .ok (.lload 6, 2) := dk_22 6 (dk_at dksX1_rounded_4 12 rfl rfl)
theorem dX1_rounded_110 : decode cX1_rounded 110 = .ok (.lreturn, 1) := dk_173 (dk_at dksX1_rounded_4 14 rfl rfl)
theorem q68 : (Jvm.Cond.initialized "PluralBranches$Decimal") ∈ lw_all := lw_g (lw_at lw_m1 2 rfl) rfl
theorem q130 : (Jvm.Cond.instantiable "PluralBranches$Decimal" (6 : Nat)) ∈ lw_all := lw_g (lw_at lw_m1 64 rfl) rfl
theorem q132 : (Jvm.Cond.instanceMethod ({ cls := "PluralBranches$Decimal", name := "<init>", desc := "(I)V" } : Jvm.MethodName)) ∈ lw_all := lw_g (lw_at lw_m1 66 rfl) rfl
theorem q133 : (Jvm.Cond.code ({ cls := "PluralBranches$Decimal", name := "<init>", desc := "(I)V" } : Jvm.MethodName) prog_7_method_1_code (2 : Nat) (Option.none : Option Jvm.ClassFile.FieldType)) ∈ lw_all := lw_g (lw_at lw_m1 67 rfl) rfl
theorem q134 : (Jvm.Cond.methodLink "PluralBranches$Decimal" (3 : Nat) ({ cls := "PluralBranches$Decimal", name := "<init>", desc := "(II)V" } : Jvm.MethodName)) ∈ lw_all := lw_g (lw_at lw_m1 68 rfl) rfl
theorem q135 : (Jvm.Cond.instanceMethod ({ cls := "PluralBranches$Decimal", name := "<init>", desc := "(II)V" } : Jvm.MethodName)) ∈ lw_all := lw_g (lw_at lw_m1 69 rfl) rfl
theorem q136 : (Jvm.Cond.code ({ cls := "PluralBranches$Decimal", name := "<init>", desc := "(II)V" } : Jvm.MethodName) prog_7_method_2_code (5 : Nat) (Option.none : Option Jvm.ClassFile.FieldType)) ∈ lw_all := lw_g (lw_at lw_m1 70 rfl) rfl
theorem q137 : (Jvm.Cond.methodLink "PluralBranches$Decimal" (9 : Nat) ({ cls := "java/lang/Object", name := "<init>", desc := "()V" } : Jvm.MethodName)) ∈ lw_all := lw_g (lw_at lw_m1 71 rfl) rfl
theorem q138 : (Jvm.Cond.methodLink "PluralBranches$Decimal" (24 : Nat) ({ cls := "java/lang/Math", name := "abs", desc := "(J)J" } : Jvm.MethodName)) ∈ lw_all := lw_g (lw_at lw_m1 72 rfl) rfl
theorem q141 : (Jvm.Cond.methodLinkNest "PluralBranches$Decimal" (30 : Nat) ({ cls := "PluralBranches", name := "tens", desc := "(I)J" } : Jvm.MethodName) "PluralBranches") ∈ lw_tbl := lw_at lw_m1 75 rfl
theorem q145 : (Jvm.Cond.methodLink "PluralBranches$Decimal" (44 : Nat) ({ cls := "java/lang/Math", name := "min", desc := "(II)I" } : Jvm.MethodName)) ∈ lw_all := lw_g (lw_at lw_m1 79 rfl) rfl
theorem q148 : (Jvm.Cond.constantLong "PluralBranches$Decimal" (48 : Nat) (10 : Int64)) ∈ lw_all := lw_g (lw_at lw_m1 82 rfl) rfl
theorem q149 : (Jvm.Cond.fieldLink "PluralBranches$Decimal" (18 : Nat) "PluralBranches$Decimal" "digits" "I") ∈ lw_all := lw_g (lw_at lw_m1 83 rfl) rfl
theorem q153 : (Jvm.Cond.fieldLink "PluralBranches$Decimal" (21 : Nat) "PluralBranches$Decimal" "scale" "I") ∈ lw_all := lw_g (lw_at lw_m1 87 rfl) rfl
theorem q157 : (Jvm.Cond.fieldLink "PluralBranches$Decimal" (34 : Nat) "PluralBranches$Decimal" "whole" "J") ∈ lw_all := lw_g (lw_at lw_m1 91 rfl) rfl
theorem q159 : (Jvm.Cond.fieldLink "PluralBranches$Decimal" (38 : Nat) "PluralBranches$Decimal" "part" "J") ∈ lw_all := lw_g (lw_at lw_m1 93 rfl) rfl
theorem q161 : (Jvm.Cond.fieldLink "PluralBranches$Decimal" (14 : Nat) "PluralBranches$Decimal" "kept" "I") ∈ lw_all := lw_g (lw_at lw_m1 95 rfl) rfl
theorem q162 : (Jvm.Cond.fieldLink "PluralBranches$Decimal" (41 : Nat) "PluralBranches$Decimal" "trimmed" "J") ∈ lw_all := lw_g (lw_at lw_m1 96 rfl) rfl
theorem q163 : (Jvm.Cond.laysFinal "PluralBranches$Decimal" "PluralBranches$Decimal" "digits" "I") ∈ lw_all := lw_g (lw_at lw_m1 97 rfl) rfl
theorem q164 : (Jvm.Cond.soleField "PluralBranches$Decimal" "digits") ∈ lw_all := lw_g (lw_at lw_m1 98 rfl) rfl
theorem q165 : (Jvm.Cond.laysFinal "PluralBranches$Decimal" "PluralBranches$Decimal" "scale" "I") ∈ lw_all := lw_g (lw_at lw_m1 99 rfl) rfl
theorem q166 : (Jvm.Cond.soleField "PluralBranches$Decimal" "scale") ∈ lw_all := lw_g (lw_at lw_m1 100 rfl) rfl
theorem q167 : (Jvm.Cond.laysFinal "PluralBranches$Decimal" "PluralBranches$Decimal" "whole" "J") ∈ lw_all := lw_g (lw_at lw_m1 101 rfl) rfl
theorem q168 : (Jvm.Cond.soleField "PluralBranches$Decimal" "whole") ∈ lw_all := lw_g (lw_at lw_m1 102 rfl) rfl
theorem q169 : (Jvm.Cond.laysFinal "PluralBranches$Decimal" "PluralBranches$Decimal" "part" "J") ∈ lw_all := lw_g (lw_at lw_m1 103 rfl) rfl
theorem q170 : (Jvm.Cond.soleField "PluralBranches$Decimal" "part") ∈ lw_all := lw_g (lw_at lw_m1 104 rfl) rfl
theorem q171 : (Jvm.Cond.lays "PluralBranches$Decimal" "PluralBranches$Decimal" "kept" "I") ∈ lw_all := lw_g (lw_at lw_m1 105 rfl) rfl
theorem q172 : (Jvm.Cond.soleField "PluralBranches$Decimal" "kept") ∈ lw_all := lw_g (lw_at lw_m1 106 rfl) rfl
theorem q173 : (Jvm.Cond.lays "PluralBranches$Decimal" "PluralBranches$Decimal" "trimmed" "J") ∈ lw_all := lw_g (lw_at lw_m1 107 rfl) rfl
theorem q174 : (Jvm.Cond.soleField "PluralBranches$Decimal" "trimmed") ∈ lw_all := lw_g (lw_at lw_m1 108 rfl) rfl
theorem q175 : (Jvm.Cond.superclass "PluralBranches$Decimal" "java/lang/Object") ∈ lw_all := lw_g (lw_at lw_m1 109 rfl) rfl
theorem q249 : (Jvm.Cond.selects "PluralBranches$Decimal" ({ cls := "java/lang/Object", name := "getClass", desc := "()Ljava/lang/Class;" } : Jvm.MethodName) ({ cls := "java/lang/Object", name := "getClass", desc := "()Ljava/lang/Class;" } : Jvm.MethodName)) ∈ lw_all := lw_g (lw_at lw_m1 183 rfl) rfl
theorem q439 : (Jvm.Cond.instanceMethod ({ cls := "PluralBranches$Decimal", name := "operand", desc := "(I)J" } : Jvm.MethodName)) ∈ lw_all := lw_g (lw_at lw_m2 133 rfl) rfl
theorem q440 : (Jvm.Cond.selects "PluralBranches$Decimal" ({ cls := "PluralBranches$Decimal", name := "operand", desc := "(I)J" } : Jvm.MethodName) ({ cls := "PluralBranches$Decimal", name := "operand", desc := "(I)J" } : Jvm.MethodName)) ∈ lw_all := lw_g (lw_at lw_m2 134 rfl) rfl
theorem q441 : (Jvm.Cond.code ({ cls := "PluralBranches$Decimal", name := "operand", desc := "(I)J" } : Jvm.MethodName) prog_7_method_3_code (2 : Nat) (Option.some Jvm.ClassFile.FieldType.long)) ∈ lw_all := lw_g (lw_at lw_m2 135 rfl) rfl
theorem q1152 : (Jvm.Cond.instanceMethod ({ cls := "PluralBranches$Decimal", name := "is", desc := "(I)Z" } : Jvm.MethodName)) ∈ lw_all := lw_g (lw_at lw_m5 126 rfl) rfl
theorem q1153 : (Jvm.Cond.selects "PluralBranches$Decimal" ({ cls := "PluralBranches$Decimal", name := "is", desc := "(I)Z" } : Jvm.MethodName) ({ cls := "PluralBranches$Decimal", name := "is", desc := "(I)Z" } : Jvm.MethodName)) ∈ lw_all := lw_g (lw_at lw_m5 127 rfl) rfl
theorem q1154 : (Jvm.Cond.code ({ cls := "PluralBranches$Decimal", name := "is", desc := "(I)Z" } : Jvm.MethodName) prog_7_method_4_code (2 : Nat) (Option.some Jvm.ClassFile.FieldType.boolean)) ∈ lw_all := lw_g (lw_at lw_m5 128 rfl) rfl
theorem q1562 : (Jvm.Cond.instanceMethod ({ cls := "PluralBranches$Decimal", name := "rounded", desc := "(I)J" } : Jvm.MethodName)) ∈ lw_all := lw_g (lw_at lw_m7 56 rfl) rfl
theorem q1563 : (Jvm.Cond.selects "PluralBranches$Decimal" ({ cls := "PluralBranches$Decimal", name := "rounded", desc := "(I)J" } : Jvm.MethodName) ({ cls := "PluralBranches$Decimal", name := "rounded", desc := "(I)J" } : Jvm.MethodName)) ∈ lw_all := lw_g (lw_at lw_m7 57 rfl) rfl
theorem q1564 : (Jvm.Cond.code ({ cls := "PluralBranches$Decimal", name := "rounded", desc := "(I)J" } : Jvm.MethodName) prog_7_method_5_code (10 : Nat) (Option.some Jvm.ClassFile.FieldType.long)) ∈ lw_all := lw_g (lw_at lw_m7 58 rfl) rfl
theorem q1565 : (Jvm.Cond.constantLong "PluralBranches$Decimal" (50 : Nat) (2 : Int64)) ∈ lw_all := lw_g (lw_at lw_m7 59 rfl) rfl
theorem q2277 : (Jvm.Cond.castable "PluralBranches$Decimal" "java/lang/Object") ∈ lw_tbl := lw_at lw_m10 51 rfl
theorem in_X1 : ∀ w ∈ wsX10, w ∈ lw_all := lw_in wsX10 [163, 165, 167, 169, 171, 173] (by decide +kernel) (by decide +kernel)
/-! PluralBranches$Reader -/
set_option maxRecDepth 100000
def RX10 : String := "PluralBranches$Reader"
def TX10 : u_T := fun k => match k with
  | 0 => ("PluralBranches$Reader", "message", "LPluralBranches$Message;", true)
  | 1 => ("PluralBranches$Reader", "at", "I", false)
  | 2 => ("PluralBranches$Reader", "open", "I", false)
  | 3 => ("PluralBranches$Reader", "plurals", "I", false)
  | 4 => ("PluralBranches$Reader", "wrong", "I", false)
  | _ => ("PluralBranches$Reader", "this$0", "LPluralBranches;", true)
def tyX10 : Nat → FieldType := fun k => match k with
  | 0 => .object "PluralBranches$Message"
  | 1 => .int
  | 2 => .int
  | 3 => .int
  | 4 => .int
  | _ => .object "PluralBranches"
abbrev wsX100 : List Cond := u_ws RX10 TX10 6
theorem nmX10 : ∀ a, a < 6 → ∀ b, b < 6 → a ≠ b → (TX10 a).2.1 ≠ (TX10 b).2.1 := by decide +kernel
theorem tyX10_ok : ∀ k, k < 6 → parseFieldDescriptor (TX10 k).2.2.1 = some (tyX10 k) := by decide +kernel
abbrev cX10_init : ByteArray := prog_23_method_1_code
def yX10_init : MethodName := ⟨RX10, "<init>", "(LPluralBranches;)V"⟩
def dkwX10_init_1 : List UInt8 := [181, 0, 22, 177]
abbrev dktX10_init_1 : List UInt8 := dkwX10_init_1 ++ []
def dkwX10_init_0 : List UInt8 := [42, 43, 181, 0, 3, 42, 183, 0, 9, 42, 187, 0, 15, 89, 183, 0, 17, 181, 0, 18, 42, 2]
abbrev dktX10_init_0 : List UInt8 := dkwX10_init_0 ++ dktX10_init_1
theorem dksX10_init_0 : cX10_init.data.toList.drop 0 = dktX10_init_0 := by decide +kernel
theorem dksX10_init_1 : cX10_init.data.toList.drop 22 = dktX10_init_1 := dk_seg dksX10_init_0 22 rfl rfl
theorem dX10_init_0 : decode cX10_init 0 = .ok (.aload_n 0, 1) := dk_42 (dk_at dksX10_init_0 0 rfl rfl)
theorem dX10_init_1 : decode cX10_init 1 = .ok (.aload_n 1, 1) := dk_43 (dk_at dksX10_init_0 1 rfl rfl)
theorem dX10_init_2 : decode cX10_init 2 = .ok (.putfield 3, 3) := dk_181 0 3 (dk_at dksX10_init_0 2 rfl rfl)
theorem dX10_init_5 : decode cX10_init 5 = .ok (.aload_n 0, 1) := dk_42 (dk_at dksX10_init_0 5 rfl rfl)
theorem dX10_init_6 : decode cX10_init 6 = .ok (.invokespecial 9, 3) := dk_183 0 9 (dk_at dksX10_init_0 6 rfl rfl)
theorem dX10_init_9 : decode cX10_init 9 = .ok (.aload_n 0, 1) := dk_42 (dk_at dksX10_init_0 9 rfl rfl)
theorem dX10_init_10 : decode cX10_init 10 = .ok (.new 15, 3) := dk_187 0 15 (dk_at dksX10_init_0 10 rfl rfl)
theorem dX10_init_13 : decode cX10_init 13 = .ok (.dup, 1) := dk_89 (dk_at dksX10_init_0 13 rfl rfl)
theorem dX10_init_14 : decode cX10_init 14 = .ok (.invokespecial 17, 3) := dk_183 0 17 (dk_at dksX10_init_0 14 rfl rfl)
theorem dX10_init_17 : decode cX10_init 17 = .ok (.putfield 18, 3) := dk_181 0 18 (dk_at dksX10_init_0 17 rfl rfl)
theorem dX10_init_20 : decode cX10_init 20 = .ok (.aload_n 0, 1) := dk_42 (dk_at dksX10_init_0 20 rfl rfl)
theorem dX10_init_21 : decode cX10_init 21 = .ok (.iconst (-1), 1) := dk_2 (dk_at dksX10_init_0 21 rfl rfl)
theorem dX10_init_22 : decode cX10_init 22 = .ok (.putfield 22, 3) := dk_181 0 22 (dk_at dksX10_init_1 0 rfl rfl)
theorem dX10_init_25 : decode cX10_init 25 = .ok (.return_, 1) := dk_177 (dk_at dksX10_init_1 3 rfl rfl)
abbrev cX10_whole : ByteArray := prog_23_method_19_code
def yX10_whole : MethodName := ⟨RX10, "whole", "()LPluralBranches$Message;"⟩
def dkwX10_whole_2 : List UInt8 := [17, 248, 48, 42, 180, 0, 22, 100, 184, 0, 224, 42, 180, 0, 18, 176]
abbrev dktX10_whole_2 : List UInt8 := dkwX10_whole_2 ++ []
def dkwX10_whole_1 : List UInt8 := [160, 0, 7, 4, 167, 0, 4, 3, 182, 0, 53, 42, 180, 0, 22, 156, 0, 7, 4, 167, 0, 4, 3]
abbrev dktX10_whole_1 : List UInt8 := dkwX10_whole_1 ++ dktX10_whole_2
def dkwX10_whole_0 : List UInt8 := [42, 180, 0, 18, 42, 182, 0, 203, 181, 0, 221, 42, 42, 180, 0, 26, 42, 180, 0, 3, 180, 0, 29]
abbrev dktX10_whole_0 : List UInt8 := dkwX10_whole_0 ++ dktX10_whole_1
theorem dksX10_whole_0 : cX10_whole.data.toList.drop 0 = dktX10_whole_0 := by decide +kernel
theorem dksX10_whole_1 : cX10_whole.data.toList.drop 23 = dktX10_whole_1 := dk_seg dksX10_whole_0 23 rfl rfl
theorem dksX10_whole_2 : cX10_whole.data.toList.drop 46 = dktX10_whole_2 := dk_seg dksX10_whole_1 23 rfl rfl
theorem dX10_whole_0 : decode cX10_whole 0 = .ok (.aload_n 0, 1) := dk_42 (dk_at dksX10_whole_0 0 rfl rfl)
theorem dX10_whole_1 : decode cX10_whole 1 = .ok (.getfield 18, 3) := dk_180 0 18 (dk_at dksX10_whole_0 1 rfl rfl)
theorem dX10_whole_4 : decode cX10_whole 4 = .ok (.aload_n 0, 1) := dk_42 (dk_at dksX10_whole_0 4 rfl rfl)
theorem dX10_whole_5 : decode cX10_whole 5 = .ok (.invokevirtual 203, 3) := dk_182 0 203 (dk_at dksX10_whole_0 5 rfl rfl)
theorem dX10_whole_8 : decode cX10_whole 8 = .ok (.putfield 221, 3) := dk_181 0 221 (dk_at dksX10_whole_0 8 rfl rfl)
theorem dX10_whole_11 : decode cX10_whole 11 = .ok (.aload_n 0, 1) := dk_42 (dk_at dksX10_whole_0 11 rfl rfl)
theorem dX10_whole_12 : decode cX10_whole 12 = .ok (.aload_n 0, 1) := dk_42 (dk_at dksX10_whole_0 12 rfl rfl)
theorem dX10_whole_13 : decode cX10_whole 13 = .ok (.getfield 26, 3) := dk_180 0 26 (dk_at dksX10_whole_0 13 rfl rfl)
theorem dX10_whole_16 : decode cX10_whole 16 = .ok (.aload_n 0, 1) := dk_42 (dk_at dksX10_whole_0 16 rfl rfl)
theorem dX10_whole_17 : decode cX10_whole 17 = .ok (.getfield 3, 3) := dk_180 0 3 (dk_at dksX10_whole_0 17 rfl rfl)
theorem dX10_whole_20 : decode cX10_whole 20 = .ok (.getfield 29, 3) := dk_180 0 29 (dk_at dksX10_whole_0 20 rfl rfl)
theorem dX10_whole_23 : decode cX10_whole 23 = .ok (.if_icmp .ne 7, 3) := dk_160 0 7 (dk_at dksX10_whole_1 0 rfl rfl)
theorem dX10_whole_26 : decode cX10_whole 26 = .ok (.iconst 1, 1) := dk_4 (dk_at dksX10_whole_1 3 rfl rfl)
theorem dX10_whole_27 : decode cX10_whole 27 = .ok (.goto 4, 3) := dk_167 0 4 (dk_at dksX10_whole_1 4 rfl rfl)
theorem dX10_whole_30 : decode cX10_whole 30 = .ok (.iconst 0, 1) := dk_3 (dk_at dksX10_whole_1 7 rfl rfl)
theorem dX10_whole_31 : decode cX10_whole 31 = .ok (.invokevirtual 53, 3) := dk_182 0 53 (dk_at dksX10_whole_1 8 rfl rfl)
theorem dX10_whole_34 : decode cX10_whole 34 = .ok (.aload_n 0, 1) := dk_42 (dk_at dksX10_whole_1 11 rfl rfl)
theorem dX10_whole_35 : decode cX10_whole 35 = .ok (.getfield 22, 3) := dk_180 0 22 (dk_at dksX10_whole_1 12 rfl rfl)
theorem dX10_whole_38 : decode cX10_whole 38 = .ok (.ifCond .ge 7, 3) := dk_156 0 7 (dk_at dksX10_whole_1 15 rfl rfl)
theorem dX10_whole_41 : decode cX10_whole 41 = .ok (.iconst 1, 1) := dk_4 (dk_at dksX10_whole_1 18 rfl rfl)
theorem dX10_whole_42 : decode cX10_whole 42 = .ok (.goto 4, 3) := dk_167 0 4 (dk_at dksX10_whole_1 19 rfl rfl)
theorem dX10_whole_45 : decode cX10_whole 45 = .ok (.iconst 0, 1) := dk_3 (dk_at dksX10_whole_1 22 rfl rfl)
theorem dX10_whole_46 : decode cX10_whole 46 = .ok (.sipush (-2000), 3) := dk_17 248 48 (dk_at dksX10_whole_2 0 rfl rfl)
theorem dX10_whole_49 : decode cX10_whole 49 = .ok (.aload_n 0, 1) := dk_42 (dk_at dksX10_whole_2 3 rfl rfl)
theorem dX10_whole_50 : decode cX10_whole 50 = .ok (.getfield 22, 3) := dk_180 0 22 (dk_at dksX10_whole_2 4 rfl rfl)
theorem dX10_whole_53 : decode cX10_whole 53 = .ok (.isub, 1) := dk_100 (dk_at dksX10_whole_2 7 rfl rfl)
theorem dX10_whole_54 : decode cX10_whole 54 = .ok (.invokestatic 224, 3) := dk_184 0 224 (dk_at dksX10_whole_2 8 rfl rfl)
theorem dX10_whole_57 : decode cX10_whole 57 = .ok (.aload_n 0, 1) := dk_42 (dk_at dksX10_whole_2 11 rfl rfl)
theorem dX10_whole_58 : decode cX10_whole 58 = .ok (.getfield 18, 3) := dk_180 0 18 (dk_at dksX10_whole_2 12 rfl rfl)
theorem dX10_whole_61 : decode cX10_whole 61 = .ok (.areturn, 1) := dk_176 (dk_at dksX10_whole_2 15 rfl rfl)
abbrev cX10_parts : ByteArray := prog_23_method_9_code
def yX10_parts : MethodName := ⟨RX10, "parts", "()LPluralBranches$Parts;"⟩
def dkwX10_parts_2 : List UInt8 := [4, 96, 181, 0, 81, 43, 180, 0, 84, 42, 182, 0, 88, 182, 0, 92, 87, 167, 255, 199, 43, 176]
abbrev dktX10_parts_2 : List UInt8 := dkwX10_parts_2 ++ []
def dkwX10_parts_1 : List UInt8 := [42, 182, 0, 45, 16, 35, 160, 0, 38, 42, 180, 0, 78, 158, 0, 31, 42, 180, 0, 18, 89, 180, 0, 81]
abbrev dktX10_parts_1 : List UInt8 := dkwX10_parts_1 ++ dktX10_parts_2
def dkwX10_parts_0 : List UInt8 := [187, 0, 71, 89, 183, 0, 73, 76, 42, 182, 0, 74, 154, 0, 28, 42, 182, 0, 45, 16, 123, 159, 0, 19]
abbrev dktX10_parts_0 : List UInt8 := dkwX10_parts_0 ++ dktX10_parts_1
theorem dksX10_parts_0 : cX10_parts.data.toList.drop 0 = dktX10_parts_0 := by decide +kernel
theorem dksX10_parts_1 : cX10_parts.data.toList.drop 24 = dktX10_parts_1 := dk_seg dksX10_parts_0 24 rfl rfl
theorem dksX10_parts_2 : cX10_parts.data.toList.drop 48 = dktX10_parts_2 := dk_seg dksX10_parts_1 24 rfl rfl
theorem dX10_parts_0 : decode cX10_parts 0 = .ok (.new 71, 3) := dk_187 0 71 (dk_at dksX10_parts_0 0 rfl rfl)
theorem dX10_parts_3 : decode cX10_parts 3 = .ok (.dup, 1) := dk_89 (dk_at dksX10_parts_0 3 rfl rfl)
theorem dX10_parts_4 : decode cX10_parts 4 = .ok (.invokespecial 73, 3) := dk_183 0 73 (dk_at dksX10_parts_0 4 rfl rfl)
theorem dX10_parts_7 : decode cX10_parts 7 = .ok (.astore_n 1, 1) := dk_76 (dk_at dksX10_parts_0 7 rfl rfl)
theorem dX10_parts_8 : decode cX10_parts 8 = .ok (.aload_n 0, 1) := dk_42 (dk_at dksX10_parts_0 8 rfl rfl)
theorem dX10_parts_9 : decode cX10_parts 9 = .ok (.invokevirtual 74, 3) := dk_182 0 74 (dk_at dksX10_parts_0 9 rfl rfl)
theorem dX10_parts_12 : decode cX10_parts 12 = .ok (.ifCond .ne 28, 3) := dk_154 0 28 (dk_at dksX10_parts_0 12 rfl rfl)
theorem dX10_parts_15 : decode cX10_parts 15 = .ok (.aload_n 0, 1) := dk_42 (dk_at dksX10_parts_0 15 rfl rfl)
theorem dX10_parts_16 : decode cX10_parts 16 = .ok (.invokevirtual 45, 3) := dk_182 0 45 (dk_at dksX10_parts_0 16 rfl rfl)
theorem dX10_parts_19 : decode cX10_parts 19 = .ok (.bipush 123, 2) := dk_16 123 (dk_at dksX10_parts_0 19 rfl rfl)
theorem dX10_parts_21 : decode cX10_parts 21 = .ok (.if_icmp .eq 19, 3) := dk_159 0 19 (dk_at dksX10_parts_0 21 rfl rfl)
theorem dX10_parts_24 : decode cX10_parts 24 = .ok (.aload_n 0, 1) := dk_42 (dk_at dksX10_parts_1 0 rfl rfl)
theorem dX10_parts_25 : decode cX10_parts 25 = .ok (.invokevirtual 45, 3) := dk_182 0 45 (dk_at dksX10_parts_1 1 rfl rfl)
theorem dX10_parts_28 : decode cX10_parts 28 = .ok (.bipush 35, 2) := dk_16 35 (dk_at dksX10_parts_1 4 rfl rfl)
theorem dX10_parts_30 : decode cX10_parts 30 = .ok (.if_icmp .ne 38, 3) := dk_160 0 38 (dk_at dksX10_parts_1 6 rfl rfl)
theorem dX10_parts_33 : decode cX10_parts 33 = .ok (.aload_n 0, 1) := dk_42 (dk_at dksX10_parts_1 9 rfl rfl)
theorem dX10_parts_34 : decode cX10_parts 34 = .ok (.getfield 78, 3) := dk_180 0 78 (dk_at dksX10_parts_1 10 rfl rfl)
theorem dX10_parts_37 : decode cX10_parts 37 = .ok (.ifCond .le 31, 3) := dk_158 0 31 (dk_at dksX10_parts_1 13 rfl rfl)
theorem dX10_parts_40 : decode cX10_parts 40 = .ok (.aload_n 0, 1) := dk_42 (dk_at dksX10_parts_1 16 rfl rfl)
theorem dX10_parts_41 : decode cX10_parts 41 = .ok (.getfield 18, 3) := dk_180 0 18 (dk_at dksX10_parts_1 17 rfl rfl)
theorem dX10_parts_44 : decode cX10_parts 44 = .ok (.dup, 1) := dk_89 (dk_at dksX10_parts_1 20 rfl rfl)
theorem dX10_parts_45 : decode cX10_parts 45 = .ok (.getfield 81, 3) := dk_180 0 81 (dk_at dksX10_parts_1 21 rfl rfl)
theorem dX10_parts_48 : decode cX10_parts 48 = .ok (.iconst 1, 1) := dk_4 (dk_at dksX10_parts_2 0 rfl rfl)
theorem dX10_parts_49 : decode cX10_parts 49 = .ok (.iadd, 1) := dk_96 (dk_at dksX10_parts_2 1 rfl rfl)
theorem dX10_parts_50 : decode cX10_parts 50 = .ok (.putfield 81, 3) := dk_181 0 81 (dk_at dksX10_parts_2 2 rfl rfl)
theorem dX10_parts_53 : decode cX10_parts 53 = .ok (.aload_n 1, 1) := dk_43 (dk_at dksX10_parts_2 5 rfl rfl)
theorem dX10_parts_54 : decode cX10_parts 54 = .ok (.getfield 84, 3) := dk_180 0 84 (dk_at dksX10_parts_2 6 rfl rfl)
theorem dX10_parts_57 : decode cX10_parts 57 = .ok (.aload_n 0, 1) := dk_42 (dk_at dksX10_parts_2 9 rfl rfl)
theorem dX10_parts_58 : decode cX10_parts 58 = .ok (.invokevirtual 88, 3) := dk_182 0 88 (dk_at dksX10_parts_2 10 rfl rfl)
theorem dX10_parts_61 : decode cX10_parts 61 = .ok (.invokevirtual 92, 3) := dk_182 0 92 (dk_at dksX10_parts_2 13 rfl rfl)
theorem dX10_parts_64 : decode cX10_parts 64 = .ok (.pop, 1) := dk_87 (dk_at dksX10_parts_2 16 rfl rfl)
theorem dX10_parts_65 : decode cX10_parts 65 = .ok (.goto (-57), 3) := dk_167 255 199 (dk_at dksX10_parts_2 17 rfl rfl)
theorem dX10_parts_68 : decode cX10_parts 68 = .ok (.aload_n 1, 1) := dk_43 (dk_at dksX10_parts_2 20 rfl rfl)
theorem dX10_parts_69 : decode cX10_parts 69 = .ok (.areturn, 1) := dk_176 (dk_at dksX10_parts_2 21 rfl rfl)
abbrev cX10_isSign : ByteArray := prog_23_method_8_code
def yX10_isSign : MethodName := ⟨RX10, "isSign", "()Z"⟩
def dkwX10_isSign_1 : List UInt8 := [159, 0, 15, 27, 16, 44, 159, 0, 9, 27, 16, 46, 160, 0, 7, 4, 167, 0, 4, 3, 172]
abbrev dktX10_isSign_1 : List UInt8 := dkwX10_isSign_1 ++ []
def dkwX10_isSign_0 : List UInt8 := [42, 182, 0, 45, 60, 27, 133, 20, 0, 63, 20, 0, 65, 184, 0, 67, 154, 0, 21, 27, 16, 32]
abbrev dktX10_isSign_0 : List UInt8 := dkwX10_isSign_0 ++ dktX10_isSign_1
theorem dksX10_isSign_0 : cX10_isSign.data.toList.drop 0 = dktX10_isSign_0 := by decide +kernel
theorem dksX10_isSign_1 : cX10_isSign.data.toList.drop 22 = dktX10_isSign_1 := dk_seg dksX10_isSign_0 22 rfl rfl
theorem dX10_isSign_0 : decode cX10_isSign 0 = .ok (.aload_n 0, 1) := dk_42 (dk_at dksX10_isSign_0 0 rfl rfl)
theorem dX10_isSign_1 : decode cX10_isSign 1 = .ok (.invokevirtual 45, 3) := dk_182 0 45 (dk_at dksX10_isSign_0 1 rfl rfl)
theorem dX10_isSign_4 : decode cX10_isSign 4 = .ok (.istore_n 1, 1) := dk_60 (dk_at dksX10_isSign_0 4 rfl rfl)
theorem dX10_isSign_5 : decode cX10_isSign 5 = .ok (.iload_n 1, 1) := dk_27 (dk_at dksX10_isSign_0 5 rfl rfl)
theorem dX10_isSign_6 : decode cX10_isSign 6 = .ok (.i2l, 1) := dk_133 (dk_at dksX10_isSign_0 6 rfl rfl)
theorem dX10_isSign_7 : decode cX10_isSign 7 = .ok (.ldc2_w 63, 3) := dk_20 0 63 (dk_at dksX10_isSign_0 7 rfl rfl)
theorem dX10_isSign_10 : decode cX10_isSign 10 = .ok (.ldc2_w 65, 3) := dk_20 0 65 (dk_at dksX10_isSign_0 10 rfl rfl)
theorem dX10_isSign_13 : decode cX10_isSign 13 = .ok (.invokestatic 67, 3) := dk_184 0 67 (dk_at dksX10_isSign_0 13 rfl rfl)
theorem dX10_isSign_16 : decode cX10_isSign 16 = .ok (.ifCond .ne 21, 3) := dk_154 0 21 (dk_at dksX10_isSign_0 16 rfl rfl)
theorem dX10_isSign_19 : decode cX10_isSign 19 = .ok (.iload_n 1, 1) := dk_27 (dk_at dksX10_isSign_0 19 rfl rfl)
theorem dX10_isSign_20 : decode cX10_isSign 20 = .ok (.bipush 32, 2) := dk_16 32 (dk_at dksX10_isSign_0 20 rfl rfl)
theorem dX10_isSign_22 : decode cX10_isSign 22 = .ok (.if_icmp .eq 15, 3) := dk_159 0 15 (dk_at dksX10_isSign_1 0 rfl rfl)
theorem dX10_isSign_25 : decode cX10_isSign 25 = .ok (.iload_n 1, 1) := dk_27 (dk_at dksX10_isSign_1 3 rfl rfl)
theorem dX10_isSign_26 : decode cX10_isSign 26 = .ok (.bipush 44, 2) := dk_16 44 (dk_at dksX10_isSign_1 4 rfl rfl)
theorem dX10_isSign_28 : decode cX10_isSign 28 = .ok (.if_icmp .eq 9, 3) := dk_159 0 9 (dk_at dksX10_isSign_1 6 rfl rfl)
theorem dX10_isSign_31 : decode cX10_isSign 31 = .ok (.iload_n 1, 1) := dk_27 (dk_at dksX10_isSign_1 9 rfl rfl)
theorem dX10_isSign_32 : decode cX10_isSign 32 = .ok (.bipush 46, 2) := dk_16 46 (dk_at dksX10_isSign_1 10 rfl rfl)
theorem dX10_isSign_34 : decode cX10_isSign 34 = .ok (.if_icmp .ne 7, 3) := dk_160 0 7 (dk_at dksX10_isSign_1 12 rfl rfl)
theorem dX10_isSign_37 : decode cX10_isSign 37 = .ok (.iconst 1, 1) := dk_4 (dk_at dksX10_isSign_1 15 rfl rfl)
theorem dX10_isSign_38 : decode cX10_isSign 38 = .ok (.goto 4, 3) := dk_167 0 4 (dk_at dksX10_isSign_1 16 rfl rfl)
theorem dX10_isSign_41 : decode cX10_isSign 41 = .ok (.iconst 0, 1) := dk_3 (dk_at dksX10_isSign_1 19 rfl rfl)
theorem dX10_isSign_42 : decode cX10_isSign 42 = .ok (.ireturn, 1) := dk_172 (dk_at dksX10_isSign_1 20 rfl rfl)
abbrev cX10_here : ByteArray := prog_23_method_2_code
def yX10_here : MethodName := ⟨RX10, "here", "()I"⟩
def dkwX10_here_1 : List UInt8 := [180, 0, 26, 51, 17, 0, 255, 126, 167, 0, 4, 2, 172]
abbrev dktX10_here_1 : List UInt8 := dkwX10_here_1 ++ []
def dkwX10_here_0 : List UInt8 := [42, 180, 0, 26, 42, 180, 0, 3, 180, 0, 29, 162, 0, 22, 42, 180, 0, 3, 180, 0, 32, 42]
abbrev dktX10_here_0 : List UInt8 := dkwX10_here_0 ++ dktX10_here_1
theorem dksX10_here_0 : cX10_here.data.toList.drop 0 = dktX10_here_0 := by decide +kernel
theorem dksX10_here_1 : cX10_here.data.toList.drop 22 = dktX10_here_1 := dk_seg dksX10_here_0 22 rfl rfl
theorem dX10_here_0 : decode cX10_here 0 = .ok (.aload_n 0, 1) := dk_42 (dk_at dksX10_here_0 0 rfl rfl)
theorem dX10_here_1 : decode cX10_here 1 = .ok (.getfield 26, 3) := dk_180 0 26 (dk_at dksX10_here_0 1 rfl rfl)
theorem dX10_here_4 : decode cX10_here 4 = .ok (.aload_n 0, 1) := dk_42 (dk_at dksX10_here_0 4 rfl rfl)
theorem dX10_here_5 : decode cX10_here 5 = .ok (.getfield 3, 3) := dk_180 0 3 (dk_at dksX10_here_0 5 rfl rfl)
theorem dX10_here_8 : decode cX10_here 8 = .ok (.getfield 29, 3) := dk_180 0 29 (dk_at dksX10_here_0 8 rfl rfl)
theorem dX10_here_11 : decode cX10_here 11 = .ok (.if_icmp .ge 22, 3) := dk_162 0 22 (dk_at dksX10_here_0 11 rfl rfl)
theorem dX10_here_14 : decode cX10_here 14 = .ok (.aload_n 0, 1) := dk_42 (dk_at dksX10_here_0 14 rfl rfl)
theorem dX10_here_15 : decode cX10_here 15 = .ok (.getfield 3, 3) := dk_180 0 3 (dk_at dksX10_here_0 15 rfl rfl)
theorem dX10_here_18 : decode cX10_here 18 = .ok (.getfield 32, 3) := dk_180 0 32 (dk_at dksX10_here_0 18 rfl rfl)
theorem dX10_here_21 : decode cX10_here 21 = .ok (.aload_n 0, 1) := dk_42 (dk_at dksX10_here_0 21 rfl rfl)
theorem dX10_here_22 : decode cX10_here 22 = .ok (.getfield 26, 3) := dk_180 0 26 (dk_at dksX10_here_1 0 rfl rfl)
theorem dX10_here_25 : decode cX10_here 25 = .ok (.baload, 1) := dk_51 (dk_at dksX10_here_1 3 rfl rfl)
theorem dX10_here_26 : decode cX10_here 26 = .ok (.sipush 255, 3) := dk_17 0 255 (dk_at dksX10_here_1 4 rfl rfl)
theorem dX10_here_29 : decode cX10_here 29 = .ok (.iand, 1) := dk_126 (dk_at dksX10_here_1 7 rfl rfl)
theorem dX10_here_30 : decode cX10_here 30 = .ok (.goto 4, 3) := dk_167 0 4 (dk_at dksX10_here_1 8 rfl rfl)
theorem dX10_here_33 : decode cX10_here 33 = .ok (.iconst (-1), 1) := dk_2 (dk_at dksX10_here_1 11 rfl rfl)
theorem dX10_here_34 : decode cX10_here 34 = .ok (.ireturn, 1) := dk_172 (dk_at dksX10_here_1 12 rfl rfl)
abbrev cX10_part : ByteArray := prog_23_method_10_code
def yX10_part : MethodName := ⟨RX10, "part", "()LPluralBranches$Part;"⟩
def dkwX10_part_2 : List UInt8 := [27, 183, 0, 106, 176]
abbrev dktX10_part_2 : List UInt8 := dkwX10_part_2 ++ []
def dkwX10_part_1 : List UInt8 := [89, 183, 0, 100, 167, 0, 24, 27, 16, 123, 160, 0, 10, 42, 182, 0, 101, 167, 0, 11, 187, 0, 104, 89]
abbrev dktX10_part_1 : List UInt8 := dkwX10_part_1 ++ dktX10_part_2
def dkwX10_part_0 : List UInt8 := [42, 182, 0, 45, 60, 42, 89, 180, 0, 26, 4, 96, 181, 0, 26, 27, 16, 35, 160, 0, 13, 187, 0, 98]
abbrev dktX10_part_0 : List UInt8 := dkwX10_part_0 ++ dktX10_part_1
theorem dksX10_part_0 : cX10_part.data.toList.drop 0 = dktX10_part_0 := by decide +kernel
theorem dksX10_part_1 : cX10_part.data.toList.drop 24 = dktX10_part_1 := dk_seg dksX10_part_0 24 rfl rfl
theorem dksX10_part_2 : cX10_part.data.toList.drop 48 = dktX10_part_2 := dk_seg dksX10_part_1 24 rfl rfl
theorem dX10_part_0 : decode cX10_part 0 = .ok (.aload_n 0, 1) := dk_42 (dk_at dksX10_part_0 0 rfl rfl)
theorem dX10_part_1 : decode cX10_part 1 = .ok (.invokevirtual 45, 3) := dk_182 0 45 (dk_at dksX10_part_0 1 rfl rfl)
theorem dX10_part_4 : decode cX10_part 4 = .ok (.istore_n 1, 1) := dk_60 (dk_at dksX10_part_0 4 rfl rfl)
theorem dX10_part_5 : decode cX10_part 5 = .ok (.aload_n 0, 1) := dk_42 (dk_at dksX10_part_0 5 rfl rfl)
theorem dX10_part_6 : decode cX10_part 6 = .ok (.dup, 1) := dk_89 (dk_at dksX10_part_0 6 rfl rfl)
theorem dX10_part_7 : decode cX10_part 7 = .ok (.getfield 26, 3) := dk_180 0 26 (dk_at dksX10_part_0 7 rfl rfl)
theorem dX10_part_10 : decode cX10_part 10 = .ok (.iconst 1, 1) := dk_4 (dk_at dksX10_part_0 10 rfl rfl)
theorem dX10_part_11 : decode cX10_part 11 = .ok (.iadd, 1) := dk_96 (dk_at dksX10_part_0 11 rfl rfl)
theorem dX10_part_12 : decode cX10_part 12 = .ok (.putfield 26, 3) := dk_181 0 26 (dk_at dksX10_part_0 12 rfl rfl)
theorem dX10_part_15 : decode cX10_part 15 = .ok (.iload_n 1, 1) := dk_27 (dk_at dksX10_part_0 15 rfl rfl)
theorem dX10_part_16 : decode cX10_part 16 = .ok (.bipush 35, 2) := dk_16 35 (dk_at dksX10_part_0 16 rfl rfl)
theorem dX10_part_18 : decode cX10_part 18 = .ok (.if_icmp .ne 13, 3) := dk_160 0 13 (dk_at dksX10_part_0 18 rfl rfl)
theorem dX10_part_21 : decode cX10_part 21 = .ok (.new 98, 3) := dk_187 0 98 (dk_at dksX10_part_0 21 rfl rfl)
theorem dX10_part_24 : decode cX10_part 24 = .ok (.dup, 1) := dk_89 (dk_at dksX10_part_1 0 rfl rfl)
theorem dX10_part_25 : decode cX10_part 25 = .ok (.invokespecial 100, 3) := dk_183 0 100 (dk_at dksX10_part_1 1 rfl rfl)
theorem dX10_part_28 : decode cX10_part 28 = .ok (.goto 24, 3) := dk_167 0 24 (dk_at dksX10_part_1 4 rfl rfl)
theorem dX10_part_31 : decode cX10_part 31 = .ok (.iload_n 1, 1) := dk_27 (dk_at dksX10_part_1 7 rfl rfl)
theorem dX10_part_32 : decode cX10_part 32 = .ok (.bipush 123, 2) := dk_16 123 (dk_at dksX10_part_1 8 rfl rfl)
theorem dX10_part_34 : decode cX10_part 34 = .ok (.if_icmp .ne 10, 3) := dk_160 0 10 (dk_at dksX10_part_1 10 rfl rfl)
theorem dX10_part_37 : decode cX10_part 37 = .ok (.aload_n 0, 1) := dk_42 (dk_at dksX10_part_1 13 rfl rfl)
theorem dX10_part_38 : decode cX10_part 38 = .ok (.invokevirtual 101, 3) := dk_182 0 101 (dk_at dksX10_part_1 14 rfl rfl)
theorem dX10_part_41 : decode cX10_part 41 = .ok (.goto 11, 3) := dk_167 0 11 (dk_at dksX10_part_1 17 rfl rfl)
theorem dX10_part_44 : decode cX10_part 44 = .ok (.new 104, 3) := dk_187 0 104 (dk_at dksX10_part_1 20 rfl rfl)
theorem dX10_part_47 : decode cX10_part 47 = .ok (.dup, 1) := dk_89 (dk_at dksX10_part_1 23 rfl rfl)
theorem dX10_part_48 : decode cX10_part 48 = .ok (.iload_n 1, 1) := dk_27 (dk_at dksX10_part_2 0 rfl rfl)
theorem dX10_part_49 : decode cX10_part 49 = .ok (.invokespecial 106, 3) := dk_183 0 106 (dk_at dksX10_part_2 1 rfl rfl)
theorem dX10_part_52 : decode cX10_part 52 = .ok (.areturn, 1) := dk_176 (dk_at dksX10_part_2 4 rfl rfl)
abbrev cX10_braced : ByteArray := prog_23_method_12_code
def yX10_braced : MethodName := ⟨RX10, "braced", "()LPluralBranches$Part;"⟩
def dkwX10_braced_7 : List UInt8 := [182, 0, 143, 176]
abbrev dktX10_braced_7 : List UInt8 := dkwX10_braced_7 ++ []
def dkwX10_braced_6 : List UInt8 := [89, 28, 42, 182, 0, 136, 183, 0, 140, 176, 42, 89, 180, 0, 26, 4, 100, 181, 0, 26, 42, 28, 29, 27]
abbrev dktX10_braced_6 : List UInt8 := dkwX10_braced_6 ++ dktX10_braced_7
def dkwX10_braced_5 : List UInt8 := [16, 125, 182, 0, 128, 187, 0, 131, 89, 28, 183, 0, 133, 176, 42, 28, 4, 27, 182, 0, 121, 187, 0, 134]
abbrev dktX10_braced_5 : List UInt8 := dkwX10_braced_5 ++ dktX10_braced_6
def dkwX10_braced_4 : List UInt8 := [42, 28, 3, 27, 182, 0, 121, 187, 0, 125, 89, 28, 183, 0, 127, 176, 42, 28, 6, 27, 182, 0, 121, 42]
abbrev dktX10_braced_4 : List UInt8 := dkwX10_braced_4 ++ dktX10_braced_5
def dkwX10_braced_3 : List UInt8 := [171, 0, 0, 0, 0, 0, 93, 0, 0, 0, 3, 0, 0, 0, 108, 0, 0, 0, 51, 0, 0, 0, 110, 0, 0, 0, 73, 0, 0, 0, 125, 0, 0, 0, 35]
abbrev dktX10_braced_3 : List UInt8 := dkwX10_braced_3 ++ dktX10_braced_4
def dkwX10_braced_2 : List UInt8 := [180, 0, 26, 4, 96, 181, 0, 26, 29]
abbrev dktX10_braced_2 : List UInt8 := dkwX10_braced_2 ++ dktX10_braced_3
def dkwX10_braced_1 : List UInt8 := [182, 0, 45, 16, 65, 100, 61, 42, 89, 180, 0, 26, 4, 96, 181, 0, 26, 42, 182, 0, 45, 62, 42, 89]
abbrev dktX10_braced_1 : List UInt8 := dkwX10_braced_1 ++ dktX10_braced_2
def dkwX10_braced_0 : List UInt8 := [42, 180, 0, 26, 60, 42, 42, 182, 0, 45, 133, 20, 0, 117, 20, 0, 119, 184, 0, 67, 182, 0, 53, 42]
abbrev dktX10_braced_0 : List UInt8 := dkwX10_braced_0 ++ dktX10_braced_1
theorem dksX10_braced_0 : cX10_braced.data.toList.drop 0 = dktX10_braced_0 := by decide +kernel
theorem dksX10_braced_1 : cX10_braced.data.toList.drop 24 = dktX10_braced_1 := dk_seg dksX10_braced_0 24 rfl rfl
theorem dksX10_braced_2 : cX10_braced.data.toList.drop 48 = dktX10_braced_2 := dk_seg dksX10_braced_1 24 rfl rfl
theorem dksX10_braced_3 : cX10_braced.data.toList.drop 57 = dktX10_braced_3 := dk_seg dksX10_braced_2 9 rfl rfl
theorem dksX10_braced_4 : cX10_braced.data.toList.drop 92 = dktX10_braced_4 := dk_seg dksX10_braced_3 35 rfl rfl
theorem dksX10_braced_5 : cX10_braced.data.toList.drop 116 = dktX10_braced_5 := dk_seg dksX10_braced_4 24 rfl rfl
theorem dksX10_braced_6 : cX10_braced.data.toList.drop 140 = dktX10_braced_6 := dk_seg dksX10_braced_5 24 rfl rfl
theorem dksX10_braced_7 : cX10_braced.data.toList.drop 164 = dktX10_braced_7 := dk_seg dksX10_braced_6 24 rfl rfl
theorem dX10_braced_0 : decode cX10_braced 0 = .ok (.aload_n 0, 1) := dk_42 (dk_at dksX10_braced_0 0 rfl rfl)
theorem dX10_braced_1 : decode cX10_braced 1 = .ok (.getfield 26, 3) := dk_180 0 26 (dk_at dksX10_braced_0 1 rfl rfl)
theorem dX10_braced_4 : decode cX10_braced 4 = .ok (.istore_n 1, 1) := dk_60 (dk_at dksX10_braced_0 4 rfl rfl)
theorem dX10_braced_5 : decode cX10_braced 5 = .ok (.aload_n 0, 1) := dk_42 (dk_at dksX10_braced_0 5 rfl rfl)
theorem dX10_braced_6 : decode cX10_braced 6 = .ok (.aload_n 0, 1) := dk_42 (dk_at dksX10_braced_0 6 rfl rfl)
theorem dX10_braced_7 : decode cX10_braced 7 = .ok (.invokevirtual 45, 3) := dk_182 0 45 (dk_at dksX10_braced_0 7 rfl rfl)
theorem dX10_braced_10 : decode cX10_braced 10 = .ok (.i2l, 1) := dk_133 (dk_at dksX10_braced_0 10 rfl rfl)
theorem dX10_braced_11 : decode cX10_braced 11 = .ok (.ldc2_w 117, 3) := dk_20 0 117 (dk_at dksX10_braced_0 11 rfl rfl)
theorem dX10_braced_14 : decode cX10_braced 14 = .ok (.ldc2_w 119, 3) := dk_20 0 119 (dk_at dksX10_braced_0 14 rfl rfl)
theorem dX10_braced_17 : decode cX10_braced 17 = .ok (.invokestatic 67, 3) := dk_184 0 67 (dk_at dksX10_braced_0 17 rfl rfl)
theorem dX10_braced_20 : decode cX10_braced 20 = .ok (.invokevirtual 53, 3) := dk_182 0 53 (dk_at dksX10_braced_0 20 rfl rfl)
theorem dX10_braced_23 : decode cX10_braced 23 = .ok (.aload_n 0, 1) := dk_42 (dk_at dksX10_braced_0 23 rfl rfl)
theorem dX10_braced_24 : decode cX10_braced 24 = .ok (.invokevirtual 45, 3) := dk_182 0 45 (dk_at dksX10_braced_1 0 rfl rfl)
theorem dX10_braced_27 : decode cX10_braced 27 = .ok (.bipush 65, 2) := dk_16 65 (dk_at dksX10_braced_1 3 rfl rfl)
theorem dX10_braced_29 : decode cX10_braced 29 = .ok (.isub, 1) := dk_100 (dk_at dksX10_braced_1 5 rfl rfl)
theorem dX10_braced_30 : decode cX10_braced 30 = .ok (.istore_n 2, 1) := dk_61 (dk_at dksX10_braced_1 6 rfl rfl)
theorem dX10_braced_31 : decode cX10_braced 31 = .ok (.aload_n 0, 1) := dk_42 (dk_at dksX10_braced_1 7 rfl rfl)
theorem dX10_braced_32 : decode cX10_braced 32 = .ok (.dup, 1) := dk_89 (dk_at dksX10_braced_1 8 rfl rfl)
theorem dX10_braced_33 : decode cX10_braced 33 = .ok (.getfield 26, 3) := dk_180 0 26 (dk_at dksX10_braced_1 9 rfl rfl)
theorem dX10_braced_36 : decode cX10_braced 36 = .ok (.iconst 1, 1) := dk_4 (dk_at dksX10_braced_1 12 rfl rfl)
theorem dX10_braced_37 : decode cX10_braced 37 = .ok (.iadd, 1) := dk_96 (dk_at dksX10_braced_1 13 rfl rfl)
theorem dX10_braced_38 : decode cX10_braced 38 = .ok (.putfield 26, 3) := dk_181 0 26 (dk_at dksX10_braced_1 14 rfl rfl)
theorem dX10_braced_41 : decode cX10_braced 41 = .ok (.aload_n 0, 1) := dk_42 (dk_at dksX10_braced_1 17 rfl rfl)
theorem dX10_braced_42 : decode cX10_braced 42 = .ok (.invokevirtual 45, 3) := dk_182 0 45 (dk_at dksX10_braced_1 18 rfl rfl)
theorem dX10_braced_45 : decode cX10_braced 45 = .ok (.istore_n 3, 1) := dk_62 (dk_at dksX10_braced_1 21 rfl rfl)
theorem dX10_braced_46 : decode cX10_braced 46 = .ok (.aload_n 0, 1) := dk_42 (dk_at dksX10_braced_1 22 rfl rfl)
theorem dX10_braced_47 : decode cX10_braced 47 = .ok (.dup, 1) := dk_89 (dk_at dksX10_braced_1 23 rfl rfl)
theorem dX10_braced_48 : decode cX10_braced 48 = .ok (.getfield 26, 3) := dk_180 0 26 (dk_at dksX10_braced_2 0 rfl rfl)
theorem dX10_braced_51 : decode cX10_braced 51 = .ok (.iconst 1, 1) := dk_4 (dk_at dksX10_braced_2 3 rfl rfl)
theorem dX10_braced_52 : decode cX10_braced 52 = .ok (.iadd, 1) := dk_96 (dk_at dksX10_braced_2 4 rfl rfl)
theorem dX10_braced_53 : decode cX10_braced 53 = .ok (.putfield 26, 3) := dk_181 0 26 (dk_at dksX10_braced_2 5 rfl rfl)
theorem dX10_braced_56 : decode cX10_braced 56 = .ok (.iload_n 3, 1) := dk_29 (dk_at dksX10_braced_2 8 rfl rfl)
theorem dX10_braced_57 : decode cX10_braced 57 = .ok (.lookupswitch 93 #[(108, 51), (110, 73), (125, 35)], 35) := by decide +kernel
theorem dX10_braced_92 : decode cX10_braced 92 = .ok (.aload_n 0, 1) := dk_42 (dk_at dksX10_braced_4 0 rfl rfl)
theorem dX10_braced_93 : decode cX10_braced 93 = .ok (.iload_n 2, 1) := dk_28 (dk_at dksX10_braced_4 1 rfl rfl)
theorem dX10_braced_94 : decode cX10_braced 94 = .ok (.iconst 0, 1) := dk_3 (dk_at dksX10_braced_4 2 rfl rfl)
theorem dX10_braced_95 : decode cX10_braced 95 = .ok (.iload_n 1, 1) := dk_27 (dk_at dksX10_braced_4 3 rfl rfl)
theorem dX10_braced_96 : decode cX10_braced 96 = .ok (.invokevirtual 121, 3) := dk_182 0 121 (dk_at dksX10_braced_4 4 rfl rfl)
theorem dX10_braced_99 : decode cX10_braced 99 = .ok (.new 125, 3) := dk_187 0 125 (dk_at dksX10_braced_4 7 rfl rfl)
theorem dX10_braced_102 : decode cX10_braced 102 = .ok (.dup, 1) := dk_89 (dk_at dksX10_braced_4 10 rfl rfl)
theorem dX10_braced_103 : decode cX10_braced 103 = .ok (.iload_n 2, 1) := dk_28 (dk_at dksX10_braced_4 11 rfl rfl)
theorem dX10_braced_104 : decode cX10_braced 104 = .ok (.invokespecial 127, 3) := dk_183 0 127 (dk_at dksX10_braced_4 12 rfl rfl)
theorem dX10_braced_107 : decode cX10_braced 107 = .ok (.areturn, 1) := dk_176 (dk_at dksX10_braced_4 15 rfl rfl)
theorem dX10_braced_108 : decode cX10_braced 108 = .ok (.aload_n 0, 1) := dk_42 (dk_at dksX10_braced_4 16 rfl rfl)
theorem dX10_braced_109 : decode cX10_braced 109 = .ok (.iload_n 2, 1) := dk_28 (dk_at dksX10_braced_4 17 rfl rfl)
theorem dX10_braced_110 : decode cX10_braced 110 = .ok (.iconst 3, 1) := dk_6 (dk_at dksX10_braced_4 18 rfl rfl)
theorem dX10_braced_111 : decode cX10_braced 111 = .ok (.iload_n 1, 1) := dk_27 (dk_at dksX10_braced_4 19 rfl rfl)
theorem dX10_braced_112 : decode cX10_braced 112 = .ok (.invokevirtual 121, 3) := dk_182 0 121 (dk_at dksX10_braced_4 20 rfl rfl)
theorem dX10_braced_115 : decode cX10_braced 115 = .ok (.aload_n 0, 1) := dk_42 (dk_at dksX10_braced_4 23 rfl rfl)
theorem dX10_braced_116 : decode cX10_braced 116 = .ok (.bipush 125, 2) := dk_16 125 (dk_at dksX10_braced_5 0 rfl rfl)
theorem dX10_braced_118 : decode cX10_braced 118 = .ok (.invokevirtual 128, 3) := dk_182 0 128 (dk_at dksX10_braced_5 2 rfl rfl)
theorem dX10_braced_121 : decode cX10_braced 121 = .ok (.new 131, 3) := dk_187 0 131 (dk_at dksX10_braced_5 5 rfl rfl)
theorem dX10_braced_124 : decode cX10_braced 124 = .ok (.dup, 1) := dk_89 (dk_at dksX10_braced_5 8 rfl rfl)
theorem dX10_braced_125 : decode cX10_braced 125 = .ok (.iload_n 2, 1) := dk_28 (dk_at dksX10_braced_5 9 rfl rfl)
theorem dX10_braced_126 : decode cX10_braced 126 = .ok (.invokespecial 133, 3) := dk_183 0 133 (dk_at dksX10_braced_5 10 rfl rfl)
theorem dX10_braced_129 : decode cX10_braced 129 = .ok (.areturn, 1) := dk_176 (dk_at dksX10_braced_5 13 rfl rfl)
theorem dX10_braced_130 : decode cX10_braced 130 = .ok (.aload_n 0, 1) := dk_42 (dk_at dksX10_braced_5 14 rfl rfl)
theorem dX10_braced_131 : decode cX10_braced 131 = .ok (.iload_n 2, 1) := dk_28 (dk_at dksX10_braced_5 15 rfl rfl)
theorem dX10_braced_132 : decode cX10_braced 132 = .ok (.iconst 1, 1) := dk_4 (dk_at dksX10_braced_5 16 rfl rfl)
theorem dX10_braced_133 : decode cX10_braced 133 = .ok (.iload_n 1, 1) := dk_27 (dk_at dksX10_braced_5 17 rfl rfl)
theorem dX10_braced_134 : decode cX10_braced 134 = .ok (.invokevirtual 121, 3) := dk_182 0 121 (dk_at dksX10_braced_5 18 rfl rfl)
theorem dX10_braced_137 : decode cX10_braced 137 = .ok (.new 134, 3) := dk_187 0 134 (dk_at dksX10_braced_5 21 rfl rfl)
theorem dX10_braced_140 : decode cX10_braced 140 = .ok (.dup, 1) := dk_89 (dk_at dksX10_braced_6 0 rfl rfl)
theorem dX10_braced_141 : decode cX10_braced 141 = .ok (.iload_n 2, 1) := dk_28 (dk_at dksX10_braced_6 1 rfl rfl)
theorem dX10_braced_142 : decode cX10_braced 142 = .ok (.aload_n 0, 1) := dk_42 (dk_at dksX10_braced_6 2 rfl rfl)
theorem dX10_braced_143 : decode cX10_braced 143 = .ok (.invokevirtual 136, 3) := dk_182 0 136 (dk_at dksX10_braced_6 3 rfl rfl)
theorem dX10_braced_146 : decode cX10_braced 146 = .ok (.invokespecial 140, 3) := dk_183 0 140 (dk_at dksX10_braced_6 6 rfl rfl)
theorem dX10_braced_149 : decode cX10_braced 149 = .ok (.areturn, 1) := dk_176 (dk_at dksX10_braced_6 9 rfl rfl)
theorem dX10_braced_150 : decode cX10_braced 150 = .ok (.aload_n 0, 1) := dk_42 (dk_at dksX10_braced_6 10 rfl rfl)
theorem dX10_braced_151 : decode cX10_braced 151 = .ok (.dup, 1) := dk_89 (dk_at dksX10_braced_6 11 rfl rfl)
theorem dX10_braced_152 : decode cX10_braced 152 = .ok (.getfield 26, 3) := dk_180 0 26 (dk_at dksX10_braced_6 12 rfl rfl)
theorem dX10_braced_155 : decode cX10_braced 155 = .ok (.iconst 1, 1) := dk_4 (dk_at dksX10_braced_6 15 rfl rfl)
theorem dX10_braced_156 : decode cX10_braced 156 = .ok (.isub, 1) := dk_100 (dk_at dksX10_braced_6 16 rfl rfl)
theorem dX10_braced_157 : decode cX10_braced 157 = .ok (.putfield 26, 3) := dk_181 0 26 (dk_at dksX10_braced_6 17 rfl rfl)
theorem dX10_braced_160 : decode cX10_braced 160 = .ok (.aload_n 0, 1) := dk_42 (dk_at dksX10_braced_6 20 rfl rfl)
theorem dX10_braced_161 : decode cX10_braced 161 = .ok (.iload_n 2, 1) := dk_28 (dk_at dksX10_braced_6 21 rfl rfl)
theorem dX10_braced_162 : decode cX10_braced 162 = .ok (.iload_n 3, 1) := dk_29 (dk_at dksX10_braced_6 22 rfl rfl)
theorem dX10_braced_163 : decode cX10_braced 163 = .ok (.iload_n 1, 1) := dk_27 (dk_at dksX10_braced_6 23 rfl rfl)
theorem dX10_braced_164 : decode cX10_braced 164 = .ok (.invokevirtual 143, 3) := dk_182 0 143 (dk_at dksX10_braced_7 0 rfl rfl)
theorem dX10_braced_167 : decode cX10_braced 167 = .ok (.areturn, 1) := dk_176 (dk_at dksX10_braced_7 3 rfl rfl)
abbrev cX10_must : ByteArray := prog_23_method_4_code
def yX10_must : MethodName := ⟨RX10, "must", "(Z)V"⟩
def dkwX10_must_0 : List UInt8 := [27, 154, 0, 8, 42, 182, 0, 41, 191, 177]
abbrev dktX10_must_0 : List UInt8 := dkwX10_must_0 ++ []
theorem dksX10_must_0 : cX10_must.data.toList.drop 0 = dktX10_must_0 := by decide +kernel
theorem dX10_must_0 : decode cX10_must 0 = .ok (.iload_n 1, 1) := dk_27 (dk_at dksX10_must_0 0 rfl rfl)
theorem dX10_must_1 : decode cX10_must 1 = .ok (.ifCond .ne 8, 3) := dk_154 0 8 (dk_at dksX10_must_0 1 rfl rfl)
theorem dX10_must_4 : decode cX10_must 4 = .ok (.aload_n 0, 1) := dk_42 (dk_at dksX10_must_0 4 rfl rfl)
theorem dX10_must_5 : decode cX10_must 5 = .ok (.invokevirtual 41, 3) := dk_182 0 41 (dk_at dksX10_must_0 5 rfl rfl)
theorem dX10_must_8 : decode cX10_must 8 = .ok (.athrow, 1) := dk_191 (dk_at dksX10_must_0 8 rfl rfl)
theorem dX10_must_9 : decode cX10_must 9 = .ok (.return_, 1) := dk_177 (dk_at dksX10_must_0 9 rfl rfl)
abbrev cX10_fault : ByteArray := prog_23_method_3_code
def yX10_fault : MethodName := ⟨RX10, "fault", "()LPluralBranches$Ends;"⟩
def dkwX10_fault_0 : List UInt8 := [187, 0, 36, 89, 17, 252, 24, 42, 180, 0, 26, 100, 183, 0, 38, 176]
abbrev dktX10_fault_0 : List UInt8 := dkwX10_fault_0 ++ []
theorem dksX10_fault_0 : cX10_fault.data.toList.drop 0 = dktX10_fault_0 := by decide +kernel
theorem dX10_fault_0 : decode cX10_fault 0 = .ok (.new 36, 3) := dk_187 0 36 (dk_at dksX10_fault_0 0 rfl rfl)
theorem dX10_fault_3 : decode cX10_fault 3 = .ok (.dup, 1) := dk_89 (dk_at dksX10_fault_0 3 rfl rfl)
theorem dX10_fault_4 : decode cX10_fault 4 = .ok (.sipush (-1000), 3) := dk_17 252 24 (dk_at dksX10_fault_0 4 rfl rfl)
theorem dX10_fault_7 : decode cX10_fault 7 = .ok (.aload_n 0, 1) := dk_42 (dk_at dksX10_fault_0 7 rfl rfl)
theorem dX10_fault_8 : decode cX10_fault 8 = .ok (.getfield 26, 3) := dk_180 0 26 (dk_at dksX10_fault_0 8 rfl rfl)
theorem dX10_fault_11 : decode cX10_fault 11 = .ok (.isub, 1) := dk_100 (dk_at dksX10_fault_0 11 rfl rfl)
theorem dX10_fault_12 : decode cX10_fault 12 = .ok (.invokespecial 38, 3) := dk_183 0 38 (dk_at dksX10_fault_0 12 rfl rfl)
theorem dX10_fault_15 : decode cX10_fault 15 = .ok (.areturn, 1) := dk_176 (dk_at dksX10_fault_0 15 rfl rfl)
abbrev cX10_uses : ByteArray := prog_23_method_11_code
def yX10_uses : MethodName := ⟨RX10, "uses", "(III)V"⟩
def dkwX10_uses_2 : List UInt8 := [182, 0, 114, 167, 0, 13, 42, 180, 0, 18, 180, 0, 110, 27, 28, 79, 177]
abbrev dktX10_uses_2 : List UInt8 := dkwX10_uses_2 ++ []
def dkwX10_uses_1 : List UInt8 := [180, 0, 110, 27, 46, 28, 159, 0, 33, 42, 180, 0, 18, 180, 0, 110, 27, 46, 158, 0, 11, 42, 29]
abbrev dktX10_uses_1 : List UInt8 := dkwX10_uses_1 ++ dktX10_uses_2
def dkwX10_uses_0 : List UInt8 := [42, 180, 0, 18, 89, 180, 0, 107, 4, 27, 120, 128, 181, 0, 107, 28, 158, 0, 46, 42, 180, 0, 18]
abbrev dktX10_uses_0 : List UInt8 := dkwX10_uses_0 ++ dktX10_uses_1
theorem dksX10_uses_0 : cX10_uses.data.toList.drop 0 = dktX10_uses_0 := by decide +kernel
theorem dksX10_uses_1 : cX10_uses.data.toList.drop 23 = dktX10_uses_1 := dk_seg dksX10_uses_0 23 rfl rfl
theorem dksX10_uses_2 : cX10_uses.data.toList.drop 46 = dktX10_uses_2 := dk_seg dksX10_uses_1 23 rfl rfl
theorem dX10_uses_0 : decode cX10_uses 0 = .ok (.aload_n 0, 1) := dk_42 (dk_at dksX10_uses_0 0 rfl rfl)
theorem dX10_uses_1 : decode cX10_uses 1 = .ok (.getfield 18, 3) := dk_180 0 18 (dk_at dksX10_uses_0 1 rfl rfl)
theorem dX10_uses_4 : decode cX10_uses 4 = .ok (.dup, 1) := dk_89 (dk_at dksX10_uses_0 4 rfl rfl)
theorem dX10_uses_5 : decode cX10_uses 5 = .ok (.getfield 107, 3) := dk_180 0 107 (dk_at dksX10_uses_0 5 rfl rfl)
theorem dX10_uses_8 : decode cX10_uses 8 = .ok (.iconst 1, 1) := dk_4 (dk_at dksX10_uses_0 8 rfl rfl)
theorem dX10_uses_9 : decode cX10_uses 9 = .ok (.iload_n 1, 1) := dk_27 (dk_at dksX10_uses_0 9 rfl rfl)
theorem dX10_uses_10 : decode cX10_uses 10 = .ok (.ishl, 1) := dk_120 (dk_at dksX10_uses_0 10 rfl rfl)
theorem dX10_uses_11 : decode cX10_uses 11 = .ok (.ior, 1) := dk_128 (dk_at dksX10_uses_0 11 rfl rfl)
theorem dX10_uses_12 : decode cX10_uses 12 = .ok (.putfield 107, 3) := dk_181 0 107 (dk_at dksX10_uses_0 12 rfl rfl)
theorem dX10_uses_15 : decode cX10_uses 15 = .ok (.iload_n 2, 1) := dk_28 (dk_at dksX10_uses_0 15 rfl rfl)
theorem dX10_uses_16 : decode cX10_uses 16 = .ok (.ifCond .le 46, 3) := dk_158 0 46 (dk_at dksX10_uses_0 16 rfl rfl)
theorem dX10_uses_19 : decode cX10_uses 19 = .ok (.aload_n 0, 1) := dk_42 (dk_at dksX10_uses_0 19 rfl rfl)
theorem dX10_uses_20 : decode cX10_uses 20 = .ok (.getfield 18, 3) := dk_180 0 18 (dk_at dksX10_uses_0 20 rfl rfl)
theorem dX10_uses_23 : decode cX10_uses 23 = .ok (.getfield 110, 3) := dk_180 0 110 (dk_at dksX10_uses_1 0 rfl rfl)
theorem dX10_uses_26 : decode cX10_uses 26 = .ok (.iload_n 1, 1) := dk_27 (dk_at dksX10_uses_1 3 rfl rfl)
theorem dX10_uses_27 : decode cX10_uses 27 = .ok (.iaload, 1) := dk_46 (dk_at dksX10_uses_1 4 rfl rfl)
theorem dX10_uses_28 : decode cX10_uses 28 = .ok (.iload_n 2, 1) := dk_28 (dk_at dksX10_uses_1 5 rfl rfl)
theorem dX10_uses_29 : decode cX10_uses 29 = .ok (.if_icmp .eq 33, 3) := dk_159 0 33 (dk_at dksX10_uses_1 6 rfl rfl)
theorem dX10_uses_32 : decode cX10_uses 32 = .ok (.aload_n 0, 1) := dk_42 (dk_at dksX10_uses_1 9 rfl rfl)
theorem dX10_uses_33 : decode cX10_uses 33 = .ok (.getfield 18, 3) := dk_180 0 18 (dk_at dksX10_uses_1 10 rfl rfl)
theorem dX10_uses_36 : decode cX10_uses 36 = .ok (.getfield 110, 3) := dk_180 0 110 (dk_at dksX10_uses_1 13 rfl rfl)
theorem dX10_uses_39 : decode cX10_uses 39 = .ok (.iload_n 1, 1) := dk_27 (dk_at dksX10_uses_1 16 rfl rfl)
theorem dX10_uses_40 : decode cX10_uses 40 = .ok (.iaload, 1) := dk_46 (dk_at dksX10_uses_1 17 rfl rfl)
theorem dX10_uses_41 : decode cX10_uses 41 = .ok (.ifCond .le 11, 3) := dk_158 0 11 (dk_at dksX10_uses_1 18 rfl rfl)
theorem dX10_uses_44 : decode cX10_uses 44 = .ok (.aload_n 0, 1) := dk_42 (dk_at dksX10_uses_1 21 rfl rfl)
theorem dX10_uses_45 : decode cX10_uses 45 = .ok (.iload_n 3, 1) := dk_29 (dk_at dksX10_uses_1 22 rfl rfl)
theorem dX10_uses_46 : decode cX10_uses 46 = .ok (.invokevirtual 114, 3) := dk_182 0 114 (dk_at dksX10_uses_2 0 rfl rfl)
theorem dX10_uses_49 : decode cX10_uses 49 = .ok (.goto 13, 3) := dk_167 0 13 (dk_at dksX10_uses_2 3 rfl rfl)
theorem dX10_uses_52 : decode cX10_uses 52 = .ok (.aload_n 0, 1) := dk_42 (dk_at dksX10_uses_2 6 rfl rfl)
theorem dX10_uses_53 : decode cX10_uses 53 = .ok (.getfield 18, 3) := dk_180 0 18 (dk_at dksX10_uses_2 7 rfl rfl)
theorem dX10_uses_56 : decode cX10_uses 56 = .ok (.getfield 110, 3) := dk_180 0 110 (dk_at dksX10_uses_2 10 rfl rfl)
theorem dX10_uses_59 : decode cX10_uses 59 = .ok (.iload_n 1, 1) := dk_27 (dk_at dksX10_uses_2 13 rfl rfl)
theorem dX10_uses_60 : decode cX10_uses 60 = .ok (.iload_n 2, 1) := dk_28 (dk_at dksX10_uses_2 14 rfl rfl)
theorem dX10_uses_61 : decode cX10_uses 61 = .ok (.iastore, 1) := dk_79 (dk_at dksX10_uses_2 15 rfl rfl)
theorem dX10_uses_62 : decode cX10_uses 62 = .ok (.return_, 1) := dk_177 (dk_at dksX10_uses_2 16 rfl rfl)
abbrev cX10_lies : ByteArray := prog_23_method_7_code
def yX10_lies : MethodName := ⟨RX10, "lies", "(I)V"⟩
def dkwX10_lies_0 : List UInt8 := [42, 42, 180, 0, 22, 156, 0, 7, 27, 167, 0, 11, 42, 180, 0, 22, 27, 184, 0, 57, 181, 0, 22, 177]
abbrev dktX10_lies_0 : List UInt8 := dkwX10_lies_0 ++ []
theorem dksX10_lies_0 : cX10_lies.data.toList.drop 0 = dktX10_lies_0 := by decide +kernel
theorem dX10_lies_0 : decode cX10_lies 0 = .ok (.aload_n 0, 1) := dk_42 (dk_at dksX10_lies_0 0 rfl rfl)
theorem dX10_lies_1 : decode cX10_lies 1 = .ok (.aload_n 0, 1) := dk_42 (dk_at dksX10_lies_0 1 rfl rfl)
theorem dX10_lies_2 : decode cX10_lies 2 = .ok (.getfield 22, 3) := dk_180 0 22 (dk_at dksX10_lies_0 2 rfl rfl)
theorem dX10_lies_5 : decode cX10_lies 5 = .ok (.ifCond .ge 7, 3) := dk_156 0 7 (dk_at dksX10_lies_0 5 rfl rfl)
theorem dX10_lies_8 : decode cX10_lies 8 = .ok (.iload_n 1, 1) := dk_27 (dk_at dksX10_lies_0 8 rfl rfl)
theorem dX10_lies_9 : decode cX10_lies 9 = .ok (.goto 11, 3) := dk_167 0 11 (dk_at dksX10_lies_0 9 rfl rfl)
theorem dX10_lies_12 : decode cX10_lies 12 = .ok (.aload_n 0, 1) := dk_42 (dk_at dksX10_lies_0 12 rfl rfl)
theorem dX10_lies_13 : decode cX10_lies 13 = .ok (.getfield 22, 3) := dk_180 0 22 (dk_at dksX10_lies_0 13 rfl rfl)
theorem dX10_lies_16 : decode cX10_lies 16 = .ok (.iload_n 1, 1) := dk_27 (dk_at dksX10_lies_0 16 rfl rfl)
theorem dX10_lies_17 : decode cX10_lies 17 = .ok (.invokestatic 57, 3) := dk_184 0 57 (dk_at dksX10_lies_0 17 rfl rfl)
theorem dX10_lies_20 : decode cX10_lies 20 = .ok (.putfield 22, 3) := dk_181 0 22 (dk_at dksX10_lies_0 20 rfl rfl)
theorem dX10_lies_23 : decode cX10_lies 23 = .ok (.return_, 1) := dk_177 (dk_at dksX10_lies_0 23 rfl rfl)
abbrev cX10_wants : ByteArray := prog_23_method_6_code
def yX10_wants : MethodName := ⟨RX10, "wants", "(I)V"⟩
def dkwX10_wants_0 : List UInt8 := [42, 42, 27, 182, 0, 49, 182, 0, 53, 177]
abbrev dktX10_wants_0 : List UInt8 := dkwX10_wants_0 ++ []
theorem dksX10_wants_0 : cX10_wants.data.toList.drop 0 = dktX10_wants_0 := by decide +kernel
theorem dX10_wants_0 : decode cX10_wants 0 = .ok (.aload_n 0, 1) := dk_42 (dk_at dksX10_wants_0 0 rfl rfl)
theorem dX10_wants_1 : decode cX10_wants 1 = .ok (.aload_n 0, 1) := dk_42 (dk_at dksX10_wants_0 1 rfl rfl)
theorem dX10_wants_2 : decode cX10_wants 2 = .ok (.iload_n 1, 1) := dk_27 (dk_at dksX10_wants_0 2 rfl rfl)
theorem dX10_wants_3 : decode cX10_wants 3 = .ok (.invokevirtual 49, 3) := dk_182 0 49 (dk_at dksX10_wants_0 3 rfl rfl)
theorem dX10_wants_6 : decode cX10_wants 6 = .ok (.invokevirtual 53, 3) := dk_182 0 53 (dk_at dksX10_wants_0 6 rfl rfl)
theorem dX10_wants_9 : decode cX10_wants 9 = .ok (.return_, 1) := dk_177 (dk_at dksX10_wants_0 9 rfl rfl)
abbrev cX10_takes : ByteArray := prog_23_method_5_code
def yX10_takes : MethodName := ⟨RX10, "takes", "(I)Z"⟩
def dkwX10_takes_1 : List UInt8 := [167, 0, 4, 3, 96, 181, 0, 26, 28, 172]
abbrev dktX10_takes_1 : List UInt8 := dkwX10_takes_1 ++ []
def dkwX10_takes_0 : List UInt8 := [42, 182, 0, 45, 27, 160, 0, 7, 4, 167, 0, 4, 3, 61, 42, 89, 180, 0, 26, 28, 153, 0, 7, 4]
abbrev dktX10_takes_0 : List UInt8 := dkwX10_takes_0 ++ dktX10_takes_1
theorem dksX10_takes_0 : cX10_takes.data.toList.drop 0 = dktX10_takes_0 := by decide +kernel
theorem dksX10_takes_1 : cX10_takes.data.toList.drop 24 = dktX10_takes_1 := dk_seg dksX10_takes_0 24 rfl rfl
theorem dX10_takes_0 : decode cX10_takes 0 = .ok (.aload_n 0, 1) := dk_42 (dk_at dksX10_takes_0 0 rfl rfl)
theorem dX10_takes_1 : decode cX10_takes 1 = .ok (.invokevirtual 45, 3) := dk_182 0 45 (dk_at dksX10_takes_0 1 rfl rfl)
theorem dX10_takes_4 : decode cX10_takes 4 = .ok (.iload_n 1, 1) := dk_27 (dk_at dksX10_takes_0 4 rfl rfl)
theorem dX10_takes_5 : decode cX10_takes 5 = .ok (.if_icmp .ne 7, 3) := dk_160 0 7 (dk_at dksX10_takes_0 5 rfl rfl)
theorem dX10_takes_8 : decode cX10_takes 8 = .ok (.iconst 1, 1) := dk_4 (dk_at dksX10_takes_0 8 rfl rfl)
theorem dX10_takes_9 : decode cX10_takes 9 = .ok (.goto 4, 3) := dk_167 0 4 (dk_at dksX10_takes_0 9 rfl rfl)
theorem dX10_takes_12 : decode cX10_takes 12 = .ok (.iconst 0, 1) := dk_3 (dk_at dksX10_takes_0 12 rfl rfl)
theorem dX10_takes_13 : decode cX10_takes 13 = .ok (.istore_n 2, 1) := dk_61 (dk_at dksX10_takes_0 13 rfl rfl)
theorem dX10_takes_14 : decode cX10_takes 14 = .ok (.aload_n 0, 1) := dk_42 (dk_at dksX10_takes_0 14 rfl rfl)
theorem dX10_takes_15 : decode cX10_takes 15 = .ok (.dup, 1) := dk_89 (dk_at dksX10_takes_0 15 rfl rfl)
theorem dX10_takes_16 : decode cX10_takes 16 = .ok (.getfield 26, 3) := dk_180 0 26 (dk_at dksX10_takes_0 16 rfl rfl)
theorem dX10_takes_19 : decode cX10_takes 19 = .ok (.iload_n 2, 1) := dk_28 (dk_at dksX10_takes_0 19 rfl rfl)
theorem dX10_takes_20 : decode cX10_takes 20 = .ok (.ifCond .eq 7, 3) := dk_153 0 7 (dk_at dksX10_takes_0 20 rfl rfl)
theorem dX10_takes_23 : decode cX10_takes 23 = .ok (.iconst 1, 1) := dk_4 (dk_at dksX10_takes_0 23 rfl rfl)
theorem dX10_takes_24 : decode cX10_takes 24 = .ok (.goto 4, 3) := dk_167 0 4 (dk_at dksX10_takes_1 0 rfl rfl)
theorem dX10_takes_27 : decode cX10_takes 27 = .ok (.iconst 0, 1) := dk_3 (dk_at dksX10_takes_1 3 rfl rfl)
theorem dX10_takes_28 : decode cX10_takes 28 = .ok (.iadd, 1) := dk_96 (dk_at dksX10_takes_1 4 rfl rfl)
theorem dX10_takes_29 : decode cX10_takes 29 = .ok (.putfield 26, 3) := dk_181 0 26 (dk_at dksX10_takes_1 5 rfl rfl)
theorem dX10_takes_32 : decode cX10_takes 32 = .ok (.iload_n 2, 1) := dk_28 (dk_at dksX10_takes_1 8 rfl rfl)
theorem dX10_takes_33 : decode cX10_takes 33 = .ok (.ireturn, 1) := dk_172 (dk_at dksX10_takes_1 9 rfl rfl)
abbrev cX10_pattern : ByteArray := prog_23_method_14_code
def yX10_pattern : MethodName := ⟨RX10, "pattern", "()LPluralBranches$Pattern;"⟩
def dkwX10_pattern_4 : List UInt8 := [187, 0, 150, 89, 27, 28, 29, 21, 4, 183, 0, 152, 167, 0, 11, 187, 0, 150, 89, 28, 183, 0, 155, 176]
abbrev dktX10_pattern_4 : List UInt8 := dkwX10_pattern_4 ++ []
def dkwX10_pattern_3 : List UInt8 := [167, 0, 4, 3, 182, 0, 53, 42, 16, 125, 182, 0, 128, 27, 154, 0, 10, 29, 21, 4, 96, 158, 0, 18]
abbrev dktX10_pattern_3 : List UInt8 := dkwX10_pattern_3 ++ dktX10_pattern_4
def dkwX10_pattern_2 : List UInt8 := [182, 0, 147, 62, 42, 16, 35, 6, 182, 0, 147, 54, 4, 42, 29, 21, 4, 96, 158, 0, 7, 4]
abbrev dktX10_pattern_2 : List UInt8 := dkwX10_pattern_2 ++ dktX10_pattern_3
def dkwX10_pattern_1 : List UInt8 := [3, 182, 0, 53, 3, 62, 3, 54, 4, 42, 16, 46, 182, 0, 49, 153, 0, 36, 42, 16, 48, 6]
abbrev dktX10_pattern_1 : List UInt8 := dkwX10_pattern_1 ++ dktX10_pattern_2
def dkwX10_pattern_0 : List UInt8 := [42, 16, 44, 182, 0, 49, 60, 42, 16, 48, 7, 182, 0, 147, 61, 42, 28, 158, 0, 7, 4, 167, 0, 4]
abbrev dktX10_pattern_0 : List UInt8 := dkwX10_pattern_0 ++ dktX10_pattern_1
theorem dksX10_pattern_0 : cX10_pattern.data.toList.drop 0 = dktX10_pattern_0 := by decide +kernel
theorem dksX10_pattern_1 : cX10_pattern.data.toList.drop 24 = dktX10_pattern_1 := dk_seg dksX10_pattern_0 24 rfl rfl
theorem dksX10_pattern_2 : cX10_pattern.data.toList.drop 46 = dktX10_pattern_2 := dk_seg dksX10_pattern_1 22 rfl rfl
theorem dksX10_pattern_3 : cX10_pattern.data.toList.drop 68 = dktX10_pattern_3 := dk_seg dksX10_pattern_2 22 rfl rfl
theorem dksX10_pattern_4 : cX10_pattern.data.toList.drop 92 = dktX10_pattern_4 := dk_seg dksX10_pattern_3 24 rfl rfl
theorem dX10_pattern_0 : decode cX10_pattern 0 = .ok (.aload_n 0, 1) := dk_42 (dk_at dksX10_pattern_0 0 rfl rfl)
theorem dX10_pattern_1 : decode cX10_pattern 1 = .ok (.bipush 44, 2) := dk_16 44 (dk_at dksX10_pattern_0 1 rfl rfl)
theorem dX10_pattern_3 : decode cX10_pattern 3 = .ok (.invokevirtual 49, 3) := dk_182 0 49 (dk_at dksX10_pattern_0 3 rfl rfl)
theorem dX10_pattern_6 : decode cX10_pattern 6 = .ok (.istore_n 1, 1) := dk_60 (dk_at dksX10_pattern_0 6 rfl rfl)
theorem dX10_pattern_7 : decode cX10_pattern 7 = .ok (.aload_n 0, 1) := dk_42 (dk_at dksX10_pattern_0 7 rfl rfl)
theorem dX10_pattern_8 : decode cX10_pattern 8 = .ok (.bipush 48, 2) := dk_16 48 (dk_at dksX10_pattern_0 8 rfl rfl)
theorem dX10_pattern_10 : decode cX10_pattern 10 = .ok (.iconst 4, 1) := dk_7 (dk_at dksX10_pattern_0 10 rfl rfl)
theorem dX10_pattern_11 : decode cX10_pattern 11 = .ok (.invokevirtual 147, 3) := dk_182 0 147 (dk_at dksX10_pattern_0 11 rfl rfl)
theorem dX10_pattern_14 : decode cX10_pattern 14 = .ok (.istore_n 2, 1) := dk_61 (dk_at dksX10_pattern_0 14 rfl rfl)
theorem dX10_pattern_15 : decode cX10_pattern 15 = .ok (.aload_n 0, 1) := dk_42 (dk_at dksX10_pattern_0 15 rfl rfl)
theorem dX10_pattern_16 : decode cX10_pattern 16 = .ok (.iload_n 2, 1) := dk_28 (dk_at dksX10_pattern_0 16 rfl rfl)
theorem dX10_pattern_17 : decode cX10_pattern 17 = .ok (.ifCond .le 7, 3) := dk_158 0 7 (dk_at dksX10_pattern_0 17 rfl rfl)
theorem dX10_pattern_20 : decode cX10_pattern 20 = .ok (.iconst 1, 1) := dk_4 (dk_at dksX10_pattern_0 20 rfl rfl)
theorem dX10_pattern_21 : decode cX10_pattern 21 = .ok (.goto 4, 3) := dk_167 0 4 (dk_at dksX10_pattern_0 21 rfl rfl)
theorem dX10_pattern_24 : decode cX10_pattern 24 = .ok (.iconst 0, 1) := dk_3 (dk_at dksX10_pattern_1 0 rfl rfl)
theorem dX10_pattern_25 : decode cX10_pattern 25 = .ok (.invokevirtual 53, 3) := dk_182 0 53 (dk_at dksX10_pattern_1 1 rfl rfl)
theorem dX10_pattern_28 : decode cX10_pattern 28 = .ok (.iconst 0, 1) := dk_3 (dk_at dksX10_pattern_1 4 rfl rfl)
theorem dX10_pattern_29 : decode cX10_pattern 29 = .ok (.istore_n 3, 1) := dk_62 (dk_at dksX10_pattern_1 5 rfl rfl)
theorem dX10_pattern_30 : decode cX10_pattern 30 = .ok (.iconst 0, 1) := dk_3 (dk_at dksX10_pattern_1 6 rfl rfl)
theorem dX10_pattern_31 : decode cX10_pattern 31 = .ok (.istore 4, 2) := dk_54 4 (dk_at dksX10_pattern_1 7 rfl rfl)
theorem dX10_pattern_33 : decode cX10_pattern 33 = .ok (.aload_n 0, 1) := dk_42 (dk_at dksX10_pattern_1 9 rfl rfl)
theorem dX10_pattern_34 : decode cX10_pattern 34 = .ok (.bipush 46, 2) := dk_16 46 (dk_at dksX10_pattern_1 10 rfl rfl)
theorem dX10_pattern_36 : decode cX10_pattern 36 = .ok (.invokevirtual 49, 3) := dk_182 0 49 (dk_at dksX10_pattern_1 12 rfl rfl)
theorem dX10_pattern_39 : decode cX10_pattern 39 = .ok (.ifCond .eq 36, 3) := dk_153 0 36 (dk_at dksX10_pattern_1 15 rfl rfl)
theorem dX10_pattern_42 : decode cX10_pattern 42 = .ok (.aload_n 0, 1) := dk_42 (dk_at dksX10_pattern_1 18 rfl rfl)
theorem dX10_pattern_43 : decode cX10_pattern 43 = .ok (.bipush 48, 2) := dk_16 48 (dk_at dksX10_pattern_1 19 rfl rfl)
theorem dX10_pattern_45 : decode cX10_pattern 45 = .ok (.iconst 3, 1) := dk_6 (dk_at dksX10_pattern_1 21 rfl rfl)
theorem dX10_pattern_46 : decode cX10_pattern 46 = .ok (.invokevirtual 147, 3) := dk_182 0 147 (dk_at dksX10_pattern_2 0 rfl rfl)
theorem dX10_pattern_49 : decode cX10_pattern 49 = .ok (.istore_n 3, 1) := dk_62 (dk_at dksX10_pattern_2 3 rfl rfl)
theorem dX10_pattern_50 : decode cX10_pattern 50 = .ok (.aload_n 0, 1) := dk_42 (dk_at dksX10_pattern_2 4 rfl rfl)
theorem dX10_pattern_51 : decode cX10_pattern 51 = .ok (.bipush 35, 2) := dk_16 35 (dk_at dksX10_pattern_2 5 rfl rfl)
theorem dX10_pattern_53 : decode cX10_pattern 53 = .ok (.iconst 3, 1) := dk_6 (dk_at dksX10_pattern_2 7 rfl rfl)
theorem dX10_pattern_54 : decode cX10_pattern 54 = .ok (.invokevirtual 147, 3) := dk_182 0 147 (dk_at dksX10_pattern_2 8 rfl rfl)
theorem dX10_pattern_57 : decode cX10_pattern 57 = .ok (.istore 4, 2) := dk_54 4 (dk_at dksX10_pattern_2 11 rfl rfl)
theorem dX10_pattern_59 : decode cX10_pattern 59 = .ok (.aload_n 0, 1) := dk_42 (dk_at dksX10_pattern_2 13 rfl rfl)
theorem dX10_pattern_60 : decode cX10_pattern 60 = .ok (.iload_n 3, 1) := dk_29 (dk_at dksX10_pattern_2 14 rfl rfl)
theorem dX10_pattern_61 : decode cX10_pattern 61 = .ok (.iload 4, 2) := dk_21 4 (dk_at dksX10_pattern_2 15 rfl rfl)
theorem dX10_pattern_63 : decode cX10_pattern 63 = .ok (.iadd, 1) := dk_96 (dk_at dksX10_pattern_2 17 rfl rfl)
theorem dX10_pattern_64 : decode cX10_pattern 64 = .ok (.ifCond .le 7, 3) := dk_158 0 7 (dk_at dksX10_pattern_2 18 rfl rfl)
theorem dX10_pattern_67 : decode cX10_pattern 67 = .ok (.iconst 1, 1) := dk_4 (dk_at dksX10_pattern_2 21 rfl rfl)
theorem dX10_pattern_68 : decode cX10_pattern 68 = .ok (.goto 4, 3) := dk_167 0 4 (dk_at dksX10_pattern_3 0 rfl rfl)
theorem dX10_pattern_71 : decode cX10_pattern 71 = .ok (.iconst 0, 1) := dk_3 (dk_at dksX10_pattern_3 3 rfl rfl)
theorem dX10_pattern_72 : decode cX10_pattern 72 = .ok (.invokevirtual 53, 3) := dk_182 0 53 (dk_at dksX10_pattern_3 4 rfl rfl)
theorem dX10_pattern_75 : decode cX10_pattern 75 = .ok (.aload_n 0, 1) := dk_42 (dk_at dksX10_pattern_3 7 rfl rfl)
theorem dX10_pattern_76 : decode cX10_pattern 76 = .ok (.bipush 125, 2) := dk_16 125 (dk_at dksX10_pattern_3 8 rfl rfl)
theorem dX10_pattern_78 : decode cX10_pattern 78 = .ok (.invokevirtual 128, 3) := dk_182 0 128 (dk_at dksX10_pattern_3 10 rfl rfl)
theorem dX10_pattern_81 : decode cX10_pattern 81 = .ok (.iload_n 1, 1) := dk_27 (dk_at dksX10_pattern_3 13 rfl rfl)
theorem dX10_pattern_82 : decode cX10_pattern 82 = .ok (.ifCond .ne 10, 3) := dk_154 0 10 (dk_at dksX10_pattern_3 14 rfl rfl)
theorem dX10_pattern_85 : decode cX10_pattern 85 = .ok (.iload_n 3, 1) := dk_29 (dk_at dksX10_pattern_3 17 rfl rfl)
theorem dX10_pattern_86 : decode cX10_pattern 86 = .ok (.iload 4, 2) := dk_21 4 (dk_at dksX10_pattern_3 18 rfl rfl)
theorem dX10_pattern_88 : decode cX10_pattern 88 = .ok (.iadd, 1) := dk_96 (dk_at dksX10_pattern_3 20 rfl rfl)
theorem dX10_pattern_89 : decode cX10_pattern 89 = .ok (.ifCond .le 18, 3) := dk_158 0 18 (dk_at dksX10_pattern_3 21 rfl rfl)
theorem dX10_pattern_92 : decode cX10_pattern 92 = .ok (.new 150, 3) := dk_187 0 150 (dk_at dksX10_pattern_4 0 rfl rfl)
theorem dX10_pattern_95 : decode cX10_pattern 95 = .ok (.dup, 1) := dk_89 (dk_at dksX10_pattern_4 3 rfl rfl)
theorem dX10_pattern_96 : decode cX10_pattern 96 = .ok (.iload_n 1, 1) := dk_27 (dk_at dksX10_pattern_4 4 rfl rfl)
theorem dX10_pattern_97 : decode cX10_pattern 97 = .ok (.iload_n 2, 1) := dk_28 (dk_at dksX10_pattern_4 5 rfl rfl)
theorem dX10_pattern_98 : decode cX10_pattern 98 = .ok (.iload_n 3, 1) := dk_29 (dk_at dksX10_pattern_4 6 rfl rfl)
theorem dX10_pattern_99 : decode cX10_pattern 99 = .ok (.iload 4, 2) := dk_21 4 (dk_at dksX10_pattern_4 7 rfl rfl)
theorem dX10_pattern_101 : decode cX10_pattern 101 = .ok (.invokespecial 152, 3) := dk_183 0 152 (dk_at dksX10_pattern_4 9 rfl rfl)
theorem dX10_pattern_104 : decode cX10_pattern 104 = .ok (.goto 11, 3) := dk_167 0 11 (dk_at dksX10_pattern_4 12 rfl rfl)
theorem dX10_pattern_107 : decode cX10_pattern 107 = .ok (.new 150, 3) := dk_187 0 150 (dk_at dksX10_pattern_4 15 rfl rfl)
theorem dX10_pattern_110 : decode cX10_pattern 110 = .ok (.dup, 1) := dk_89 (dk_at dksX10_pattern_4 18 rfl rfl)
theorem dX10_pattern_111 : decode cX10_pattern 111 = .ok (.iload_n 2, 1) := dk_28 (dk_at dksX10_pattern_4 19 rfl rfl)
theorem dX10_pattern_112 : decode cX10_pattern 112 = .ok (.invokespecial 155, 3) := dk_183 0 155 (dk_at dksX10_pattern_4 20 rfl rfl)
theorem dX10_pattern_115 : decode cX10_pattern 115 = .ok (.areturn, 1) := dk_176 (dk_at dksX10_pattern_4 23 rfl rfl)
abbrev cX10_some : ByteArray := prog_23_method_13_code
def yX10_some : MethodName := ⟨RX10, "some", "(II)I"⟩
def dkwX10_some_0 : List UInt8 := [3, 62, 29, 28, 162, 0, 17, 42, 27, 182, 0, 49, 153, 0, 9, 132, 3, 1, 167, 255, 240, 29, 172]
abbrev dktX10_some_0 : List UInt8 := dkwX10_some_0 ++ []
theorem dksX10_some_0 : cX10_some.data.toList.drop 0 = dktX10_some_0 := by decide +kernel
theorem dX10_some_0 : decode cX10_some 0 = .ok (.iconst 0, 1) := dk_3 (dk_at dksX10_some_0 0 rfl rfl)
theorem dX10_some_1 : decode cX10_some 1 = .ok (.istore_n 3, 1) := dk_62 (dk_at dksX10_some_0 1 rfl rfl)
theorem dX10_some_2 : decode cX10_some 2 = .ok (.iload_n 3, 1) := dk_29 (dk_at dksX10_some_0 2 rfl rfl)
theorem dX10_some_3 : decode cX10_some 3 = .ok (.iload_n 2, 1) := dk_28 (dk_at dksX10_some_0 3 rfl rfl)
theorem dX10_some_4 : decode cX10_some 4 = .ok (.if_icmp .ge 17, 3) := dk_162 0 17 (dk_at dksX10_some_0 4 rfl rfl)
theorem dX10_some_7 : decode cX10_some 7 = .ok (.aload_n 0, 1) := dk_42 (dk_at dksX10_some_0 7 rfl rfl)
theorem dX10_some_8 : decode cX10_some 8 = .ok (.iload_n 1, 1) := dk_27 (dk_at dksX10_some_0 8 rfl rfl)
theorem dX10_some_9 : decode cX10_some 9 = .ok (.invokevirtual 49, 3) := dk_182 0 49 (dk_at dksX10_some_0 9 rfl rfl)
theorem dX10_some_12 : decode cX10_some 12 = .ok (.ifCond .eq 9, 3) := dk_153 0 9 (dk_at dksX10_some_0 12 rfl rfl)
theorem dX10_some_15 : decode cX10_some 15 = .ok (.iinc 3 1, 3) := dk_132 3 1 (dk_at dksX10_some_0 15 rfl rfl)
theorem dX10_some_18 : decode cX10_some 18 = .ok (.goto (-16), 3) := dk_167 255 240 (dk_at dksX10_some_0 18 rfl rfl)
theorem dX10_some_21 : decode cX10_some 21 = .ok (.iload_n 3, 1) := dk_29 (dk_at dksX10_some_0 21 rfl rfl)
theorem dX10_some_22 : decode cX10_some 22 = .ok (.ireturn, 1) := dk_172 (dk_at dksX10_some_0 22 rfl rfl)
abbrev cX10_choice : ByteArray := prog_23_method_15_code
def yX10_choice : MethodName := ⟨RX10, "choice", "(III)LPluralBranches$Choice;"⟩
def dkwX10_choice_9 : List UInt8 := [89, 180, 0, 78, 28, 16, 112, 160, 0, 7, 4, 167, 0, 4, 3, 100, 181, 0, 78, 25, 4, 176]
abbrev dktX10_choice_9 : List UInt8 := dkwX10_choice_9 ++ []
def dkwX10_choice_8 : List UInt8 := [182, 0, 114, 42, 89, 180, 0, 26, 4, 96, 181, 0, 26, 42, 89, 180, 0, 156, 4, 100, 181, 0, 156, 42]
abbrev dktX10_choice_8 : List UInt8 := dkwX10_choice_8 ++ dktX10_choice_9
def dkwX10_choice_7 : List UInt8 := [160, 255, 244, 25, 4, 25, 4, 182, 0, 177, 182, 0, 182, 16, 254, 160, 0, 11, 42, 42, 180, 0, 26]
abbrev dktX10_choice_7 : List UInt8 := dkwX10_choice_7 ++ dktX10_choice_8
def dkwX10_choice_6 : List UInt8 := [160, 0, 7, 4, 167, 0, 4, 3, 96, 181, 0, 78, 42, 25, 4, 182, 0, 173, 42, 182, 0, 45, 16, 125]
abbrev dktX10_choice_6 : List UInt8 := dkwX10_choice_6 ++ dktX10_choice_7
def dkwX10_choice_5 : List UInt8 := [182, 0, 92, 87, 42, 89, 180, 0, 156, 4, 96, 181, 0, 156, 42, 89, 180, 0, 78, 28, 16, 112]
abbrev dktX10_choice_5 : List UInt8 := dkwX10_choice_5 ++ dktX10_choice_6
def dkwX10_choice_4 : List UInt8 := [187, 0, 170, 89, 27, 42, 180, 0, 156, 183, 0, 172, 58, 4, 42, 180, 0, 18, 180, 0, 159, 25, 4]
abbrev dktX10_choice_4 : List UInt8 := dkwX10_choice_4 ++ dktX10_choice_5
def dkwX10_choice_3 : List UInt8 := [182, 0, 121, 28, 16, 112, 160, 0, 18, 187, 0, 165, 89, 27, 42, 180, 0, 156, 183, 0, 167, 167, 0, 15]
abbrev dktX10_choice_3 : List UInt8 := dkwX10_choice_3 ++ dktX10_choice_4
def dkwX10_choice_2 : List UInt8 := [180, 0, 26, 4, 96, 181, 0, 26, 42, 27, 28, 16, 112, 160, 0, 7, 4, 167, 0, 4, 5, 29]
abbrev dktX10_choice_2 : List UInt8 := dkwX10_choice_2 ++ dktX10_choice_3
def dkwX10_choice_1 : List UInt8 := [180, 0, 18, 180, 0, 159, 182, 0, 162, 16, 8, 162, 0, 7, 4, 167, 0, 4, 3, 182, 0, 53, 42, 89]
abbrev dktX10_choice_1 : List UInt8 := dkwX10_choice_1 ++ dktX10_choice_2
def dkwX10_choice_0 : List UInt8 := [42, 28, 16, 112, 159, 0, 9, 28, 16, 103, 160, 0, 30, 42, 180, 0, 156, 6, 162, 0, 22, 42]
abbrev dktX10_choice_0 : List UInt8 := dkwX10_choice_0 ++ dktX10_choice_1
theorem dksX10_choice_0 : cX10_choice.data.toList.drop 0 = dktX10_choice_0 := by decide +kernel
theorem dksX10_choice_1 : cX10_choice.data.toList.drop 22 = dktX10_choice_1 := dk_seg dksX10_choice_0 22 rfl rfl
theorem dksX10_choice_2 : cX10_choice.data.toList.drop 46 = dktX10_choice_2 := dk_seg dksX10_choice_1 24 rfl rfl
theorem dksX10_choice_3 : cX10_choice.data.toList.drop 68 = dktX10_choice_3 := dk_seg dksX10_choice_2 22 rfl rfl
theorem dksX10_choice_4 : cX10_choice.data.toList.drop 92 = dktX10_choice_4 := dk_seg dksX10_choice_3 24 rfl rfl
theorem dksX10_choice_5 : cX10_choice.data.toList.drop 115 = dktX10_choice_5 := dk_seg dksX10_choice_4 23 rfl rfl
theorem dksX10_choice_6 : cX10_choice.data.toList.drop 137 = dktX10_choice_6 := dk_seg dksX10_choice_5 22 rfl rfl
theorem dksX10_choice_7 : cX10_choice.data.toList.drop 161 = dktX10_choice_7 := dk_seg dksX10_choice_6 24 rfl rfl
theorem dksX10_choice_8 : cX10_choice.data.toList.drop 184 = dktX10_choice_8 := dk_seg dksX10_choice_7 23 rfl rfl
theorem dksX10_choice_9 : cX10_choice.data.toList.drop 208 = dktX10_choice_9 := dk_seg dksX10_choice_8 24 rfl rfl
theorem dX10_choice_0 : decode cX10_choice 0 = .ok (.aload_n 0, 1) := dk_42 (dk_at dksX10_choice_0 0 rfl rfl)
theorem dX10_choice_1 : decode cX10_choice 1 = .ok (.iload_n 2, 1) := dk_28 (dk_at dksX10_choice_0 1 rfl rfl)
theorem dX10_choice_2 : decode cX10_choice 2 = .ok (.bipush 112, 2) := dk_16 112 (dk_at dksX10_choice_0 2 rfl rfl)
theorem dX10_choice_4 : decode cX10_choice 4 = .ok (.if_icmp .eq 9, 3) := dk_159 0 9 (dk_at dksX10_choice_0 4 rfl rfl)
theorem dX10_choice_7 : decode cX10_choice 7 = .ok (.iload_n 2, 1) := dk_28 (dk_at dksX10_choice_0 7 rfl rfl)
theorem dX10_choice_8 : decode cX10_choice 8 = .ok (.bipush 103, 2) := dk_16 103 (dk_at dksX10_choice_0 8 rfl rfl)
theorem dX10_choice_10 : decode cX10_choice 10 = .ok (.if_icmp .ne 30, 3) := dk_160 0 30 (dk_at dksX10_choice_0 10 rfl rfl)
theorem dX10_choice_13 : decode cX10_choice 13 = .ok (.aload_n 0, 1) := dk_42 (dk_at dksX10_choice_0 13 rfl rfl)
theorem dX10_choice_14 : decode cX10_choice 14 = .ok (.getfield 156, 3) := dk_180 0 156 (dk_at dksX10_choice_0 14 rfl rfl)
theorem dX10_choice_17 : decode cX10_choice 17 = .ok (.iconst 3, 1) := dk_6 (dk_at dksX10_choice_0 17 rfl rfl)
theorem dX10_choice_18 : decode cX10_choice 18 = .ok (.if_icmp .ge 22, 3) := dk_162 0 22 (dk_at dksX10_choice_0 18 rfl rfl)
theorem dX10_choice_21 : decode cX10_choice 21 = .ok (.aload_n 0, 1) := dk_42 (dk_at dksX10_choice_0 21 rfl rfl)
theorem dX10_choice_22 : decode cX10_choice 22 = .ok (.getfield 18, 3) := dk_180 0 18 (dk_at dksX10_choice_1 0 rfl rfl)
theorem dX10_choice_25 : decode cX10_choice 25 = .ok (.getfield 159, 3) := dk_180 0 159 (dk_at dksX10_choice_1 3 rfl rfl)
theorem dX10_choice_28 : decode cX10_choice 28 = .ok (.invokevirtual 162, 3) := dk_182 0 162 (dk_at dksX10_choice_1 6 rfl rfl)
theorem dX10_choice_31 : decode cX10_choice 31 = .ok (.bipush 8, 2) := dk_16 8 (dk_at dksX10_choice_1 9 rfl rfl)
theorem dX10_choice_33 : decode cX10_choice 33 = .ok (.if_icmp .ge 7, 3) := dk_162 0 7 (dk_at dksX10_choice_1 11 rfl rfl)
theorem dX10_choice_36 : decode cX10_choice 36 = .ok (.iconst 1, 1) := dk_4 (dk_at dksX10_choice_1 14 rfl rfl)
theorem dX10_choice_37 : decode cX10_choice 37 = .ok (.goto 4, 3) := dk_167 0 4 (dk_at dksX10_choice_1 15 rfl rfl)
theorem dX10_choice_40 : decode cX10_choice 40 = .ok (.iconst 0, 1) := dk_3 (dk_at dksX10_choice_1 18 rfl rfl)
theorem dX10_choice_41 : decode cX10_choice 41 = .ok (.invokevirtual 53, 3) := dk_182 0 53 (dk_at dksX10_choice_1 19 rfl rfl)
theorem dX10_choice_44 : decode cX10_choice 44 = .ok (.aload_n 0, 1) := dk_42 (dk_at dksX10_choice_1 22 rfl rfl)
theorem dX10_choice_45 : decode cX10_choice 45 = .ok (.dup, 1) := dk_89 (dk_at dksX10_choice_1 23 rfl rfl)
theorem dX10_choice_46 : decode cX10_choice 46 = .ok (.getfield 26, 3) := dk_180 0 26 (dk_at dksX10_choice_2 0 rfl rfl)
theorem dX10_choice_49 : decode cX10_choice 49 = .ok (.iconst 1, 1) := dk_4 (dk_at dksX10_choice_2 3 rfl rfl)
theorem dX10_choice_50 : decode cX10_choice 50 = .ok (.iadd, 1) := dk_96 (dk_at dksX10_choice_2 4 rfl rfl)
theorem dX10_choice_51 : decode cX10_choice 51 = .ok (.putfield 26, 3) := dk_181 0 26 (dk_at dksX10_choice_2 5 rfl rfl)
theorem dX10_choice_54 : decode cX10_choice 54 = .ok (.aload_n 0, 1) := dk_42 (dk_at dksX10_choice_2 8 rfl rfl)
theorem dX10_choice_55 : decode cX10_choice 55 = .ok (.iload_n 1, 1) := dk_27 (dk_at dksX10_choice_2 9 rfl rfl)
theorem dX10_choice_56 : decode cX10_choice 56 = .ok (.iload_n 2, 1) := dk_28 (dk_at dksX10_choice_2 10 rfl rfl)
theorem dX10_choice_57 : decode cX10_choice 57 = .ok (.bipush 112, 2) := dk_16 112 (dk_at dksX10_choice_2 11 rfl rfl)
theorem dX10_choice_59 : decode cX10_choice 59 = .ok (.if_icmp .ne 7, 3) := dk_160 0 7 (dk_at dksX10_choice_2 13 rfl rfl)
theorem dX10_choice_62 : decode cX10_choice 62 = .ok (.iconst 1, 1) := dk_4 (dk_at dksX10_choice_2 16 rfl rfl)
theorem dX10_choice_63 : decode cX10_choice 63 = .ok (.goto 4, 3) := dk_167 0 4 (dk_at dksX10_choice_2 17 rfl rfl)
theorem dX10_choice_66 : decode cX10_choice 66 = .ok (.iconst 2, 1) := dk_5 (dk_at dksX10_choice_2 20 rfl rfl)
theorem dX10_choice_67 : decode cX10_choice 67 = .ok (.iload_n 3, 1) := dk_29 (dk_at dksX10_choice_2 21 rfl rfl)
theorem dX10_choice_68 : decode cX10_choice 68 = .ok (.invokevirtual 121, 3) := dk_182 0 121 (dk_at dksX10_choice_3 0 rfl rfl)
theorem dX10_choice_71 : decode cX10_choice 71 = .ok (.iload_n 2, 1) := dk_28 (dk_at dksX10_choice_3 3 rfl rfl)
theorem dX10_choice_72 : decode cX10_choice 72 = .ok (.bipush 112, 2) := dk_16 112 (dk_at dksX10_choice_3 4 rfl rfl)
theorem dX10_choice_74 : decode cX10_choice 74 = .ok (.if_icmp .ne 18, 3) := dk_160 0 18 (dk_at dksX10_choice_3 6 rfl rfl)
theorem dX10_choice_77 : decode cX10_choice 77 = .ok (.new 165, 3) := dk_187 0 165 (dk_at dksX10_choice_3 9 rfl rfl)
theorem dX10_choice_80 : decode cX10_choice 80 = .ok (.dup, 1) := dk_89 (dk_at dksX10_choice_3 12 rfl rfl)
theorem dX10_choice_81 : decode cX10_choice 81 = .ok (.iload_n 1, 1) := dk_27 (dk_at dksX10_choice_3 13 rfl rfl)
theorem dX10_choice_82 : decode cX10_choice 82 = .ok (.aload_n 0, 1) := dk_42 (dk_at dksX10_choice_3 14 rfl rfl)
theorem dX10_choice_83 : decode cX10_choice 83 = .ok (.getfield 156, 3) := dk_180 0 156 (dk_at dksX10_choice_3 15 rfl rfl)
theorem dX10_choice_86 : decode cX10_choice 86 = .ok (.invokespecial 167, 3) := dk_183 0 167 (dk_at dksX10_choice_3 18 rfl rfl)
theorem dX10_choice_89 : decode cX10_choice 89 = .ok (.goto 15, 3) := dk_167 0 15 (dk_at dksX10_choice_3 21 rfl rfl)
theorem dX10_choice_92 : decode cX10_choice 92 = .ok (.new 170, 3) := dk_187 0 170 (dk_at dksX10_choice_4 0 rfl rfl)
theorem dX10_choice_95 : decode cX10_choice 95 = .ok (.dup, 1) := dk_89 (dk_at dksX10_choice_4 3 rfl rfl)
theorem dX10_choice_96 : decode cX10_choice 96 = .ok (.iload_n 1, 1) := dk_27 (dk_at dksX10_choice_4 4 rfl rfl)
theorem dX10_choice_97 : decode cX10_choice 97 = .ok (.aload_n 0, 1) := dk_42 (dk_at dksX10_choice_4 5 rfl rfl)
theorem dX10_choice_98 : decode cX10_choice 98 = .ok (.getfield 156, 3) := dk_180 0 156 (dk_at dksX10_choice_4 6 rfl rfl)
theorem dX10_choice_101 : decode cX10_choice 101 = .ok (.invokespecial 172, 3) := dk_183 0 172 (dk_at dksX10_choice_4 9 rfl rfl)
theorem dX10_choice_104 : decode cX10_choice 104 = .ok (.astore 4, 2) := dk_58 4 (dk_at dksX10_choice_4 12 rfl rfl)
theorem dX10_choice_106 : decode cX10_choice 106 = .ok (.aload_n 0, 1) := dk_42 (dk_at dksX10_choice_4 14 rfl rfl)
theorem dX10_choice_107 : decode cX10_choice 107 = .ok (.getfield 18, 3) := dk_180 0 18 (dk_at dksX10_choice_4 15 rfl rfl)
theorem dX10_choice_110 : decode cX10_choice 110 = .ok (.getfield 159, 3) := dk_180 0 159 (dk_at dksX10_choice_4 18 rfl rfl)
theorem dX10_choice_113 : decode cX10_choice 113 = .ok (.aload 4, 2) := dk_25 4 (dk_at dksX10_choice_4 21 rfl rfl)
theorem dX10_choice_115 : decode cX10_choice 115 = .ok (.invokevirtual 92, 3) := dk_182 0 92 (dk_at dksX10_choice_5 0 rfl rfl)
theorem dX10_choice_118 : decode cX10_choice 118 = .ok (.pop, 1) := dk_87 (dk_at dksX10_choice_5 3 rfl rfl)
theorem dX10_choice_119 : decode cX10_choice 119 = .ok (.aload_n 0, 1) := dk_42 (dk_at dksX10_choice_5 4 rfl rfl)
theorem dX10_choice_120 : decode cX10_choice 120 = .ok (.dup, 1) := dk_89 (dk_at dksX10_choice_5 5 rfl rfl)
theorem dX10_choice_121 : decode cX10_choice 121 = .ok (.getfield 156, 3) := dk_180 0 156 (dk_at dksX10_choice_5 6 rfl rfl)
theorem dX10_choice_124 : decode cX10_choice 124 = .ok (.iconst 1, 1) := dk_4 (dk_at dksX10_choice_5 9 rfl rfl)
theorem dX10_choice_125 : decode cX10_choice 125 = .ok (.iadd, 1) := dk_96 (dk_at dksX10_choice_5 10 rfl rfl)
theorem dX10_choice_126 : decode cX10_choice 126 = .ok (.putfield 156, 3) := dk_181 0 156 (dk_at dksX10_choice_5 11 rfl rfl)
theorem dX10_choice_129 : decode cX10_choice 129 = .ok (.aload_n 0, 1) := dk_42 (dk_at dksX10_choice_5 14 rfl rfl)
theorem dX10_choice_130 : decode cX10_choice 130 = .ok (.dup, 1) := dk_89 (dk_at dksX10_choice_5 15 rfl rfl)
theorem dX10_choice_131 : decode cX10_choice 131 = .ok (.getfield 78, 3) := dk_180 0 78 (dk_at dksX10_choice_5 16 rfl rfl)
theorem dX10_choice_134 : decode cX10_choice 134 = .ok (.iload_n 2, 1) := dk_28 (dk_at dksX10_choice_5 19 rfl rfl)
theorem dX10_choice_135 : decode cX10_choice 135 = .ok (.bipush 112, 2) := dk_16 112 (dk_at dksX10_choice_5 20 rfl rfl)
theorem dX10_choice_137 : decode cX10_choice 137 = .ok (.if_icmp .ne 7, 3) := dk_160 0 7 (dk_at dksX10_choice_6 0 rfl rfl)
theorem dX10_choice_140 : decode cX10_choice 140 = .ok (.iconst 1, 1) := dk_4 (dk_at dksX10_choice_6 3 rfl rfl)
theorem dX10_choice_141 : decode cX10_choice 141 = .ok (.goto 4, 3) := dk_167 0 4 (dk_at dksX10_choice_6 4 rfl rfl)
theorem dX10_choice_144 : decode cX10_choice 144 = .ok (.iconst 0, 1) := dk_3 (dk_at dksX10_choice_6 7 rfl rfl)
theorem dX10_choice_145 : decode cX10_choice 145 = .ok (.iadd, 1) := dk_96 (dk_at dksX10_choice_6 8 rfl rfl)
theorem dX10_choice_146 : decode cX10_choice 146 = .ok (.putfield 78, 3) := dk_181 0 78 (dk_at dksX10_choice_6 9 rfl rfl)
theorem dX10_choice_149 : decode cX10_choice 149 = .ok (.aload_n 0, 1) := dk_42 (dk_at dksX10_choice_6 12 rfl rfl)
theorem dX10_choice_150 : decode cX10_choice 150 = .ok (.aload 4, 2) := dk_25 4 (dk_at dksX10_choice_6 13 rfl rfl)
theorem dX10_choice_152 : decode cX10_choice 152 = .ok (.invokevirtual 173, 3) := dk_182 0 173 (dk_at dksX10_choice_6 15 rfl rfl)
theorem dX10_choice_155 : decode cX10_choice 155 = .ok (.aload_n 0, 1) := dk_42 (dk_at dksX10_choice_6 18 rfl rfl)
theorem dX10_choice_156 : decode cX10_choice 156 = .ok (.invokevirtual 45, 3) := dk_182 0 45 (dk_at dksX10_choice_6 19 rfl rfl)
theorem dX10_choice_159 : decode cX10_choice 159 = .ok (.bipush 125, 2) := dk_16 125 (dk_at dksX10_choice_6 22 rfl rfl)
theorem dX10_choice_161 : decode cX10_choice 161 = .ok (.if_icmp .ne (-12), 3) := dk_160 255 244 (dk_at dksX10_choice_7 0 rfl rfl)
theorem dX10_choice_164 : decode cX10_choice 164 = .ok (.aload 4, 2) := dk_25 4 (dk_at dksX10_choice_7 3 rfl rfl)
theorem dX10_choice_166 : decode cX10_choice 166 = .ok (.aload 4, 2) := dk_25 4 (dk_at dksX10_choice_7 5 rfl rfl)
theorem dX10_choice_168 : decode cX10_choice 168 = .ok (.invokevirtual 177, 3) := dk_182 0 177 (dk_at dksX10_choice_7 7 rfl rfl)
theorem dX10_choice_171 : decode cX10_choice 171 = .ok (.invokevirtual 182, 3) := dk_182 0 182 (dk_at dksX10_choice_7 10 rfl rfl)
theorem dX10_choice_174 : decode cX10_choice 174 = .ok (.bipush (-2), 2) := dk_16 254 (dk_at dksX10_choice_7 13 rfl rfl)
theorem dX10_choice_176 : decode cX10_choice 176 = .ok (.if_icmp .ne 11, 3) := dk_160 0 11 (dk_at dksX10_choice_7 15 rfl rfl)
theorem dX10_choice_179 : decode cX10_choice 179 = .ok (.aload_n 0, 1) := dk_42 (dk_at dksX10_choice_7 18 rfl rfl)
theorem dX10_choice_180 : decode cX10_choice 180 = .ok (.aload_n 0, 1) := dk_42 (dk_at dksX10_choice_7 19 rfl rfl)
theorem dX10_choice_181 : decode cX10_choice 181 = .ok (.getfield 26, 3) := dk_180 0 26 (dk_at dksX10_choice_7 20 rfl rfl)
theorem dX10_choice_184 : decode cX10_choice 184 = .ok (.invokevirtual 114, 3) := dk_182 0 114 (dk_at dksX10_choice_8 0 rfl rfl)
theorem dX10_choice_187 : decode cX10_choice 187 = .ok (.aload_n 0, 1) := dk_42 (dk_at dksX10_choice_8 3 rfl rfl)
theorem dX10_choice_188 : decode cX10_choice 188 = .ok (.dup, 1) := dk_89 (dk_at dksX10_choice_8 4 rfl rfl)
theorem dX10_choice_189 : decode cX10_choice 189 = .ok (.getfield 26, 3) := dk_180 0 26 (dk_at dksX10_choice_8 5 rfl rfl)
theorem dX10_choice_192 : decode cX10_choice 192 = .ok (.iconst 1, 1) := dk_4 (dk_at dksX10_choice_8 8 rfl rfl)
theorem dX10_choice_193 : decode cX10_choice 193 = .ok (.iadd, 1) := dk_96 (dk_at dksX10_choice_8 9 rfl rfl)
theorem dX10_choice_194 : decode cX10_choice 194 = .ok (.putfield 26, 3) := dk_181 0 26 (dk_at dksX10_choice_8 10 rfl rfl)
theorem dX10_choice_197 : decode cX10_choice 197 = .ok (.aload_n 0, 1) := dk_42 (dk_at dksX10_choice_8 13 rfl rfl)
theorem dX10_choice_198 : decode cX10_choice 198 = .ok (.dup, 1) := dk_89 (dk_at dksX10_choice_8 14 rfl rfl)
theorem dX10_choice_199 : decode cX10_choice 199 = .ok (.getfield 156, 3) := dk_180 0 156 (dk_at dksX10_choice_8 15 rfl rfl)
theorem dX10_choice_202 : decode cX10_choice 202 = .ok (.iconst 1, 1) := dk_4 (dk_at dksX10_choice_8 18 rfl rfl)
theorem dX10_choice_203 : decode cX10_choice 203 = .ok (.isub, 1) := dk_100 (dk_at dksX10_choice_8 19 rfl rfl)
theorem dX10_choice_204 : decode cX10_choice 204 = .ok (.putfield 156, 3) := dk_181 0 156 (dk_at dksX10_choice_8 20 rfl rfl)
theorem dX10_choice_207 : decode cX10_choice 207 = .ok (.aload_n 0, 1) := dk_42 (dk_at dksX10_choice_8 23 rfl rfl)
theorem dX10_choice_208 : decode cX10_choice 208 = .ok (.dup, 1) := dk_89 (dk_at dksX10_choice_9 0 rfl rfl)
theorem dX10_choice_209 : decode cX10_choice 209 = .ok (.getfield 78, 3) := dk_180 0 78 (dk_at dksX10_choice_9 1 rfl rfl)
theorem dX10_choice_212 : decode cX10_choice 212 = .ok (.iload_n 2, 1) := dk_28 (dk_at dksX10_choice_9 4 rfl rfl)
theorem dX10_choice_213 : decode cX10_choice 213 = .ok (.bipush 112, 2) := dk_16 112 (dk_at dksX10_choice_9 5 rfl rfl)
theorem dX10_choice_215 : decode cX10_choice 215 = .ok (.if_icmp .ne 7, 3) := dk_160 0 7 (dk_at dksX10_choice_9 7 rfl rfl)
theorem dX10_choice_218 : decode cX10_choice 218 = .ok (.iconst 1, 1) := dk_4 (dk_at dksX10_choice_9 10 rfl rfl)
theorem dX10_choice_219 : decode cX10_choice 219 = .ok (.goto 4, 3) := dk_167 0 4 (dk_at dksX10_choice_9 11 rfl rfl)
theorem dX10_choice_222 : decode cX10_choice 222 = .ok (.iconst 0, 1) := dk_3 (dk_at dksX10_choice_9 14 rfl rfl)
theorem dX10_choice_223 : decode cX10_choice 223 = .ok (.isub, 1) := dk_100 (dk_at dksX10_choice_9 15 rfl rfl)
theorem dX10_choice_224 : decode cX10_choice 224 = .ok (.putfield 78, 3) := dk_181 0 78 (dk_at dksX10_choice_9 16 rfl rfl)
theorem dX10_choice_227 : decode cX10_choice 227 = .ok (.aload 4, 2) := dk_25 4 (dk_at dksX10_choice_9 19 rfl rfl)
theorem dX10_choice_229 : decode cX10_choice 229 = .ok (.areturn, 1) := dk_176 (dk_at dksX10_choice_9 21 rfl rfl)
abbrev cX10_branch : ByteArray := prog_23_method_16_code
def yX10_branch : MethodName := ⟨RX10, "branch", "(LPluralBranches$Choice;)V"⟩
def dkwX10_branch_5 : List UInt8 := [182, 0, 128, 43, 180, 0, 186, 187, 0, 207, 89, 29, 25, 4, 183, 0, 209, 182, 0, 92, 87, 177]
abbrev dktX10_branch_5 : List UInt8 := dkwX10_branch_5 ++ []
def dkwX10_branch_4 : List UInt8 := [159, 0, 8, 42, 28, 182, 0, 114, 42, 16, 40, 182, 0, 128, 42, 182, 0, 203, 58, 4, 42, 16, 41]
abbrev dktX10_branch_4 : List UInt8 := dkwX10_branch_4 ++ dktX10_branch_5
def dkwX10_branch_3 : List UInt8 := [182, 0, 189, 4, 160, 0, 7, 4, 167, 0, 4, 3, 182, 0, 199, 62, 43, 29, 182, 0, 182, 16, 254]
abbrev dktX10_branch_3 : List UInt8 := dkwX10_branch_3 ++ dktX10_branch_4
def dkwX10_branch_2 : List UInt8 := [182, 0, 192, 96, 167, 0, 35, 42, 43, 182, 0, 189, 4, 160, 0, 8, 18, 195, 167, 0, 5, 18, 197, 43]
abbrev dktX10_branch_2 : List UInt8 := dkwX10_branch_2 ++ dktX10_branch_3
def dkwX10_branch_1 : List UInt8 := [182, 0, 53, 43, 182, 0, 189, 4, 160, 0, 22, 42, 16, 61, 182, 0, 49, 153, 0, 13, 16, 10, 42]
abbrev dktX10_branch_1 : List UInt8 := dkwX10_branch_1 ++ dktX10_branch_2
def dkwX10_branch_0 : List UInt8 := [42, 180, 0, 26, 61, 42, 43, 180, 0, 186, 182, 0, 162, 16, 10, 162, 0, 7, 4, 167, 0, 4, 3]
abbrev dktX10_branch_0 : List UInt8 := dkwX10_branch_0 ++ dktX10_branch_1
theorem dksX10_branch_0 : cX10_branch.data.toList.drop 0 = dktX10_branch_0 := by decide +kernel
theorem dksX10_branch_1 : cX10_branch.data.toList.drop 23 = dktX10_branch_1 := dk_seg dksX10_branch_0 23 rfl rfl
theorem dksX10_branch_2 : cX10_branch.data.toList.drop 46 = dktX10_branch_2 := dk_seg dksX10_branch_1 23 rfl rfl
theorem dksX10_branch_3 : cX10_branch.data.toList.drop 70 = dktX10_branch_3 := dk_seg dksX10_branch_2 24 rfl rfl
theorem dksX10_branch_4 : cX10_branch.data.toList.drop 93 = dktX10_branch_4 := dk_seg dksX10_branch_3 23 rfl rfl
theorem dksX10_branch_5 : cX10_branch.data.toList.drop 116 = dktX10_branch_5 := dk_seg dksX10_branch_4 23 rfl rfl
theorem dX10_branch_0 : decode cX10_branch 0 = .ok (.aload_n 0, 1) := dk_42 (dk_at dksX10_branch_0 0 rfl rfl)
theorem dX10_branch_1 : decode cX10_branch 1 = .ok (.getfield 26, 3) := dk_180 0 26 (dk_at dksX10_branch_0 1 rfl rfl)
theorem dX10_branch_4 : decode cX10_branch 4 = .ok (.istore_n 2, 1) := dk_61 (dk_at dksX10_branch_0 4 rfl rfl)
theorem dX10_branch_5 : decode cX10_branch 5 = .ok (.aload_n 0, 1) := dk_42 (dk_at dksX10_branch_0 5 rfl rfl)
theorem dX10_branch_6 : decode cX10_branch 6 = .ok (.aload_n 1, 1) := dk_43 (dk_at dksX10_branch_0 6 rfl rfl)
theorem dX10_branch_7 : decode cX10_branch 7 = .ok (.getfield 186, 3) := dk_180 0 186 (dk_at dksX10_branch_0 7 rfl rfl)
theorem dX10_branch_10 : decode cX10_branch 10 = .ok (.invokevirtual 162, 3) := dk_182 0 162 (dk_at dksX10_branch_0 10 rfl rfl)
theorem dX10_branch_13 : decode cX10_branch 13 = .ok (.bipush 10, 2) := dk_16 10 (dk_at dksX10_branch_0 13 rfl rfl)
theorem dX10_branch_15 : decode cX10_branch 15 = .ok (.if_icmp .ge 7, 3) := dk_162 0 7 (dk_at dksX10_branch_0 15 rfl rfl)
theorem dX10_branch_18 : decode cX10_branch 18 = .ok (.iconst 1, 1) := dk_4 (dk_at dksX10_branch_0 18 rfl rfl)
theorem dX10_branch_19 : decode cX10_branch 19 = .ok (.goto 4, 3) := dk_167 0 4 (dk_at dksX10_branch_0 19 rfl rfl)
theorem dX10_branch_22 : decode cX10_branch 22 = .ok (.iconst 0, 1) := dk_3 (dk_at dksX10_branch_0 22 rfl rfl)
theorem dX10_branch_23 : decode cX10_branch 23 = .ok (.invokevirtual 53, 3) := dk_182 0 53 (dk_at dksX10_branch_1 0 rfl rfl)
theorem dX10_branch_26 : decode cX10_branch 26 = .ok (.aload_n 1, 1) := dk_43 (dk_at dksX10_branch_1 3 rfl rfl)
theorem dX10_branch_27 : decode cX10_branch 27 = .ok (.invokevirtual 189, 3) := dk_182 0 189 (dk_at dksX10_branch_1 4 rfl rfl)
theorem dX10_branch_30 : decode cX10_branch 30 = .ok (.iconst 1, 1) := dk_4 (dk_at dksX10_branch_1 7 rfl rfl)
theorem dX10_branch_31 : decode cX10_branch 31 = .ok (.if_icmp .ne 22, 3) := dk_160 0 22 (dk_at dksX10_branch_1 8 rfl rfl)
theorem dX10_branch_34 : decode cX10_branch 34 = .ok (.aload_n 0, 1) := dk_42 (dk_at dksX10_branch_1 11 rfl rfl)
theorem dX10_branch_35 : decode cX10_branch 35 = .ok (.bipush 61, 2) := dk_16 61 (dk_at dksX10_branch_1 12 rfl rfl)
theorem dX10_branch_37 : decode cX10_branch 37 = .ok (.invokevirtual 49, 3) := dk_182 0 49 (dk_at dksX10_branch_1 14 rfl rfl)
theorem dX10_branch_40 : decode cX10_branch 40 = .ok (.ifCond .eq 13, 3) := dk_153 0 13 (dk_at dksX10_branch_1 17 rfl rfl)
theorem dX10_branch_43 : decode cX10_branch 43 = .ok (.bipush 10, 2) := dk_16 10 (dk_at dksX10_branch_1 20 rfl rfl)
theorem dX10_branch_45 : decode cX10_branch 45 = .ok (.aload_n 0, 1) := dk_42 (dk_at dksX10_branch_1 22 rfl rfl)
theorem dX10_branch_46 : decode cX10_branch 46 = .ok (.invokevirtual 192, 3) := dk_182 0 192 (dk_at dksX10_branch_2 0 rfl rfl)
theorem dX10_branch_49 : decode cX10_branch 49 = .ok (.iadd, 1) := dk_96 (dk_at dksX10_branch_2 3 rfl rfl)
theorem dX10_branch_50 : decode cX10_branch 50 = .ok (.goto 35, 3) := dk_167 0 35 (dk_at dksX10_branch_2 4 rfl rfl)
theorem dX10_branch_53 : decode cX10_branch 53 = .ok (.aload_n 0, 1) := dk_42 (dk_at dksX10_branch_2 7 rfl rfl)
theorem dX10_branch_54 : decode cX10_branch 54 = .ok (.aload_n 1, 1) := dk_43 (dk_at dksX10_branch_2 8 rfl rfl)
theorem dX10_branch_55 : decode cX10_branch 55 = .ok (.invokevirtual 189, 3) := dk_182 0 189 (dk_at dksX10_branch_2 9 rfl rfl)
theorem dX10_branch_58 : decode cX10_branch 58 = .ok (.iconst 1, 1) := dk_4 (dk_at dksX10_branch_2 12 rfl rfl)
theorem dX10_branch_59 : decode cX10_branch 59 = .ok (.if_icmp .ne 8, 3) := dk_160 0 8 (dk_at dksX10_branch_2 13 rfl rfl)
theorem dX10_branch_62 : decode cX10_branch 62 = .ok (.ldc 195, 2) := dk_18 195 (dk_at dksX10_branch_2 16 rfl rfl)
theorem dX10_branch_64 : decode cX10_branch 64 = .ok (.goto 5, 3) := dk_167 0 5 (dk_at dksX10_branch_2 18 rfl rfl)
theorem dX10_branch_67 : decode cX10_branch 67 = .ok (.ldc 197, 2) := dk_18 197 (dk_at dksX10_branch_2 21 rfl rfl)
theorem dX10_branch_69 : decode cX10_branch 69 = .ok (.aload_n 1, 1) := dk_43 (dk_at dksX10_branch_2 23 rfl rfl)
theorem dX10_branch_70 : decode cX10_branch 70 = .ok (.invokevirtual 189, 3) := dk_182 0 189 (dk_at dksX10_branch_3 0 rfl rfl)
theorem dX10_branch_73 : decode cX10_branch 73 = .ok (.iconst 1, 1) := dk_4 (dk_at dksX10_branch_3 3 rfl rfl)
theorem dX10_branch_74 : decode cX10_branch 74 = .ok (.if_icmp .ne 7, 3) := dk_160 0 7 (dk_at dksX10_branch_3 4 rfl rfl)
theorem dX10_branch_77 : decode cX10_branch 77 = .ok (.iconst 1, 1) := dk_4 (dk_at dksX10_branch_3 7 rfl rfl)
theorem dX10_branch_78 : decode cX10_branch 78 = .ok (.goto 4, 3) := dk_167 0 4 (dk_at dksX10_branch_3 8 rfl rfl)
theorem dX10_branch_81 : decode cX10_branch 81 = .ok (.iconst 0, 1) := dk_3 (dk_at dksX10_branch_3 11 rfl rfl)
theorem dX10_branch_82 : decode cX10_branch 82 = .ok (.invokevirtual 199, 3) := dk_182 0 199 (dk_at dksX10_branch_3 12 rfl rfl)
theorem dX10_branch_85 : decode cX10_branch 85 = .ok (.istore_n 3, 1) := dk_62 (dk_at dksX10_branch_3 15 rfl rfl)
theorem dX10_branch_86 : decode cX10_branch 86 = .ok (.aload_n 1, 1) := dk_43 (dk_at dksX10_branch_3 16 rfl rfl)
theorem dX10_branch_87 : decode cX10_branch 87 = .ok (.iload_n 3, 1) := dk_29 (dk_at dksX10_branch_3 17 rfl rfl)
theorem dX10_branch_88 : decode cX10_branch 88 = .ok (.invokevirtual 182, 3) := dk_182 0 182 (dk_at dksX10_branch_3 18 rfl rfl)
theorem dX10_branch_91 : decode cX10_branch 91 = .ok (.bipush (-2), 2) := dk_16 254 (dk_at dksX10_branch_3 21 rfl rfl)
theorem dX10_branch_93 : decode cX10_branch 93 = .ok (.if_icmp .eq 8, 3) := dk_159 0 8 (dk_at dksX10_branch_4 0 rfl rfl)
theorem dX10_branch_96 : decode cX10_branch 96 = .ok (.aload_n 0, 1) := dk_42 (dk_at dksX10_branch_4 3 rfl rfl)
theorem dX10_branch_97 : decode cX10_branch 97 = .ok (.iload_n 2, 1) := dk_28 (dk_at dksX10_branch_4 4 rfl rfl)
theorem dX10_branch_98 : decode cX10_branch 98 = .ok (.invokevirtual 114, 3) := dk_182 0 114 (dk_at dksX10_branch_4 5 rfl rfl)
theorem dX10_branch_101 : decode cX10_branch 101 = .ok (.aload_n 0, 1) := dk_42 (dk_at dksX10_branch_4 8 rfl rfl)
theorem dX10_branch_102 : decode cX10_branch 102 = .ok (.bipush 40, 2) := dk_16 40 (dk_at dksX10_branch_4 9 rfl rfl)
theorem dX10_branch_104 : decode cX10_branch 104 = .ok (.invokevirtual 128, 3) := dk_182 0 128 (dk_at dksX10_branch_4 11 rfl rfl)
theorem dX10_branch_107 : decode cX10_branch 107 = .ok (.aload_n 0, 1) := dk_42 (dk_at dksX10_branch_4 14 rfl rfl)
theorem dX10_branch_108 : decode cX10_branch 108 = .ok (.invokevirtual 203, 3) := dk_182 0 203 (dk_at dksX10_branch_4 15 rfl rfl)
theorem dX10_branch_111 : decode cX10_branch 111 = .ok (.astore 4, 2) := dk_58 4 (dk_at dksX10_branch_4 18 rfl rfl)
theorem dX10_branch_113 : decode cX10_branch 113 = .ok (.aload_n 0, 1) := dk_42 (dk_at dksX10_branch_4 20 rfl rfl)
theorem dX10_branch_114 : decode cX10_branch 114 = .ok (.bipush 41, 2) := dk_16 41 (dk_at dksX10_branch_4 21 rfl rfl)
theorem dX10_branch_116 : decode cX10_branch 116 = .ok (.invokevirtual 128, 3) := dk_182 0 128 (dk_at dksX10_branch_5 0 rfl rfl)
theorem dX10_branch_119 : decode cX10_branch 119 = .ok (.aload_n 1, 1) := dk_43 (dk_at dksX10_branch_5 3 rfl rfl)
theorem dX10_branch_120 : decode cX10_branch 120 = .ok (.getfield 186, 3) := dk_180 0 186 (dk_at dksX10_branch_5 4 rfl rfl)
theorem dX10_branch_123 : decode cX10_branch 123 = .ok (.new 207, 3) := dk_187 0 207 (dk_at dksX10_branch_5 7 rfl rfl)
theorem dX10_branch_126 : decode cX10_branch 126 = .ok (.dup, 1) := dk_89 (dk_at dksX10_branch_5 10 rfl rfl)
theorem dX10_branch_127 : decode cX10_branch 127 = .ok (.iload_n 3, 1) := dk_29 (dk_at dksX10_branch_5 11 rfl rfl)
theorem dX10_branch_128 : decode cX10_branch 128 = .ok (.aload 4, 2) := dk_25 4 (dk_at dksX10_branch_5 12 rfl rfl)
theorem dX10_branch_130 : decode cX10_branch 130 = .ok (.invokespecial 209, 3) := dk_183 0 209 (dk_at dksX10_branch_5 14 rfl rfl)
theorem dX10_branch_133 : decode cX10_branch 133 = .ok (.invokevirtual 92, 3) := dk_182 0 92 (dk_at dksX10_branch_5 17 rfl rfl)
theorem dX10_branch_136 : decode cX10_branch 136 = .ok (.pop, 1) := dk_87 (dk_at dksX10_branch_5 20 rfl rfl)
theorem dX10_branch_137 : decode cX10_branch 137 = .ok (.return_, 1) := dk_177 (dk_at dksX10_branch_5 21 rfl rfl)
abbrev cX10_number : ByteArray := prog_23_method_18_code
def yX10_number : MethodName := ⟨RX10, "number", "()I"⟩
def dkwX10_number_3 : List UInt8 := [167, 255, 208, 27, 172]
abbrev dktX10_number_3 : List UInt8 := dkwX10_number_3 ++ []
def dkwX10_number_2 : List UInt8 := [42, 182, 0, 45, 96, 16, 48, 100, 60, 42, 89, 180, 0, 26, 4, 96, 181, 0, 26, 132, 2, 1]
abbrev dktX10_number_2 : List UInt8 := dkwX10_number_2 ++ dktX10_number_3
def dkwX10_number_1 : List UInt8 := [162, 0, 49, 42, 182, 0, 45, 133, 20, 0, 217, 20, 0, 219, 184, 0, 67, 153, 0, 32, 16, 10, 27, 104]
abbrev dktX10_number_1 : List UInt8 := dkwX10_number_1 ++ dktX10_number_2
def dkwX10_number_0 : List UInt8 := [42, 42, 182, 0, 45, 133, 20, 0, 217, 20, 0, 219, 184, 0, 67, 182, 0, 53, 3, 60, 3, 61, 28, 6]
abbrev dktX10_number_0 : List UInt8 := dkwX10_number_0 ++ dktX10_number_1
theorem dksX10_number_0 : cX10_number.data.toList.drop 0 = dktX10_number_0 := by decide +kernel
theorem dksX10_number_1 : cX10_number.data.toList.drop 24 = dktX10_number_1 := dk_seg dksX10_number_0 24 rfl rfl
theorem dksX10_number_2 : cX10_number.data.toList.drop 48 = dktX10_number_2 := dk_seg dksX10_number_1 24 rfl rfl
theorem dksX10_number_3 : cX10_number.data.toList.drop 70 = dktX10_number_3 := dk_seg dksX10_number_2 22 rfl rfl
theorem dX10_number_0 : decode cX10_number 0 = .ok (.aload_n 0, 1) := dk_42 (dk_at dksX10_number_0 0 rfl rfl)
theorem dX10_number_1 : decode cX10_number 1 = .ok (.aload_n 0, 1) := dk_42 (dk_at dksX10_number_0 1 rfl rfl)
theorem dX10_number_2 : decode cX10_number 2 = .ok (.invokevirtual 45, 3) := dk_182 0 45 (dk_at dksX10_number_0 2 rfl rfl)
theorem dX10_number_5 : decode cX10_number 5 = .ok (.i2l, 1) := dk_133 (dk_at dksX10_number_0 5 rfl rfl)
theorem dX10_number_6 : decode cX10_number 6 = .ok (.ldc2_w 217, 3) := dk_20 0 217 (dk_at dksX10_number_0 6 rfl rfl)
theorem dX10_number_9 : decode cX10_number 9 = .ok (.ldc2_w 219, 3) := dk_20 0 219 (dk_at dksX10_number_0 9 rfl rfl)
theorem dX10_number_12 : decode cX10_number 12 = .ok (.invokestatic 67, 3) := dk_184 0 67 (dk_at dksX10_number_0 12 rfl rfl)
theorem dX10_number_15 : decode cX10_number 15 = .ok (.invokevirtual 53, 3) := dk_182 0 53 (dk_at dksX10_number_0 15 rfl rfl)
theorem dX10_number_18 : decode cX10_number 18 = .ok (.iconst 0, 1) := dk_3 (dk_at dksX10_number_0 18 rfl rfl)
theorem dX10_number_19 : decode cX10_number 19 = .ok (.istore_n 1, 1) := dk_60 (dk_at dksX10_number_0 19 rfl rfl)
theorem dX10_number_20 : decode cX10_number 20 = .ok (.iconst 0, 1) := dk_3 (dk_at dksX10_number_0 20 rfl rfl)
theorem dX10_number_21 : decode cX10_number 21 = .ok (.istore_n 2, 1) := dk_61 (dk_at dksX10_number_0 21 rfl rfl)
theorem dX10_number_22 : decode cX10_number 22 = .ok (.iload_n 2, 1) := dk_28 (dk_at dksX10_number_0 22 rfl rfl)
theorem dX10_number_23 : decode cX10_number 23 = .ok (.iconst 3, 1) := dk_6 (dk_at dksX10_number_0 23 rfl rfl)
theorem dX10_number_24 : decode cX10_number 24 = .ok (.if_icmp .ge 49, 3) := dk_162 0 49 (dk_at dksX10_number_1 0 rfl rfl)
theorem dX10_number_27 : decode cX10_number 27 = .ok (.aload_n 0, 1) := dk_42 (dk_at dksX10_number_1 3 rfl rfl)
theorem dX10_number_28 : decode cX10_number 28 = .ok (.invokevirtual 45, 3) := dk_182 0 45 (dk_at dksX10_number_1 4 rfl rfl)
theorem dX10_number_31 : decode cX10_number 31 = .ok (.i2l, 1) := dk_133 (dk_at dksX10_number_1 7 rfl rfl)
theorem dX10_number_32 : decode cX10_number 32 = .ok (.ldc2_w 217, 3) := dk_20 0 217 (dk_at dksX10_number_1 8 rfl rfl)
theorem dX10_number_35 : decode cX10_number 35 = .ok (.ldc2_w 219, 3) := dk_20 0 219 (dk_at dksX10_number_1 11 rfl rfl)
theorem dX10_number_38 : decode cX10_number 38 = .ok (.invokestatic 67, 3) := dk_184 0 67 (dk_at dksX10_number_1 14 rfl rfl)
theorem dX10_number_41 : decode cX10_number 41 = .ok (.ifCond .eq 32, 3) := dk_153 0 32 (dk_at dksX10_number_1 17 rfl rfl)
theorem dX10_number_44 : decode cX10_number 44 = .ok (.bipush 10, 2) := dk_16 10 (dk_at dksX10_number_1 20 rfl rfl)
theorem dX10_number_46 : decode cX10_number 46 = .ok (.iload_n 1, 1) := dk_27 (dk_at dksX10_number_1 22 rfl rfl)
theorem dX10_number_47 : decode cX10_number 47 = .ok (.imul, 1) := dk_104 (dk_at dksX10_number_1 23 rfl rfl)
theorem dX10_number_48 : decode cX10_number 48 = .ok (.aload_n 0, 1) := dk_42 (dk_at dksX10_number_2 0 rfl rfl)
theorem dX10_number_49 : decode cX10_number 49 = .ok (.invokevirtual 45, 3) := dk_182 0 45 (dk_at dksX10_number_2 1 rfl rfl)
theorem dX10_number_52 : decode cX10_number 52 = .ok (.iadd, 1) := dk_96 (dk_at dksX10_number_2 4 rfl rfl)
theorem dX10_number_53 : decode cX10_number 53 = .ok (.bipush 48, 2) := dk_16 48 (dk_at dksX10_number_2 5 rfl rfl)
theorem dX10_number_55 : decode cX10_number 55 = .ok (.isub, 1) := dk_100 (dk_at dksX10_number_2 7 rfl rfl)
theorem dX10_number_56 : decode cX10_number 56 = .ok (.istore_n 1, 1) := dk_60 (dk_at dksX10_number_2 8 rfl rfl)
theorem dX10_number_57 : decode cX10_number 57 = .ok (.aload_n 0, 1) := dk_42 (dk_at dksX10_number_2 9 rfl rfl)
theorem dX10_number_58 : decode cX10_number 58 = .ok (.dup, 1) := dk_89 (dk_at dksX10_number_2 10 rfl rfl)
theorem dX10_number_59 : decode cX10_number 59 = .ok (.getfield 26, 3) := dk_180 0 26 (dk_at dksX10_number_2 11 rfl rfl)
theorem dX10_number_62 : decode cX10_number 62 = .ok (.iconst 1, 1) := dk_4 (dk_at dksX10_number_2 14 rfl rfl)
theorem dX10_number_63 : decode cX10_number 63 = .ok (.iadd, 1) := dk_96 (dk_at dksX10_number_2 15 rfl rfl)
theorem dX10_number_64 : decode cX10_number 64 = .ok (.putfield 26, 3) := dk_181 0 26 (dk_at dksX10_number_2 16 rfl rfl)
theorem dX10_number_67 : decode cX10_number 67 = .ok (.iinc 2 1, 3) := dk_132 2 1 (dk_at dksX10_number_2 19 rfl rfl)
theorem dX10_number_70 : decode cX10_number 70 = .ok (.goto (-48), 3) := dk_167 255 208 (dk_at dksX10_number_3 0 rfl rfl)
theorem dX10_number_73 : decode cX10_number 73 = .ok (.iload_n 1, 1) := dk_27 (dk_at dksX10_number_3 3 rfl rfl)
theorem dX10_number_74 : decode cX10_number 74 = .ok (.ireturn, 1) := dk_172 (dk_at dksX10_number_3 4 rfl rfl)
abbrev cX10_letter : ByteArray := prog_23_method_17_code
def yX10_letter : MethodName := ⟨RX10, "letter", "(Ljava/lang/String;Z)I"⟩
def dkwX10_letter_1 : List UInt8 := [155, 0, 7, 4, 167, 0, 4, 3, 182, 0, 53, 42, 89, 180, 0, 26, 4, 96, 181, 0, 26, 29, 172]
abbrev dktX10_letter_1 : List UInt8 := dkwX10_letter_1 ++ []
def dkwX10_letter_0 : List UInt8 := [42, 182, 0, 45, 156, 0, 7, 2, 167, 0, 12, 43, 42, 182, 0, 45, 146, 182, 0, 212, 62, 42, 29]
abbrev dktX10_letter_0 : List UInt8 := dkwX10_letter_0 ++ dktX10_letter_1
theorem dksX10_letter_0 : cX10_letter.data.toList.drop 0 = dktX10_letter_0 := by decide +kernel
theorem dksX10_letter_1 : cX10_letter.data.toList.drop 23 = dktX10_letter_1 := dk_seg dksX10_letter_0 23 rfl rfl
theorem dX10_letter_0 : decode cX10_letter 0 = .ok (.aload_n 0, 1) := dk_42 (dk_at dksX10_letter_0 0 rfl rfl)
theorem dX10_letter_1 : decode cX10_letter 1 = .ok (.invokevirtual 45, 3) := dk_182 0 45 (dk_at dksX10_letter_0 1 rfl rfl)
theorem dX10_letter_4 : decode cX10_letter 4 = .ok (.ifCond .ge 7, 3) := dk_156 0 7 (dk_at dksX10_letter_0 4 rfl rfl)
theorem dX10_letter_7 : decode cX10_letter 7 = .ok (.iconst (-1), 1) := dk_2 (dk_at dksX10_letter_0 7 rfl rfl)
theorem dX10_letter_8 : decode cX10_letter 8 = .ok (.goto 12, 3) := dk_167 0 12 (dk_at dksX10_letter_0 8 rfl rfl)
theorem dX10_letter_11 : decode cX10_letter 11 = .ok (.aload_n 1, 1) := dk_43 (dk_at dksX10_letter_0 11 rfl rfl)
theorem dX10_letter_12 : decode cX10_letter 12 = .ok (.aload_n 0, 1) := dk_42 (dk_at dksX10_letter_0 12 rfl rfl)
theorem dX10_letter_13 : decode cX10_letter 13 = .ok (.invokevirtual 45, 3) := dk_182 0 45 (dk_at dksX10_letter_0 13 rfl rfl)
theorem dX10_letter_16 : decode cX10_letter 16 = .ok (.i2c, 1) := dk_146 (dk_at dksX10_letter_0 16 rfl rfl)
theorem dX10_letter_17 : decode cX10_letter 17 = .ok (.invokevirtual 212, 3) := dk_182 0 212 (dk_at dksX10_letter_0 17 rfl rfl)
theorem dX10_letter_20 : decode cX10_letter 20 = .ok (.istore_n 3, 1) := dk_62 (dk_at dksX10_letter_0 20 rfl rfl)
theorem dX10_letter_21 : decode cX10_letter 21 = .ok (.aload_n 0, 1) := dk_42 (dk_at dksX10_letter_0 21 rfl rfl)
theorem dX10_letter_22 : decode cX10_letter 22 = .ok (.iload_n 3, 1) := dk_29 (dk_at dksX10_letter_0 22 rfl rfl)
theorem dX10_letter_23 : decode cX10_letter 23 = .ok (.ifCond .lt 7, 3) := dk_155 0 7 (dk_at dksX10_letter_1 0 rfl rfl)
theorem dX10_letter_26 : decode cX10_letter 26 = .ok (.iconst 1, 1) := dk_4 (dk_at dksX10_letter_1 3 rfl rfl)
theorem dX10_letter_27 : decode cX10_letter 27 = .ok (.goto 4, 3) := dk_167 0 4 (dk_at dksX10_letter_1 4 rfl rfl)
theorem dX10_letter_30 : decode cX10_letter 30 = .ok (.iconst 0, 1) := dk_3 (dk_at dksX10_letter_1 7 rfl rfl)
theorem dX10_letter_31 : decode cX10_letter 31 = .ok (.invokevirtual 53, 3) := dk_182 0 53 (dk_at dksX10_letter_1 8 rfl rfl)
theorem dX10_letter_34 : decode cX10_letter 34 = .ok (.aload_n 0, 1) := dk_42 (dk_at dksX10_letter_1 11 rfl rfl)
theorem dX10_letter_35 : decode cX10_letter 35 = .ok (.dup, 1) := dk_89 (dk_at dksX10_letter_1 12 rfl rfl)
theorem dX10_letter_36 : decode cX10_letter 36 = .ok (.getfield 26, 3) := dk_180 0 26 (dk_at dksX10_letter_1 13 rfl rfl)
theorem dX10_letter_39 : decode cX10_letter 39 = .ok (.iconst 1, 1) := dk_4 (dk_at dksX10_letter_1 16 rfl rfl)
theorem dX10_letter_40 : decode cX10_letter 40 = .ok (.iadd, 1) := dk_96 (dk_at dksX10_letter_1 17 rfl rfl)
theorem dX10_letter_41 : decode cX10_letter 41 = .ok (.putfield 26, 3) := dk_181 0 26 (dk_at dksX10_letter_1 18 rfl rfl)
theorem dX10_letter_44 : decode cX10_letter 44 = .ok (.iload_n 3, 1) := dk_29 (dk_at dksX10_letter_1 21 rfl rfl)
theorem dX10_letter_45 : decode cX10_letter 45 = .ok (.ireturn, 1) := dk_172 (dk_at dksX10_letter_1 22 rfl rfl)
theorem q86 : (Jvm.Cond.initialized "PluralBranches$Reader") ∈ lw_all := lw_g (lw_at lw_m1 20 rfl) rfl
theorem q263 : (Jvm.Cond.selects "PluralBranches$Reader" ({ cls := "java/lang/Object", name := "getClass", desc := "()Ljava/lang/Class;" } : Jvm.MethodName) ({ cls := "java/lang/Object", name := "getClass", desc := "()Ljava/lang/Class;" } : Jvm.MethodName)) ∈ lw_all := lw_g (lw_at lw_m1 197 rfl) rfl
theorem q403 : (Jvm.Cond.fieldLinkNest "PluralBranches$Reader" (32 : Nat) "PluralBranches" "tape" "[B" "PluralBranches") ∈ lw_tbl := lw_at lw_m2 97 rfl
theorem q404 : (Jvm.Cond.fieldLinkNest "PluralBranches$Reader" (29 : Nat) "PluralBranches" "taped" "I" "PluralBranches") ∈ lw_tbl := lw_at lw_m2 98 rfl
theorem q533 : (Jvm.Cond.instantiable "PluralBranches$Reader" (6 : Nat)) ∈ lw_all := lw_g (lw_at lw_m2 227 rfl) rfl
theorem q535 : (Jvm.Cond.instanceMethod ({ cls := "PluralBranches$Reader", name := "<init>", desc := "(LPluralBranches;)V" } : Jvm.MethodName)) ∈ lw_all := lw_g (lw_at lw_m2 229 rfl) rfl
theorem q536 : (Jvm.Cond.code ({ cls := "PluralBranches$Reader", name := "<init>", desc := "(LPluralBranches;)V" } : Jvm.MethodName) prog_23_method_1_code (2 : Nat) (Option.none : Option Jvm.ClassFile.FieldType)) ∈ lw_all := lw_g (lw_at lw_m2 230 rfl) rfl
theorem q537 : (Jvm.Cond.methodLink "PluralBranches$Reader" (9 : Nat) ({ cls := "java/lang/Object", name := "<init>", desc := "()V" } : Jvm.MethodName)) ∈ lw_all := lw_g (lw_at lw_m2 231 rfl) rfl
theorem q538 : (Jvm.Cond.classLink "PluralBranches$Reader" (15 : Nat) "PluralBranches$Message") ∈ lw_all := lw_g (lw_at lw_m2 232 rfl) rfl
theorem q540 : (Jvm.Cond.methodLinkNest "PluralBranches$Reader" (17 : Nat) ({ cls := "PluralBranches$Message", name := "<init>", desc := "()V" } : Jvm.MethodName) "PluralBranches") ∈ lw_tbl := lw_at lw_m2 234 rfl
theorem q546 : (Jvm.Cond.fieldLinkNest "PluralBranches$Reader" (221 : Nat) "PluralBranches$Message" "parts" "LPluralBranches$Parts;" "PluralBranches") ∈ lw_tbl := lw_at lw_m3 0 rfl
theorem q548 : (Jvm.Cond.fieldLinkNest "PluralBranches$Reader" (81 : Nat) "PluralBranches$Message" "many" "I" "PluralBranches") ∈ lw_tbl := lw_at lw_m3 2 rfl
theorem q551 : (Jvm.Cond.fieldLinkNest "PluralBranches$Reader" (159 : Nat) "PluralBranches$Message" "choices" "Ljava/util/ArrayList;" "PluralBranches") ∈ lw_tbl := lw_at lw_m3 5 rfl
theorem q554 : (Jvm.Cond.fieldLinkNest "PluralBranches$Reader" (110 : Nat) "PluralBranches$Message" "types" "[I" "PluralBranches") ∈ lw_tbl := lw_at lw_m3 8 rfl
theorem q556 : (Jvm.Cond.fieldLinkNest "PluralBranches$Reader" (107 : Nat) "PluralBranches$Message" "met" "I" "PluralBranches") ∈ lw_tbl := lw_at lw_m3 10 rfl
theorem q569 : (Jvm.Cond.fieldLink "PluralBranches$Reader" (18 : Nat) "PluralBranches$Reader" "message" "LPluralBranches$Message;") ∈ lw_all := lw_g (lw_at lw_m3 23 rfl) rfl
theorem q570 : (Jvm.Cond.fieldLink "PluralBranches$Reader" (26 : Nat) "PluralBranches$Reader" "at" "I") ∈ lw_all := lw_g (lw_at lw_m3 24 rfl) rfl
theorem q571 : (Jvm.Cond.fieldLink "PluralBranches$Reader" (156 : Nat) "PluralBranches$Reader" "open" "I") ∈ lw_all := lw_g (lw_at lw_m3 25 rfl) rfl
theorem q572 : (Jvm.Cond.fieldLink "PluralBranches$Reader" (78 : Nat) "PluralBranches$Reader" "plurals" "I") ∈ lw_all := lw_g (lw_at lw_m3 26 rfl) rfl
theorem q573 : (Jvm.Cond.fieldLink "PluralBranches$Reader" (22 : Nat) "PluralBranches$Reader" "wrong" "I") ∈ lw_all := lw_g (lw_at lw_m3 27 rfl) rfl
theorem q574 : (Jvm.Cond.fieldLink "PluralBranches$Reader" (3 : Nat) "PluralBranches$Reader" "this$0" "LPluralBranches;") ∈ lw_all := lw_g (lw_at lw_m3 28 rfl) rfl
theorem q575 : (Jvm.Cond.laysFinal "PluralBranches$Reader" "PluralBranches$Reader" "message" "LPluralBranches$Message;") ∈ lw_all := lw_g (lw_at lw_m3 29 rfl) rfl
theorem q576 : (Jvm.Cond.soleField "PluralBranches$Reader" "message") ∈ lw_all := lw_g (lw_at lw_m3 30 rfl) rfl
theorem q577 : (Jvm.Cond.lays "PluralBranches$Reader" "PluralBranches$Reader" "at" "I") ∈ lw_all := lw_g (lw_at lw_m3 31 rfl) rfl
theorem q578 : (Jvm.Cond.soleField "PluralBranches$Reader" "at") ∈ lw_all := lw_g (lw_at lw_m3 32 rfl) rfl
theorem q579 : (Jvm.Cond.lays "PluralBranches$Reader" "PluralBranches$Reader" "open" "I") ∈ lw_all := lw_g (lw_at lw_m3 33 rfl) rfl
theorem q580 : (Jvm.Cond.soleField "PluralBranches$Reader" "open") ∈ lw_all := lw_g (lw_at lw_m3 34 rfl) rfl
theorem q581 : (Jvm.Cond.lays "PluralBranches$Reader" "PluralBranches$Reader" "plurals" "I") ∈ lw_all := lw_g (lw_at lw_m3 35 rfl) rfl
theorem q582 : (Jvm.Cond.soleField "PluralBranches$Reader" "plurals") ∈ lw_all := lw_g (lw_at lw_m3 36 rfl) rfl
theorem q583 : (Jvm.Cond.lays "PluralBranches$Reader" "PluralBranches$Reader" "wrong" "I") ∈ lw_all := lw_g (lw_at lw_m3 37 rfl) rfl
theorem q584 : (Jvm.Cond.soleField "PluralBranches$Reader" "wrong") ∈ lw_all := lw_g (lw_at lw_m3 38 rfl) rfl
theorem q585 : (Jvm.Cond.laysFinal "PluralBranches$Reader" "PluralBranches$Reader" "this$0" "LPluralBranches;") ∈ lw_all := lw_g (lw_at lw_m3 39 rfl) rfl
theorem q586 : (Jvm.Cond.soleField "PluralBranches$Reader" "this$0") ∈ lw_all := lw_g (lw_at lw_m3 40 rfl) rfl
theorem q587 : (Jvm.Cond.superclass "PluralBranches$Reader" "java/lang/Object") ∈ lw_all := lw_g (lw_at lw_m3 41 rfl) rfl
theorem q589 : (Jvm.Cond.instanceMethod ({ cls := "PluralBranches$Reader", name := "whole", desc := "()LPluralBranches$Message;" } : Jvm.MethodName)) ∈ lw_all := lw_g (lw_at lw_m3 43 rfl) rfl
theorem q590 : (Jvm.Cond.selects "PluralBranches$Reader" ({ cls := "PluralBranches$Reader", name := "whole", desc := "()LPluralBranches$Message;" } : Jvm.MethodName) ({ cls := "PluralBranches$Reader", name := "whole", desc := "()LPluralBranches$Message;" } : Jvm.MethodName)) ∈ lw_all := lw_g (lw_at lw_m3 44 rfl) rfl
theorem q591 : (Jvm.Cond.code ({ cls := "PluralBranches$Reader", name := "whole", desc := "()LPluralBranches$Message;" } : Jvm.MethodName) prog_23_method_19_code (1 : Nat) (Option.some (Jvm.ClassFile.FieldType.object "PluralBranches$Message"))) ∈ lw_all := lw_g (lw_at lw_m3 45 rfl) rfl
theorem q592 : (Jvm.Cond.methodLink "PluralBranches$Reader" (203 : Nat) ({ cls := "PluralBranches$Reader", name := "parts", desc := "()LPluralBranches$Parts;" } : Jvm.MethodName)) ∈ lw_all := lw_g (lw_at lw_m3 46 rfl) rfl
theorem q593 : (Jvm.Cond.privateMethod ({ cls := "PluralBranches$Reader", name := "parts", desc := "()LPluralBranches$Parts;" } : Jvm.MethodName)) ∈ lw_tbl := lw_at lw_m3 47 rfl
theorem q594 : (Jvm.Cond.instanceMethod ({ cls := "PluralBranches$Reader", name := "parts", desc := "()LPluralBranches$Parts;" } : Jvm.MethodName)) ∈ lw_all := lw_g (lw_at lw_m3 48 rfl) rfl
theorem q595 : (Jvm.Cond.code ({ cls := "PluralBranches$Reader", name := "parts", desc := "()LPluralBranches$Parts;" } : Jvm.MethodName) prog_23_method_9_code (2 : Nat) (Option.some (Jvm.ClassFile.FieldType.object "PluralBranches$Parts"))) ∈ lw_all := lw_g (lw_at lw_m3 49 rfl) rfl
theorem q596 : (Jvm.Cond.classLink "PluralBranches$Reader" (71 : Nat) "PluralBranches$Parts") ∈ lw_all := lw_g (lw_at lw_m3 50 rfl) rfl
theorem q598 : (Jvm.Cond.methodLinkNest "PluralBranches$Reader" (73 : Nat) ({ cls := "PluralBranches$Parts", name := "<init>", desc := "()V" } : Jvm.MethodName) "PluralBranches") ∈ lw_tbl := lw_at lw_m3 52 rfl
theorem q605 : (Jvm.Cond.fieldLinkNest "PluralBranches$Reader" (84 : Nat) "PluralBranches$Parts" "all" "Ljava/util/ArrayList;" "PluralBranches") ∈ lw_tbl := lw_at lw_m3 59 rfl
theorem q609 : (Jvm.Cond.methodLink "PluralBranches$Reader" (74 : Nat) ({ cls := "PluralBranches$Reader", name := "isSign", desc := "()Z" } : Jvm.MethodName)) ∈ lw_all := lw_g (lw_at lw_m3 63 rfl) rfl
theorem q610 : (Jvm.Cond.privateMethod ({ cls := "PluralBranches$Reader", name := "isSign", desc := "()Z" } : Jvm.MethodName)) ∈ lw_tbl := lw_at lw_m3 64 rfl
theorem q611 : (Jvm.Cond.instanceMethod ({ cls := "PluralBranches$Reader", name := "isSign", desc := "()Z" } : Jvm.MethodName)) ∈ lw_all := lw_g (lw_at lw_m3 65 rfl) rfl
theorem q612 : (Jvm.Cond.code ({ cls := "PluralBranches$Reader", name := "isSign", desc := "()Z" } : Jvm.MethodName) prog_23_method_8_code (2 : Nat) (Option.some Jvm.ClassFile.FieldType.boolean)) ∈ lw_all := lw_g (lw_at lw_m3 66 rfl) rfl
theorem q613 : (Jvm.Cond.methodLink "PluralBranches$Reader" (45 : Nat) ({ cls := "PluralBranches$Reader", name := "here", desc := "()I" } : Jvm.MethodName)) ∈ lw_all := lw_g (lw_at lw_m3 67 rfl) rfl
theorem q614 : (Jvm.Cond.privateMethod ({ cls := "PluralBranches$Reader", name := "here", desc := "()I" } : Jvm.MethodName)) ∈ lw_tbl := lw_at lw_m3 68 rfl
theorem q615 : (Jvm.Cond.instanceMethod ({ cls := "PluralBranches$Reader", name := "here", desc := "()I" } : Jvm.MethodName)) ∈ lw_all := lw_g (lw_at lw_m3 69 rfl) rfl
theorem q616 : (Jvm.Cond.code ({ cls := "PluralBranches$Reader", name := "here", desc := "()I" } : Jvm.MethodName) prog_23_method_2_code (1 : Nat) (Option.some Jvm.ClassFile.FieldType.int)) ∈ lw_all := lw_g (lw_at lw_m3 70 rfl) rfl
theorem q617 : (Jvm.Cond.constantLong "PluralBranches$Reader" (63 : Nat) (97 : Int64)) ∈ lw_all := lw_g (lw_at lw_m3 71 rfl) rfl
theorem q618 : (Jvm.Cond.constantLong "PluralBranches$Reader" (65 : Nat) (122 : Int64)) ∈ lw_all := lw_g (lw_at lw_m3 72 rfl) rfl
theorem q619 : (Jvm.Cond.methodLinkNest "PluralBranches$Reader" (67 : Nat) ({ cls := "PluralBranches", name := "in", desc := "(JJJ)Z" } : Jvm.MethodName) "PluralBranches") ∈ lw_tbl := lw_at lw_m3 73 rfl
theorem q620 : (Jvm.Cond.methodLink "PluralBranches$Reader" (88 : Nat) ({ cls := "PluralBranches$Reader", name := "part", desc := "()LPluralBranches$Part;" } : Jvm.MethodName)) ∈ lw_all := lw_g (lw_at lw_m3 74 rfl) rfl
theorem q621 : (Jvm.Cond.privateMethod ({ cls := "PluralBranches$Reader", name := "part", desc := "()LPluralBranches$Part;" } : Jvm.MethodName)) ∈ lw_tbl := lw_at lw_m3 75 rfl
theorem q622 : (Jvm.Cond.instanceMethod ({ cls := "PluralBranches$Reader", name := "part", desc := "()LPluralBranches$Part;" } : Jvm.MethodName)) ∈ lw_all := lw_g (lw_at lw_m3 76 rfl) rfl
theorem q623 : (Jvm.Cond.code ({ cls := "PluralBranches$Reader", name := "part", desc := "()LPluralBranches$Part;" } : Jvm.MethodName) prog_23_method_10_code (2 : Nat) (Option.some (Jvm.ClassFile.FieldType.object "PluralBranches$Part"))) ∈ lw_all := lw_g (lw_at lw_m3 77 rfl) rfl
theorem q624 : (Jvm.Cond.classLink "PluralBranches$Reader" (98 : Nat) "PluralBranches$Hash") ∈ lw_all := lw_g (lw_at lw_m3 78 rfl) rfl
theorem q626 : (Jvm.Cond.methodLinkNest "PluralBranches$Reader" (100 : Nat) ({ cls := "PluralBranches$Hash", name := "<init>", desc := "()V" } : Jvm.MethodName) "PluralBranches") ∈ lw_tbl := lw_at lw_m3 80 rfl
theorem q634 : (Jvm.Cond.methodLink "PluralBranches$Reader" (101 : Nat) ({ cls := "PluralBranches$Reader", name := "braced", desc := "()LPluralBranches$Part;" } : Jvm.MethodName)) ∈ lw_all := lw_g (lw_at lw_m3 88 rfl) rfl
theorem q635 : (Jvm.Cond.privateMethod ({ cls := "PluralBranches$Reader", name := "braced", desc := "()LPluralBranches$Part;" } : Jvm.MethodName)) ∈ lw_tbl := lw_at lw_m3 89 rfl
theorem q636 : (Jvm.Cond.instanceMethod ({ cls := "PluralBranches$Reader", name := "braced", desc := "()LPluralBranches$Part;" } : Jvm.MethodName)) ∈ lw_all := lw_g (lw_at lw_m3 90 rfl) rfl
theorem q637 : (Jvm.Cond.code ({ cls := "PluralBranches$Reader", name := "braced", desc := "()LPluralBranches$Part;" } : Jvm.MethodName) prog_23_method_12_code (4 : Nat) (Option.some (Jvm.ClassFile.FieldType.object "PluralBranches$Part"))) ∈ lw_all := lw_g (lw_at lw_m3 91 rfl) rfl
theorem q638 : (Jvm.Cond.constantLong "PluralBranches$Reader" (117 : Nat) (65 : Int64)) ∈ lw_all := lw_g (lw_at lw_m3 92 rfl) rfl
theorem q639 : (Jvm.Cond.constantLong "PluralBranches$Reader" (119 : Nat) (69 : Int64)) ∈ lw_all := lw_g (lw_at lw_m3 93 rfl) rfl
theorem q640 : (Jvm.Cond.methodLink "PluralBranches$Reader" (53 : Nat) ({ cls := "PluralBranches$Reader", name := "must", desc := "(Z)V" } : Jvm.MethodName)) ∈ lw_all := lw_g (lw_at lw_m3 94 rfl) rfl
theorem q641 : (Jvm.Cond.privateMethod ({ cls := "PluralBranches$Reader", name := "must", desc := "(Z)V" } : Jvm.MethodName)) ∈ lw_tbl := lw_at lw_m3 95 rfl
theorem q642 : (Jvm.Cond.instanceMethod ({ cls := "PluralBranches$Reader", name := "must", desc := "(Z)V" } : Jvm.MethodName)) ∈ lw_all := lw_g (lw_at lw_m3 96 rfl) rfl
theorem q643 : (Jvm.Cond.code ({ cls := "PluralBranches$Reader", name := "must", desc := "(Z)V" } : Jvm.MethodName) prog_23_method_4_code (2 : Nat) (Option.none : Option Jvm.ClassFile.FieldType)) ∈ lw_all := lw_g (lw_at lw_m3 97 rfl) rfl
theorem q644 : (Jvm.Cond.methodLink "PluralBranches$Reader" (41 : Nat) ({ cls := "PluralBranches$Reader", name := "fault", desc := "()LPluralBranches$Ends;" } : Jvm.MethodName)) ∈ lw_all := lw_g (lw_at lw_m3 98 rfl) rfl
theorem q645 : (Jvm.Cond.privateMethod ({ cls := "PluralBranches$Reader", name := "fault", desc := "()LPluralBranches$Ends;" } : Jvm.MethodName)) ∈ lw_tbl := lw_at lw_m3 99 rfl
theorem q646 : (Jvm.Cond.instanceMethod ({ cls := "PluralBranches$Reader", name := "fault", desc := "()LPluralBranches$Ends;" } : Jvm.MethodName)) ∈ lw_all := lw_g (lw_at lw_m3 100 rfl) rfl
theorem q647 : (Jvm.Cond.code ({ cls := "PluralBranches$Reader", name := "fault", desc := "()LPluralBranches$Ends;" } : Jvm.MethodName) prog_23_method_3_code (1 : Nat) (Option.some (Jvm.ClassFile.FieldType.object "PluralBranches$Ends"))) ∈ lw_all := lw_g (lw_at lw_m3 101 rfl) rfl
theorem q648 : (Jvm.Cond.classLink "PluralBranches$Reader" (36 : Nat) "PluralBranches$Ends") ∈ lw_all := lw_g (lw_at lw_m3 102 rfl) rfl
theorem q689 : (Jvm.Cond.methodLink "PluralBranches$Reader" (38 : Nat) ({ cls := "PluralBranches$Ends", name := "<init>", desc := "(I)V" } : Jvm.MethodName)) ∈ lw_all := lw_g (lw_at lw_m3 143 rfl) rfl
theorem q718 : (Jvm.Cond.methodLink "PluralBranches$Reader" (121 : Nat) ({ cls := "PluralBranches$Reader", name := "uses", desc := "(III)V" } : Jvm.MethodName)) ∈ lw_all := lw_g (lw_at lw_m3 172 rfl) rfl
theorem q719 : (Jvm.Cond.privateMethod ({ cls := "PluralBranches$Reader", name := "uses", desc := "(III)V" } : Jvm.MethodName)) ∈ lw_tbl := lw_at lw_m3 173 rfl
theorem q720 : (Jvm.Cond.instanceMethod ({ cls := "PluralBranches$Reader", name := "uses", desc := "(III)V" } : Jvm.MethodName)) ∈ lw_all := lw_g (lw_at lw_m3 174 rfl) rfl
theorem q721 : (Jvm.Cond.code ({ cls := "PluralBranches$Reader", name := "uses", desc := "(III)V" } : Jvm.MethodName) prog_23_method_11_code (4 : Nat) (Option.none : Option Jvm.ClassFile.FieldType)) ∈ lw_all := lw_g (lw_at lw_m3 175 rfl) rfl
theorem q722 : (Jvm.Cond.methodLink "PluralBranches$Reader" (114 : Nat) ({ cls := "PluralBranches$Reader", name := "lies", desc := "(I)V" } : Jvm.MethodName)) ∈ lw_all := lw_g (lw_at lw_m3 176 rfl) rfl
theorem q723 : (Jvm.Cond.privateMethod ({ cls := "PluralBranches$Reader", name := "lies", desc := "(I)V" } : Jvm.MethodName)) ∈ lw_tbl := lw_at lw_m3 177 rfl
theorem q724 : (Jvm.Cond.instanceMethod ({ cls := "PluralBranches$Reader", name := "lies", desc := "(I)V" } : Jvm.MethodName)) ∈ lw_all := lw_g (lw_at lw_m3 178 rfl) rfl
theorem q725 : (Jvm.Cond.code ({ cls := "PluralBranches$Reader", name := "lies", desc := "(I)V" } : Jvm.MethodName) prog_23_method_7_code (2 : Nat) (Option.none : Option Jvm.ClassFile.FieldType)) ∈ lw_all := lw_g (lw_at lw_m3 179 rfl) rfl
theorem q726 : (Jvm.Cond.methodLink "PluralBranches$Reader" (57 : Nat) ({ cls := "java/lang/Math", name := "min", desc := "(II)I" } : Jvm.MethodName)) ∈ lw_all := lw_g (lw_at lw_m3 180 rfl) rfl
theorem q727 : (Jvm.Cond.classLink "PluralBranches$Reader" (125 : Nat) "PluralBranches$Plain") ∈ lw_all := lw_g (lw_at lw_m3 181 rfl) rfl
theorem q729 : (Jvm.Cond.methodLink "PluralBranches$Reader" (127 : Nat) ({ cls := "PluralBranches$Plain", name := "<init>", desc := "(I)V" } : Jvm.MethodName)) ∈ lw_all := lw_g (lw_at lw_m3 183 rfl) rfl
theorem q747 : (Jvm.Cond.methodLink "PluralBranches$Reader" (128 : Nat) ({ cls := "PluralBranches$Reader", name := "wants", desc := "(I)V" } : Jvm.MethodName)) ∈ lw_all := lw_g (lw_at lw_m3 201 rfl) rfl
theorem q748 : (Jvm.Cond.privateMethod ({ cls := "PluralBranches$Reader", name := "wants", desc := "(I)V" } : Jvm.MethodName)) ∈ lw_tbl := lw_at lw_m3 202 rfl
theorem q749 : (Jvm.Cond.instanceMethod ({ cls := "PluralBranches$Reader", name := "wants", desc := "(I)V" } : Jvm.MethodName)) ∈ lw_all := lw_g (lw_at lw_m3 203 rfl) rfl
theorem q750 : (Jvm.Cond.code ({ cls := "PluralBranches$Reader", name := "wants", desc := "(I)V" } : Jvm.MethodName) prog_23_method_6_code (2 : Nat) (Option.none : Option Jvm.ClassFile.FieldType)) ∈ lw_all := lw_g (lw_at lw_m3 204 rfl) rfl
theorem q751 : (Jvm.Cond.methodLink "PluralBranches$Reader" (49 : Nat) ({ cls := "PluralBranches$Reader", name := "takes", desc := "(I)Z" } : Jvm.MethodName)) ∈ lw_all := lw_g (lw_at lw_m3 205 rfl) rfl
theorem q752 : (Jvm.Cond.privateMethod ({ cls := "PluralBranches$Reader", name := "takes", desc := "(I)Z" } : Jvm.MethodName)) ∈ lw_tbl := lw_at lw_m3 206 rfl
theorem q753 : (Jvm.Cond.instanceMethod ({ cls := "PluralBranches$Reader", name := "takes", desc := "(I)Z" } : Jvm.MethodName)) ∈ lw_all := lw_g (lw_at lw_m3 207 rfl) rfl
theorem q754 : (Jvm.Cond.code ({ cls := "PluralBranches$Reader", name := "takes", desc := "(I)Z" } : Jvm.MethodName) prog_23_method_5_code (3 : Nat) (Option.some Jvm.ClassFile.FieldType.boolean)) ∈ lw_all := lw_g (lw_at lw_m3 208 rfl) rfl
theorem q755 : (Jvm.Cond.classLink "PluralBranches$Reader" (131 : Nat) "PluralBranches$Joined") ∈ lw_all := lw_g (lw_at lw_m3 209 rfl) rfl
theorem q757 : (Jvm.Cond.methodLink "PluralBranches$Reader" (133 : Nat) ({ cls := "PluralBranches$Joined", name := "<init>", desc := "(I)V" } : Jvm.MethodName)) ∈ lw_all := lw_g (lw_at lw_m3 211 rfl) rfl
theorem q763 : (Jvm.Cond.classLink "PluralBranches$Reader" (134 : Nat) "PluralBranches$Shaped") ∈ lw_all := lw_g (lw_at lw_m3 217 rfl) rfl
theorem q765 : (Jvm.Cond.methodLink "PluralBranches$Reader" (136 : Nat) ({ cls := "PluralBranches$Reader", name := "pattern", desc := "()LPluralBranches$Pattern;" } : Jvm.MethodName)) ∈ lw_all := lw_g (lw_at lw_m3 219 rfl) rfl
theorem q766 : (Jvm.Cond.privateMethod ({ cls := "PluralBranches$Reader", name := "pattern", desc := "()LPluralBranches$Pattern;" } : Jvm.MethodName)) ∈ lw_tbl := lw_at lw_m3 220 rfl
theorem q767 : (Jvm.Cond.instanceMethod ({ cls := "PluralBranches$Reader", name := "pattern", desc := "()LPluralBranches$Pattern;" } : Jvm.MethodName)) ∈ lw_all := lw_g (lw_at lw_m3 221 rfl) rfl
theorem q768 : (Jvm.Cond.code ({ cls := "PluralBranches$Reader", name := "pattern", desc := "()LPluralBranches$Pattern;" } : Jvm.MethodName) prog_23_method_14_code (5 : Nat) (Option.some (Jvm.ClassFile.FieldType.object "PluralBranches$Pattern"))) ∈ lw_all := lw_g (lw_at lw_m3 222 rfl) rfl
theorem q769 : (Jvm.Cond.methodLink "PluralBranches$Reader" (147 : Nat) ({ cls := "PluralBranches$Reader", name := "some", desc := "(II)I" } : Jvm.MethodName)) ∈ lw_all := lw_g (lw_at lw_m3 223 rfl) rfl
theorem q770 : (Jvm.Cond.privateMethod ({ cls := "PluralBranches$Reader", name := "some", desc := "(II)I" } : Jvm.MethodName)) ∈ lw_tbl := lw_at lw_m3 224 rfl
theorem q771 : (Jvm.Cond.instanceMethod ({ cls := "PluralBranches$Reader", name := "some", desc := "(II)I" } : Jvm.MethodName)) ∈ lw_all := lw_g (lw_at lw_m3 225 rfl) rfl
theorem q772 : (Jvm.Cond.code ({ cls := "PluralBranches$Reader", name := "some", desc := "(II)I" } : Jvm.MethodName) prog_23_method_13_code (4 : Nat) (Option.some Jvm.ClassFile.FieldType.int)) ∈ lw_all := lw_g (lw_at lw_m3 226 rfl) rfl
theorem q773 : (Jvm.Cond.classLink "PluralBranches$Reader" (150 : Nat) "PluralBranches$Pattern") ∈ lw_all := lw_g (lw_at lw_m3 227 rfl) rfl
theorem q775 : (Jvm.Cond.methodLink "PluralBranches$Reader" (152 : Nat) ({ cls := "PluralBranches$Pattern", name := "<init>", desc := "(ZIII)V" } : Jvm.MethodName)) ∈ lw_all := lw_g (lw_at lw_m3 229 rfl) rfl
theorem q792 : (Jvm.Cond.methodLink "PluralBranches$Reader" (155 : Nat) ({ cls := "PluralBranches$Pattern", name := "<init>", desc := "(I)V" } : Jvm.MethodName)) ∈ lw_all := lw_g (lw_at lw_m4 6 rfl) rfl
theorem q796 : (Jvm.Cond.methodLink "PluralBranches$Reader" (140 : Nat) ({ cls := "PluralBranches$Shaped", name := "<init>", desc := "(ILPluralBranches$Pattern;)V" } : Jvm.MethodName)) ∈ lw_all := lw_g (lw_at lw_m4 10 rfl) rfl
theorem q805 : (Jvm.Cond.methodLink "PluralBranches$Reader" (143 : Nat) ({ cls := "PluralBranches$Reader", name := "choice", desc := "(III)LPluralBranches$Choice;" } : Jvm.MethodName)) ∈ lw_all := lw_g (lw_at lw_m4 19 rfl) rfl
theorem q806 : (Jvm.Cond.privateMethod ({ cls := "PluralBranches$Reader", name := "choice", desc := "(III)LPluralBranches$Choice;" } : Jvm.MethodName)) ∈ lw_tbl := lw_at lw_m4 20 rfl
theorem q807 : (Jvm.Cond.instanceMethod ({ cls := "PluralBranches$Reader", name := "choice", desc := "(III)LPluralBranches$Choice;" } : Jvm.MethodName)) ∈ lw_all := lw_g (lw_at lw_m4 21 rfl) rfl
theorem q808 : (Jvm.Cond.code ({ cls := "PluralBranches$Reader", name := "choice", desc := "(III)LPluralBranches$Choice;" } : Jvm.MethodName) prog_23_method_15_code (5 : Nat) (Option.some (Jvm.ClassFile.FieldType.object "PluralBranches$Choice"))) ∈ lw_all := lw_g (lw_at lw_m4 22 rfl) rfl
theorem q809 : (Jvm.Cond.methodLink "PluralBranches$Reader" (162 : Nat) ({ cls := "java/util/ArrayList", name := "size", desc := "()I" } : Jvm.MethodName)) ∈ lw_all := lw_g (lw_at lw_m4 23 rfl) rfl
theorem q810 : (Jvm.Cond.classLink "PluralBranches$Reader" (165 : Nat) "PluralBranches$Plural") ∈ lw_all := lw_g (lw_at lw_m4 24 rfl) rfl
theorem q812 : (Jvm.Cond.methodLink "PluralBranches$Reader" (167 : Nat) ({ cls := "PluralBranches$Plural", name := "<init>", desc := "(II)V" } : Jvm.MethodName)) ∈ lw_all := lw_g (lw_at lw_m4 26 rfl) rfl
theorem q826 : (Jvm.Cond.fieldLink "PluralBranches$Reader" (186 : Nat) "PluralBranches$Choice" "branches" "Ljava/util/ArrayList;") ∈ lw_all := lw_g (lw_at lw_m4 40 rfl) rfl
theorem q836 : (Jvm.Cond.classLink "PluralBranches$Reader" (170 : Nat) "PluralBranches$Bent") ∈ lw_all := lw_g (lw_at lw_m4 50 rfl) rfl
theorem q838 : (Jvm.Cond.methodLink "PluralBranches$Reader" (172 : Nat) ({ cls := "PluralBranches$Bent", name := "<init>", desc := "(II)V" } : Jvm.MethodName)) ∈ lw_all := lw_g (lw_at lw_m4 52 rfl) rfl
theorem q846 : (Jvm.Cond.methodLink "PluralBranches$Reader" (92 : Nat) ({ cls := "java/util/ArrayList", name := "add", desc := "(Ljava/lang/Object;)Z" } : Jvm.MethodName)) ∈ lw_all := lw_g (lw_at lw_m4 60 rfl) rfl
theorem q847 : (Jvm.Cond.methodLink "PluralBranches$Reader" (173 : Nat) ({ cls := "PluralBranches$Reader", name := "branch", desc := "(LPluralBranches$Choice;)V" } : Jvm.MethodName)) ∈ lw_all := lw_g (lw_at lw_m4 61 rfl) rfl
theorem q848 : (Jvm.Cond.privateMethod ({ cls := "PluralBranches$Reader", name := "branch", desc := "(LPluralBranches$Choice;)V" } : Jvm.MethodName)) ∈ lw_tbl := lw_at lw_m4 62 rfl
theorem q849 : (Jvm.Cond.instanceMethod ({ cls := "PluralBranches$Reader", name := "branch", desc := "(LPluralBranches$Choice;)V" } : Jvm.MethodName)) ∈ lw_all := lw_g (lw_at lw_m4 63 rfl) rfl
theorem q850 : (Jvm.Cond.code ({ cls := "PluralBranches$Reader", name := "branch", desc := "(LPluralBranches$Choice;)V" } : Jvm.MethodName) prog_23_method_16_code (5 : Nat) (Option.none : Option Jvm.ClassFile.FieldType)) ∈ lw_all := lw_g (lw_at lw_m4 64 rfl) rfl
theorem q851 : (Jvm.Cond.methodLink "PluralBranches$Reader" (189 : Nat) ({ cls := "PluralBranches$Choice", name := "kind", desc := "()I" } : Jvm.MethodName)) ∈ lw_all := lw_g (lw_at lw_m4 65 rfl) rfl
theorem q860 : (Jvm.Cond.methodLink "PluralBranches$Reader" (192 : Nat) ({ cls := "PluralBranches$Reader", name := "number", desc := "()I" } : Jvm.MethodName)) ∈ lw_all := lw_g (lw_at lw_m4 74 rfl) rfl
theorem q861 : (Jvm.Cond.privateMethod ({ cls := "PluralBranches$Reader", name := "number", desc := "()I" } : Jvm.MethodName)) ∈ lw_tbl := lw_at lw_m4 75 rfl
theorem q862 : (Jvm.Cond.instanceMethod ({ cls := "PluralBranches$Reader", name := "number", desc := "()I" } : Jvm.MethodName)) ∈ lw_all := lw_g (lw_at lw_m4 76 rfl) rfl
theorem q863 : (Jvm.Cond.code ({ cls := "PluralBranches$Reader", name := "number", desc := "()I" } : Jvm.MethodName) prog_23_method_18_code (3 : Nat) (Option.some Jvm.ClassFile.FieldType.int)) ∈ lw_all := lw_g (lw_at lw_m4 77 rfl) rfl
theorem q864 : (Jvm.Cond.constantLong "PluralBranches$Reader" (217 : Nat) (48 : Int64)) ∈ lw_all := lw_g (lw_at lw_m4 78 rfl) rfl
theorem q865 : (Jvm.Cond.constantLong "PluralBranches$Reader" (219 : Nat) (57 : Int64)) ∈ lw_all := lw_g (lw_at lw_m4 79 rfl) rfl
theorem q866 : (Jvm.Cond.stringRef "PluralBranches$Reader" (195 : Nat) "zotfmx") ∈ lw_tbl := lw_at lw_m4 80 rfl
theorem q867 : (Jvm.Cond.stringRef "PluralBranches$Reader" (197 : Nat) "mfnx") ∈ lw_tbl := lw_at lw_m4 81 rfl
theorem q868 : (Jvm.Cond.methodLink "PluralBranches$Reader" (199 : Nat) ({ cls := "PluralBranches$Reader", name := "letter", desc := "(Ljava/lang/String;Z)I" } : Jvm.MethodName)) ∈ lw_all := lw_g (lw_at lw_m4 82 rfl) rfl
theorem q869 : (Jvm.Cond.privateMethod ({ cls := "PluralBranches$Reader", name := "letter", desc := "(Ljava/lang/String;Z)I" } : Jvm.MethodName)) ∈ lw_tbl := lw_at lw_m4 83 rfl
theorem q870 : (Jvm.Cond.instanceMethod ({ cls := "PluralBranches$Reader", name := "letter", desc := "(Ljava/lang/String;Z)I" } : Jvm.MethodName)) ∈ lw_all := lw_g (lw_at lw_m4 84 rfl) rfl
theorem q871 : (Jvm.Cond.code ({ cls := "PluralBranches$Reader", name := "letter", desc := "(Ljava/lang/String;Z)I" } : Jvm.MethodName) prog_23_method_17_code (4 : Nat) (Option.some Jvm.ClassFile.FieldType.int)) ∈ lw_all := lw_g (lw_at lw_m4 85 rfl) rfl
theorem q872 : (Jvm.Cond.methodLink "PluralBranches$Reader" (212 : Nat) ({ cls := "java/lang/String", name := "indexOf", desc := "(I)I" } : Jvm.MethodName)) ∈ lw_all := lw_g (lw_at lw_m4 86 rfl) rfl
theorem q954 : (Jvm.Cond.methodLink "PluralBranches$Reader" (182 : Nat) ({ cls := "PluralBranches$Choice", name := "of", desc := "(I)I" } : Jvm.MethodName)) ∈ lw_all := lw_g (lw_at lw_m4 168 rfl) rfl
theorem q963 : (Jvm.Cond.classLink "PluralBranches$Reader" (207 : Nat) "PluralBranches$Branch") ∈ lw_all := lw_g (lw_at lw_m4 177 rfl) rfl
theorem q965 : (Jvm.Cond.methodLink "PluralBranches$Reader" (209 : Nat) ({ cls := "PluralBranches$Branch", name := "<init>", desc := "(ILPluralBranches$Parts;)V" } : Jvm.MethodName)) ∈ lw_all := lw_g (lw_at lw_m4 179 rfl) rfl
theorem q982 : (Jvm.Cond.methodLink "PluralBranches$Reader" (177 : Nat) ({ cls := "PluralBranches$Choice", name := "other", desc := "()I" } : Jvm.MethodName)) ∈ lw_all := lw_g (lw_at lw_m4 196 rfl) rfl
theorem q991 : (Jvm.Cond.classLink "PluralBranches$Reader" (104 : Nat) "PluralBranches$Sign") ∈ lw_all := lw_g (lw_at lw_m4 205 rfl) rfl
theorem q993 : (Jvm.Cond.methodLink "PluralBranches$Reader" (106 : Nat) ({ cls := "PluralBranches$Sign", name := "<init>", desc := "(I)V" } : Jvm.MethodName)) ∈ lw_all := lw_g (lw_at lw_m4 207 rfl) rfl
theorem q1001 : (Jvm.Cond.methodLinkNest "PluralBranches$Reader" (224 : Nat) ({ cls := "PluralBranches", name := "need", desc := "(ZI)V" } : Jvm.MethodName) "PluralBranches") ∈ lw_tbl := lw_at lw_m4 215 rfl
theorem q2289 : (Jvm.Cond.castable "PluralBranches$Reader" "java/lang/Object") ∈ lw_tbl := lw_at lw_m10 63 rfl
theorem in_X10 : ∀ w ∈ wsX100, w ∈ lw_all := lw_in wsX100 [575, 577, 579, 581, 583, 585] (by decide +kernel) (by decide +kernel)
/-! PluralBranches$Message -/
set_option maxRecDepth 100000
def RX11 : String := "PluralBranches$Message"
def TX11 : u_T := fun k => match k with
  | 0 => ("PluralBranches$Message", "parts", "LPluralBranches$Parts;", false)
  | 1 => ("PluralBranches$Message", "many", "I", false)
  | 2 => ("PluralBranches$Message", "choices", "Ljava/util/ArrayList;", true)
  | 3 => ("PluralBranches$Message", "types", "[I", true)
  | _ => ("PluralBranches$Message", "met", "I", false)
def tyX11 : Nat → FieldType := fun k => match k with
  | 0 => .object "PluralBranches$Parts"
  | 1 => .int
  | 2 => .object "java/util/ArrayList"
  | 3 => .array .int
  | _ => .int
abbrev wsX110 : List Cond := u_ws RX11 TX11 5
theorem nmX11 : ∀ a, a < 5 → ∀ b, b < 5 → a ≠ b → (TX11 a).2.1 ≠ (TX11 b).2.1 := by decide +kernel
theorem tyX11_ok : ∀ k, k < 5 → parseFieldDescriptor (TX11 k).2.2.1 = some (tyX11 k) := by decide +kernel
abbrev cX11_init : ByteArray := prog_16_method_1_code
def yX11_init : MethodName := ⟨RX11, "<init>", "()V"⟩
def dkwX11_init_0 : List UInt8 := [42, 183, 0, 3, 42, 187, 0, 9, 89, 183, 0, 11, 181, 0, 12, 42, 8, 188, 10, 181, 0, 18, 177]
abbrev dktX11_init_0 : List UInt8 := dkwX11_init_0 ++ []
theorem dksX11_init_0 : cX11_init.data.toList.drop 0 = dktX11_init_0 := by decide +kernel
theorem dX11_init_0 : decode cX11_init 0 = .ok (.aload_n 0, 1) := dk_42 (dk_at dksX11_init_0 0 rfl rfl)
theorem dX11_init_1 : decode cX11_init 1 = .ok (.invokespecial 3, 3) := dk_183 0 3 (dk_at dksX11_init_0 1 rfl rfl)
theorem dX11_init_4 : decode cX11_init 4 = .ok (.aload_n 0, 1) := dk_42 (dk_at dksX11_init_0 4 rfl rfl)
theorem dX11_init_5 : decode cX11_init 5 = .ok (.new 9, 3) := dk_187 0 9 (dk_at dksX11_init_0 5 rfl rfl)
theorem dX11_init_8 : decode cX11_init 8 = .ok (.dup, 1) := dk_89 (dk_at dksX11_init_0 8 rfl rfl)
theorem dX11_init_9 : decode cX11_init 9 = .ok (.invokespecial 11, 3) := dk_183 0 11 (dk_at dksX11_init_0 9 rfl rfl)
theorem dX11_init_12 : decode cX11_init 12 = .ok (.putfield 12, 3) := dk_181 0 12 (dk_at dksX11_init_0 12 rfl rfl)
theorem dX11_init_15 : decode cX11_init 15 = .ok (.aload_n 0, 1) := dk_42 (dk_at dksX11_init_0 15 rfl rfl)
theorem dX11_init_16 : decode cX11_init 16 = .ok (.iconst 5, 1) := dk_8 (dk_at dksX11_init_0 16 rfl rfl)
theorem dX11_init_17 : decode cX11_init 17 = .ok (.newarray .int, 2) := dk_188_10 (dk_at dksX11_init_0 17 rfl rfl)
theorem dX11_init_19 : decode cX11_init 19 = .ok (.putfield 18, 3) := dk_181 0 18 (dk_at dksX11_init_0 19 rfl rfl)
theorem dX11_init_22 : decode cX11_init 22 = .ok (.return_, 1) := dk_177 (dk_at dksX11_init_0 22 rfl rfl)
theorem q87 : (Jvm.Cond.initialized "PluralBranches$Message") ∈ lw_all := lw_g (lw_at lw_m1 21 rfl) rfl
theorem q257 : (Jvm.Cond.selects "PluralBranches$Message" ({ cls := "java/lang/Object", name := "getClass", desc := "()Ljava/lang/Class;" } : Jvm.MethodName) ({ cls := "java/lang/Object", name := "getClass", desc := "()Ljava/lang/Class;" } : Jvm.MethodName)) ∈ lw_all := lw_g (lw_at lw_m1 191 rfl) rfl
theorem q539 : (Jvm.Cond.instantiable "PluralBranches$Message" (5 : Nat)) ∈ lw_all := lw_g (lw_at lw_m2 233 rfl) rfl
theorem q541 : (Jvm.Cond.instanceMethod ({ cls := "PluralBranches$Message", name := "<init>", desc := "()V" } : Jvm.MethodName)) ∈ lw_all := lw_g (lw_at lw_m2 235 rfl) rfl
theorem q542 : (Jvm.Cond.code ({ cls := "PluralBranches$Message", name := "<init>", desc := "()V" } : Jvm.MethodName) prog_16_method_1_code (1 : Nat) (Option.none : Option Jvm.ClassFile.FieldType)) ∈ lw_all := lw_g (lw_at lw_m2 236 rfl) rfl
theorem q543 : (Jvm.Cond.methodLink "PluralBranches$Message" (3 : Nat) ({ cls := "java/lang/Object", name := "<init>", desc := "()V" } : Jvm.MethodName)) ∈ lw_all := lw_g (lw_at lw_m2 237 rfl) rfl
theorem q544 : (Jvm.Cond.classLink "PluralBranches$Message" (9 : Nat) "java/util/ArrayList") ∈ lw_all := lw_g (lw_at lw_m2 238 rfl) rfl
theorem q545 : (Jvm.Cond.methodLink "PluralBranches$Message" (11 : Nat) ({ cls := "java/util/ArrayList", name := "<init>", desc := "()V" } : Jvm.MethodName)) ∈ lw_all := lw_g (lw_at lw_m2 239 rfl) rfl
theorem q550 : (Jvm.Cond.fieldLink "PluralBranches$Message" (12 : Nat) "PluralBranches$Message" "choices" "Ljava/util/ArrayList;") ∈ lw_all := lw_g (lw_at lw_m3 4 rfl) rfl
theorem q553 : (Jvm.Cond.fieldLink "PluralBranches$Message" (18 : Nat) "PluralBranches$Message" "types" "[I") ∈ lw_all := lw_g (lw_at lw_m3 7 rfl) rfl
theorem q558 : (Jvm.Cond.lays "PluralBranches$Message" "PluralBranches$Message" "parts" "LPluralBranches$Parts;") ∈ lw_all := lw_g (lw_at lw_m3 12 rfl) rfl
theorem q559 : (Jvm.Cond.soleField "PluralBranches$Message" "parts") ∈ lw_all := lw_g (lw_at lw_m3 13 rfl) rfl
theorem q560 : (Jvm.Cond.lays "PluralBranches$Message" "PluralBranches$Message" "many" "I") ∈ lw_all := lw_g (lw_at lw_m3 14 rfl) rfl
theorem q561 : (Jvm.Cond.soleField "PluralBranches$Message" "many") ∈ lw_all := lw_g (lw_at lw_m3 15 rfl) rfl
theorem q562 : (Jvm.Cond.laysFinal "PluralBranches$Message" "PluralBranches$Message" "choices" "Ljava/util/ArrayList;") ∈ lw_all := lw_g (lw_at lw_m3 16 rfl) rfl
theorem q563 : (Jvm.Cond.soleField "PluralBranches$Message" "choices") ∈ lw_all := lw_g (lw_at lw_m3 17 rfl) rfl
theorem q564 : (Jvm.Cond.laysFinal "PluralBranches$Message" "PluralBranches$Message" "types" "[I") ∈ lw_all := lw_g (lw_at lw_m3 18 rfl) rfl
theorem q565 : (Jvm.Cond.soleField "PluralBranches$Message" "types") ∈ lw_all := lw_g (lw_at lw_m3 19 rfl) rfl
theorem q566 : (Jvm.Cond.lays "PluralBranches$Message" "PluralBranches$Message" "met" "I") ∈ lw_all := lw_g (lw_at lw_m3 20 rfl) rfl
theorem q567 : (Jvm.Cond.soleField "PluralBranches$Message" "met") ∈ lw_all := lw_g (lw_at lw_m3 21 rfl) rfl
theorem q568 : (Jvm.Cond.superclass "PluralBranches$Message" "java/lang/Object") ∈ lw_all := lw_g (lw_at lw_m3 22 rfl) rfl
theorem q2278 : (Jvm.Cond.castable "PluralBranches$Message" "java/lang/Object") ∈ lw_tbl := lw_at lw_m10 52 rfl
theorem in_X11 : ∀ w ∈ wsX110, w ∈ lw_all := lw_in wsX110 [558, 560, 562, 564, 566] (by decide +kernel) (by decide +kernel)
/-! PluralBranches$Parts -/
set_option maxRecDepth 100000
def RX12 : String := "PluralBranches$Parts"
def TX12 : u_T := fun k => match k with
  | _ => ("PluralBranches$Parts", "all", "Ljava/util/ArrayList;", true)
def tyX12 : Nat → FieldType := fun k => match k with
  | _ => .object "java/util/ArrayList"
abbrev wsX120 : List Cond := u_ws RX12 TX12 1
theorem nmX12 : ∀ a, a < 1 → ∀ b, b < 1 → a ≠ b → (TX12 a).2.1 ≠ (TX12 b).2.1 := by decide +kernel
theorem tyX12_ok : ∀ k, k < 1 → parseFieldDescriptor (TX12 k).2.2.1 = some (tyX12 k) := by decide +kernel
abbrev cX12_init : ByteArray := prog_19_method_1_code
def yX12_init : MethodName := ⟨RX12, "<init>", "()V"⟩
def dkwX12_init_0 : List UInt8 := [42, 183, 0, 1, 42, 187, 0, 7, 89, 183, 0, 9, 181, 0, 10, 177]
abbrev dktX12_init_0 : List UInt8 := dkwX12_init_0 ++ []
theorem dksX12_init_0 : cX12_init.data.toList.drop 0 = dktX12_init_0 := by decide +kernel
theorem dX12_init_0 : decode cX12_init 0 = .ok (.aload_n 0, 1) := dk_42 (dk_at dksX12_init_0 0 rfl rfl)
theorem dX12_init_1 : decode cX12_init 1 = .ok (.invokespecial 1, 3) := dk_183 0 1 (dk_at dksX12_init_0 1 rfl rfl)
theorem dX12_init_4 : decode cX12_init 4 = .ok (.aload_n 0, 1) := dk_42 (dk_at dksX12_init_0 4 rfl rfl)
theorem dX12_init_5 : decode cX12_init 5 = .ok (.new 7, 3) := dk_187 0 7 (dk_at dksX12_init_0 5 rfl rfl)
theorem dX12_init_8 : decode cX12_init 8 = .ok (.dup, 1) := dk_89 (dk_at dksX12_init_0 8 rfl rfl)
theorem dX12_init_9 : decode cX12_init 9 = .ok (.invokespecial 9, 3) := dk_183 0 9 (dk_at dksX12_init_0 9 rfl rfl)
theorem dX12_init_12 : decode cX12_init 12 = .ok (.putfield 10, 3) := dk_181 0 10 (dk_at dksX12_init_0 12 rfl rfl)
theorem dX12_init_15 : decode cX12_init 15 = .ok (.return_, 1) := dk_177 (dk_at dksX12_init_0 15 rfl rfl)
abbrev cX12_depth : ByteArray := prog_19_method_3_code
def yX12_depth : MethodName := ⟨RX12, "depth", "()I"⟩
def dkwX12_depth_1 : List UInt8 := [185, 0, 45, 1, 0, 192, 0, 24, 78, 27, 45, 182, 0, 49, 184, 0, 52, 60, 167, 255, 228, 27, 172]
abbrev dktX12_depth_1 : List UInt8 := dkwX12_depth_1 ++ []
def dkwX12_depth_0 : List UInt8 := [3, 60, 42, 180, 0, 10, 182, 0, 35, 77, 44, 185, 0, 39, 1, 0, 153, 0, 25, 44]
abbrev dktX12_depth_0 : List UInt8 := dkwX12_depth_0 ++ dktX12_depth_1
theorem dksX12_depth_0 : cX12_depth.data.toList.drop 0 = dktX12_depth_0 := by decide +kernel
theorem dksX12_depth_1 : cX12_depth.data.toList.drop 20 = dktX12_depth_1 := dk_seg dksX12_depth_0 20 rfl rfl
theorem dX12_depth_0 : decode cX12_depth 0 = .ok (.iconst 0, 1) := dk_3 (dk_at dksX12_depth_0 0 rfl rfl)
theorem dX12_depth_1 : decode cX12_depth 1 = .ok (.istore_n 1, 1) := dk_60 (dk_at dksX12_depth_0 1 rfl rfl)
theorem dX12_depth_2 : decode cX12_depth 2 = .ok (.aload_n 0, 1) := dk_42 (dk_at dksX12_depth_0 2 rfl rfl)
theorem dX12_depth_3 : decode cX12_depth 3 = .ok (.getfield 10, 3) := dk_180 0 10 (dk_at dksX12_depth_0 3 rfl rfl)
theorem dX12_depth_6 : decode cX12_depth 6 = .ok (.invokevirtual 35, 3) := dk_182 0 35 (dk_at dksX12_depth_0 6 rfl rfl)
theorem dX12_depth_9 : decode cX12_depth 9 = .ok (.astore_n 2, 1) := dk_77 (dk_at dksX12_depth_0 9 rfl rfl)
theorem dX12_depth_10 : decode cX12_depth 10 = .ok (.aload_n 2, 1) := dk_44 (dk_at dksX12_depth_0 10 rfl rfl)
theorem dX12_depth_11 : decode cX12_depth 11 = .ok (.invokeinterface 39 1, 5) := by decide +kernel
theorem dX12_depth_16 : decode cX12_depth 16 = .ok (.ifCond .eq 25, 3) := dk_153 0 25 (dk_at dksX12_depth_0 16 rfl rfl)
theorem dX12_depth_19 : decode cX12_depth 19 = .ok (.aload_n 2, 1) := dk_44 (dk_at dksX12_depth_0 19 rfl rfl)
theorem dX12_depth_20 : decode cX12_depth 20 = .ok (.invokeinterface 45 1, 5) := by decide +kernel
theorem dX12_depth_25 : decode cX12_depth 25 = .ok (.checkcast 24, 3) := dk_192 0 24 (dk_at dksX12_depth_1 5 rfl rfl)
theorem dX12_depth_28 : decode cX12_depth 28 = .ok (.astore_n 3, 1) := dk_78 (dk_at dksX12_depth_1 8 rfl rfl)
theorem dX12_depth_29 : decode cX12_depth 29 = .ok (.iload_n 1, 1) := dk_27 (dk_at dksX12_depth_1 9 rfl rfl)
theorem dX12_depth_30 : decode cX12_depth 30 = .ok (.aload_n 3, 1) := dk_45 (dk_at dksX12_depth_1 10 rfl rfl)
theorem dX12_depth_31 : decode cX12_depth 31 = .ok (.invokevirtual 49, 3) := dk_182 0 49 (dk_at dksX12_depth_1 11 rfl rfl)
theorem dX12_depth_34 : decode cX12_depth 34 = .ok (.invokestatic 52, 3) := dk_184 0 52 (dk_at dksX12_depth_1 14 rfl rfl)
theorem dX12_depth_37 : decode cX12_depth 37 = .ok (.istore_n 1, 1) := dk_60 (dk_at dksX12_depth_1 17 rfl rfl)
theorem dX12_depth_38 : decode cX12_depth 38 = .ok (.goto (-28), 3) := dk_167 255 228 (dk_at dksX12_depth_1 18 rfl rfl)
theorem dX12_depth_41 : decode cX12_depth 41 = .ok (.iload_n 1, 1) := dk_27 (dk_at dksX12_depth_1 21 rfl rfl)
theorem dX12_depth_42 : decode cX12_depth 42 = .ok (.ireturn, 1) := dk_172 (dk_at dksX12_depth_1 22 rfl rfl)
abbrev cX12_write : ByteArray := prog_19_method_2_code
def yX12_write : MethodName := ⟨RX12, "write", "(LPluralBranches$Sheet;)V"⟩
def dkwX12_write_1 : List UInt8 := [43, 182, 0, 26, 43, 182, 0, 30, 132, 2, 1, 167, 255, 223, 177]
abbrev dktX12_write_1 : List UInt8 := dkwX12_write_1 ++ []
def dkwX12_write_0 : List UInt8 := [3, 61, 28, 42, 180, 0, 10, 182, 0, 16, 162, 0, 28, 42, 180, 0, 10, 28, 182, 0, 20, 192, 0, 24]
abbrev dktX12_write_0 : List UInt8 := dkwX12_write_0 ++ dktX12_write_1
theorem dksX12_write_0 : cX12_write.data.toList.drop 0 = dktX12_write_0 := by decide +kernel
theorem dksX12_write_1 : cX12_write.data.toList.drop 24 = dktX12_write_1 := dk_seg dksX12_write_0 24 rfl rfl
theorem dX12_write_0 : decode cX12_write 0 = .ok (.iconst 0, 1) := dk_3 (dk_at dksX12_write_0 0 rfl rfl)
theorem dX12_write_1 : decode cX12_write 1 = .ok (.istore_n 2, 1) := dk_61 (dk_at dksX12_write_0 1 rfl rfl)
theorem dX12_write_2 : decode cX12_write 2 = .ok (.iload_n 2, 1) := dk_28 (dk_at dksX12_write_0 2 rfl rfl)
theorem dX12_write_3 : decode cX12_write 3 = .ok (.aload_n 0, 1) := dk_42 (dk_at dksX12_write_0 3 rfl rfl)
theorem dX12_write_4 : decode cX12_write 4 = .ok (.getfield 10, 3) := dk_180 0 10 (dk_at dksX12_write_0 4 rfl rfl)
theorem dX12_write_7 : decode cX12_write 7 = .ok (.invokevirtual 16, 3) := dk_182 0 16 (dk_at dksX12_write_0 7 rfl rfl)
theorem dX12_write_10 : decode cX12_write 10 = .ok (.if_icmp .ge 28, 3) := dk_162 0 28 (dk_at dksX12_write_0 10 rfl rfl)
theorem dX12_write_13 : decode cX12_write 13 = .ok (.aload_n 0, 1) := dk_42 (dk_at dksX12_write_0 13 rfl rfl)
theorem dX12_write_14 : decode cX12_write 14 = .ok (.getfield 10, 3) := dk_180 0 10 (dk_at dksX12_write_0 14 rfl rfl)
theorem dX12_write_17 : decode cX12_write 17 = .ok (.iload_n 2, 1) := dk_28 (dk_at dksX12_write_0 17 rfl rfl)
theorem dX12_write_18 : decode cX12_write 18 = .ok (.invokevirtual 20, 3) := dk_182 0 20 (dk_at dksX12_write_0 18 rfl rfl)
theorem dX12_write_21 : decode cX12_write 21 = .ok (.checkcast 24, 3) := dk_192 0 24 (dk_at dksX12_write_0 21 rfl rfl)
theorem dX12_write_24 : decode cX12_write 24 = .ok (.aload_n 1, 1) := dk_43 (dk_at dksX12_write_1 0 rfl rfl)
theorem dX12_write_25 : decode cX12_write 25 = .ok (.invokevirtual 26, 3) := dk_182 0 26 (dk_at dksX12_write_1 1 rfl rfl)
theorem dX12_write_28 : decode cX12_write 28 = .ok (.aload_n 1, 1) := dk_43 (dk_at dksX12_write_1 4 rfl rfl)
theorem dX12_write_29 : decode cX12_write 29 = .ok (.invokevirtual 30, 3) := dk_182 0 30 (dk_at dksX12_write_1 5 rfl rfl)
theorem dX12_write_32 : decode cX12_write 32 = .ok (.iinc 2 1, 3) := dk_132 2 1 (dk_at dksX12_write_1 8 rfl rfl)
theorem dX12_write_35 : decode cX12_write 35 = .ok (.goto (-33), 3) := dk_167 255 223 (dk_at dksX12_write_1 11 rfl rfl)
theorem dX12_write_38 : decode cX12_write 38 = .ok (.return_, 1) := dk_177 (dk_at dksX12_write_1 14 rfl rfl)
theorem q88 : (Jvm.Cond.initialized "PluralBranches$Parts") ∈ lw_all := lw_g (lw_at lw_m1 22 rfl) rfl
theorem q259 : (Jvm.Cond.selects "PluralBranches$Parts" ({ cls := "java/lang/Object", name := "getClass", desc := "()Ljava/lang/Class;" } : Jvm.MethodName) ({ cls := "java/lang/Object", name := "getClass", desc := "()Ljava/lang/Class;" } : Jvm.MethodName)) ∈ lw_all := lw_g (lw_at lw_m1 193 rfl) rfl
theorem q597 : (Jvm.Cond.instantiable "PluralBranches$Parts" (1 : Nat)) ∈ lw_all := lw_g (lw_at lw_m3 51 rfl) rfl
theorem q599 : (Jvm.Cond.instanceMethod ({ cls := "PluralBranches$Parts", name := "<init>", desc := "()V" } : Jvm.MethodName)) ∈ lw_all := lw_g (lw_at lw_m3 53 rfl) rfl
theorem q600 : (Jvm.Cond.code ({ cls := "PluralBranches$Parts", name := "<init>", desc := "()V" } : Jvm.MethodName) prog_19_method_1_code (1 : Nat) (Option.none : Option Jvm.ClassFile.FieldType)) ∈ lw_all := lw_g (lw_at lw_m3 54 rfl) rfl
theorem q601 : (Jvm.Cond.methodLink "PluralBranches$Parts" (1 : Nat) ({ cls := "java/lang/Object", name := "<init>", desc := "()V" } : Jvm.MethodName)) ∈ lw_all := lw_g (lw_at lw_m3 55 rfl) rfl
theorem q602 : (Jvm.Cond.classLink "PluralBranches$Parts" (7 : Nat) "java/util/ArrayList") ∈ lw_all := lw_g (lw_at lw_m3 56 rfl) rfl
theorem q603 : (Jvm.Cond.methodLink "PluralBranches$Parts" (9 : Nat) ({ cls := "java/util/ArrayList", name := "<init>", desc := "()V" } : Jvm.MethodName)) ∈ lw_all := lw_g (lw_at lw_m3 57 rfl) rfl
theorem q604 : (Jvm.Cond.fieldLink "PluralBranches$Parts" (10 : Nat) "PluralBranches$Parts" "all" "Ljava/util/ArrayList;") ∈ lw_all := lw_g (lw_at lw_m3 58 rfl) rfl
theorem q606 : (Jvm.Cond.laysFinal "PluralBranches$Parts" "PluralBranches$Parts" "all" "Ljava/util/ArrayList;") ∈ lw_all := lw_g (lw_at lw_m3 60 rfl) rfl
theorem q607 : (Jvm.Cond.soleField "PluralBranches$Parts" "all") ∈ lw_all := lw_g (lw_at lw_m3 61 rfl) rfl
theorem q608 : (Jvm.Cond.superclass "PluralBranches$Parts" "java/lang/Object") ∈ lw_all := lw_g (lw_at lw_m3 62 rfl) rfl
theorem q1010 : (Jvm.Cond.instanceMethod ({ cls := "PluralBranches$Parts", name := "depth", desc := "()I" } : Jvm.MethodName)) ∈ lw_all := lw_g (lw_at lw_m4 224 rfl) rfl
theorem q1011 : (Jvm.Cond.selects "PluralBranches$Parts" ({ cls := "PluralBranches$Parts", name := "depth", desc := "()I" } : Jvm.MethodName) ({ cls := "PluralBranches$Parts", name := "depth", desc := "()I" } : Jvm.MethodName)) ∈ lw_all := lw_g (lw_at lw_m4 225 rfl) rfl
theorem q1012 : (Jvm.Cond.code ({ cls := "PluralBranches$Parts", name := "depth", desc := "()I" } : Jvm.MethodName) prog_19_method_3_code (4 : Nat) (Option.some Jvm.ClassFile.FieldType.int)) ∈ lw_all := lw_g (lw_at lw_m4 226 rfl) rfl
theorem q1013 : (Jvm.Cond.methodLink "PluralBranches$Parts" (35 : Nat) ({ cls := "java/util/ArrayList", name := "iterator", desc := "()Ljava/util/Iterator;" } : Jvm.MethodName)) ∈ lw_all := lw_g (lw_at lw_m4 227 rfl) rfl
theorem q1036 : (Jvm.Cond.interfaceEntry "PluralBranches$Parts" (39 : Nat)) ∈ lw_tbl := lw_at lw_m5 10 rfl
theorem q1037 : (Jvm.Cond.methodLink "PluralBranches$Parts" (39 : Nat) ({ cls := "java/util/Iterator", name := "hasNext", desc := "()Z" } : Jvm.MethodName)) ∈ lw_all := lw_g (lw_at lw_m5 11 rfl) rfl
theorem q1046 : (Jvm.Cond.interfaceEntry "PluralBranches$Parts" (45 : Nat)) ∈ lw_tbl := lw_at lw_m5 20 rfl
theorem q1047 : (Jvm.Cond.methodLink "PluralBranches$Parts" (45 : Nat) ({ cls := "java/util/Iterator", name := "next", desc := "()Ljava/lang/Object;" } : Jvm.MethodName)) ∈ lw_all := lw_g (lw_at lw_m5 21 rfl) rfl
theorem q1059 : (Jvm.Cond.classLink "PluralBranches$Parts" (24 : Nat) "PluralBranches$Part") ∈ lw_all := lw_g (lw_at lw_m5 33 rfl) rfl
theorem q1060 : (Jvm.Cond.methodLink "PluralBranches$Parts" (49 : Nat) ({ cls := "PluralBranches$Part", name := "depth", desc := "()I" } : Jvm.MethodName)) ∈ lw_all := lw_g (lw_at lw_m5 34 rfl) rfl
theorem q1080 : (Jvm.Cond.methodLink "PluralBranches$Parts" (52 : Nat) ({ cls := "java/lang/Math", name := "max", desc := "(II)I" } : Jvm.MethodName)) ∈ lw_all := lw_g (lw_at lw_m5 54 rfl) rfl
theorem q1395 : (Jvm.Cond.instanceMethod ({ cls := "PluralBranches$Parts", name := "write", desc := "(LPluralBranches$Sheet;)V" } : Jvm.MethodName)) ∈ lw_all := lw_g (lw_at lw_m6 129 rfl) rfl
theorem q1396 : (Jvm.Cond.selects "PluralBranches$Parts" ({ cls := "PluralBranches$Parts", name := "write", desc := "(LPluralBranches$Sheet;)V" } : Jvm.MethodName) ({ cls := "PluralBranches$Parts", name := "write", desc := "(LPluralBranches$Sheet;)V" } : Jvm.MethodName)) ∈ lw_all := lw_g (lw_at lw_m6 130 rfl) rfl
theorem q1397 : (Jvm.Cond.code ({ cls := "PluralBranches$Parts", name := "write", desc := "(LPluralBranches$Sheet;)V" } : Jvm.MethodName) prog_19_method_2_code (3 : Nat) (Option.none : Option Jvm.ClassFile.FieldType)) ∈ lw_all := lw_g (lw_at lw_m6 131 rfl) rfl
theorem q1398 : (Jvm.Cond.methodLink "PluralBranches$Parts" (16 : Nat) ({ cls := "java/util/ArrayList", name := "size", desc := "()I" } : Jvm.MethodName)) ∈ lw_all := lw_g (lw_at lw_m6 132 rfl) rfl
theorem q1399 : (Jvm.Cond.methodLink "PluralBranches$Parts" (20 : Nat) ({ cls := "java/util/ArrayList", name := "get", desc := "(I)Ljava/lang/Object;" } : Jvm.MethodName)) ∈ lw_all := lw_g (lw_at lw_m6 133 rfl) rfl
theorem q1400 : (Jvm.Cond.methodLink "PluralBranches$Parts" (26 : Nat) ({ cls := "PluralBranches$Part", name := "write", desc := "(LPluralBranches$Sheet;)V" } : Jvm.MethodName)) ∈ lw_all := lw_g (lw_at lw_m6 134 rfl) rfl
theorem q1592 : (Jvm.Cond.methodLink "PluralBranches$Parts" (30 : Nat) ({ cls := "PluralBranches$Sheet", name := "checks", desc := "()V" } : Jvm.MethodName)) ∈ lw_all := lw_g (lw_at lw_m7 86 rfl) rfl
theorem q2290 : (Jvm.Cond.castable "PluralBranches$Parts" "java/lang/Object") ∈ lw_tbl := lw_at lw_m10 64 rfl
theorem in_X12 : ∀ w ∈ wsX120, w ∈ lw_all := lw_in wsX120 [606] (by decide +kernel) (by decide +kernel)
/-! PluralBranches$Part -/
set_option maxRecDepth 100000
def RX13 : String := "PluralBranches$Part"
abbrev cX13_init : ByteArray := prog_18_method_1_code
def yX13_init : MethodName := ⟨RX13, "<init>", "()V"⟩
theorem dX13_init_0 : decode cX13_init 0 = .ok (.aload_n 0, 1) := by decide +kernel
theorem dX13_init_1 : decode cX13_init 1 = .ok (.invokespecial 1, 3) := by decide +kernel
theorem dX13_init_4 : decode cX13_init 4 = .ok (.return_, 1) := by decide +kernel
abbrev cX13_depth : ByteArray := prog_18_method_3_code
def yX13_depth : MethodName := ⟨RX13, "depth", "()I"⟩
theorem dX13_depth_0 : decode cX13_depth 0 = .ok (.iconst 0, 1) := by decide +kernel
theorem dX13_depth_1 : decode cX13_depth 1 = .ok (.ireturn, 1) := by decide +kernel
theorem q89 : (Jvm.Cond.initialized "PluralBranches$Part") ∈ lw_all := lw_g (lw_at lw_m1 23 rfl) rfl
theorem q630 : (Jvm.Cond.instanceMethod ({ cls := "PluralBranches$Part", name := "<init>", desc := "()V" } : Jvm.MethodName)) ∈ lw_all := lw_g (lw_at lw_m3 84 rfl) rfl
theorem q631 : (Jvm.Cond.code ({ cls := "PluralBranches$Part", name := "<init>", desc := "()V" } : Jvm.MethodName) prog_18_method_1_code (1 : Nat) (Option.none : Option Jvm.ClassFile.FieldType)) ∈ lw_all := lw_g (lw_at lw_m3 85 rfl) rfl
theorem q632 : (Jvm.Cond.methodLink "PluralBranches$Part" (1 : Nat) ({ cls := "java/lang/Object", name := "<init>", desc := "()V" } : Jvm.MethodName)) ∈ lw_all := lw_g (lw_at lw_m3 86 rfl) rfl
theorem q1061 : (Jvm.Cond.instanceMethod ({ cls := "PluralBranches$Part", name := "depth", desc := "()I" } : Jvm.MethodName)) ∈ lw_all := lw_g (lw_at lw_m5 35 rfl) rfl
theorem q1062 : (Jvm.Cond.sameMethod "PluralBranches$Part" "PluralBranches$Part" "depth" "()I") ∈ lw_all := lw_g (lw_at lw_m5 36 rfl) rfl
theorem q1079 : (Jvm.Cond.code ({ cls := "PluralBranches$Part", name := "depth", desc := "()I" } : Jvm.MethodName) prog_18_method_3_code (1 : Nat) (Option.some Jvm.ClassFile.FieldType.int)) ∈ lw_all := lw_g (lw_at lw_m5 53 rfl) rfl
theorem q1401 : (Jvm.Cond.declares ({ cls := "PluralBranches$Part", name := "write", desc := "(LPluralBranches$Sheet;)V" } : Jvm.MethodName)) ∈ lw_tbl := lw_at lw_m6 135 rfl
theorem q1402 : (Jvm.Cond.sameMethod "PluralBranches$Part" "PluralBranches$Part" "write" "(LPluralBranches$Sheet;)V") ∈ lw_all := lw_g (lw_at lw_m6 136 rfl) rfl
/-! PluralBranches$Hash -/
set_option maxRecDepth 100000
def RX14 : String := "PluralBranches$Hash"
abbrev cX14_init : ByteArray := prog_11_method_1_code
def yX14_init : MethodName := ⟨RX14, "<init>", "()V"⟩
theorem dX14_init_0 : decode cX14_init 0 = .ok (.aload_n 0, 1) := by decide +kernel
theorem dX14_init_1 : decode cX14_init 1 = .ok (.invokespecial 1, 3) := by decide +kernel
theorem dX14_init_4 : decode cX14_init 4 = .ok (.return_, 1) := by decide +kernel
abbrev cX14_write : ByteArray := prog_11_method_2_code
def yX14_write : MethodName := ⟨RX14, "write", "(LPluralBranches$Sheet;)V"⟩
def dkwX14_write_0 : List UInt8 := [43, 43, 180, 0, 7, 182, 0, 13, 177]
abbrev dktX14_write_0 : List UInt8 := dkwX14_write_0 ++ []
theorem dksX14_write_0 : cX14_write.data.toList.drop 0 = dktX14_write_0 := by decide +kernel
theorem dX14_write_0 : decode cX14_write 0 = .ok (.aload_n 1, 1) := dk_43 (dk_at dksX14_write_0 0 rfl rfl)
theorem dX14_write_1 : decode cX14_write 1 = .ok (.aload_n 1, 1) := dk_43 (dk_at dksX14_write_0 1 rfl rfl)
theorem dX14_write_2 : decode cX14_write 2 = .ok (.getfield 7, 3) := dk_180 0 7 (dk_at dksX14_write_0 2 rfl rfl)
theorem dX14_write_5 : decode cX14_write 5 = .ok (.invokevirtual 13, 3) := dk_182 0 13 (dk_at dksX14_write_0 5 rfl rfl)
theorem dX14_write_8 : decode cX14_write 8 = .ok (.return_, 1) := dk_177 (dk_at dksX14_write_0 8 rfl rfl)
theorem q90 : (Jvm.Cond.initialized "PluralBranches$Hash") ∈ lw_all := lw_g (lw_at lw_m1 24 rfl) rfl
theorem q253 : (Jvm.Cond.selects "PluralBranches$Hash" ({ cls := "java/lang/Object", name := "getClass", desc := "()Ljava/lang/Class;" } : Jvm.MethodName) ({ cls := "java/lang/Object", name := "getClass", desc := "()Ljava/lang/Class;" } : Jvm.MethodName)) ∈ lw_all := lw_g (lw_at lw_m1 187 rfl) rfl
theorem q625 : (Jvm.Cond.instantiable "PluralBranches$Hash" (0 : Nat)) ∈ lw_all := lw_g (lw_at lw_m3 79 rfl) rfl
theorem q627 : (Jvm.Cond.instanceMethod ({ cls := "PluralBranches$Hash", name := "<init>", desc := "()V" } : Jvm.MethodName)) ∈ lw_all := lw_g (lw_at lw_m3 81 rfl) rfl
theorem q628 : (Jvm.Cond.code ({ cls := "PluralBranches$Hash", name := "<init>", desc := "()V" } : Jvm.MethodName) prog_11_method_1_code (1 : Nat) (Option.none : Option Jvm.ClassFile.FieldType)) ∈ lw_all := lw_g (lw_at lw_m3 82 rfl) rfl
theorem q629 : (Jvm.Cond.methodLinkNest "PluralBranches$Hash" (1 : Nat) ({ cls := "PluralBranches$Part", name := "<init>", desc := "()V" } : Jvm.MethodName) "PluralBranches") ∈ lw_tbl := lw_at lw_m3 83 rfl
theorem q633 : (Jvm.Cond.superclass "PluralBranches$Hash" "PluralBranches$Part") ∈ lw_all := lw_g (lw_at lw_m3 87 rfl) rfl
theorem q1073 : (Jvm.Cond.selects "PluralBranches$Hash" ({ cls := "PluralBranches$Part", name := "depth", desc := "()I" } : Jvm.MethodName) ({ cls := "PluralBranches$Part", name := "depth", desc := "()I" } : Jvm.MethodName)) ∈ lw_all := lw_g (lw_at lw_m5 47 rfl) rfl
theorem q1381 : (Jvm.Cond.fieldLinkNest "PluralBranches$Hash" (7 : Nat) "PluralBranches$Sheet" "nearest" "LPluralBranches$Decimal;" "PluralBranches") ∈ lw_tbl := lw_at lw_m6 115 rfl
theorem q1423 : (Jvm.Cond.selects "PluralBranches$Hash" ({ cls := "PluralBranches$Part", name := "write", desc := "(LPluralBranches$Sheet;)V" } : Jvm.MethodName) ({ cls := "PluralBranches$Hash", name := "write", desc := "(LPluralBranches$Sheet;)V" } : Jvm.MethodName)) ∈ lw_all := lw_g (lw_at lw_m6 157 rfl) rfl
theorem q1424 : (Jvm.Cond.instanceMethod ({ cls := "PluralBranches$Hash", name := "write", desc := "(LPluralBranches$Sheet;)V" } : Jvm.MethodName)) ∈ lw_all := lw_g (lw_at lw_m6 158 rfl) rfl
theorem q1425 : (Jvm.Cond.code ({ cls := "PluralBranches$Hash", name := "write", desc := "(LPluralBranches$Sheet;)V" } : Jvm.MethodName) prog_11_method_2_code (2 : Nat) (Option.none : Option Jvm.ClassFile.FieldType)) ∈ lw_all := lw_g (lw_at lw_m6 159 rfl) rfl
theorem q1426 : (Jvm.Cond.methodLink "PluralBranches$Hash" (13 : Nat) ({ cls := "PluralBranches$Sheet", name := "plainly", desc := "(LPluralBranches$Decimal;)V" } : Jvm.MethodName)) ∈ lw_all := lw_g (lw_at lw_m6 160 rfl) rfl
theorem q2268 : (Jvm.Cond.castable "PluralBranches$Hash" "PluralBranches$Part") ∈ lw_tbl := lw_at lw_m10 42 rfl
theorem q2291 : (Jvm.Cond.castable "PluralBranches$Hash" "java/lang/Object") ∈ lw_tbl := lw_at lw_m10 65 rfl
/-! PluralBranches$Ends -/
set_option maxRecDepth 100000
def RX15 : String := "PluralBranches$Ends"
def TX15 : u_T := fun k => match k with
  | 0 => ("java/lang/Throwable", "cause", "Ljava/lang/Throwable;", false)
  | 1 => ("java/lang/Throwable", "stackTrace", "[Ljava/lang/StackTraceElement;", false)
  | 2 => ("java/lang/Throwable", "suppressedExceptions", "Ljava/util/List;", false)
  | 3 => ("java/lang/Throwable", "detailMessage", "Ljava/lang/String;", false)
  | 4 => ("java/lang/Throwable", "backtrace", "Ljava/lang/Object;", false)
  | 5 => ("java/lang/Throwable", "depth", "I", false)
  | _ => ("PluralBranches$Ends", "code", "I", true)
def tyX15 : Nat → FieldType := fun k => match k with
  | 0 => .object "java/lang/Throwable"
  | 1 => .array (.object "java/lang/StackTraceElement")
  | 2 => .object "java/util/List"
  | 3 => .object "java/lang/String"
  | 4 => .object "java/lang/Object"
  | 5 => .int
  | _ => .int
abbrev wsX150 : List Cond := u_ws RX15 TX15 7
theorem nmX15 : ∀ a, a < 7 → ∀ b, b < 7 → a ≠ b → (TX15 a).2.1 ≠ (TX15 b).2.1 := by decide +kernel
theorem tyX15_ok : ∀ k, k < 7 → parseFieldDescriptor (TX15 k).2.2.1 = some (tyX15 k) := by decide +kernel
abbrev cX15_init : ByteArray := prog_8_method_1_code
def yX15_init : MethodName := ⟨RX15, "<init>", "(I)V"⟩
def dkwX15_init_0 : List UInt8 := [42, 1, 1, 3, 3, 183, 0, 1, 42, 27, 181, 0, 7, 177]
abbrev dktX15_init_0 : List UInt8 := dkwX15_init_0 ++ []
theorem dksX15_init_0 : cX15_init.data.toList.drop 0 = dktX15_init_0 := by decide +kernel
theorem dX15_init_0 : decode cX15_init 0 = .ok (.aload_n 0, 1) := dk_42 (dk_at dksX15_init_0 0 rfl rfl)
theorem dX15_init_1 : decode cX15_init 1 = .ok (.aconst_null, 1) := dk_1 (dk_at dksX15_init_0 1 rfl rfl)
theorem dX15_init_2 : decode cX15_init 2 = .ok (.aconst_null, 1) := dk_1 (dk_at dksX15_init_0 2 rfl rfl)
theorem dX15_init_3 : decode cX15_init 3 = .ok (.iconst 0, 1) := dk_3 (dk_at dksX15_init_0 3 rfl rfl)
theorem dX15_init_4 : decode cX15_init 4 = .ok (.iconst 0, 1) := dk_3 (dk_at dksX15_init_0 4 rfl rfl)
theorem dX15_init_5 : decode cX15_init 5 = .ok (.invokespecial 1, 3) := dk_183 0 1 (dk_at dksX15_init_0 5 rfl rfl)
theorem dX15_init_8 : decode cX15_init 8 = .ok (.aload_n 0, 1) := dk_42 (dk_at dksX15_init_0 8 rfl rfl)
theorem dX15_init_9 : decode cX15_init 9 = .ok (.iload_n 1, 1) := dk_27 (dk_at dksX15_init_0 9 rfl rfl)
theorem dX15_init_10 : decode cX15_init 10 = .ok (.putfield 7, 3) := dk_181 0 7 (dk_at dksX15_init_0 10 rfl rfl)
theorem dX15_init_13 : decode cX15_init 13 = .ok (.return_, 1) := dk_177 (dk_at dksX15_init_0 13 rfl rfl)
theorem q94 : (Jvm.Cond.initialized "PluralBranches$Ends") ∈ lw_all := lw_g (lw_at lw_m1 28 rfl) rfl
theorem q250 : (Jvm.Cond.selects "PluralBranches$Ends" ({ cls := "java/lang/Object", name := "getClass", desc := "()Ljava/lang/Class;" } : Jvm.MethodName) ({ cls := "java/lang/Object", name := "getClass", desc := "()Ljava/lang/Class;" } : Jvm.MethodName)) ∈ lw_all := lw_g (lw_at lw_m1 184 rfl) rfl
theorem q649 : (Jvm.Cond.instantiable "PluralBranches$Ends" (7 : Nat)) ∈ lw_all := lw_g (lw_at lw_m3 103 rfl) rfl
theorem q650 : (Jvm.Cond.castable "PluralBranches$Ends" "PluralBranches$Ends") ∈ lw_tbl := lw_at lw_m3 104 rfl
theorem q657 : (Jvm.Cond.selects "PluralBranches$Ends" ({ cls := "java/lang/Throwable", name := "fillInStackTrace", desc := "(I)Ljava/lang/Throwable;" } : Jvm.MethodName) ({ cls := "java/lang/Throwable", name := "fillInStackTrace", desc := "(I)Ljava/lang/Throwable;" } : Jvm.MethodName)) ∈ lw_all := lw_g (lw_at lw_m3 111 rfl) rfl
theorem q658 : (Jvm.Cond.selects "PluralBranches$Ends" ({ cls := "java/lang/Throwable", name := "fillInStackTrace", desc := "()Ljava/lang/Throwable;" } : Jvm.MethodName) ({ cls := "java/lang/Throwable", name := "fillInStackTrace", desc := "()Ljava/lang/Throwable;" } : Jvm.MethodName)) ∈ lw_all := lw_g (lw_at lw_m3 112 rfl) rfl
theorem q659 : (Jvm.Cond.lays "PluralBranches$Ends" "java/lang/Throwable" "cause" "Ljava/lang/Throwable;") ∈ lw_all := lw_g (lw_at lw_m3 113 rfl) rfl
theorem q661 : (Jvm.Cond.lays "PluralBranches$Ends" "java/lang/Throwable" "stackTrace" "[Ljava/lang/StackTraceElement;") ∈ lw_all := lw_g (lw_at lw_m3 115 rfl) rfl
theorem q663 : (Jvm.Cond.lays "PluralBranches$Ends" "java/lang/Throwable" "suppressedExceptions" "Ljava/util/List;") ∈ lw_all := lw_g (lw_at lw_m3 117 rfl) rfl
theorem q665 : (Jvm.Cond.lays "PluralBranches$Ends" "java/lang/Throwable" "detailMessage" "Ljava/lang/String;") ∈ lw_all := lw_g (lw_at lw_m3 119 rfl) rfl
theorem q667 : (Jvm.Cond.lays "PluralBranches$Ends" "java/lang/Throwable" "backtrace" "Ljava/lang/Object;") ∈ lw_all := lw_g (lw_at lw_m3 121 rfl) rfl
theorem q690 : (Jvm.Cond.instanceMethod ({ cls := "PluralBranches$Ends", name := "<init>", desc := "(I)V" } : Jvm.MethodName)) ∈ lw_all := lw_g (lw_at lw_m3 144 rfl) rfl
theorem q691 : (Jvm.Cond.code ({ cls := "PluralBranches$Ends", name := "<init>", desc := "(I)V" } : Jvm.MethodName) prog_8_method_1_code (2 : Nat) (Option.none : Option Jvm.ClassFile.FieldType)) ∈ lw_all := lw_g (lw_at lw_m3 145 rfl) rfl
theorem q692 : (Jvm.Cond.methodLink "PluralBranches$Ends" (1 : Nat) ({ cls := "java/lang/RuntimeException", name := "<init>", desc := "(Ljava/lang/String;Ljava/lang/Throwable;ZZ)V" } : Jvm.MethodName)) ∈ lw_all := lw_g (lw_at lw_m3 146 rfl) rfl
theorem q701 : (Jvm.Cond.fieldLink "PluralBranches$Ends" (7 : Nat) "PluralBranches$Ends" "code" "I") ∈ lw_all := lw_g (lw_at lw_m3 155 rfl) rfl
theorem q708 : (Jvm.Cond.laysFinal "PluralBranches$Ends" "PluralBranches$Ends" "code" "I") ∈ lw_all := lw_g (lw_at lw_m3 162 rfl) rfl
theorem q709 : (Jvm.Cond.soleField "PluralBranches$Ends" "code") ∈ lw_all := lw_g (lw_at lw_m3 163 rfl) rfl
theorem q714 : (Jvm.Cond.lays "PluralBranches$Ends" "java/lang/Throwable" "depth" "I") ∈ lw_all := lw_g (lw_at lw_m3 168 rfl) rfl
theorem q717 : (Jvm.Cond.superclass "PluralBranches$Ends" "java/lang/RuntimeException") ∈ lw_all := lw_g (lw_at lw_m3 171 rfl) rfl
theorem q2292 : (Jvm.Cond.castable "PluralBranches$Ends" "java/lang/Object") ∈ lw_tbl := lw_at lw_m10 66 rfl
theorem in_X15 : ∀ w ∈ wsX150, w ∈ lw_all := lw_in wsX150 [659, 661, 663, 665, 667, 714, 708] (by decide +kernel) (by decide +kernel)
/-! PluralBranches$Plain -/
set_option maxRecDepth 100000
def RX16 : String := "PluralBranches$Plain"
def TX16 : u_T := fun k => match k with
  | _ => ("PluralBranches$Plain", "argument", "I", true)
def tyX16 : Nat → FieldType := fun k => match k with
  | _ => .int
abbrev wsX160 : List Cond := u_ws RX16 TX16 1
theorem nmX16 : ∀ a, a < 1 → ∀ b, b < 1 → a ≠ b → (TX16 a).2.1 ≠ (TX16 b).2.1 := by decide +kernel
theorem tyX16_ok : ∀ k, k < 1 → parseFieldDescriptor (TX16 k).2.2.1 = some (tyX16 k) := by decide +kernel
abbrev cX16_init : ByteArray := prog_21_method_1_code
def yX16_init : MethodName := ⟨RX16, "<init>", "(I)V"⟩
def dkwX16_init_0 : List UInt8 := [42, 183, 0, 1, 42, 27, 181, 0, 7, 177]
abbrev dktX16_init_0 : List UInt8 := dkwX16_init_0 ++ []
theorem dksX16_init_0 : cX16_init.data.toList.drop 0 = dktX16_init_0 := by decide +kernel
theorem dX16_init_0 : decode cX16_init 0 = .ok (.aload_n 0, 1) := dk_42 (dk_at dksX16_init_0 0 rfl rfl)
theorem dX16_init_1 : decode cX16_init 1 = .ok (.invokespecial 1, 3) := dk_183 0 1 (dk_at dksX16_init_0 1 rfl rfl)
theorem dX16_init_4 : decode cX16_init 4 = .ok (.aload_n 0, 1) := dk_42 (dk_at dksX16_init_0 4 rfl rfl)
theorem dX16_init_5 : decode cX16_init 5 = .ok (.iload_n 1, 1) := dk_27 (dk_at dksX16_init_0 5 rfl rfl)
theorem dX16_init_6 : decode cX16_init 6 = .ok (.putfield 7, 3) := dk_181 0 7 (dk_at dksX16_init_0 6 rfl rfl)
theorem dX16_init_9 : decode cX16_init 9 = .ok (.return_, 1) := dk_177 (dk_at dksX16_init_0 9 rfl rfl)
abbrev cX16_thing : ByteArray := prog_21_method_2_code
def yX16_thing : MethodName := ⟨RX16, "thing", "(LPluralBranches$Sheet;)LPluralBranches$Thing;"⟩
def dkwX16_thing_1 : List UInt8 := [184, 0, 19, 43, 180, 0, 13, 42, 180, 0, 7, 50, 176]
abbrev dktX16_thing_1 : List UInt8 := dkwX16_thing_1 ++ []
def dkwX16_thing_0 : List UInt8 := [43, 180, 0, 13, 42, 180, 0, 7, 50, 198, 0, 7, 4, 167, 0, 4, 3, 16, 236, 42, 180, 0, 7, 100]
abbrev dktX16_thing_0 : List UInt8 := dkwX16_thing_0 ++ dktX16_thing_1
theorem dksX16_thing_0 : cX16_thing.data.toList.drop 0 = dktX16_thing_0 := by decide +kernel
theorem dksX16_thing_1 : cX16_thing.data.toList.drop 24 = dktX16_thing_1 := dk_seg dksX16_thing_0 24 rfl rfl
theorem dX16_thing_0 : decode cX16_thing 0 = .ok (.aload_n 1, 1) := dk_43 (dk_at dksX16_thing_0 0 rfl rfl)
theorem dX16_thing_1 : decode cX16_thing 1 = .ok (.getfield 13, 3) := dk_180 0 13 (dk_at dksX16_thing_0 1 rfl rfl)
theorem dX16_thing_4 : decode cX16_thing 4 = .ok (.aload_n 0, 1) := dk_42 (dk_at dksX16_thing_0 4 rfl rfl)
theorem dX16_thing_5 : decode cX16_thing 5 = .ok (.getfield 7, 3) := dk_180 0 7 (dk_at dksX16_thing_0 5 rfl rfl)
theorem dX16_thing_8 : decode cX16_thing 8 = .ok (.aaload, 1) := dk_50 (dk_at dksX16_thing_0 8 rfl rfl)
theorem dX16_thing_9 : decode cX16_thing 9 = .ok (.ifnull 7, 3) := dk_198 0 7 (dk_at dksX16_thing_0 9 rfl rfl)
theorem dX16_thing_12 : decode cX16_thing 12 = .ok (.iconst 1, 1) := dk_4 (dk_at dksX16_thing_0 12 rfl rfl)
theorem dX16_thing_13 : decode cX16_thing 13 = .ok (.goto 4, 3) := dk_167 0 4 (dk_at dksX16_thing_0 13 rfl rfl)
theorem dX16_thing_16 : decode cX16_thing 16 = .ok (.iconst 0, 1) := dk_3 (dk_at dksX16_thing_0 16 rfl rfl)
theorem dX16_thing_17 : decode cX16_thing 17 = .ok (.bipush (-20), 2) := dk_16 236 (dk_at dksX16_thing_0 17 rfl rfl)
theorem dX16_thing_19 : decode cX16_thing 19 = .ok (.aload_n 0, 1) := dk_42 (dk_at dksX16_thing_0 19 rfl rfl)
theorem dX16_thing_20 : decode cX16_thing 20 = .ok (.getfield 7, 3) := dk_180 0 7 (dk_at dksX16_thing_0 20 rfl rfl)
theorem dX16_thing_23 : decode cX16_thing 23 = .ok (.isub, 1) := dk_100 (dk_at dksX16_thing_0 23 rfl rfl)
theorem dX16_thing_24 : decode cX16_thing 24 = .ok (.invokestatic 19, 3) := dk_184 0 19 (dk_at dksX16_thing_1 0 rfl rfl)
theorem dX16_thing_27 : decode cX16_thing 27 = .ok (.aload_n 1, 1) := dk_43 (dk_at dksX16_thing_1 3 rfl rfl)
theorem dX16_thing_28 : decode cX16_thing 28 = .ok (.getfield 13, 3) := dk_180 0 13 (dk_at dksX16_thing_1 4 rfl rfl)
theorem dX16_thing_31 : decode cX16_thing 31 = .ok (.aload_n 0, 1) := dk_42 (dk_at dksX16_thing_1 7 rfl rfl)
theorem dX16_thing_32 : decode cX16_thing 32 = .ok (.getfield 7, 3) := dk_180 0 7 (dk_at dksX16_thing_1 8 rfl rfl)
theorem dX16_thing_35 : decode cX16_thing 35 = .ok (.aaload, 1) := dk_50 (dk_at dksX16_thing_1 11 rfl rfl)
theorem dX16_thing_36 : decode cX16_thing 36 = .ok (.areturn, 1) := dk_176 (dk_at dksX16_thing_1 12 rfl rfl)
abbrev cX16_write : ByteArray := prog_21_method_3_code
def yX16_write : MethodName := ⟨RX16, "write", "(LPluralBranches$Sheet;)V"⟩
def dkwX16_write_0 : List UInt8 := [42, 43, 182, 0, 25, 43, 185, 0, 29, 2, 0, 177]
abbrev dktX16_write_0 : List UInt8 := dkwX16_write_0 ++ []
theorem dksX16_write_0 : cX16_write.data.toList.drop 0 = dktX16_write_0 := by decide +kernel
theorem dX16_write_0 : decode cX16_write 0 = .ok (.aload_n 0, 1) := dk_42 (dk_at dksX16_write_0 0 rfl rfl)
theorem dX16_write_1 : decode cX16_write 1 = .ok (.aload_n 1, 1) := dk_43 (dk_at dksX16_write_0 1 rfl rfl)
theorem dX16_write_2 : decode cX16_write 2 = .ok (.invokevirtual 25, 3) := dk_182 0 25 (dk_at dksX16_write_0 2 rfl rfl)
theorem dX16_write_5 : decode cX16_write 5 = .ok (.aload_n 1, 1) := dk_43 (dk_at dksX16_write_0 5 rfl rfl)
theorem dX16_write_6 : decode cX16_write 6 = .ok (.invokeinterface 29 2, 5) := by decide +kernel
theorem dX16_write_11 : decode cX16_write 11 = .ok (.return_, 1) := dk_177 (dk_at dksX16_write_0 11 rfl rfl)
theorem q95 : (Jvm.Cond.initialized "PluralBranches$Plain") ∈ lw_all := lw_g (lw_at lw_m1 29 rfl) rfl
theorem q261 : (Jvm.Cond.selects "PluralBranches$Plain" ({ cls := "java/lang/Object", name := "getClass", desc := "()Ljava/lang/Class;" } : Jvm.MethodName) ({ cls := "java/lang/Object", name := "getClass", desc := "()Ljava/lang/Class;" } : Jvm.MethodName)) ∈ lw_all := lw_g (lw_at lw_m1 195 rfl) rfl
theorem q728 : (Jvm.Cond.instantiable "PluralBranches$Plain" (1 : Nat)) ∈ lw_all := lw_g (lw_at lw_m3 182 rfl) rfl
theorem q730 : (Jvm.Cond.instanceMethod ({ cls := "PluralBranches$Plain", name := "<init>", desc := "(I)V" } : Jvm.MethodName)) ∈ lw_all := lw_g (lw_at lw_m3 184 rfl) rfl
theorem q731 : (Jvm.Cond.code ({ cls := "PluralBranches$Plain", name := "<init>", desc := "(I)V" } : Jvm.MethodName) prog_21_method_1_code (2 : Nat) (Option.none : Option Jvm.ClassFile.FieldType)) ∈ lw_all := lw_g (lw_at lw_m3 185 rfl) rfl
theorem q732 : (Jvm.Cond.methodLinkNest "PluralBranches$Plain" (1 : Nat) ({ cls := "PluralBranches$Part", name := "<init>", desc := "()V" } : Jvm.MethodName) "PluralBranches") ∈ lw_tbl := lw_at lw_m3 186 rfl
theorem q733 : (Jvm.Cond.fieldLink "PluralBranches$Plain" (7 : Nat) "PluralBranches$Plain" "argument" "I") ∈ lw_all := lw_g (lw_at lw_m3 187 rfl) rfl
theorem q744 : (Jvm.Cond.laysFinal "PluralBranches$Plain" "PluralBranches$Plain" "argument" "I") ∈ lw_all := lw_g (lw_at lw_m3 198 rfl) rfl
theorem q745 : (Jvm.Cond.soleField "PluralBranches$Plain" "argument") ∈ lw_all := lw_g (lw_at lw_m3 199 rfl) rfl
theorem q746 : (Jvm.Cond.superclass "PluralBranches$Plain" "PluralBranches$Part") ∈ lw_all := lw_g (lw_at lw_m3 200 rfl) rfl
theorem q1075 : (Jvm.Cond.selects "PluralBranches$Plain" ({ cls := "PluralBranches$Part", name := "depth", desc := "()I" } : Jvm.MethodName) ({ cls := "PluralBranches$Part", name := "depth", desc := "()I" } : Jvm.MethodName)) ∈ lw_all := lw_g (lw_at lw_m5 49 rfl) rfl
theorem q1380 : (Jvm.Cond.fieldLinkNest "PluralBranches$Plain" (13 : Nat) "PluralBranches$Sheet" "things" "[LPluralBranches$Thing;" "PluralBranches") ∈ lw_tbl := lw_at lw_m6 114 rfl
theorem q1408 : (Jvm.Cond.declares ({ cls := "PluralBranches$Plain", name := "thing", desc := "(LPluralBranches$Sheet;)LPluralBranches$Thing;" } : Jvm.MethodName)) ∈ lw_tbl := lw_at lw_m6 142 rfl
theorem q1410 : (Jvm.Cond.instanceMethod ({ cls := "PluralBranches$Plain", name := "thing", desc := "(LPluralBranches$Sheet;)LPluralBranches$Thing;" } : Jvm.MethodName)) ∈ lw_all := lw_g (lw_at lw_m6 144 rfl) rfl
theorem q1411 : (Jvm.Cond.code ({ cls := "PluralBranches$Plain", name := "thing", desc := "(LPluralBranches$Sheet;)LPluralBranches$Thing;" } : Jvm.MethodName) prog_21_method_2_code (2 : Nat) (Option.some (Jvm.ClassFile.FieldType.object "PluralBranches$Thing"))) ∈ lw_all := lw_g (lw_at lw_m6 145 rfl) rfl
theorem q1412 : (Jvm.Cond.methodLinkNest "PluralBranches$Plain" (19 : Nat) ({ cls := "PluralBranches", name := "need", desc := "(ZI)V" } : Jvm.MethodName) "PluralBranches") ∈ lw_tbl := lw_at lw_m6 146 rfl
theorem q1462 : (Jvm.Cond.instanceMethod ({ cls := "PluralBranches$Plain", name := "write", desc := "(LPluralBranches$Sheet;)V" } : Jvm.MethodName)) ∈ lw_all := lw_g (lw_at lw_m6 196 rfl) rfl
theorem q1463 : (Jvm.Cond.code ({ cls := "PluralBranches$Plain", name := "write", desc := "(LPluralBranches$Sheet;)V" } : Jvm.MethodName) prog_21_method_3_code (2 : Nat) (Option.none : Option Jvm.ClassFile.FieldType)) ∈ lw_all := lw_g (lw_at lw_m6 197 rfl) rfl
theorem q1464 : (Jvm.Cond.methodLink "PluralBranches$Plain" (25 : Nat) ({ cls := "PluralBranches$Plain", name := "thing", desc := "(LPluralBranches$Sheet;)LPluralBranches$Thing;" } : Jvm.MethodName)) ∈ lw_all := lw_g (lw_at lw_m6 198 rfl) rfl
theorem q1465 : (Jvm.Cond.interfaceEntry "PluralBranches$Plain" (29 : Nat)) ∈ lw_tbl := lw_at lw_m6 199 rfl
theorem q1466 : (Jvm.Cond.methodLink "PluralBranches$Plain" (29 : Nat) ({ cls := "PluralBranches$Thing", name := "write", desc := "(LPluralBranches$Sheet;)V" } : Jvm.MethodName)) ∈ lw_all := lw_g (lw_at lw_m6 200 rfl) rfl
theorem q1538 : (Jvm.Cond.selects "PluralBranches$Plain" ({ cls := "PluralBranches$Part", name := "write", desc := "(LPluralBranches$Sheet;)V" } : Jvm.MethodName) ({ cls := "PluralBranches$Plain", name := "write", desc := "(LPluralBranches$Sheet;)V" } : Jvm.MethodName)) ∈ lw_all := lw_g (lw_at lw_m7 32 rfl) rfl
theorem q2258 : (Jvm.Cond.sameMethod "PluralBranches$Plain" "PluralBranches$Plain" "write" "(LPluralBranches$Sheet;)V") ∈ lw_all := lw_g (lw_at lw_m10 32 rfl) rfl
theorem q2259 : (Jvm.Cond.sameMethod "PluralBranches$Plain" "PluralBranches$Plain" "thing" "(LPluralBranches$Sheet;)LPluralBranches$Thing;") ∈ lw_all := lw_g (lw_at lw_m10 33 rfl) rfl
theorem q2262 : (Jvm.Cond.selects "PluralBranches$Plain" ({ cls := "PluralBranches$Plain", name := "thing", desc := "(LPluralBranches$Sheet;)LPluralBranches$Thing;" } : Jvm.MethodName) ({ cls := "PluralBranches$Plain", name := "thing", desc := "(LPluralBranches$Sheet;)LPluralBranches$Thing;" } : Jvm.MethodName)) ∈ lw_all := lw_g (lw_at lw_m10 36 rfl) rfl
theorem q2270 : (Jvm.Cond.castable "PluralBranches$Plain" "PluralBranches$Part") ∈ lw_tbl := lw_at lw_m10 44 rfl
theorem q2293 : (Jvm.Cond.castable "PluralBranches$Plain" "java/lang/Object") ∈ lw_tbl := lw_at lw_m10 67 rfl
theorem in_X16 : ∀ w ∈ wsX160, w ∈ lw_all := lw_in wsX160 [744] (by decide +kernel) (by decide +kernel)
/-! PluralBranches$Joined -/
set_option maxRecDepth 100000
def RX17 : String := "PluralBranches$Joined"
def TX17 : u_T := fun k => match k with
  | _ => ("PluralBranches$Plain", "argument", "I", true)
def tyX17 : Nat → FieldType := fun k => match k with
  | _ => .int
abbrev wsX170 : List Cond := u_ws RX17 TX17 1
theorem nmX17 : ∀ a, a < 1 → ∀ b, b < 1 → a ≠ b → (TX17 a).2.1 ≠ (TX17 b).2.1 := by decide +kernel
theorem tyX17_ok : ∀ k, k < 1 → parseFieldDescriptor (TX17 k).2.2.1 = some (tyX17 k) := by decide +kernel
abbrev cX17_init : ByteArray := prog_12_method_1_code
def yX17_init : MethodName := ⟨RX17, "<init>", "(I)V"⟩
def dkwX17_init_0 : List UInt8 := [42, 27, 183, 0, 1, 177]
abbrev dktX17_init_0 : List UInt8 := dkwX17_init_0 ++ []
theorem dksX17_init_0 : cX17_init.data.toList.drop 0 = dktX17_init_0 := by decide +kernel
theorem dX17_init_0 : decode cX17_init 0 = .ok (.aload_n 0, 1) := dk_42 (dk_at dksX17_init_0 0 rfl rfl)
theorem dX17_init_1 : decode cX17_init 1 = .ok (.iload_n 1, 1) := dk_27 (dk_at dksX17_init_0 1 rfl rfl)
theorem dX17_init_2 : decode cX17_init 2 = .ok (.invokespecial 1, 3) := dk_183 0 1 (dk_at dksX17_init_0 2 rfl rfl)
theorem dX17_init_5 : decode cX17_init 5 = .ok (.return_, 1) := dk_177 (dk_at dksX17_init_0 5 rfl rfl)
abbrev cX17_write : ByteArray := prog_12_method_2_code
def yX17_write : MethodName := ⟨RX17, "write", "(LPluralBranches$Sheet;)V"⟩
def dkwX17_write_0 : List UInt8 := [42, 43, 182, 0, 7, 193, 0, 13, 16, 236, 42, 180, 0, 15, 100, 184, 0, 19, 42, 43, 183, 0, 25, 177]
abbrev dktX17_write_0 : List UInt8 := dkwX17_write_0 ++ []
theorem dksX17_write_0 : cX17_write.data.toList.drop 0 = dktX17_write_0 := by decide +kernel
theorem dX17_write_0 : decode cX17_write 0 = .ok (.aload_n 0, 1) := dk_42 (dk_at dksX17_write_0 0 rfl rfl)
theorem dX17_write_1 : decode cX17_write 1 = .ok (.aload_n 1, 1) := dk_43 (dk_at dksX17_write_0 1 rfl rfl)
theorem dX17_write_2 : decode cX17_write 2 = .ok (.invokevirtual 7, 3) := dk_182 0 7 (dk_at dksX17_write_0 2 rfl rfl)
theorem dX17_write_5 : decode cX17_write 5 = .ok (.instanceof 13, 3) := dk_193 0 13 (dk_at dksX17_write_0 5 rfl rfl)
theorem dX17_write_8 : decode cX17_write 8 = .ok (.bipush (-20), 2) := dk_16 236 (dk_at dksX17_write_0 8 rfl rfl)
theorem dX17_write_10 : decode cX17_write 10 = .ok (.aload_n 0, 1) := dk_42 (dk_at dksX17_write_0 10 rfl rfl)
theorem dX17_write_11 : decode cX17_write 11 = .ok (.getfield 15, 3) := dk_180 0 15 (dk_at dksX17_write_0 11 rfl rfl)
theorem dX17_write_14 : decode cX17_write 14 = .ok (.isub, 1) := dk_100 (dk_at dksX17_write_0 14 rfl rfl)
theorem dX17_write_15 : decode cX17_write 15 = .ok (.invokestatic 19, 3) := dk_184 0 19 (dk_at dksX17_write_0 15 rfl rfl)
theorem dX17_write_18 : decode cX17_write 18 = .ok (.aload_n 0, 1) := dk_42 (dk_at dksX17_write_0 18 rfl rfl)
theorem dX17_write_19 : decode cX17_write 19 = .ok (.aload_n 1, 1) := dk_43 (dk_at dksX17_write_0 19 rfl rfl)
theorem dX17_write_20 : decode cX17_write 20 = .ok (.invokespecial 25, 3) := dk_183 0 25 (dk_at dksX17_write_0 20 rfl rfl)
theorem dX17_write_23 : decode cX17_write 23 = .ok (.return_, 1) := dk_177 (dk_at dksX17_write_0 23 rfl rfl)
theorem q96 : (Jvm.Cond.initialized "PluralBranches$Joined") ∈ lw_all := lw_g (lw_at lw_m1 30 rfl) rfl
theorem q254 : (Jvm.Cond.selects "PluralBranches$Joined" ({ cls := "java/lang/Object", name := "getClass", desc := "()Ljava/lang/Class;" } : Jvm.MethodName) ({ cls := "java/lang/Object", name := "getClass", desc := "()Ljava/lang/Class;" } : Jvm.MethodName)) ∈ lw_all := lw_g (lw_at lw_m1 188 rfl) rfl
theorem q736 : (Jvm.Cond.fieldLink "PluralBranches$Joined" (15 : Nat) "PluralBranches$Joined" "argument" "I") ∈ lw_all := lw_g (lw_at lw_m3 190 rfl) rfl
theorem q737 : (Jvm.Cond.sameField "PluralBranches$Joined" "PluralBranches$Plain" "argument" "I") ∈ lw_all := lw_g (lw_at lw_m3 191 rfl) rfl
theorem q756 : (Jvm.Cond.instantiable "PluralBranches$Joined" (1 : Nat)) ∈ lw_all := lw_g (lw_at lw_m3 210 rfl) rfl
theorem q758 : (Jvm.Cond.instanceMethod ({ cls := "PluralBranches$Joined", name := "<init>", desc := "(I)V" } : Jvm.MethodName)) ∈ lw_all := lw_g (lw_at lw_m3 212 rfl) rfl
theorem q759 : (Jvm.Cond.code ({ cls := "PluralBranches$Joined", name := "<init>", desc := "(I)V" } : Jvm.MethodName) prog_12_method_1_code (2 : Nat) (Option.none : Option Jvm.ClassFile.FieldType)) ∈ lw_all := lw_g (lw_at lw_m3 213 rfl) rfl
theorem q760 : (Jvm.Cond.methodLink "PluralBranches$Joined" (1 : Nat) ({ cls := "PluralBranches$Plain", name := "<init>", desc := "(I)V" } : Jvm.MethodName)) ∈ lw_all := lw_g (lw_at lw_m3 214 rfl) rfl
theorem q761 : (Jvm.Cond.laysFinal "PluralBranches$Joined" "PluralBranches$Plain" "argument" "I") ∈ lw_all := lw_g (lw_at lw_m3 215 rfl) rfl
theorem q762 : (Jvm.Cond.superclass "PluralBranches$Joined" "PluralBranches$Plain") ∈ lw_all := lw_g (lw_at lw_m3 216 rfl) rfl
theorem q1074 : (Jvm.Cond.selects "PluralBranches$Joined" ({ cls := "PluralBranches$Part", name := "depth", desc := "()I" } : Jvm.MethodName) ({ cls := "PluralBranches$Part", name := "depth", desc := "()I" } : Jvm.MethodName)) ∈ lw_all := lw_g (lw_at lw_m5 48 rfl) rfl
theorem q1453 : (Jvm.Cond.selects "PluralBranches$Joined" ({ cls := "PluralBranches$Part", name := "write", desc := "(LPluralBranches$Sheet;)V" } : Jvm.MethodName) ({ cls := "PluralBranches$Joined", name := "write", desc := "(LPluralBranches$Sheet;)V" } : Jvm.MethodName)) ∈ lw_all := lw_g (lw_at lw_m6 187 rfl) rfl
theorem q1454 : (Jvm.Cond.instanceMethod ({ cls := "PluralBranches$Joined", name := "write", desc := "(LPluralBranches$Sheet;)V" } : Jvm.MethodName)) ∈ lw_all := lw_g (lw_at lw_m6 188 rfl) rfl
theorem q1455 : (Jvm.Cond.code ({ cls := "PluralBranches$Joined", name := "write", desc := "(LPluralBranches$Sheet;)V" } : Jvm.MethodName) prog_12_method_2_code (2 : Nat) (Option.none : Option Jvm.ClassFile.FieldType)) ∈ lw_all := lw_g (lw_at lw_m6 189 rfl) rfl
theorem q1456 : (Jvm.Cond.methodLink "PluralBranches$Joined" (7 : Nat) ({ cls := "PluralBranches$Joined", name := "thing", desc := "(LPluralBranches$Sheet;)LPluralBranches$Thing;" } : Jvm.MethodName)) ∈ lw_all := lw_g (lw_at lw_m6 190 rfl) rfl
theorem q1457 : (Jvm.Cond.sameMethod "PluralBranches$Joined" "PluralBranches$Plain" "thing" "(LPluralBranches$Sheet;)LPluralBranches$Thing;") ∈ lw_all := lw_g (lw_at lw_m6 191 rfl) rfl
theorem q1458 : (Jvm.Cond.selects "PluralBranches$Joined" ({ cls := "PluralBranches$Joined", name := "thing", desc := "(LPluralBranches$Sheet;)LPluralBranches$Thing;" } : Jvm.MethodName) ({ cls := "PluralBranches$Plain", name := "thing", desc := "(LPluralBranches$Sheet;)LPluralBranches$Thing;" } : Jvm.MethodName)) ∈ lw_all := lw_g (lw_at lw_m6 192 rfl) rfl
theorem q1459 : (Jvm.Cond.classLink "PluralBranches$Joined" (13 : Nat) "PluralBranches$Listed") ∈ lw_all := lw_g (lw_at lw_m6 193 rfl) rfl
theorem q1460 : (Jvm.Cond.methodLinkNest "PluralBranches$Joined" (19 : Nat) ({ cls := "PluralBranches", name := "need", desc := "(ZI)V" } : Jvm.MethodName) "PluralBranches") ∈ lw_tbl := lw_at lw_m6 194 rfl
theorem q1461 : (Jvm.Cond.methodLink "PluralBranches$Joined" (25 : Nat) ({ cls := "PluralBranches$Plain", name := "write", desc := "(LPluralBranches$Sheet;)V" } : Jvm.MethodName)) ∈ lw_all := lw_g (lw_at lw_m6 195 rfl) rfl
theorem q2261 : (Jvm.Cond.selects "PluralBranches$Joined" ({ cls := "PluralBranches$Plain", name := "thing", desc := "(LPluralBranches$Sheet;)LPluralBranches$Thing;" } : Jvm.MethodName) ({ cls := "PluralBranches$Plain", name := "thing", desc := "(LPluralBranches$Sheet;)LPluralBranches$Thing;" } : Jvm.MethodName)) ∈ lw_all := lw_g (lw_at lw_m10 35 rfl) rfl
theorem q2269 : (Jvm.Cond.castable "PluralBranches$Joined" "PluralBranches$Part") ∈ lw_tbl := lw_at lw_m10 43 rfl
theorem q2294 : (Jvm.Cond.castable "PluralBranches$Joined" "java/lang/Object") ∈ lw_tbl := lw_at lw_m10 68 rfl
theorem in_X17 : ∀ w ∈ wsX170, w ∈ lw_all := lw_in wsX170 [761] (by decide +kernel) (by decide +kernel)
/-! PluralBranches$Shaped -/
set_option maxRecDepth 100000
def RX18 : String := "PluralBranches$Shaped"
def TX18 : u_T := fun k => match k with
  | 0 => ("PluralBranches$Plain", "argument", "I", true)
  | _ => ("PluralBranches$Shaped", "pattern", "LPluralBranches$Pattern;", true)
def tyX18 : Nat → FieldType := fun k => match k with
  | 0 => .int
  | _ => .object "PluralBranches$Pattern"
abbrev wsX180 : List Cond := u_ws RX18 TX18 2
theorem nmX18 : ∀ a, a < 2 → ∀ b, b < 2 → a ≠ b → (TX18 a).2.1 ≠ (TX18 b).2.1 := by decide +kernel
theorem tyX18_ok : ∀ k, k < 2 → parseFieldDescriptor (TX18 k).2.2.1 = some (tyX18 k) := by decide +kernel
abbrev cX18_init : ByteArray := prog_25_method_1_code
def yX18_init : MethodName := ⟨RX18, "<init>", "(ILPluralBranches$Pattern;)V"⟩
def dkwX18_init_0 : List UInt8 := [42, 27, 183, 0, 1, 42, 44, 181, 0, 7, 177]
abbrev dktX18_init_0 : List UInt8 := dkwX18_init_0 ++ []
theorem dksX18_init_0 : cX18_init.data.toList.drop 0 = dktX18_init_0 := by decide +kernel
theorem dX18_init_0 : decode cX18_init 0 = .ok (.aload_n 0, 1) := dk_42 (dk_at dksX18_init_0 0 rfl rfl)
theorem dX18_init_1 : decode cX18_init 1 = .ok (.iload_n 1, 1) := dk_27 (dk_at dksX18_init_0 1 rfl rfl)
theorem dX18_init_2 : decode cX18_init 2 = .ok (.invokespecial 1, 3) := dk_183 0 1 (dk_at dksX18_init_0 2 rfl rfl)
theorem dX18_init_5 : decode cX18_init 5 = .ok (.aload_n 0, 1) := dk_42 (dk_at dksX18_init_0 5 rfl rfl)
theorem dX18_init_6 : decode cX18_init 6 = .ok (.aload_n 2, 1) := dk_44 (dk_at dksX18_init_0 6 rfl rfl)
theorem dX18_init_7 : decode cX18_init 7 = .ok (.putfield 7, 3) := dk_181 0 7 (dk_at dksX18_init_0 7 rfl rfl)
theorem dX18_init_10 : decode cX18_init 10 = .ok (.return_, 1) := dk_177 (dk_at dksX18_init_0 10 rfl rfl)
abbrev cX18_write : ByteArray := prog_25_method_2_code
def yX18_write : MethodName := ⟨RX18, "write", "(LPluralBranches$Sheet;)V"⟩
def dkwX18_write_0 : List UInt8 := [42, 180, 0, 7, 42, 43, 182, 0, 13, 42, 180, 0, 17, 185, 0, 21, 2, 0, 43, 182, 0, 27, 177]
abbrev dktX18_write_0 : List UInt8 := dkwX18_write_0 ++ []
theorem dksX18_write_0 : cX18_write.data.toList.drop 0 = dktX18_write_0 := by decide +kernel
theorem dX18_write_0 : decode cX18_write 0 = .ok (.aload_n 0, 1) := dk_42 (dk_at dksX18_write_0 0 rfl rfl)
theorem dX18_write_1 : decode cX18_write 1 = .ok (.getfield 7, 3) := dk_180 0 7 (dk_at dksX18_write_0 1 rfl rfl)
theorem dX18_write_4 : decode cX18_write 4 = .ok (.aload_n 0, 1) := dk_42 (dk_at dksX18_write_0 4 rfl rfl)
theorem dX18_write_5 : decode cX18_write 5 = .ok (.aload_n 1, 1) := dk_43 (dk_at dksX18_write_0 5 rfl rfl)
theorem dX18_write_6 : decode cX18_write 6 = .ok (.invokevirtual 13, 3) := dk_182 0 13 (dk_at dksX18_write_0 6 rfl rfl)
theorem dX18_write_9 : decode cX18_write 9 = .ok (.aload_n 0, 1) := dk_42 (dk_at dksX18_write_0 9 rfl rfl)
theorem dX18_write_10 : decode cX18_write 10 = .ok (.getfield 17, 3) := dk_180 0 17 (dk_at dksX18_write_0 10 rfl rfl)
theorem dX18_write_13 : decode cX18_write 13 = .ok (.invokeinterface 21 2, 5) := by decide +kernel
theorem dX18_write_18 : decode cX18_write 18 = .ok (.aload_n 1, 1) := dk_43 (dk_at dksX18_write_0 18 rfl rfl)
theorem dX18_write_19 : decode cX18_write 19 = .ok (.invokevirtual 27, 3) := dk_182 0 27 (dk_at dksX18_write_0 19 rfl rfl)
theorem dX18_write_22 : decode cX18_write 22 = .ok (.return_, 1) := dk_177 (dk_at dksX18_write_0 22 rfl rfl)
theorem q97 : (Jvm.Cond.initialized "PluralBranches$Shaped") ∈ lw_all := lw_g (lw_at lw_m1 31 rfl) rfl
theorem q265 : (Jvm.Cond.selects "PluralBranches$Shaped" ({ cls := "java/lang/Object", name := "getClass", desc := "()Ljava/lang/Class;" } : Jvm.MethodName) ({ cls := "java/lang/Object", name := "getClass", desc := "()Ljava/lang/Class;" } : Jvm.MethodName)) ∈ lw_all := lw_g (lw_at lw_m1 199 rfl) rfl
theorem q734 : (Jvm.Cond.fieldLink "PluralBranches$Shaped" (17 : Nat) "PluralBranches$Shaped" "argument" "I") ∈ lw_all := lw_g (lw_at lw_m3 188 rfl) rfl
theorem q735 : (Jvm.Cond.sameField "PluralBranches$Shaped" "PluralBranches$Plain" "argument" "I") ∈ lw_all := lw_g (lw_at lw_m3 189 rfl) rfl
theorem q764 : (Jvm.Cond.instantiable "PluralBranches$Shaped" (2 : Nat)) ∈ lw_all := lw_g (lw_at lw_m3 218 rfl) rfl
theorem q797 : (Jvm.Cond.instanceMethod ({ cls := "PluralBranches$Shaped", name := "<init>", desc := "(ILPluralBranches$Pattern;)V" } : Jvm.MethodName)) ∈ lw_all := lw_g (lw_at lw_m4 11 rfl) rfl
theorem q798 : (Jvm.Cond.code ({ cls := "PluralBranches$Shaped", name := "<init>", desc := "(ILPluralBranches$Pattern;)V" } : Jvm.MethodName) prog_25_method_1_code (3 : Nat) (Option.none : Option Jvm.ClassFile.FieldType)) ∈ lw_all := lw_g (lw_at lw_m4 12 rfl) rfl
theorem q799 : (Jvm.Cond.methodLink "PluralBranches$Shaped" (1 : Nat) ({ cls := "PluralBranches$Plain", name := "<init>", desc := "(I)V" } : Jvm.MethodName)) ∈ lw_all := lw_g (lw_at lw_m4 13 rfl) rfl
theorem q800 : (Jvm.Cond.fieldLink "PluralBranches$Shaped" (7 : Nat) "PluralBranches$Shaped" "pattern" "LPluralBranches$Pattern;") ∈ lw_all := lw_g (lw_at lw_m4 14 rfl) rfl
theorem q801 : (Jvm.Cond.laysFinal "PluralBranches$Shaped" "PluralBranches$Shaped" "pattern" "LPluralBranches$Pattern;") ∈ lw_all := lw_g (lw_at lw_m4 15 rfl) rfl
theorem q802 : (Jvm.Cond.soleField "PluralBranches$Shaped" "pattern") ∈ lw_all := lw_g (lw_at lw_m4 16 rfl) rfl
theorem q803 : (Jvm.Cond.laysFinal "PluralBranches$Shaped" "PluralBranches$Plain" "argument" "I") ∈ lw_all := lw_g (lw_at lw_m4 17 rfl) rfl
theorem q804 : (Jvm.Cond.superclass "PluralBranches$Shaped" "PluralBranches$Plain") ∈ lw_all := lw_g (lw_at lw_m4 18 rfl) rfl
theorem q1077 : (Jvm.Cond.selects "PluralBranches$Shaped" ({ cls := "PluralBranches$Part", name := "depth", desc := "()I" } : Jvm.MethodName) ({ cls := "PluralBranches$Part", name := "depth", desc := "()I" } : Jvm.MethodName)) ∈ lw_all := lw_g (lw_at lw_m5 51 rfl) rfl
theorem q1549 : (Jvm.Cond.selects "PluralBranches$Shaped" ({ cls := "PluralBranches$Part", name := "write", desc := "(LPluralBranches$Sheet;)V" } : Jvm.MethodName) ({ cls := "PluralBranches$Shaped", name := "write", desc := "(LPluralBranches$Sheet;)V" } : Jvm.MethodName)) ∈ lw_all := lw_g (lw_at lw_m7 43 rfl) rfl
theorem q1550 : (Jvm.Cond.instanceMethod ({ cls := "PluralBranches$Shaped", name := "write", desc := "(LPluralBranches$Sheet;)V" } : Jvm.MethodName)) ∈ lw_all := lw_g (lw_at lw_m7 44 rfl) rfl
theorem q1551 : (Jvm.Cond.code ({ cls := "PluralBranches$Shaped", name := "write", desc := "(LPluralBranches$Sheet;)V" } : Jvm.MethodName) prog_25_method_2_code (2 : Nat) (Option.none : Option Jvm.ClassFile.FieldType)) ∈ lw_all := lw_g (lw_at lw_m7 45 rfl) rfl
theorem q1552 : (Jvm.Cond.methodLink "PluralBranches$Shaped" (13 : Nat) ({ cls := "PluralBranches$Shaped", name := "thing", desc := "(LPluralBranches$Sheet;)LPluralBranches$Thing;" } : Jvm.MethodName)) ∈ lw_all := lw_g (lw_at lw_m7 46 rfl) rfl
theorem q1553 : (Jvm.Cond.sameMethod "PluralBranches$Shaped" "PluralBranches$Plain" "thing" "(LPluralBranches$Sheet;)LPluralBranches$Thing;") ∈ lw_all := lw_g (lw_at lw_m7 47 rfl) rfl
theorem q1554 : (Jvm.Cond.selects "PluralBranches$Shaped" ({ cls := "PluralBranches$Shaped", name := "thing", desc := "(LPluralBranches$Sheet;)LPluralBranches$Thing;" } : Jvm.MethodName) ({ cls := "PluralBranches$Plain", name := "thing", desc := "(LPluralBranches$Sheet;)LPluralBranches$Thing;" } : Jvm.MethodName)) ∈ lw_all := lw_g (lw_at lw_m7 48 rfl) rfl
theorem q1555 : (Jvm.Cond.interfaceEntry "PluralBranches$Shaped" (21 : Nat)) ∈ lw_tbl := lw_at lw_m7 49 rfl
theorem q1556 : (Jvm.Cond.methodLink "PluralBranches$Shaped" (21 : Nat) ({ cls := "PluralBranches$Thing", name := "decimal", desc := "(I)LPluralBranches$Decimal;" } : Jvm.MethodName)) ∈ lw_all := lw_g (lw_at lw_m7 50 rfl) rfl
theorem q1557 : (Jvm.Cond.methodLink "PluralBranches$Shaped" (27 : Nat) ({ cls := "PluralBranches$Pattern", name := "write", desc := "(LPluralBranches$Decimal;LPluralBranches$Sheet;)V" } : Jvm.MethodName)) ∈ lw_all := lw_g (lw_at lw_m7 51 rfl) rfl
theorem q2264 : (Jvm.Cond.selects "PluralBranches$Shaped" ({ cls := "PluralBranches$Plain", name := "thing", desc := "(LPluralBranches$Sheet;)LPluralBranches$Thing;" } : Jvm.MethodName) ({ cls := "PluralBranches$Plain", name := "thing", desc := "(LPluralBranches$Sheet;)LPluralBranches$Thing;" } : Jvm.MethodName)) ∈ lw_all := lw_g (lw_at lw_m10 38 rfl) rfl
theorem q2272 : (Jvm.Cond.castable "PluralBranches$Shaped" "PluralBranches$Part") ∈ lw_tbl := lw_at lw_m10 46 rfl
theorem q2295 : (Jvm.Cond.castable "PluralBranches$Shaped" "java/lang/Object") ∈ lw_tbl := lw_at lw_m10 69 rfl
theorem in_X18 : ∀ w ∈ wsX180, w ∈ lw_all := lw_in wsX180 [803, 801] (by decide +kernel) (by decide +kernel)
/-! PluralBranches$Pattern -/
set_option maxRecDepth 100000
def RX19 : String := "PluralBranches$Pattern"
def TX19 : u_T := fun k => match k with
  | 0 => ("PluralBranches$Pattern", "grouped", "Z", true)
  | 1 => ("PluralBranches$Pattern", "whole", "I", true)
  | 2 => ("PluralBranches$Pattern", "least", "I", true)
  | _ => ("PluralBranches$Pattern", "most", "I", true)
def tyX19 : Nat → FieldType := fun k => match k with
  | 0 => .boolean
  | 1 => .int
  | 2 => .int
  | _ => .int
abbrev wsX190 : List Cond := u_ws RX19 TX19 4
theorem nmX19 : ∀ a, a < 4 → ∀ b, b < 4 → a ≠ b → (TX19 a).2.1 ≠ (TX19 b).2.1 := by decide +kernel
theorem tyX19_ok : ∀ k, k < 4 → parseFieldDescriptor (TX19 k).2.2.1 = some (tyX19 k) := by decide +kernel
abbrev cX19_init : ByteArray := prog_20_method_1_code
def yX19_init : MethodName := ⟨RX19, "<init>", "(ZIII)V"⟩
def dkwX19_init_1 : List UInt8 := [181, 0, 20, 177]
abbrev dktX19_init_1 : List UInt8 := dkwX19_init_1 ++ []
def dkwX19_init_0 : List UInt8 := [42, 183, 0, 1, 42, 27, 181, 0, 7, 42, 28, 181, 0, 13, 42, 29, 181, 0, 17, 42, 29, 21, 4, 96]
abbrev dktX19_init_0 : List UInt8 := dkwX19_init_0 ++ dktX19_init_1
theorem dksX19_init_0 : cX19_init.data.toList.drop 0 = dktX19_init_0 := by decide +kernel
theorem dksX19_init_1 : cX19_init.data.toList.drop 24 = dktX19_init_1 := dk_seg dksX19_init_0 24 rfl rfl
theorem dX19_init_0 : decode cX19_init 0 = .ok (.aload_n 0, 1) := dk_42 (dk_at dksX19_init_0 0 rfl rfl)
theorem dX19_init_1 : decode cX19_init 1 = .ok (.invokespecial 1, 3) := dk_183 0 1 (dk_at dksX19_init_0 1 rfl rfl)
theorem dX19_init_4 : decode cX19_init 4 = .ok (.aload_n 0, 1) := dk_42 (dk_at dksX19_init_0 4 rfl rfl)
theorem dX19_init_5 : decode cX19_init 5 = .ok (.iload_n 1, 1) := dk_27 (dk_at dksX19_init_0 5 rfl rfl)
theorem dX19_init_6 : decode cX19_init 6 = .ok (.putfield 7, 3) := dk_181 0 7 (dk_at dksX19_init_0 6 rfl rfl)
theorem dX19_init_9 : decode cX19_init 9 = .ok (.aload_n 0, 1) := dk_42 (dk_at dksX19_init_0 9 rfl rfl)
theorem dX19_init_10 : decode cX19_init 10 = .ok (.iload_n 2, 1) := dk_28 (dk_at dksX19_init_0 10 rfl rfl)
theorem dX19_init_11 : decode cX19_init 11 = .ok (.putfield 13, 3) := dk_181 0 13 (dk_at dksX19_init_0 11 rfl rfl)
theorem dX19_init_14 : decode cX19_init 14 = .ok (.aload_n 0, 1) := dk_42 (dk_at dksX19_init_0 14 rfl rfl)
theorem dX19_init_15 : decode cX19_init 15 = .ok (.iload_n 3, 1) := dk_29 (dk_at dksX19_init_0 15 rfl rfl)
theorem dX19_init_16 : decode cX19_init 16 = .ok (.putfield 17, 3) := dk_181 0 17 (dk_at dksX19_init_0 16 rfl rfl)
theorem dX19_init_19 : decode cX19_init 19 = .ok (.aload_n 0, 1) := dk_42 (dk_at dksX19_init_0 19 rfl rfl)
theorem dX19_init_20 : decode cX19_init 20 = .ok (.iload_n 3, 1) := dk_29 (dk_at dksX19_init_0 20 rfl rfl)
theorem dX19_init_21 : decode cX19_init 21 = .ok (.iload 4, 2) := dk_21 4 (dk_at dksX19_init_0 21 rfl rfl)
theorem dX19_init_23 : decode cX19_init 23 = .ok (.iadd, 1) := dk_96 (dk_at dksX19_init_0 23 rfl rfl)
theorem dX19_init_24 : decode cX19_init 24 = .ok (.putfield 20, 3) := dk_181 0 20 (dk_at dksX19_init_1 0 rfl rfl)
theorem dX19_init_27 : decode cX19_init 27 = .ok (.return_, 1) := dk_177 (dk_at dksX19_init_1 3 rfl rfl)
abbrev cX19_init_2 : ByteArray := prog_20_method_2_code
def yX19_init_2 : MethodName := ⟨RX19, "<init>", "(I)V"⟩
def dkwX19_init_2_0 : List UInt8 := [42, 3, 27, 3, 3, 183, 0, 23, 177]
abbrev dktX19_init_2_0 : List UInt8 := dkwX19_init_2_0 ++ []
theorem dksX19_init_2_0 : cX19_init_2.data.toList.drop 0 = dktX19_init_2_0 := by decide +kernel
theorem dX19_init_2_0 : decode cX19_init_2 0 = .ok (.aload_n 0, 1) := dk_42 (dk_at dksX19_init_2_0 0 rfl rfl)
theorem dX19_init_2_1 : decode cX19_init_2 1 = .ok (.iconst 0, 1) := dk_3 (dk_at dksX19_init_2_0 1 rfl rfl)
theorem dX19_init_2_2 : decode cX19_init_2 2 = .ok (.iload_n 1, 1) := dk_27 (dk_at dksX19_init_2_0 2 rfl rfl)
theorem dX19_init_2_3 : decode cX19_init_2 3 = .ok (.iconst 0, 1) := dk_3 (dk_at dksX19_init_2_0 3 rfl rfl)
theorem dX19_init_2_4 : decode cX19_init_2 4 = .ok (.iconst 0, 1) := dk_3 (dk_at dksX19_init_2_0 4 rfl rfl)
theorem dX19_init_2_5 : decode cX19_init_2 5 = .ok (.invokespecial 23, 3) := dk_183 0 23 (dk_at dksX19_init_2_0 5 rfl rfl)
theorem dX19_init_2_8 : decode cX19_init_2 8 = .ok (.return_, 1) := dk_177 (dk_at dksX19_init_2_0 8 rfl rfl)
abbrev cX19_write : ByteArray := prog_20_method_3_code
def yX19_write : MethodName := ⟨RX19, "write", "(LPluralBranches$Decimal;LPluralBranches$Sheet;)V"⟩
def dkwX19_write_4 : List UInt8 := [158, 0, 22, 44, 44, 180, 0, 55, 182, 0, 59, 182, 0, 32, 44, 22, 6, 21, 5, 182, 0, 65, 177]
abbrev dktX19_write_4 : List UInt8 := dkwX19_write_4 ++ []
def dkwX19_write_3 : List UInt8 := [55, 6, 132, 5, 255, 167, 255, 225, 42, 33, 42, 180, 0, 20, 184, 0, 44, 109, 44, 182, 0, 51, 21, 5]
abbrev dktX19_write_3 : List UInt8 := dkwX19_write_3 ++ dktX19_write_4
def dkwX19_write_2 : List UInt8 := [180, 0, 17, 164, 0, 28, 22, 6, 20, 0, 49, 113, 9, 148, 154, 0, 17, 22, 6, 20, 0, 49, 109]
abbrev dktX19_write_2 : List UInt8 := dkwX19_write_2 ++ dktX19_write_3
def dkwX19_write_1 : List UInt8 := [184, 0, 38, 66, 42, 180, 0, 20, 54, 5, 33, 42, 180, 0, 20, 184, 0, 44, 113, 55, 6, 21, 5, 42]
abbrev dktX19_write_1 : List UInt8 := dkwX19_write_1 ++ dktX19_write_2
def dkwX19_write_0 : List UInt8 := [43, 42, 180, 0, 20, 182, 0, 26, 66, 33, 9, 148, 156, 0, 9, 44, 16, 45, 182, 0, 32, 33]
abbrev dktX19_write_0 : List UInt8 := dkwX19_write_0 ++ dktX19_write_1
theorem dksX19_write_0 : cX19_write.data.toList.drop 0 = dktX19_write_0 := by decide +kernel
theorem dksX19_write_1 : cX19_write.data.toList.drop 22 = dktX19_write_1 := dk_seg dksX19_write_0 22 rfl rfl
theorem dksX19_write_2 : cX19_write.data.toList.drop 46 = dktX19_write_2 := dk_seg dksX19_write_1 24 rfl rfl
theorem dksX19_write_3 : cX19_write.data.toList.drop 69 = dktX19_write_3 := dk_seg dksX19_write_2 23 rfl rfl
theorem dksX19_write_4 : cX19_write.data.toList.drop 93 = dktX19_write_4 := dk_seg dksX19_write_3 24 rfl rfl
theorem dX19_write_0 : decode cX19_write 0 = .ok (.aload_n 1, 1) := dk_43 (dk_at dksX19_write_0 0 rfl rfl)
theorem dX19_write_1 : decode cX19_write 1 = .ok (.aload_n 0, 1) := dk_42 (dk_at dksX19_write_0 1 rfl rfl)
theorem dX19_write_2 : decode cX19_write 2 = .ok (.getfield 20, 3) := dk_180 0 20 (dk_at dksX19_write_0 2 rfl rfl)
theorem dX19_write_5 : decode cX19_write 5 = .ok (.invokevirtual 26, 3) := dk_182 0 26 (dk_at dksX19_write_0 5 rfl rfl)
theorem dX19_write_8 : decode cX19_write 8 = .ok (.lstore_n 3, 1) := dk_66 (dk_at dksX19_write_0 8 rfl rfl)
theorem dX19_write_9 : decode cX19_write 9 = .ok (.lload_n 3, 1) := dk_33 (dk_at dksX19_write_0 9 rfl rfl)
theorem dX19_write_10 : decode cX19_write 10 = .ok (.lconst 0, 1) := dk_9 (dk_at dksX19_write_0 10 rfl rfl)
theorem dX19_write_11 : decode cX19_write 11 = .ok (.lcmp, 1) := dk_148 (dk_at dksX19_write_0 11 rfl rfl)
theorem dX19_write_12 : decode cX19_write 12 = .ok (.ifCond .ge 9, 3) := dk_156 0 9 (dk_at dksX19_write_0 12 rfl rfl)
theorem dX19_write_15 : decode cX19_write 15 = .ok (.aload_n 2, 1) := dk_44 (dk_at dksX19_write_0 15 rfl rfl)
theorem dX19_write_16 : decode cX19_write 16 = .ok (.bipush 45, 2) := dk_16 45 (dk_at dksX19_write_0 16 rfl rfl)
theorem dX19_write_18 : decode cX19_write 18 = .ok (.invokevirtual 32, 3) := dk_182 0 32 (dk_at dksX19_write_0 18 rfl rfl)
theorem dX19_write_21 : decode cX19_write 21 = .ok (.lload_n 3, 1) := dk_33 (dk_at dksX19_write_0 21 rfl rfl)
theorem dX19_write_22 : decode cX19_write 22 = .ok (.invokestatic 38, 3) := dk_184 0 38 (dk_at dksX19_write_1 0 rfl rfl)
theorem dX19_write_25 : decode cX19_write 25 = .ok (.lstore_n 3, 1) := dk_66 (dk_at dksX19_write_1 3 rfl rfl)
theorem dX19_write_26 : decode cX19_write 26 = .ok (.aload_n 0, 1) := dk_42 (dk_at dksX19_write_1 4 rfl rfl)
theorem dX19_write_27 : decode cX19_write 27 = .ok (.getfield 20, 3) := dk_180 0 20 (dk_at dksX19_write_1 5 rfl rfl)
theorem dX19_write_30 : decode cX19_write 30 = .ok (.istore 5, 2) := dk_54 5 (dk_at dksX19_write_1 8 rfl rfl)
theorem dX19_write_32 : decode cX19_write 32 = .ok (.lload_n 3, 1) := dk_33 (dk_at dksX19_write_1 10 rfl rfl)
theorem dX19_write_33 : decode cX19_write 33 = .ok (.aload_n 0, 1) := dk_42 (dk_at dksX19_write_1 11 rfl rfl)
theorem dX19_write_34 : decode cX19_write 34 = .ok (.getfield 20, 3) := dk_180 0 20 (dk_at dksX19_write_1 12 rfl rfl)
theorem dX19_write_37 : decode cX19_write 37 = .ok (.invokestatic 44, 3) := dk_184 0 44 (dk_at dksX19_write_1 15 rfl rfl)
theorem dX19_write_40 : decode cX19_write 40 = .ok (.lrem, 1) := dk_113 (dk_at dksX19_write_1 18 rfl rfl)
theorem dX19_write_41 : decode cX19_write 41 = .ok (.lstore 6, 2) := dk_55 6 (dk_at dksX19_write_1 19 rfl rfl)
theorem dX19_write_43 : decode cX19_write 43 = .ok (.iload 5, 2) := dk_21 5 (dk_at dksX19_write_1 21 rfl rfl)
theorem dX19_write_45 : decode cX19_write 45 = .ok (.aload_n 0, 1) := dk_42 (dk_at dksX19_write_1 23 rfl rfl)
theorem dX19_write_46 : decode cX19_write 46 = .ok (.getfield 17, 3) := dk_180 0 17 (dk_at dksX19_write_2 0 rfl rfl)
theorem dX19_write_49 : decode cX19_write 49 = .ok (.if_icmp .le 28, 3) := dk_164 0 28 (dk_at dksX19_write_2 3 rfl rfl)
theorem dX19_write_52 : decode cX19_write 52 = .ok (.lload 6, 2) := dk_22 6 (dk_at dksX19_write_2 6 rfl rfl)
theorem dX19_write_54 : decode cX19_write 54 = .ok (.ldc2_w 49, 3) := dk_20 0 49 (dk_at dksX19_write_2 8 rfl rfl)
theorem dX19_write_57 : decode cX19_write 57 = .ok (.lrem, 1) := dk_113 (dk_at dksX19_write_2 11 rfl rfl)
theorem dX19_write_58 : decode cX19_write 58 = .ok (.lconst 0, 1) := dk_9 (dk_at dksX19_write_2 12 rfl rfl)
theorem dX19_write_59 : decode cX19_write 59 = .ok (.lcmp, 1) := dk_148 (dk_at dksX19_write_2 13 rfl rfl)
theorem dX19_write_60 : decode cX19_write 60 = .ok (.ifCond .ne 17, 3) := dk_154 0 17 (dk_at dksX19_write_2 14 rfl rfl)
theorem dX19_write_63 : decode cX19_write 63 = .ok (.lload 6, 2) := dk_22 6 (dk_at dksX19_write_2 17 rfl rfl)
theorem dX19_write_65 : decode cX19_write 65 = .ok (.ldc2_w 49, 3) := dk_20 0 49 (dk_at dksX19_write_2 19 rfl rfl)
theorem dX19_write_68 : decode cX19_write 68 = .ok (.ldiv, 1) := dk_109 (dk_at dksX19_write_2 22 rfl rfl)
theorem dX19_write_69 : decode cX19_write 69 = .ok (.lstore 6, 2) := dk_55 6 (dk_at dksX19_write_3 0 rfl rfl)
theorem dX19_write_71 : decode cX19_write 71 = .ok (.iinc 5 (-1), 3) := dk_132 5 255 (dk_at dksX19_write_3 2 rfl rfl)
theorem dX19_write_74 : decode cX19_write 74 = .ok (.goto (-31), 3) := dk_167 255 225 (dk_at dksX19_write_3 5 rfl rfl)
theorem dX19_write_77 : decode cX19_write 77 = .ok (.aload_n 0, 1) := dk_42 (dk_at dksX19_write_3 8 rfl rfl)
theorem dX19_write_78 : decode cX19_write 78 = .ok (.lload_n 3, 1) := dk_33 (dk_at dksX19_write_3 9 rfl rfl)
theorem dX19_write_79 : decode cX19_write 79 = .ok (.aload_n 0, 1) := dk_42 (dk_at dksX19_write_3 10 rfl rfl)
theorem dX19_write_80 : decode cX19_write 80 = .ok (.getfield 20, 3) := dk_180 0 20 (dk_at dksX19_write_3 11 rfl rfl)
theorem dX19_write_83 : decode cX19_write 83 = .ok (.invokestatic 44, 3) := dk_184 0 44 (dk_at dksX19_write_3 14 rfl rfl)
theorem dX19_write_86 : decode cX19_write 86 = .ok (.ldiv, 1) := dk_109 (dk_at dksX19_write_3 17 rfl rfl)
theorem dX19_write_87 : decode cX19_write 87 = .ok (.aload_n 2, 1) := dk_44 (dk_at dksX19_write_3 18 rfl rfl)
theorem dX19_write_88 : decode cX19_write 88 = .ok (.invokevirtual 51, 3) := dk_182 0 51 (dk_at dksX19_write_3 19 rfl rfl)
theorem dX19_write_91 : decode cX19_write 91 = .ok (.iload 5, 2) := dk_21 5 (dk_at dksX19_write_3 22 rfl rfl)
theorem dX19_write_93 : decode cX19_write 93 = .ok (.ifCond .le 22, 3) := dk_158 0 22 (dk_at dksX19_write_4 0 rfl rfl)
theorem dX19_write_96 : decode cX19_write 96 = .ok (.aload_n 2, 1) := dk_44 (dk_at dksX19_write_4 3 rfl rfl)
theorem dX19_write_97 : decode cX19_write 97 = .ok (.aload_n 2, 1) := dk_44 (dk_at dksX19_write_4 4 rfl rfl)
theorem dX19_write_98 : decode cX19_write 98 = .ok (.getfield 55, 3) := dk_180 0 55 (dk_at dksX19_write_4 5 rfl rfl)
theorem dX19_write_101 : decode cX19_write 101 = .ok (.invokevirtual 59, 3) := dk_182 0 59 (dk_at dksX19_write_4 8 rfl rfl)
theorem dX19_write_104 : decode cX19_write 104 = .ok (.invokevirtual 32, 3) := dk_182 0 32 (dk_at dksX19_write_4 11 rfl rfl)
theorem dX19_write_107 : decode cX19_write 107 = .ok (.aload_n 2, 1) := dk_44 (dk_at dksX19_write_4 14 rfl rfl)
theorem dX19_write_108 : decode cX19_write 108 = .ok (.lload 6, 2) := dk_22 6 (dk_at dksX19_write_4 15 rfl rfl)
theorem dX19_write_110 : decode cX19_write 110 = .ok (.iload 5, 2) := dk_21 5 (dk_at dksX19_write_4 17 rfl rfl)
theorem dX19_write_112 : decode cX19_write 112 = .ok (.invokevirtual 65, 3) := dk_182 0 65 (dk_at dksX19_write_4 19 rfl rfl)
theorem dX19_write_115 : decode cX19_write 115 = .ok (.return_, 1) := dk_177 (dk_at dksX19_write_4 22 rfl rfl)
abbrev cX19_wholes : ByteArray := prog_20_method_4_code
def yX19_wholes : MethodName := ⟨RX19, "wholes", "(JLPluralBranches$Sheet;)V"⟩
def dkwX19_wholes_4 : List UInt8 := [167, 255, 199, 177]
abbrev dktX19_wholes_4 : List UInt8 := dkwX19_wholes_4 ++ []
def dkwX19_wholes_3 : List UInt8 := [158, 0, 21, 21, 5, 6, 112, 154, 0, 14, 45, 45, 180, 0, 55, 182, 0, 69, 182, 0, 32, 132, 5, 255]
abbrev dktX19_wholes_3 : List UInt8 := dkwX19_wholes_3 ++ dktX19_wholes_4
def dkwX19_wholes_2 : List UInt8 := [184, 0, 44, 109, 20, 0, 49, 113, 136, 96, 182, 0, 32, 42, 180, 0, 7, 153, 0, 26, 21, 5]
abbrev dktX19_wholes_2 : List UInt8 := dkwX19_wholes_2 ++ dktX19_wholes_3
def dkwX19_wholes_1 : List UInt8 := [132, 4, 1, 167, 255, 236, 21, 4, 4, 100, 54, 5, 21, 5, 155, 0, 58, 45, 16, 48, 31, 21, 5]
abbrev dktX19_wholes_1 : List UInt8 := dkwX19_wholes_1 ++ dktX19_wholes_2
def dkwX19_wholes_0 : List UInt8 := [42, 180, 0, 13, 54, 4, 21, 4, 16, 18, 162, 0, 19, 31, 21, 4, 184, 0, 44, 148, 155, 0, 9]
abbrev dktX19_wholes_0 : List UInt8 := dkwX19_wholes_0 ++ dktX19_wholes_1
theorem dksX19_wholes_0 : cX19_wholes.data.toList.drop 0 = dktX19_wholes_0 := by decide +kernel
theorem dksX19_wholes_1 : cX19_wholes.data.toList.drop 23 = dktX19_wholes_1 := dk_seg dksX19_wholes_0 23 rfl rfl
theorem dksX19_wholes_2 : cX19_wholes.data.toList.drop 46 = dktX19_wholes_2 := dk_seg dksX19_wholes_1 23 rfl rfl
theorem dksX19_wholes_3 : cX19_wholes.data.toList.drop 68 = dktX19_wholes_3 := dk_seg dksX19_wholes_2 22 rfl rfl
theorem dksX19_wholes_4 : cX19_wholes.data.toList.drop 92 = dktX19_wholes_4 := dk_seg dksX19_wholes_3 24 rfl rfl
theorem dX19_wholes_0 : decode cX19_wholes 0 = .ok (.aload_n 0, 1) := dk_42 (dk_at dksX19_wholes_0 0 rfl rfl)
theorem dX19_wholes_1 : decode cX19_wholes 1 = .ok (.getfield 13, 3) := dk_180 0 13 (dk_at dksX19_wholes_0 1 rfl rfl)
theorem dX19_wholes_4 : decode cX19_wholes 4 = .ok (.istore 4, 2) := dk_54 4 (dk_at dksX19_wholes_0 4 rfl rfl)
theorem dX19_wholes_6 : decode cX19_wholes 6 = .ok (.iload 4, 2) := dk_21 4 (dk_at dksX19_wholes_0 6 rfl rfl)
theorem dX19_wholes_8 : decode cX19_wholes 8 = .ok (.bipush 18, 2) := dk_16 18 (dk_at dksX19_wholes_0 8 rfl rfl)
theorem dX19_wholes_10 : decode cX19_wholes 10 = .ok (.if_icmp .ge 19, 3) := dk_162 0 19 (dk_at dksX19_wholes_0 10 rfl rfl)
theorem dX19_wholes_13 : decode cX19_wholes 13 = .ok (.lload_n 1, 1) := dk_31 (dk_at dksX19_wholes_0 13 rfl rfl)
theorem dX19_wholes_14 : decode cX19_wholes 14 = .ok (.iload 4, 2) := dk_21 4 (dk_at dksX19_wholes_0 14 rfl rfl)
theorem dX19_wholes_16 : decode cX19_wholes 16 = .ok (.invokestatic 44, 3) := dk_184 0 44 (dk_at dksX19_wholes_0 16 rfl rfl)
theorem dX19_wholes_19 : decode cX19_wholes 19 = .ok (.lcmp, 1) := dk_148 (dk_at dksX19_wholes_0 19 rfl rfl)
theorem dX19_wholes_20 : decode cX19_wholes 20 = .ok (.ifCond .lt 9, 3) := dk_155 0 9 (dk_at dksX19_wholes_0 20 rfl rfl)
theorem dX19_wholes_23 : decode cX19_wholes 23 = .ok (.iinc 4 1, 3) := dk_132 4 1 (dk_at dksX19_wholes_1 0 rfl rfl)
theorem dX19_wholes_26 : decode cX19_wholes 26 = .ok (.goto (-20), 3) := dk_167 255 236 (dk_at dksX19_wholes_1 3 rfl rfl)
theorem dX19_wholes_29 : decode cX19_wholes 29 = .ok (.iload 4, 2) := dk_21 4 (dk_at dksX19_wholes_1 6 rfl rfl)
theorem dX19_wholes_31 : decode cX19_wholes 31 = .ok (.iconst 1, 1) := dk_4 (dk_at dksX19_wholes_1 8 rfl rfl)
theorem dX19_wholes_32 : decode cX19_wholes 32 = .ok (.isub, 1) := dk_100 (dk_at dksX19_wholes_1 9 rfl rfl)
theorem dX19_wholes_33 : decode cX19_wholes 33 = .ok (.istore 5, 2) := dk_54 5 (dk_at dksX19_wholes_1 10 rfl rfl)
theorem dX19_wholes_35 : decode cX19_wholes 35 = .ok (.iload 5, 2) := dk_21 5 (dk_at dksX19_wholes_1 12 rfl rfl)
theorem dX19_wholes_37 : decode cX19_wholes 37 = .ok (.ifCond .lt 58, 3) := dk_155 0 58 (dk_at dksX19_wholes_1 14 rfl rfl)
theorem dX19_wholes_40 : decode cX19_wholes 40 = .ok (.aload_n 3, 1) := dk_45 (dk_at dksX19_wholes_1 17 rfl rfl)
theorem dX19_wholes_41 : decode cX19_wholes 41 = .ok (.bipush 48, 2) := dk_16 48 (dk_at dksX19_wholes_1 18 rfl rfl)
theorem dX19_wholes_43 : decode cX19_wholes 43 = .ok (.lload_n 1, 1) := dk_31 (dk_at dksX19_wholes_1 20 rfl rfl)
theorem dX19_wholes_44 : decode cX19_wholes 44 = .ok (.iload 5, 2) := dk_21 5 (dk_at dksX19_wholes_1 21 rfl rfl)
theorem dX19_wholes_46 : decode cX19_wholes 46 = .ok (.invokestatic 44, 3) := dk_184 0 44 (dk_at dksX19_wholes_2 0 rfl rfl)
theorem dX19_wholes_49 : decode cX19_wholes 49 = .ok (.ldiv, 1) := dk_109 (dk_at dksX19_wholes_2 3 rfl rfl)
theorem dX19_wholes_50 : decode cX19_wholes 50 = .ok (.ldc2_w 49, 3) := dk_20 0 49 (dk_at dksX19_wholes_2 4 rfl rfl)
theorem dX19_wholes_53 : decode cX19_wholes 53 = .ok (.lrem, 1) := dk_113 (dk_at dksX19_wholes_2 7 rfl rfl)
theorem dX19_wholes_54 : decode cX19_wholes 54 = .ok (.l2i, 1) := dk_136 (dk_at dksX19_wholes_2 8 rfl rfl)
theorem dX19_wholes_55 : decode cX19_wholes 55 = .ok (.iadd, 1) := dk_96 (dk_at dksX19_wholes_2 9 rfl rfl)
theorem dX19_wholes_56 : decode cX19_wholes 56 = .ok (.invokevirtual 32, 3) := dk_182 0 32 (dk_at dksX19_wholes_2 10 rfl rfl)
theorem dX19_wholes_59 : decode cX19_wholes 59 = .ok (.aload_n 0, 1) := dk_42 (dk_at dksX19_wholes_2 13 rfl rfl)
theorem dX19_wholes_60 : decode cX19_wholes 60 = .ok (.getfield 7, 3) := dk_180 0 7 (dk_at dksX19_wholes_2 14 rfl rfl)
theorem dX19_wholes_63 : decode cX19_wholes 63 = .ok (.ifCond .eq 26, 3) := dk_153 0 26 (dk_at dksX19_wholes_2 17 rfl rfl)
theorem dX19_wholes_66 : decode cX19_wholes 66 = .ok (.iload 5, 2) := dk_21 5 (dk_at dksX19_wholes_2 20 rfl rfl)
theorem dX19_wholes_68 : decode cX19_wholes 68 = .ok (.ifCond .le 21, 3) := dk_158 0 21 (dk_at dksX19_wholes_3 0 rfl rfl)
theorem dX19_wholes_71 : decode cX19_wholes 71 = .ok (.iload 5, 2) := dk_21 5 (dk_at dksX19_wholes_3 3 rfl rfl)
theorem dX19_wholes_73 : decode cX19_wholes 73 = .ok (.iconst 3, 1) := dk_6 (dk_at dksX19_wholes_3 5 rfl rfl)
theorem dX19_wholes_74 : decode cX19_wholes 74 = .ok (.irem, 1) := dk_112 (dk_at dksX19_wholes_3 6 rfl rfl)
theorem dX19_wholes_75 : decode cX19_wholes 75 = .ok (.ifCond .ne 14, 3) := dk_154 0 14 (dk_at dksX19_wholes_3 7 rfl rfl)
theorem dX19_wholes_78 : decode cX19_wholes 78 = .ok (.aload_n 3, 1) := dk_45 (dk_at dksX19_wholes_3 10 rfl rfl)
theorem dX19_wholes_79 : decode cX19_wholes 79 = .ok (.aload_n 3, 1) := dk_45 (dk_at dksX19_wholes_3 11 rfl rfl)
theorem dX19_wholes_80 : decode cX19_wholes 80 = .ok (.getfield 55, 3) := dk_180 0 55 (dk_at dksX19_wholes_3 12 rfl rfl)
theorem dX19_wholes_83 : decode cX19_wholes 83 = .ok (.invokevirtual 69, 3) := dk_182 0 69 (dk_at dksX19_wholes_3 15 rfl rfl)
theorem dX19_wholes_86 : decode cX19_wholes 86 = .ok (.invokevirtual 32, 3) := dk_182 0 32 (dk_at dksX19_wholes_3 18 rfl rfl)
theorem dX19_wholes_89 : decode cX19_wholes 89 = .ok (.iinc 5 (-1), 3) := dk_132 5 255 (dk_at dksX19_wholes_3 21 rfl rfl)
theorem dX19_wholes_92 : decode cX19_wholes 92 = .ok (.goto (-57), 3) := dk_167 255 199 (dk_at dksX19_wholes_4 0 rfl rfl)
theorem dX19_wholes_95 : decode cX19_wholes 95 = .ok (.return_, 1) := dk_177 (dk_at dksX19_wholes_4 3 rfl rfl)
theorem q98 : (Jvm.Cond.initialized "PluralBranches$Pattern") ∈ lw_all := lw_g (lw_at lw_m1 32 rfl) rfl
theorem q260 : (Jvm.Cond.selects "PluralBranches$Pattern" ({ cls := "java/lang/Object", name := "getClass", desc := "()Ljava/lang/Class;" } : Jvm.MethodName) ({ cls := "java/lang/Object", name := "getClass", desc := "()Ljava/lang/Class;" } : Jvm.MethodName)) ∈ lw_all := lw_g (lw_at lw_m1 194 rfl) rfl
theorem q774 : (Jvm.Cond.instantiable "PluralBranches$Pattern" (4 : Nat)) ∈ lw_all := lw_g (lw_at lw_m3 228 rfl) rfl
theorem q776 : (Jvm.Cond.instanceMethod ({ cls := "PluralBranches$Pattern", name := "<init>", desc := "(ZIII)V" } : Jvm.MethodName)) ∈ lw_all := lw_g (lw_at lw_m3 230 rfl) rfl
theorem q777 : (Jvm.Cond.code ({ cls := "PluralBranches$Pattern", name := "<init>", desc := "(ZIII)V" } : Jvm.MethodName) prog_20_method_1_code (5 : Nat) (Option.none : Option Jvm.ClassFile.FieldType)) ∈ lw_all := lw_g (lw_at lw_m3 231 rfl) rfl
theorem q778 : (Jvm.Cond.methodLink "PluralBranches$Pattern" (1 : Nat) ({ cls := "java/lang/Object", name := "<init>", desc := "()V" } : Jvm.MethodName)) ∈ lw_all := lw_g (lw_at lw_m3 232 rfl) rfl
theorem q779 : (Jvm.Cond.fieldLink "PluralBranches$Pattern" (7 : Nat) "PluralBranches$Pattern" "grouped" "Z") ∈ lw_all := lw_g (lw_at lw_m3 233 rfl) rfl
theorem q780 : (Jvm.Cond.fieldLink "PluralBranches$Pattern" (13 : Nat) "PluralBranches$Pattern" "whole" "I") ∈ lw_all := lw_g (lw_at lw_m3 234 rfl) rfl
theorem q781 : (Jvm.Cond.fieldLink "PluralBranches$Pattern" (17 : Nat) "PluralBranches$Pattern" "least" "I") ∈ lw_all := lw_g (lw_at lw_m3 235 rfl) rfl
theorem q782 : (Jvm.Cond.fieldLink "PluralBranches$Pattern" (20 : Nat) "PluralBranches$Pattern" "most" "I") ∈ lw_all := lw_g (lw_at lw_m3 236 rfl) rfl
theorem q783 : (Jvm.Cond.laysFinal "PluralBranches$Pattern" "PluralBranches$Pattern" "grouped" "Z") ∈ lw_all := lw_g (lw_at lw_m3 237 rfl) rfl
theorem q784 : (Jvm.Cond.soleField "PluralBranches$Pattern" "grouped") ∈ lw_all := lw_g (lw_at lw_m3 238 rfl) rfl
theorem q785 : (Jvm.Cond.laysFinal "PluralBranches$Pattern" "PluralBranches$Pattern" "whole" "I") ∈ lw_all := lw_g (lw_at lw_m3 239 rfl) rfl
theorem q786 : (Jvm.Cond.soleField "PluralBranches$Pattern" "whole") ∈ lw_all := lw_g (lw_at lw_m4 0 rfl) rfl
theorem q787 : (Jvm.Cond.laysFinal "PluralBranches$Pattern" "PluralBranches$Pattern" "least" "I") ∈ lw_all := lw_g (lw_at lw_m4 1 rfl) rfl
theorem q788 : (Jvm.Cond.soleField "PluralBranches$Pattern" "least") ∈ lw_all := lw_g (lw_at lw_m4 2 rfl) rfl
theorem q789 : (Jvm.Cond.laysFinal "PluralBranches$Pattern" "PluralBranches$Pattern" "most" "I") ∈ lw_all := lw_g (lw_at lw_m4 3 rfl) rfl
theorem q790 : (Jvm.Cond.soleField "PluralBranches$Pattern" "most") ∈ lw_all := lw_g (lw_at lw_m4 4 rfl) rfl
theorem q791 : (Jvm.Cond.superclass "PluralBranches$Pattern" "java/lang/Object") ∈ lw_all := lw_g (lw_at lw_m4 5 rfl) rfl
theorem q793 : (Jvm.Cond.instanceMethod ({ cls := "PluralBranches$Pattern", name := "<init>", desc := "(I)V" } : Jvm.MethodName)) ∈ lw_all := lw_g (lw_at lw_m4 7 rfl) rfl
theorem q794 : (Jvm.Cond.code ({ cls := "PluralBranches$Pattern", name := "<init>", desc := "(I)V" } : Jvm.MethodName) prog_20_method_2_code (2 : Nat) (Option.none : Option Jvm.ClassFile.FieldType)) ∈ lw_all := lw_g (lw_at lw_m4 8 rfl) rfl
theorem q795 : (Jvm.Cond.methodLink "PluralBranches$Pattern" (23 : Nat) ({ cls := "PluralBranches$Pattern", name := "<init>", desc := "(ZIII)V" } : Jvm.MethodName)) ∈ lw_all := lw_g (lw_at lw_m4 9 rfl) rfl
theorem q1376 : (Jvm.Cond.fieldLinkNest "PluralBranches$Pattern" (55 : Nat) "PluralBranches$Sheet" "language" "LPluralBranches$Language;" "PluralBranches") ∈ lw_tbl := lw_at lw_m6 110 rfl
theorem q1558 : (Jvm.Cond.instanceMethod ({ cls := "PluralBranches$Pattern", name := "write", desc := "(LPluralBranches$Decimal;LPluralBranches$Sheet;)V" } : Jvm.MethodName)) ∈ lw_all := lw_g (lw_at lw_m7 52 rfl) rfl
theorem q1559 : (Jvm.Cond.selects "PluralBranches$Pattern" ({ cls := "PluralBranches$Pattern", name := "write", desc := "(LPluralBranches$Decimal;LPluralBranches$Sheet;)V" } : Jvm.MethodName) ({ cls := "PluralBranches$Pattern", name := "write", desc := "(LPluralBranches$Decimal;LPluralBranches$Sheet;)V" } : Jvm.MethodName)) ∈ lw_all := lw_g (lw_at lw_m7 53 rfl) rfl
theorem q1560 : (Jvm.Cond.code ({ cls := "PluralBranches$Pattern", name := "write", desc := "(LPluralBranches$Decimal;LPluralBranches$Sheet;)V" } : Jvm.MethodName) prog_20_method_3_code (8 : Nat) (Option.none : Option Jvm.ClassFile.FieldType)) ∈ lw_all := lw_g (lw_at lw_m7 54 rfl) rfl
theorem q1561 : (Jvm.Cond.methodLink "PluralBranches$Pattern" (26 : Nat) ({ cls := "PluralBranches$Decimal", name := "rounded", desc := "(I)J" } : Jvm.MethodName)) ∈ lw_all := lw_g (lw_at lw_m7 55 rfl) rfl
theorem q1566 : (Jvm.Cond.methodLink "PluralBranches$Pattern" (32 : Nat) ({ cls := "PluralBranches$Sheet", name := "put", desc := "(I)V" } : Jvm.MethodName)) ∈ lw_all := lw_g (lw_at lw_m7 60 rfl) rfl
theorem q1567 : (Jvm.Cond.methodLink "PluralBranches$Pattern" (38 : Nat) ({ cls := "java/lang/Math", name := "abs", desc := "(J)J" } : Jvm.MethodName)) ∈ lw_all := lw_g (lw_at lw_m7 61 rfl) rfl
theorem q1568 : (Jvm.Cond.methodLinkNest "PluralBranches$Pattern" (44 : Nat) ({ cls := "PluralBranches", name := "tens", desc := "(I)J" } : Jvm.MethodName) "PluralBranches") ∈ lw_tbl := lw_at lw_m7 62 rfl
theorem q1569 : (Jvm.Cond.constantLong "PluralBranches$Pattern" (49 : Nat) (10 : Int64)) ∈ lw_all := lw_g (lw_at lw_m7 63 rfl) rfl
theorem q1570 : (Jvm.Cond.methodLink "PluralBranches$Pattern" (51 : Nat) ({ cls := "PluralBranches$Pattern", name := "wholes", desc := "(JLPluralBranches$Sheet;)V" } : Jvm.MethodName)) ∈ lw_all := lw_g (lw_at lw_m7 64 rfl) rfl
theorem q1571 : (Jvm.Cond.privateMethod ({ cls := "PluralBranches$Pattern", name := "wholes", desc := "(JLPluralBranches$Sheet;)V" } : Jvm.MethodName)) ∈ lw_tbl := lw_at lw_m7 65 rfl
theorem q1572 : (Jvm.Cond.instanceMethod ({ cls := "PluralBranches$Pattern", name := "wholes", desc := "(JLPluralBranches$Sheet;)V" } : Jvm.MethodName)) ∈ lw_all := lw_g (lw_at lw_m7 66 rfl) rfl
theorem q1573 : (Jvm.Cond.code ({ cls := "PluralBranches$Pattern", name := "wholes", desc := "(JLPluralBranches$Sheet;)V" } : Jvm.MethodName) prog_20_method_4_code (6 : Nat) (Option.none : Option Jvm.ClassFile.FieldType)) ∈ lw_all := lw_g (lw_at lw_m7 67 rfl) rfl
theorem q1574 : (Jvm.Cond.methodLink "PluralBranches$Pattern" (69 : Nat) ({ cls := "PluralBranches$Language", name := "group", desc := "()I" } : Jvm.MethodName)) ∈ lw_all := lw_g (lw_at lw_m7 68 rfl) rfl
theorem q1586 : (Jvm.Cond.methodLink "PluralBranches$Pattern" (59 : Nat) ({ cls := "PluralBranches$Language", name := "point", desc := "()I" } : Jvm.MethodName)) ∈ lw_all := lw_g (lw_at lw_m7 80 rfl) rfl
theorem q1587 : (Jvm.Cond.methodLink "PluralBranches$Pattern" (65 : Nat) ({ cls := "PluralBranches$Sheet", name := "number", desc := "(JI)V" } : Jvm.MethodName)) ∈ lw_all := lw_g (lw_at lw_m7 81 rfl) rfl
theorem q2296 : (Jvm.Cond.castable "PluralBranches$Pattern" "java/lang/Object") ∈ lw_tbl := lw_at lw_m10 70 rfl
theorem in_X19 : ∀ w ∈ wsX190, w ∈ lw_all := lw_in wsX190 [783, 785, 787, 789] (by decide +kernel) (by decide +kernel)
/-! PluralBranches$Language -/
set_option maxRecDepth 100000
def RX2 : String := "PluralBranches$Language"
abbrev cX2_init : ByteArray := prog_13_method_1_code
def yX2_init : MethodName := ⟨RX2, "<init>", "()V"⟩
def dkwX2_init_1 : List UInt8 := [177]
abbrev dktX2_init_1 : List UInt8 := dkwX2_init_1 ++ []
def dkwX2_init_0 : List UInt8 := [42, 183, 0, 3, 42, 187, 0, 9, 89, 183, 0, 11, 181, 0, 12, 42, 180, 0, 12, 16, 12, 182, 0, 18]
abbrev dktX2_init_0 : List UInt8 := dkwX2_init_0 ++ dktX2_init_1
theorem dksX2_init_0 : cX2_init.data.toList.drop 0 = dktX2_init_0 := by decide +kernel
theorem dksX2_init_1 : cX2_init.data.toList.drop 24 = dktX2_init_1 := dk_seg dksX2_init_0 24 rfl rfl
theorem dX2_init_0 : decode cX2_init 0 = .ok (.aload_n 0, 1) := dk_42 (dk_at dksX2_init_0 0 rfl rfl)
theorem dX2_init_1 : decode cX2_init 1 = .ok (.invokespecial 3, 3) := dk_183 0 3 (dk_at dksX2_init_0 1 rfl rfl)
theorem dX2_init_4 : decode cX2_init 4 = .ok (.aload_n 0, 1) := dk_42 (dk_at dksX2_init_0 4 rfl rfl)
theorem dX2_init_5 : decode cX2_init 5 = .ok (.new 9, 3) := dk_187 0 9 (dk_at dksX2_init_0 5 rfl rfl)
theorem dX2_init_8 : decode cX2_init 8 = .ok (.dup, 1) := dk_89 (dk_at dksX2_init_0 8 rfl rfl)
theorem dX2_init_9 : decode cX2_init 9 = .ok (.invokespecial 11, 3) := dk_183 0 11 (dk_at dksX2_init_0 9 rfl rfl)
theorem dX2_init_12 : decode cX2_init 12 = .ok (.putfield 12, 3) := dk_181 0 12 (dk_at dksX2_init_0 12 rfl rfl)
theorem dX2_init_15 : decode cX2_init 15 = .ok (.aload_n 0, 1) := dk_42 (dk_at dksX2_init_0 15 rfl rfl)
theorem dX2_init_16 : decode cX2_init 16 = .ok (.getfield 12, 3) := dk_180 0 12 (dk_at dksX2_init_0 16 rfl rfl)
theorem dX2_init_19 : decode cX2_init 19 = .ok (.bipush 12, 2) := dk_16 12 (dk_at dksX2_init_0 19 rfl rfl)
theorem dX2_init_21 : decode cX2_init 21 = .ok (.invokevirtual 18, 3) := dk_182 0 18 (dk_at dksX2_init_0 21 rfl rfl)
theorem dX2_init_24 : decode cX2_init 24 = .ok (.return_, 1) := dk_177 (dk_at dksX2_init_1 0 rfl rfl)
abbrev cX2_with : ByteArray := prog_13_method_2_code
def yX2_with : MethodName := ⟨RX2, "with", "(Z[I)LPluralBranches$Language;"⟩
def dkwX2_with_0 : List UInt8 := [42, 180, 0, 12, 187, 0, 22, 89, 27, 44, 183, 0, 24, 182, 0, 27, 87, 42, 176]
abbrev dktX2_with_0 : List UInt8 := dkwX2_with_0 ++ []
theorem dksX2_with_0 : cX2_with.data.toList.drop 0 = dktX2_with_0 := by decide +kernel
theorem dX2_with_0 : decode cX2_with 0 = .ok (.aload_n 0, 1) := dk_42 (dk_at dksX2_with_0 0 rfl rfl)
theorem dX2_with_1 : decode cX2_with 1 = .ok (.getfield 12, 3) := dk_180 0 12 (dk_at dksX2_with_0 1 rfl rfl)
theorem dX2_with_4 : decode cX2_with 4 = .ok (.new 22, 3) := dk_187 0 22 (dk_at dksX2_with_0 4 rfl rfl)
theorem dX2_with_7 : decode cX2_with 7 = .ok (.dup, 1) := dk_89 (dk_at dksX2_with_0 7 rfl rfl)
theorem dX2_with_8 : decode cX2_with 8 = .ok (.iload_n 1, 1) := dk_27 (dk_at dksX2_with_0 8 rfl rfl)
theorem dX2_with_9 : decode cX2_with 9 = .ok (.aload_n 2, 1) := dk_44 (dk_at dksX2_with_0 9 rfl rfl)
theorem dX2_with_10 : decode cX2_with 10 = .ok (.invokespecial 24, 3) := dk_183 0 24 (dk_at dksX2_with_0 10 rfl rfl)
theorem dX2_with_13 : decode cX2_with 13 = .ok (.invokevirtual 27, 3) := dk_182 0 27 (dk_at dksX2_with_0 13 rfl rfl)
theorem dX2_with_16 : decode cX2_with 16 = .ok (.pop, 1) := dk_87 (dk_at dksX2_with_0 16 rfl rfl)
theorem dX2_with_17 : decode cX2_with 17 = .ok (.aload_n 0, 1) := dk_42 (dk_at dksX2_with_0 17 rfl rfl)
theorem dX2_with_18 : decode cX2_with 18 = .ok (.areturn, 1) := dk_176 (dk_at dksX2_with_0 18 rfl rfl)
abbrev cX2_category : ByteArray := prog_13_method_4_code
def yX2_category : MethodName := ⟨RX2, "category", "(LPluralBranches$Decimal;)I"⟩
def dkwX2_category_1 : List UInt8 := [153, 0, 5, 28, 172, 132, 2, 1, 167, 255, 226, 8, 172]
abbrev dktX2_category_1 : List UInt8 := dkwX2_category_1 ++ []
def dkwX2_category_0 : List UInt8 := [3, 61, 28, 8, 162, 0, 31, 42, 43, 28, 3, 182, 0, 50, 154, 0, 13, 42, 43, 28, 4, 182, 0, 50]
abbrev dktX2_category_0 : List UInt8 := dkwX2_category_0 ++ dktX2_category_1
theorem dksX2_category_0 : cX2_category.data.toList.drop 0 = dktX2_category_0 := by decide +kernel
theorem dksX2_category_1 : cX2_category.data.toList.drop 24 = dktX2_category_1 := dk_seg dksX2_category_0 24 rfl rfl
theorem dX2_category_0 : decode cX2_category 0 = .ok (.iconst 0, 1) := dk_3 (dk_at dksX2_category_0 0 rfl rfl)
theorem dX2_category_1 : decode cX2_category 1 = .ok (.istore_n 2, 1) := dk_61 (dk_at dksX2_category_0 1 rfl rfl)
theorem dX2_category_2 : decode cX2_category 2 = .ok (.iload_n 2, 1) := dk_28 (dk_at dksX2_category_0 2 rfl rfl)
theorem dX2_category_3 : decode cX2_category 3 = .ok (.iconst 5, 1) := dk_8 (dk_at dksX2_category_0 3 rfl rfl)
theorem dX2_category_4 : decode cX2_category 4 = .ok (.if_icmp .ge 31, 3) := dk_162 0 31 (dk_at dksX2_category_0 4 rfl rfl)
theorem dX2_category_7 : decode cX2_category 7 = .ok (.aload_n 0, 1) := dk_42 (dk_at dksX2_category_0 7 rfl rfl)
theorem dX2_category_8 : decode cX2_category 8 = .ok (.aload_n 1, 1) := dk_43 (dk_at dksX2_category_0 8 rfl rfl)
theorem dX2_category_9 : decode cX2_category 9 = .ok (.iload_n 2, 1) := dk_28 (dk_at dksX2_category_0 9 rfl rfl)
theorem dX2_category_10 : decode cX2_category 10 = .ok (.iconst 0, 1) := dk_3 (dk_at dksX2_category_0 10 rfl rfl)
theorem dX2_category_11 : decode cX2_category 11 = .ok (.invokevirtual 50, 3) := dk_182 0 50 (dk_at dksX2_category_0 11 rfl rfl)
theorem dX2_category_14 : decode cX2_category 14 = .ok (.ifCond .ne 13, 3) := dk_154 0 13 (dk_at dksX2_category_0 14 rfl rfl)
theorem dX2_category_17 : decode cX2_category 17 = .ok (.aload_n 0, 1) := dk_42 (dk_at dksX2_category_0 17 rfl rfl)
theorem dX2_category_18 : decode cX2_category 18 = .ok (.aload_n 1, 1) := dk_43 (dk_at dksX2_category_0 18 rfl rfl)
theorem dX2_category_19 : decode cX2_category 19 = .ok (.iload_n 2, 1) := dk_28 (dk_at dksX2_category_0 19 rfl rfl)
theorem dX2_category_20 : decode cX2_category 20 = .ok (.iconst 1, 1) := dk_4 (dk_at dksX2_category_0 20 rfl rfl)
theorem dX2_category_21 : decode cX2_category 21 = .ok (.invokevirtual 50, 3) := dk_182 0 50 (dk_at dksX2_category_0 21 rfl rfl)
theorem dX2_category_24 : decode cX2_category 24 = .ok (.ifCond .eq 5, 3) := dk_153 0 5 (dk_at dksX2_category_1 0 rfl rfl)
theorem dX2_category_27 : decode cX2_category 27 = .ok (.iload_n 2, 1) := dk_28 (dk_at dksX2_category_1 3 rfl rfl)
theorem dX2_category_28 : decode cX2_category 28 = .ok (.ireturn, 1) := dk_172 (dk_at dksX2_category_1 4 rfl rfl)
theorem dX2_category_29 : decode cX2_category 29 = .ok (.iinc 2 1, 3) := dk_132 2 1 (dk_at dksX2_category_1 5 rfl rfl)
theorem dX2_category_32 : decode cX2_category 32 = .ok (.goto (-30), 3) := dk_167 255 226 (dk_at dksX2_category_1 8 rfl rfl)
theorem dX2_category_35 : decode cX2_category 35 = .ok (.iconst 5, 1) := dk_8 (dk_at dksX2_category_1 11 rfl rfl)
theorem dX2_category_36 : decode cX2_category 36 = .ok (.ireturn, 1) := dk_172 (dk_at dksX2_category_1 12 rfl rfl)
abbrev cX2_holds : ByteArray := prog_13_method_3_code
def yX2_holds : MethodName := ⟨RX2, "holds", "(LPluralBranches$Decimal;II)Z"⟩
def dkwX2_holds_3 : List UInt8 := [21, 4, 172]
abbrev dktX2_holds_3 : List UInt8 := dkwX2_holds_3 ++ []
def dkwX2_holds_2 : List UInt8 := [160, 0, 17, 4, 54, 4, 25, 6, 43, 182, 0, 46, 154, 0, 5, 3, 172, 132, 5, 1, 167, 255, 195]
abbrev dktX2_holds_2 : List UInt8 := dkwX2_holds_2 ++ dktX2_holds_3
def dkwX2_holds_1 : List UInt8 := [182, 0, 35, 192, 0, 22, 58, 6, 25, 6, 180, 0, 39, 28, 160, 0, 26, 25, 6, 180, 0, 43, 29]
abbrev dktX2_holds_1 : List UInt8 := dkwX2_holds_1 ++ dktX2_holds_2
def dkwX2_holds_0 : List UInt8 := [3, 54, 4, 3, 54, 5, 21, 5, 42, 180, 0, 12, 182, 0, 31, 162, 0, 55, 42, 180, 0, 12, 21, 5]
abbrev dktX2_holds_0 : List UInt8 := dkwX2_holds_0 ++ dktX2_holds_1
theorem dksX2_holds_0 : cX2_holds.data.toList.drop 0 = dktX2_holds_0 := by decide +kernel
theorem dksX2_holds_1 : cX2_holds.data.toList.drop 24 = dktX2_holds_1 := dk_seg dksX2_holds_0 24 rfl rfl
theorem dksX2_holds_2 : cX2_holds.data.toList.drop 47 = dktX2_holds_2 := dk_seg dksX2_holds_1 23 rfl rfl
theorem dksX2_holds_3 : cX2_holds.data.toList.drop 70 = dktX2_holds_3 := dk_seg dksX2_holds_2 23 rfl rfl
theorem dX2_holds_0 : decode cX2_holds 0 = .ok (.iconst 0, 1) := dk_3 (dk_at dksX2_holds_0 0 rfl rfl)
theorem dX2_holds_1 : decode cX2_holds 1 = .ok (.istore 4, 2) := dk_54 4 (dk_at dksX2_holds_0 1 rfl rfl)
theorem dX2_holds_3 : decode cX2_holds 3 = .ok (.iconst 0, 1) := dk_3 (dk_at dksX2_holds_0 3 rfl rfl)
theorem dX2_holds_4 : decode cX2_holds 4 = .ok (.istore 5, 2) := dk_54 5 (dk_at dksX2_holds_0 4 rfl rfl)
theorem dX2_holds_6 : decode cX2_holds 6 = .ok (.iload 5, 2) := dk_21 5 (dk_at dksX2_holds_0 6 rfl rfl)
theorem dX2_holds_8 : decode cX2_holds 8 = .ok (.aload_n 0, 1) := dk_42 (dk_at dksX2_holds_0 8 rfl rfl)
theorem dX2_holds_9 : decode cX2_holds 9 = .ok (.getfield 12, 3) := dk_180 0 12 (dk_at dksX2_holds_0 9 rfl rfl)
theorem dX2_holds_12 : decode cX2_holds 12 = .ok (.invokevirtual 31, 3) := dk_182 0 31 (dk_at dksX2_holds_0 12 rfl rfl)
theorem dX2_holds_15 : decode cX2_holds 15 = .ok (.if_icmp .ge 55, 3) := dk_162 0 55 (dk_at dksX2_holds_0 15 rfl rfl)
theorem dX2_holds_18 : decode cX2_holds 18 = .ok (.aload_n 0, 1) := dk_42 (dk_at dksX2_holds_0 18 rfl rfl)
theorem dX2_holds_19 : decode cX2_holds 19 = .ok (.getfield 12, 3) := dk_180 0 12 (dk_at dksX2_holds_0 19 rfl rfl)
theorem dX2_holds_22 : decode cX2_holds 22 = .ok (.iload 5, 2) := dk_21 5 (dk_at dksX2_holds_0 22 rfl rfl)
theorem dX2_holds_24 : decode cX2_holds 24 = .ok (.invokevirtual 35, 3) := dk_182 0 35 (dk_at dksX2_holds_1 0 rfl rfl)
theorem dX2_holds_27 : decode cX2_holds 27 = .ok (.checkcast 22, 3) := dk_192 0 22 (dk_at dksX2_holds_1 3 rfl rfl)
theorem dX2_holds_30 : decode cX2_holds 30 = .ok (.astore 6, 2) := dk_58 6 (dk_at dksX2_holds_1 6 rfl rfl)
theorem dX2_holds_32 : decode cX2_holds 32 = .ok (.aload 6, 2) := dk_25 6 (dk_at dksX2_holds_1 8 rfl rfl)
theorem dX2_holds_34 : decode cX2_holds 34 = .ok (.getfield 39, 3) := dk_180 0 39 (dk_at dksX2_holds_1 10 rfl rfl)
theorem dX2_holds_37 : decode cX2_holds 37 = .ok (.iload_n 2, 1) := dk_28 (dk_at dksX2_holds_1 13 rfl rfl)
theorem dX2_holds_38 : decode cX2_holds 38 = .ok (.if_icmp .ne 26, 3) := dk_160 0 26 (dk_at dksX2_holds_1 14 rfl rfl)
theorem dX2_holds_41 : decode cX2_holds 41 = .ok (.aload 6, 2) := dk_25 6 (dk_at dksX2_holds_1 17 rfl rfl)
theorem dX2_holds_43 : decode cX2_holds 43 = .ok (.getfield 43, 3) := dk_180 0 43 (dk_at dksX2_holds_1 19 rfl rfl)
theorem dX2_holds_46 : decode cX2_holds 46 = .ok (.iload_n 3, 1) := dk_29 (dk_at dksX2_holds_1 22 rfl rfl)
theorem dX2_holds_47 : decode cX2_holds 47 = .ok (.if_icmp .ne 17, 3) := dk_160 0 17 (dk_at dksX2_holds_2 0 rfl rfl)
theorem dX2_holds_50 : decode cX2_holds 50 = .ok (.iconst 1, 1) := dk_4 (dk_at dksX2_holds_2 3 rfl rfl)
theorem dX2_holds_51 : decode cX2_holds 51 = .ok (.istore 4, 2) := dk_54 4 (dk_at dksX2_holds_2 4 rfl rfl)
theorem dX2_holds_53 : decode cX2_holds 53 = .ok (.aload 6, 2) := dk_25 6 (dk_at dksX2_holds_2 6 rfl rfl)
theorem dX2_holds_55 : decode cX2_holds 55 = .ok (.aload_n 1, 1) := dk_43 (dk_at dksX2_holds_2 8 rfl rfl)
theorem dX2_holds_56 : decode cX2_holds 56 = .ok (.invokevirtual 46, 3) := dk_182 0 46 (dk_at dksX2_holds_2 9 rfl rfl)
theorem dX2_holds_59 : decode cX2_holds 59 = .ok (.ifCond .ne 5, 3) := dk_154 0 5 (dk_at dksX2_holds_2 12 rfl rfl)
theorem dX2_holds_62 : decode cX2_holds 62 = .ok (.iconst 0, 1) := dk_3 (dk_at dksX2_holds_2 15 rfl rfl)
theorem dX2_holds_63 : decode cX2_holds 63 = .ok (.ireturn, 1) := dk_172 (dk_at dksX2_holds_2 16 rfl rfl)
theorem dX2_holds_64 : decode cX2_holds 64 = .ok (.iinc 5 1, 3) := dk_132 5 1 (dk_at dksX2_holds_2 17 rfl rfl)
theorem dX2_holds_67 : decode cX2_holds 67 = .ok (.goto (-61), 3) := dk_167 255 195 (dk_at dksX2_holds_2 20 rfl rfl)
theorem dX2_holds_70 : decode cX2_holds 70 = .ok (.iload 4, 2) := dk_21 4 (dk_at dksX2_holds_3 0 rfl rfl)
theorem dX2_holds_72 : decode cX2_holds 72 = .ok (.ireturn, 1) := dk_172 (dk_at dksX2_holds_3 2 rfl rfl)
abbrev cX2_used : ByteArray := prog_13_method_5_code
def yX2_used : MethodName := ⟨RX2, "used", "()I"⟩
def dkwX2_used_1 : List UInt8 := [58, 5, 27, 4, 42, 25, 5, 182, 0, 57, 120, 128, 60, 132, 4, 1, 167, 255, 230, 27, 172]
abbrev dktX2_used_1 : List UInt8 := dkwX2_used_1 ++ []
def dkwX2_used_0 : List UInt8 := [3, 60, 42, 180, 0, 53, 77, 44, 190, 62, 3, 54, 4, 21, 4, 29, 162, 0, 26, 44, 21, 4, 50]
abbrev dktX2_used_0 : List UInt8 := dkwX2_used_0 ++ dktX2_used_1
theorem dksX2_used_0 : cX2_used.data.toList.drop 0 = dktX2_used_0 := by decide +kernel
theorem dksX2_used_1 : cX2_used.data.toList.drop 23 = dktX2_used_1 := dk_seg dksX2_used_0 23 rfl rfl
theorem dX2_used_0 : decode cX2_used 0 = .ok (.iconst 0, 1) := dk_3 (dk_at dksX2_used_0 0 rfl rfl)
theorem dX2_used_1 : decode cX2_used 1 = .ok (.istore_n 1, 1) := dk_60 (dk_at dksX2_used_0 1 rfl rfl)
theorem dX2_used_2 : decode cX2_used 2 = .ok (.aload_n 0, 1) := dk_42 (dk_at dksX2_used_0 2 rfl rfl)
theorem dX2_used_3 : decode cX2_used 3 = .ok (.getfield 53, 3) := dk_180 0 53 (dk_at dksX2_used_0 3 rfl rfl)
theorem dX2_used_6 : decode cX2_used 6 = .ok (.astore_n 2, 1) := dk_77 (dk_at dksX2_used_0 6 rfl rfl)
theorem dX2_used_7 : decode cX2_used 7 = .ok (.aload_n 2, 1) := dk_44 (dk_at dksX2_used_0 7 rfl rfl)
theorem dX2_used_8 : decode cX2_used 8 = .ok (.arraylength, 1) := dk_190 (dk_at dksX2_used_0 8 rfl rfl)
theorem dX2_used_9 : decode cX2_used 9 = .ok (.istore_n 3, 1) := dk_62 (dk_at dksX2_used_0 9 rfl rfl)
theorem dX2_used_10 : decode cX2_used 10 = .ok (.iconst 0, 1) := dk_3 (dk_at dksX2_used_0 10 rfl rfl)
theorem dX2_used_11 : decode cX2_used 11 = .ok (.istore 4, 2) := dk_54 4 (dk_at dksX2_used_0 11 rfl rfl)
theorem dX2_used_13 : decode cX2_used 13 = .ok (.iload 4, 2) := dk_21 4 (dk_at dksX2_used_0 13 rfl rfl)
theorem dX2_used_15 : decode cX2_used 15 = .ok (.iload_n 3, 1) := dk_29 (dk_at dksX2_used_0 15 rfl rfl)
theorem dX2_used_16 : decode cX2_used 16 = .ok (.if_icmp .ge 26, 3) := dk_162 0 26 (dk_at dksX2_used_0 16 rfl rfl)
theorem dX2_used_19 : decode cX2_used 19 = .ok (.aload_n 2, 1) := dk_44 (dk_at dksX2_used_0 19 rfl rfl)
theorem dX2_used_20 : decode cX2_used 20 = .ok (.iload 4, 2) := dk_21 4 (dk_at dksX2_used_0 20 rfl rfl)
theorem dX2_used_22 : decode cX2_used 22 = .ok (.aaload, 1) := dk_50 (dk_at dksX2_used_0 22 rfl rfl)
theorem dX2_used_23 : decode cX2_used 23 = .ok (.astore 5, 2) := dk_58 5 (dk_at dksX2_used_1 0 rfl rfl)
theorem dX2_used_25 : decode cX2_used 25 = .ok (.iload_n 1, 1) := dk_27 (dk_at dksX2_used_1 2 rfl rfl)
theorem dX2_used_26 : decode cX2_used 26 = .ok (.iconst 1, 1) := dk_4 (dk_at dksX2_used_1 3 rfl rfl)
theorem dX2_used_27 : decode cX2_used 27 = .ok (.aload_n 0, 1) := dk_42 (dk_at dksX2_used_1 4 rfl rfl)
theorem dX2_used_28 : decode cX2_used 28 = .ok (.aload 5, 2) := dk_25 5 (dk_at dksX2_used_1 5 rfl rfl)
theorem dX2_used_30 : decode cX2_used 30 = .ok (.invokevirtual 57, 3) := dk_182 0 57 (dk_at dksX2_used_1 7 rfl rfl)
theorem dX2_used_33 : decode cX2_used 33 = .ok (.ishl, 1) := dk_120 (dk_at dksX2_used_1 10 rfl rfl)
theorem dX2_used_34 : decode cX2_used 34 = .ok (.ior, 1) := dk_128 (dk_at dksX2_used_1 11 rfl rfl)
theorem dX2_used_35 : decode cX2_used 35 = .ok (.istore_n 1, 1) := dk_60 (dk_at dksX2_used_1 12 rfl rfl)
theorem dX2_used_36 : decode cX2_used 36 = .ok (.iinc 4 1, 3) := dk_132 4 1 (dk_at dksX2_used_1 13 rfl rfl)
theorem dX2_used_39 : decode cX2_used 39 = .ok (.goto (-26), 3) := dk_167 255 230 (dk_at dksX2_used_1 16 rfl rfl)
theorem dX2_used_42 : decode cX2_used 42 = .ok (.iload_n 1, 1) := dk_27 (dk_at dksX2_used_1 19 rfl rfl)
theorem dX2_used_43 : decode cX2_used 43 = .ok (.ireturn, 1) := dk_172 (dk_at dksX2_used_1 20 rfl rfl)
abbrev cX2_point : ByteArray := prog_13_method_6_code
def yX2_point : MethodName := ⟨RX2, "point", "()I"⟩
theorem dX2_point_0 : decode cX2_point 0 = .ok (.bipush 44, 2) := by decide +kernel
theorem dX2_point_2 : decode cX2_point 2 = .ok (.ireturn, 1) := by decide +kernel
abbrev cX2_joiner : ByteArray := prog_13_method_8_code
def yX2_joiner : MethodName := ⟨RX2, "joiner", "(I)Ljava/lang/String;"⟩
def dkwX2_joiner_0 : List UInt8 := [27, 4, 160, 0, 8, 18, 60, 167, 0, 5, 18, 62, 176]
abbrev dktX2_joiner_0 : List UInt8 := dkwX2_joiner_0 ++ []
theorem dksX2_joiner_0 : cX2_joiner.data.toList.drop 0 = dktX2_joiner_0 := by decide +kernel
theorem dX2_joiner_0 : decode cX2_joiner 0 = .ok (.iload_n 1, 1) := dk_27 (dk_at dksX2_joiner_0 0 rfl rfl)
theorem dX2_joiner_1 : decode cX2_joiner 1 = .ok (.iconst 1, 1) := dk_4 (dk_at dksX2_joiner_0 1 rfl rfl)
theorem dX2_joiner_2 : decode cX2_joiner 2 = .ok (.if_icmp .ne 8, 3) := dk_160 0 8 (dk_at dksX2_joiner_0 2 rfl rfl)
theorem dX2_joiner_5 : decode cX2_joiner 5 = .ok (.ldc 60, 2) := dk_18 60 (dk_at dksX2_joiner_0 5 rfl rfl)
theorem dX2_joiner_7 : decode cX2_joiner 7 = .ok (.goto 5, 3) := dk_167 0 5 (dk_at dksX2_joiner_0 7 rfl rfl)
theorem dX2_joiner_10 : decode cX2_joiner 10 = .ok (.ldc 62, 2) := dk_18 62 (dk_at dksX2_joiner_0 10 rfl rfl)
theorem dX2_joiner_12 : decode cX2_joiner 12 = .ok (.areturn, 1) := dk_176 (dk_at dksX2_joiner_0 12 rfl rfl)
abbrev cX2_group : ByteArray := prog_13_method_7_code
def yX2_group : MethodName := ⟨RX2, "group", "()I"⟩
theorem dX2_group_0 : decode cX2_group 0 = .ok (.bipush 32, 2) := by decide +kernel
theorem dX2_group_2 : decode cX2_group 2 = .ok (.ireturn, 1) := by decide +kernel
theorem q70 : (Jvm.Cond.initialized "PluralBranches$Language") ∈ lw_all := lw_g (lw_at lw_m1 4 rfl) rfl
theorem q187 : (Jvm.Cond.instanceMethod ({ cls := "PluralBranches$Language", name := "<init>", desc := "()V" } : Jvm.MethodName)) ∈ lw_all := lw_g (lw_at lw_m1 121 rfl) rfl
theorem q188 : (Jvm.Cond.code ({ cls := "PluralBranches$Language", name := "<init>", desc := "()V" } : Jvm.MethodName) prog_13_method_1_code (1 : Nat) (Option.none : Option Jvm.ClassFile.FieldType)) ∈ lw_all := lw_g (lw_at lw_m1 122 rfl) rfl
theorem q189 : (Jvm.Cond.methodLink "PluralBranches$Language" (3 : Nat) ({ cls := "java/lang/Object", name := "<init>", desc := "()V" } : Jvm.MethodName)) ∈ lw_all := lw_g (lw_at lw_m1 123 rfl) rfl
theorem q190 : (Jvm.Cond.classLink "PluralBranches$Language" (9 : Nat) "java/util/ArrayList") ∈ lw_all := lw_g (lw_at lw_m1 124 rfl) rfl
theorem q192 : (Jvm.Cond.methodLink "PluralBranches$Language" (11 : Nat) ({ cls := "java/util/ArrayList", name := "<init>", desc := "()V" } : Jvm.MethodName)) ∈ lw_all := lw_g (lw_at lw_m1 126 rfl) rfl
theorem q220 : (Jvm.Cond.methodLink "PluralBranches$Language" (18 : Nat) ({ cls := "java/util/ArrayList", name := "ensureCapacity", desc := "(I)V" } : Jvm.MethodName)) ∈ lw_all := lw_g (lw_at lw_m1 154 rfl) rfl
theorem q288 : (Jvm.Cond.fieldLink "PluralBranches$Language" (12 : Nat) "PluralBranches$Language" "all" "Ljava/util/ArrayList;") ∈ lw_all := lw_g (lw_at lw_m1 222 rfl) rfl
theorem q291 : (Jvm.Cond.fieldLink "PluralBranches$Language" (53 : Nat) "PluralBranches$Language" "tried" "[LPluralBranches$Decimal;") ∈ lw_all := lw_g (lw_at lw_m1 225 rfl) rfl
theorem q295 : (Jvm.Cond.soleField "PluralBranches$Language" "all") ∈ lw_all := lw_g (lw_at lw_m1 229 rfl) rfl
theorem q297 : (Jvm.Cond.soleField "PluralBranches$Language" "tried") ∈ lw_all := lw_g (lw_at lw_m1 231 rfl) rfl
theorem q302 : (Jvm.Cond.declares ({ cls := "PluralBranches$Language", name := "with", desc := "(Z[I)LPluralBranches$Language;" } : Jvm.MethodName)) ∈ lw_tbl := lw_at lw_m1 236 rfl
theorem q304 : (Jvm.Cond.instanceMethod ({ cls := "PluralBranches$Language", name := "with", desc := "(Z[I)LPluralBranches$Language;" } : Jvm.MethodName)) ∈ lw_all := lw_g (lw_at lw_m1 238 rfl) rfl
theorem q305 : (Jvm.Cond.code ({ cls := "PluralBranches$Language", name := "with", desc := "(Z[I)LPluralBranches$Language;" } : Jvm.MethodName) prog_13_method_2_code (3 : Nat) (Option.some (Jvm.ClassFile.FieldType.object "PluralBranches$Language"))) ∈ lw_all := lw_g (lw_at lw_m1 239 rfl) rfl
theorem q306 : (Jvm.Cond.classLink "PluralBranches$Language" (22 : Nat) "PluralBranches$Condition") ∈ lw_all := lw_g (lw_at lw_m2 0 rfl) rfl
theorem q308 : (Jvm.Cond.methodLink "PluralBranches$Language" (24 : Nat) ({ cls := "PluralBranches$Condition", name := "<init>", desc := "(Z[I)V" } : Jvm.MethodName)) ∈ lw_all := lw_g (lw_at lw_m2 2 rfl) rfl
theorem q313 : (Jvm.Cond.fieldLinkNest "PluralBranches$Language" (39 : Nat) "PluralBranches$Condition" "category" "I" "PluralBranches") ∈ lw_tbl := lw_at lw_m2 7 rfl
theorem q315 : (Jvm.Cond.fieldLinkNest "PluralBranches$Language" (43 : Nat) "PluralBranches$Condition" "rule" "I" "PluralBranches") ∈ lw_tbl := lw_at lw_m2 9 rfl
theorem q337 : (Jvm.Cond.methodLink "PluralBranches$Language" (27 : Nat) ({ cls := "java/util/ArrayList", name := "add", desc := "(Ljava/lang/Object;)Z" } : Jvm.MethodName)) ∈ lw_all := lw_g (lw_at lw_m2 31 rfl) rfl
theorem q451 : (Jvm.Cond.instanceMethod ({ cls := "PluralBranches$Language", name := "category", desc := "(LPluralBranches$Decimal;)I" } : Jvm.MethodName)) ∈ lw_all := lw_g (lw_at lw_m2 145 rfl) rfl
theorem q452 : (Jvm.Cond.sameMethod "PluralBranches$Language" "PluralBranches$Language" "category" "(LPluralBranches$Decimal;)I") ∈ lw_all := lw_g (lw_at lw_m2 146 rfl) rfl
theorem q457 : (Jvm.Cond.code ({ cls := "PluralBranches$Language", name := "category", desc := "(LPluralBranches$Decimal;)I" } : Jvm.MethodName) prog_13_method_4_code (3 : Nat) (Option.some Jvm.ClassFile.FieldType.int)) ∈ lw_all := lw_g (lw_at lw_m2 151 rfl) rfl
theorem q458 : (Jvm.Cond.methodLink "PluralBranches$Language" (50 : Nat) ({ cls := "PluralBranches$Language", name := "holds", desc := "(LPluralBranches$Decimal;II)Z" } : Jvm.MethodName)) ∈ lw_all := lw_g (lw_at lw_m2 152 rfl) rfl
theorem q459 : (Jvm.Cond.privateMethod ({ cls := "PluralBranches$Language", name := "holds", desc := "(LPluralBranches$Decimal;II)Z" } : Jvm.MethodName)) ∈ lw_tbl := lw_at lw_m2 153 rfl
theorem q460 : (Jvm.Cond.instanceMethod ({ cls := "PluralBranches$Language", name := "holds", desc := "(LPluralBranches$Decimal;II)Z" } : Jvm.MethodName)) ∈ lw_all := lw_g (lw_at lw_m2 154 rfl) rfl
theorem q461 : (Jvm.Cond.instantiable "PluralBranches$Language" (2 : Nat)) ∈ lw_all := lw_g (lw_at lw_m2 155 rfl) rfl
theorem q462 : (Jvm.Cond.code ({ cls := "PluralBranches$Language", name := "holds", desc := "(LPluralBranches$Decimal;II)Z" } : Jvm.MethodName) prog_13_method_3_code (7 : Nat) (Option.some Jvm.ClassFile.FieldType.boolean)) ∈ lw_all := lw_g (lw_at lw_m2 156 rfl) rfl
theorem q463 : (Jvm.Cond.methodLink "PluralBranches$Language" (31 : Nat) ({ cls := "java/util/ArrayList", name := "size", desc := "()I" } : Jvm.MethodName)) ∈ lw_all := lw_g (lw_at lw_m2 157 rfl) rfl
theorem q467 : (Jvm.Cond.methodLink "PluralBranches$Language" (35 : Nat) ({ cls := "java/util/ArrayList", name := "get", desc := "(I)Ljava/lang/Object;" } : Jvm.MethodName)) ∈ lw_all := lw_g (lw_at lw_m2 161 rfl) rfl
theorem q481 : (Jvm.Cond.methodLink "PluralBranches$Language" (46 : Nat) ({ cls := "PluralBranches$Condition", name := "holds", desc := "(LPluralBranches$Decimal;)Z" } : Jvm.MethodName)) ∈ lw_all := lw_g (lw_at lw_m2 175 rfl) rfl
theorem q492 : (Jvm.Cond.instanceMethod ({ cls := "PluralBranches$Language", name := "used", desc := "()I" } : Jvm.MethodName)) ∈ lw_all := lw_g (lw_at lw_m2 186 rfl) rfl
theorem q493 : (Jvm.Cond.sameMethod "PluralBranches$Language" "PluralBranches$Language" "used" "()I") ∈ lw_all := lw_g (lw_at lw_m2 187 rfl) rfl
theorem q498 : (Jvm.Cond.code ({ cls := "PluralBranches$Language", name := "used", desc := "()I" } : Jvm.MethodName) prog_13_method_5_code (6 : Nat) (Option.some Jvm.ClassFile.FieldType.int)) ∈ lw_all := lw_g (lw_at lw_m2 192 rfl) rfl
theorem q499 : (Jvm.Cond.methodLink "PluralBranches$Language" (57 : Nat) ({ cls := "PluralBranches$Language", name := "category", desc := "(LPluralBranches$Decimal;)I" } : Jvm.MethodName)) ∈ lw_all := lw_g (lw_at lw_m2 193 rfl) rfl
theorem q1442 : (Jvm.Cond.instanceMethod ({ cls := "PluralBranches$Language", name := "point", desc := "()I" } : Jvm.MethodName)) ∈ lw_all := lw_g (lw_at lw_m6 176 rfl) rfl
theorem q1443 : (Jvm.Cond.sameMethod "PluralBranches$Language" "PluralBranches$Language" "point" "()I") ∈ lw_all := lw_g (lw_at lw_m6 177 rfl) rfl
theorem q1452 : (Jvm.Cond.code ({ cls := "PluralBranches$Language", name := "point", desc := "()I" } : Jvm.MethodName) prog_13_method_6_code (1 : Nat) (Option.some Jvm.ClassFile.FieldType.int)) ∈ lw_all := lw_g (lw_at lw_m6 186 rfl) rfl
theorem q1500 : (Jvm.Cond.instanceMethod ({ cls := "PluralBranches$Language", name := "joiner", desc := "(I)Ljava/lang/String;" } : Jvm.MethodName)) ∈ lw_all := lw_g (lw_at lw_m6 234 rfl) rfl
theorem q1501 : (Jvm.Cond.sameMethod "PluralBranches$Language" "PluralBranches$Language" "joiner" "(I)Ljava/lang/String;") ∈ lw_all := lw_g (lw_at lw_m6 235 rfl) rfl
theorem q1510 : (Jvm.Cond.code ({ cls := "PluralBranches$Language", name := "joiner", desc := "(I)Ljava/lang/String;" } : Jvm.MethodName) prog_13_method_8_code (2 : Nat) (Option.some (Jvm.ClassFile.FieldType.object "java/lang/String"))) ∈ lw_all := lw_g (lw_at lw_m7 4 rfl) rfl
theorem q1511 : (Jvm.Cond.stringRef "PluralBranches$Language" (60 : Nat) ", ") ∈ lw_tbl := lw_at lw_m7 5 rfl
theorem q1512 : (Jvm.Cond.stringRef "PluralBranches$Language" (62 : Nat) " wa ") ∈ lw_tbl := lw_at lw_m7 6 rfl
theorem q1575 : (Jvm.Cond.instanceMethod ({ cls := "PluralBranches$Language", name := "group", desc := "()I" } : Jvm.MethodName)) ∈ lw_all := lw_g (lw_at lw_m7 69 rfl) rfl
theorem q1576 : (Jvm.Cond.sameMethod "PluralBranches$Language" "PluralBranches$Language" "group" "()I") ∈ lw_all := lw_g (lw_at lw_m7 70 rfl) rfl
theorem q1585 : (Jvm.Cond.code ({ cls := "PluralBranches$Language", name := "group", desc := "()I" } : Jvm.MethodName) prog_13_method_7_code (1 : Nat) (Option.some Jvm.ClassFile.FieldType.int)) ∈ lw_all := lw_g (lw_at lw_m7 79 rfl) rfl
theorem q2251 : (Jvm.Cond.sameMethod "PluralBranches$Language" "PluralBranches$Language" "with" "(Z[I)LPluralBranches$Language;") ∈ lw_all := lw_g (lw_at lw_m10 25 rfl) rfl
theorem q2256 : (Jvm.Cond.sameMethod "PluralBranches$Language" "PluralBranches$Language" "holds" "(LPluralBranches$Decimal;II)Z") ∈ lw_all := lw_g (lw_at lw_m10 30 rfl) rfl
theorem q2276 : (Jvm.Cond.castable "PluralBranches$Language" "java/lang/Object") ∈ lw_tbl := lw_at lw_m10 50 rfl
/-! PluralBranches$Choice -/
set_option maxRecDepth 100000
def RX20 : String := "PluralBranches$Choice"
abbrev cX20_init : ByteArray := prog_5_method_1_code
def yX20_init : MethodName := ⟨RX20, "<init>", "(II)V"⟩
def dkwX20_init_0 : List UInt8 := [42, 27, 183, 0, 3, 42, 187, 0, 9, 89, 183, 0, 11, 181, 0, 14, 42, 28, 181, 0, 20, 177]
abbrev dktX20_init_0 : List UInt8 := dkwX20_init_0 ++ []
theorem dksX20_init_0 : cX20_init.data.toList.drop 0 = dktX20_init_0 := by decide +kernel
theorem dX20_init_0 : decode cX20_init 0 = .ok (.aload_n 0, 1) := dk_42 (dk_at dksX20_init_0 0 rfl rfl)
theorem dX20_init_1 : decode cX20_init 1 = .ok (.iload_n 1, 1) := dk_27 (dk_at dksX20_init_0 1 rfl rfl)
theorem dX20_init_2 : decode cX20_init 2 = .ok (.invokespecial 3, 3) := dk_183 0 3 (dk_at dksX20_init_0 2 rfl rfl)
theorem dX20_init_5 : decode cX20_init 5 = .ok (.aload_n 0, 1) := dk_42 (dk_at dksX20_init_0 5 rfl rfl)
theorem dX20_init_6 : decode cX20_init 6 = .ok (.new 9, 3) := dk_187 0 9 (dk_at dksX20_init_0 6 rfl rfl)
theorem dX20_init_9 : decode cX20_init 9 = .ok (.dup, 1) := dk_89 (dk_at dksX20_init_0 9 rfl rfl)
theorem dX20_init_10 : decode cX20_init 10 = .ok (.invokespecial 11, 3) := dk_183 0 11 (dk_at dksX20_init_0 10 rfl rfl)
theorem dX20_init_13 : decode cX20_init 13 = .ok (.putfield 14, 3) := dk_181 0 14 (dk_at dksX20_init_0 13 rfl rfl)
theorem dX20_init_16 : decode cX20_init 16 = .ok (.aload_n 0, 1) := dk_42 (dk_at dksX20_init_0 16 rfl rfl)
theorem dX20_init_17 : decode cX20_init 17 = .ok (.iload_n 2, 1) := dk_28 (dk_at dksX20_init_0 17 rfl rfl)
theorem dX20_init_18 : decode cX20_init 18 = .ok (.putfield 20, 3) := dk_181 0 20 (dk_at dksX20_init_0 18 rfl rfl)
theorem dX20_init_21 : decode cX20_init 21 = .ok (.return_, 1) := dk_177 (dk_at dksX20_init_0 21 rfl rfl)
abbrev cX20_of : ByteArray := prog_5_method_5_code
def yX20_of : MethodName := ⟨RX20, "of", "(I)I"⟩
def dkwX20_of_1 : List UInt8 := [180, 0, 34, 27, 160, 0, 5, 28, 172, 132, 2, 1, 167, 255, 222, 16, 254, 172]
abbrev dktX20_of_1 : List UInt8 := dkwX20_of_1 ++ []
def dkwX20_of_0 : List UInt8 := [3, 61, 28, 42, 180, 0, 14, 182, 0, 24, 162, 0, 29, 42, 180, 0, 14, 28, 182, 0, 28, 192, 0, 32]
abbrev dktX20_of_0 : List UInt8 := dkwX20_of_0 ++ dktX20_of_1
theorem dksX20_of_0 : cX20_of.data.toList.drop 0 = dktX20_of_0 := by decide +kernel
theorem dksX20_of_1 : cX20_of.data.toList.drop 24 = dktX20_of_1 := dk_seg dksX20_of_0 24 rfl rfl
theorem dX20_of_0 : decode cX20_of 0 = .ok (.iconst 0, 1) := dk_3 (dk_at dksX20_of_0 0 rfl rfl)
theorem dX20_of_1 : decode cX20_of 1 = .ok (.istore_n 2, 1) := dk_61 (dk_at dksX20_of_0 1 rfl rfl)
theorem dX20_of_2 : decode cX20_of 2 = .ok (.iload_n 2, 1) := dk_28 (dk_at dksX20_of_0 2 rfl rfl)
theorem dX20_of_3 : decode cX20_of 3 = .ok (.aload_n 0, 1) := dk_42 (dk_at dksX20_of_0 3 rfl rfl)
theorem dX20_of_4 : decode cX20_of 4 = .ok (.getfield 14, 3) := dk_180 0 14 (dk_at dksX20_of_0 4 rfl rfl)
theorem dX20_of_7 : decode cX20_of 7 = .ok (.invokevirtual 24, 3) := dk_182 0 24 (dk_at dksX20_of_0 7 rfl rfl)
theorem dX20_of_10 : decode cX20_of 10 = .ok (.if_icmp .ge 29, 3) := dk_162 0 29 (dk_at dksX20_of_0 10 rfl rfl)
theorem dX20_of_13 : decode cX20_of 13 = .ok (.aload_n 0, 1) := dk_42 (dk_at dksX20_of_0 13 rfl rfl)
theorem dX20_of_14 : decode cX20_of 14 = .ok (.getfield 14, 3) := dk_180 0 14 (dk_at dksX20_of_0 14 rfl rfl)
theorem dX20_of_17 : decode cX20_of 17 = .ok (.iload_n 2, 1) := dk_28 (dk_at dksX20_of_0 17 rfl rfl)
theorem dX20_of_18 : decode cX20_of 18 = .ok (.invokevirtual 28, 3) := dk_182 0 28 (dk_at dksX20_of_0 18 rfl rfl)
theorem dX20_of_21 : decode cX20_of 21 = .ok (.checkcast 32, 3) := dk_192 0 32 (dk_at dksX20_of_0 21 rfl rfl)
theorem dX20_of_24 : decode cX20_of 24 = .ok (.getfield 34, 3) := dk_180 0 34 (dk_at dksX20_of_1 0 rfl rfl)
theorem dX20_of_27 : decode cX20_of 27 = .ok (.iload_n 1, 1) := dk_27 (dk_at dksX20_of_1 3 rfl rfl)
theorem dX20_of_28 : decode cX20_of 28 = .ok (.if_icmp .ne 5, 3) := dk_160 0 5 (dk_at dksX20_of_1 4 rfl rfl)
theorem dX20_of_31 : decode cX20_of 31 = .ok (.iload_n 2, 1) := dk_28 (dk_at dksX20_of_1 7 rfl rfl)
theorem dX20_of_32 : decode cX20_of 32 = .ok (.ireturn, 1) := dk_172 (dk_at dksX20_of_1 8 rfl rfl)
theorem dX20_of_33 : decode cX20_of 33 = .ok (.iinc 2 1, 3) := dk_132 2 1 (dk_at dksX20_of_1 9 rfl rfl)
theorem dX20_of_36 : decode cX20_of 36 = .ok (.goto (-34), 3) := dk_167 255 222 (dk_at dksX20_of_1 12 rfl rfl)
theorem dX20_of_39 : decode cX20_of 39 = .ok (.bipush (-2), 2) := dk_16 254 (dk_at dksX20_of_1 15 rfl rfl)
theorem dX20_of_41 : decode cX20_of 41 = .ok (.ireturn, 1) := dk_172 (dk_at dksX20_of_1 17 rfl rfl)
abbrev cX20_depth : ByteArray := prog_5_method_9_code
def yX20_depth : MethodName := ⟨RX20, "depth", "()I"⟩
def dkwX20_depth_2 : List UInt8 := [4, 27, 96, 172]
abbrev dktX20_depth_2 : List UInt8 := dkwX20_depth_2 ++ []
def dkwX20_depth_1 : List UInt8 := [185, 0, 58, 1, 0, 192, 0, 32, 78, 27, 45, 180, 0, 65, 182, 0, 69, 184, 0, 74, 60, 167, 255, 225]
abbrev dktX20_depth_1 : List UInt8 := dkwX20_depth_1 ++ dktX20_depth_2
def dkwX20_depth_0 : List UInt8 := [3, 60, 42, 180, 0, 14, 182, 0, 48, 77, 44, 185, 0, 52, 1, 0, 153, 0, 28, 44]
abbrev dktX20_depth_0 : List UInt8 := dkwX20_depth_0 ++ dktX20_depth_1
theorem dksX20_depth_0 : cX20_depth.data.toList.drop 0 = dktX20_depth_0 := by decide +kernel
theorem dksX20_depth_1 : cX20_depth.data.toList.drop 20 = dktX20_depth_1 := dk_seg dksX20_depth_0 20 rfl rfl
theorem dksX20_depth_2 : cX20_depth.data.toList.drop 44 = dktX20_depth_2 := dk_seg dksX20_depth_1 24 rfl rfl
theorem dX20_depth_0 : decode cX20_depth 0 = .ok (.iconst 0, 1) := dk_3 (dk_at dksX20_depth_0 0 rfl rfl)
theorem dX20_depth_1 : decode cX20_depth 1 = .ok (.istore_n 1, 1) := dk_60 (dk_at dksX20_depth_0 1 rfl rfl)
theorem dX20_depth_2 : decode cX20_depth 2 = .ok (.aload_n 0, 1) := dk_42 (dk_at dksX20_depth_0 2 rfl rfl)
theorem dX20_depth_3 : decode cX20_depth 3 = .ok (.getfield 14, 3) := dk_180 0 14 (dk_at dksX20_depth_0 3 rfl rfl)
theorem dX20_depth_6 : decode cX20_depth 6 = .ok (.invokevirtual 48, 3) := dk_182 0 48 (dk_at dksX20_depth_0 6 rfl rfl)
theorem dX20_depth_9 : decode cX20_depth 9 = .ok (.astore_n 2, 1) := dk_77 (dk_at dksX20_depth_0 9 rfl rfl)
theorem dX20_depth_10 : decode cX20_depth 10 = .ok (.aload_n 2, 1) := dk_44 (dk_at dksX20_depth_0 10 rfl rfl)
theorem dX20_depth_11 : decode cX20_depth 11 = .ok (.invokeinterface 52 1, 5) := by decide +kernel
theorem dX20_depth_16 : decode cX20_depth 16 = .ok (.ifCond .eq 28, 3) := dk_153 0 28 (dk_at dksX20_depth_0 16 rfl rfl)
theorem dX20_depth_19 : decode cX20_depth 19 = .ok (.aload_n 2, 1) := dk_44 (dk_at dksX20_depth_0 19 rfl rfl)
theorem dX20_depth_20 : decode cX20_depth 20 = .ok (.invokeinterface 58 1, 5) := by decide +kernel
theorem dX20_depth_25 : decode cX20_depth 25 = .ok (.checkcast 32, 3) := dk_192 0 32 (dk_at dksX20_depth_1 5 rfl rfl)
theorem dX20_depth_28 : decode cX20_depth 28 = .ok (.astore_n 3, 1) := dk_78 (dk_at dksX20_depth_1 8 rfl rfl)
theorem dX20_depth_29 : decode cX20_depth 29 = .ok (.iload_n 1, 1) := dk_27 (dk_at dksX20_depth_1 9 rfl rfl)
theorem dX20_depth_30 : decode cX20_depth 30 = .ok (.aload_n 3, 1) := dk_45 (dk_at dksX20_depth_1 10 rfl rfl)
theorem dX20_depth_31 : decode cX20_depth 31 = .ok (.getfield 65, 3) := dk_180 0 65 (dk_at dksX20_depth_1 11 rfl rfl)
theorem dX20_depth_34 : decode cX20_depth 34 = .ok (.invokevirtual 69, 3) := dk_182 0 69 (dk_at dksX20_depth_1 14 rfl rfl)
theorem dX20_depth_37 : decode cX20_depth 37 = .ok (.invokestatic 74, 3) := dk_184 0 74 (dk_at dksX20_depth_1 17 rfl rfl)
theorem dX20_depth_40 : decode cX20_depth 40 = .ok (.istore_n 1, 1) := dk_60 (dk_at dksX20_depth_1 20 rfl rfl)
theorem dX20_depth_41 : decode cX20_depth 41 = .ok (.goto (-31), 3) := dk_167 255 225 (dk_at dksX20_depth_1 21 rfl rfl)
theorem dX20_depth_44 : decode cX20_depth 44 = .ok (.iconst 1, 1) := dk_4 (dk_at dksX20_depth_2 0 rfl rfl)
theorem dX20_depth_45 : decode cX20_depth 45 = .ok (.iload_n 1, 1) := dk_27 (dk_at dksX20_depth_2 1 rfl rfl)
theorem dX20_depth_46 : decode cX20_depth 46 = .ok (.iadd, 1) := dk_96 (dk_at dksX20_depth_2 2 rfl rfl)
theorem dX20_depth_47 : decode cX20_depth 47 = .ok (.ireturn, 1) := dk_172 (dk_at dksX20_depth_2 3 rfl rfl)
abbrev cX20_lacks : ByteArray := prog_5_method_7_code
def yX20_lacks : MethodName := ⟨RX20, "lacks", "(LPluralBranches$Language;)I"⟩
def dkwX20_lacks_2 : List UInt8 := [25, 4, 180, 0, 34, 120, 2, 130, 167, 0, 4, 28, 126, 61, 167, 255, 208, 28, 172]
abbrev dktX20_lacks_2 : List UInt8 := dkwX20_lacks_2 ++ []
def dkwX20_lacks_1 : List UInt8 := [185, 0, 58, 1, 0, 192, 0, 32, 58, 4, 28, 25, 4, 180, 0, 34, 42, 182, 0, 41, 162, 0, 15, 4]
abbrev dktX20_lacks_1 : List UInt8 := dkwX20_lacks_1 ++ dktX20_lacks_2
def dkwX20_lacks_0 : List UInt8 := [42, 43, 182, 0, 44, 61, 42, 180, 0, 14, 182, 0, 48, 78, 45, 185, 0, 52, 1, 0, 153, 0, 45, 45]
abbrev dktX20_lacks_0 : List UInt8 := dkwX20_lacks_0 ++ dktX20_lacks_1
theorem dksX20_lacks_0 : cX20_lacks.data.toList.drop 0 = dktX20_lacks_0 := by decide +kernel
theorem dksX20_lacks_1 : cX20_lacks.data.toList.drop 24 = dktX20_lacks_1 := dk_seg dksX20_lacks_0 24 rfl rfl
theorem dksX20_lacks_2 : cX20_lacks.data.toList.drop 48 = dktX20_lacks_2 := dk_seg dksX20_lacks_1 24 rfl rfl
theorem dX20_lacks_0 : decode cX20_lacks 0 = .ok (.aload_n 0, 1) := dk_42 (dk_at dksX20_lacks_0 0 rfl rfl)
theorem dX20_lacks_1 : decode cX20_lacks 1 = .ok (.aload_n 1, 1) := dk_43 (dk_at dksX20_lacks_0 1 rfl rfl)
theorem dX20_lacks_2 : decode cX20_lacks 2 = .ok (.invokevirtual 44, 3) := dk_182 0 44 (dk_at dksX20_lacks_0 2 rfl rfl)
theorem dX20_lacks_5 : decode cX20_lacks 5 = .ok (.istore_n 2, 1) := dk_61 (dk_at dksX20_lacks_0 5 rfl rfl)
theorem dX20_lacks_6 : decode cX20_lacks 6 = .ok (.aload_n 0, 1) := dk_42 (dk_at dksX20_lacks_0 6 rfl rfl)
theorem dX20_lacks_7 : decode cX20_lacks 7 = .ok (.getfield 14, 3) := dk_180 0 14 (dk_at dksX20_lacks_0 7 rfl rfl)
theorem dX20_lacks_10 : decode cX20_lacks 10 = .ok (.invokevirtual 48, 3) := dk_182 0 48 (dk_at dksX20_lacks_0 10 rfl rfl)
theorem dX20_lacks_13 : decode cX20_lacks 13 = .ok (.astore_n 3, 1) := dk_78 (dk_at dksX20_lacks_0 13 rfl rfl)
theorem dX20_lacks_14 : decode cX20_lacks 14 = .ok (.aload_n 3, 1) := dk_45 (dk_at dksX20_lacks_0 14 rfl rfl)
theorem dX20_lacks_15 : decode cX20_lacks 15 = .ok (.invokeinterface 52 1, 5) := by decide +kernel
theorem dX20_lacks_20 : decode cX20_lacks 20 = .ok (.ifCond .eq 45, 3) := dk_153 0 45 (dk_at dksX20_lacks_0 20 rfl rfl)
theorem dX20_lacks_23 : decode cX20_lacks 23 = .ok (.aload_n 3, 1) := dk_45 (dk_at dksX20_lacks_0 23 rfl rfl)
theorem dX20_lacks_24 : decode cX20_lacks 24 = .ok (.invokeinterface 58 1, 5) := by decide +kernel
theorem dX20_lacks_29 : decode cX20_lacks 29 = .ok (.checkcast 32, 3) := dk_192 0 32 (dk_at dksX20_lacks_1 5 rfl rfl)
theorem dX20_lacks_32 : decode cX20_lacks 32 = .ok (.astore 4, 2) := dk_58 4 (dk_at dksX20_lacks_1 8 rfl rfl)
theorem dX20_lacks_34 : decode cX20_lacks 34 = .ok (.iload_n 2, 1) := dk_28 (dk_at dksX20_lacks_1 10 rfl rfl)
theorem dX20_lacks_35 : decode cX20_lacks 35 = .ok (.aload 4, 2) := dk_25 4 (dk_at dksX20_lacks_1 11 rfl rfl)
theorem dX20_lacks_37 : decode cX20_lacks 37 = .ok (.getfield 34, 3) := dk_180 0 34 (dk_at dksX20_lacks_1 13 rfl rfl)
theorem dX20_lacks_40 : decode cX20_lacks 40 = .ok (.aload_n 0, 1) := dk_42 (dk_at dksX20_lacks_1 16 rfl rfl)
theorem dX20_lacks_41 : decode cX20_lacks 41 = .ok (.invokevirtual 41, 3) := dk_182 0 41 (dk_at dksX20_lacks_1 17 rfl rfl)
theorem dX20_lacks_44 : decode cX20_lacks 44 = .ok (.if_icmp .ge 15, 3) := dk_162 0 15 (dk_at dksX20_lacks_1 20 rfl rfl)
theorem dX20_lacks_47 : decode cX20_lacks 47 = .ok (.iconst 1, 1) := dk_4 (dk_at dksX20_lacks_1 23 rfl rfl)
theorem dX20_lacks_48 : decode cX20_lacks 48 = .ok (.aload 4, 2) := dk_25 4 (dk_at dksX20_lacks_2 0 rfl rfl)
theorem dX20_lacks_50 : decode cX20_lacks 50 = .ok (.getfield 34, 3) := dk_180 0 34 (dk_at dksX20_lacks_2 2 rfl rfl)
theorem dX20_lacks_53 : decode cX20_lacks 53 = .ok (.ishl, 1) := dk_120 (dk_at dksX20_lacks_2 5 rfl rfl)
theorem dX20_lacks_54 : decode cX20_lacks 54 = .ok (.iconst (-1), 1) := dk_2 (dk_at dksX20_lacks_2 6 rfl rfl)
theorem dX20_lacks_55 : decode cX20_lacks 55 = .ok (.ixor, 1) := dk_130 (dk_at dksX20_lacks_2 7 rfl rfl)
theorem dX20_lacks_56 : decode cX20_lacks 56 = .ok (.goto 4, 3) := dk_167 0 4 (dk_at dksX20_lacks_2 8 rfl rfl)
theorem dX20_lacks_59 : decode cX20_lacks 59 = .ok (.iload_n 2, 1) := dk_28 (dk_at dksX20_lacks_2 11 rfl rfl)
theorem dX20_lacks_60 : decode cX20_lacks 60 = .ok (.iand, 1) := dk_126 (dk_at dksX20_lacks_2 12 rfl rfl)
theorem dX20_lacks_61 : decode cX20_lacks 61 = .ok (.istore_n 2, 1) := dk_61 (dk_at dksX20_lacks_2 13 rfl rfl)
theorem dX20_lacks_62 : decode cX20_lacks 62 = .ok (.goto (-48), 3) := dk_167 255 208 (dk_at dksX20_lacks_2 14 rfl rfl)
theorem dX20_lacks_65 : decode cX20_lacks 65 = .ok (.iload_n 2, 1) := dk_28 (dk_at dksX20_lacks_2 17 rfl rfl)
theorem dX20_lacks_66 : decode cX20_lacks 66 = .ok (.ireturn, 1) := dk_172 (dk_at dksX20_lacks_2 18 rfl rfl)
abbrev cX20_dead : ByteArray := prog_5_method_8_code
def yX20_dead : MethodName := ⟨RX20, "dead", "(LPluralBranches$Language;)I"⟩
def dkwX20_dead_0 : List UInt8 := [42, 43, 182, 0, 62, 154, 0, 16, 4, 42, 42, 182, 0, 41, 182, 0, 37, 120, 167, 0, 4, 3, 172]
abbrev dktX20_dead_0 : List UInt8 := dkwX20_dead_0 ++ []
theorem dksX20_dead_0 : cX20_dead.data.toList.drop 0 = dktX20_dead_0 := by decide +kernel
theorem dX20_dead_0 : decode cX20_dead 0 = .ok (.aload_n 0, 1) := dk_42 (dk_at dksX20_dead_0 0 rfl rfl)
theorem dX20_dead_1 : decode cX20_dead 1 = .ok (.aload_n 1, 1) := dk_43 (dk_at dksX20_dead_0 1 rfl rfl)
theorem dX20_dead_2 : decode cX20_dead 2 = .ok (.invokevirtual 62, 3) := dk_182 0 62 (dk_at dksX20_dead_0 2 rfl rfl)
theorem dX20_dead_5 : decode cX20_dead 5 = .ok (.ifCond .ne 16, 3) := dk_154 0 16 (dk_at dksX20_dead_0 5 rfl rfl)
theorem dX20_dead_8 : decode cX20_dead 8 = .ok (.iconst 1, 1) := dk_4 (dk_at dksX20_dead_0 8 rfl rfl)
theorem dX20_dead_9 : decode cX20_dead 9 = .ok (.aload_n 0, 1) := dk_42 (dk_at dksX20_dead_0 9 rfl rfl)
theorem dX20_dead_10 : decode cX20_dead 10 = .ok (.aload_n 0, 1) := dk_42 (dk_at dksX20_dead_0 10 rfl rfl)
theorem dX20_dead_11 : decode cX20_dead 11 = .ok (.invokevirtual 41, 3) := dk_182 0 41 (dk_at dksX20_dead_0 11 rfl rfl)
theorem dX20_dead_14 : decode cX20_dead 14 = .ok (.invokevirtual 37, 3) := dk_182 0 37 (dk_at dksX20_dead_0 14 rfl rfl)
theorem dX20_dead_17 : decode cX20_dead 17 = .ok (.ishl, 1) := dk_120 (dk_at dksX20_dead_0 17 rfl rfl)
theorem dX20_dead_18 : decode cX20_dead 18 = .ok (.goto 4, 3) := dk_167 0 4 (dk_at dksX20_dead_0 18 rfl rfl)
theorem dX20_dead_21 : decode cX20_dead 21 = .ok (.iconst 0, 1) := dk_3 (dk_at dksX20_dead_0 21 rfl rfl)
theorem dX20_dead_22 : decode cX20_dead 22 = .ok (.ireturn, 1) := dk_172 (dk_at dksX20_dead_0 22 rfl rfl)
abbrev cX20_orOther : ByteArray := prog_5_method_6_code
def yX20_orOther : MethodName := ⟨RX20, "orOther", "(I)I"⟩
def dkwX20_orOther_1 : List UInt8 := [172]
abbrev dktX20_orOther_1 : List UInt8 := dkwX20_orOther_1 ++ []
def dkwX20_orOther_0 : List UInt8 := [42, 27, 182, 0, 37, 61, 28, 16, 254, 160, 0, 14, 42, 42, 182, 0, 41, 182, 0, 37, 167, 0, 4, 28]
abbrev dktX20_orOther_0 : List UInt8 := dkwX20_orOther_0 ++ dktX20_orOther_1
theorem dksX20_orOther_0 : cX20_orOther.data.toList.drop 0 = dktX20_orOther_0 := by decide +kernel
theorem dksX20_orOther_1 : cX20_orOther.data.toList.drop 24 = dktX20_orOther_1 := dk_seg dksX20_orOther_0 24 rfl rfl
theorem dX20_orOther_0 : decode cX20_orOther 0 = .ok (.aload_n 0, 1) := dk_42 (dk_at dksX20_orOther_0 0 rfl rfl)
theorem dX20_orOther_1 : decode cX20_orOther 1 = .ok (.iload_n 1, 1) := dk_27 (dk_at dksX20_orOther_0 1 rfl rfl)
theorem dX20_orOther_2 : decode cX20_orOther 2 = .ok (.invokevirtual 37, 3) := dk_182 0 37 (dk_at dksX20_orOther_0 2 rfl rfl)
theorem dX20_orOther_5 : decode cX20_orOther 5 = .ok (.istore_n 2, 1) := dk_61 (dk_at dksX20_orOther_0 5 rfl rfl)
theorem dX20_orOther_6 : decode cX20_orOther 6 = .ok (.iload_n 2, 1) := dk_28 (dk_at dksX20_orOther_0 6 rfl rfl)
theorem dX20_orOther_7 : decode cX20_orOther 7 = .ok (.bipush (-2), 2) := dk_16 254 (dk_at dksX20_orOther_0 7 rfl rfl)
theorem dX20_orOther_9 : decode cX20_orOther 9 = .ok (.if_icmp .ne 14, 3) := dk_160 0 14 (dk_at dksX20_orOther_0 9 rfl rfl)
theorem dX20_orOther_12 : decode cX20_orOther 12 = .ok (.aload_n 0, 1) := dk_42 (dk_at dksX20_orOther_0 12 rfl rfl)
theorem dX20_orOther_13 : decode cX20_orOther 13 = .ok (.aload_n 0, 1) := dk_42 (dk_at dksX20_orOther_0 13 rfl rfl)
theorem dX20_orOther_14 : decode cX20_orOther 14 = .ok (.invokevirtual 41, 3) := dk_182 0 41 (dk_at dksX20_orOther_0 14 rfl rfl)
theorem dX20_orOther_17 : decode cX20_orOther 17 = .ok (.invokevirtual 37, 3) := dk_182 0 37 (dk_at dksX20_orOther_0 17 rfl rfl)
theorem dX20_orOther_20 : decode cX20_orOther 20 = .ok (.goto 4, 3) := dk_167 0 4 (dk_at dksX20_orOther_0 20 rfl rfl)
theorem dX20_orOther_23 : decode cX20_orOther 23 = .ok (.iload_n 2, 1) := dk_28 (dk_at dksX20_orOther_0 23 rfl rfl)
theorem dX20_orOther_24 : decode cX20_orOther 24 = .ok (.ireturn, 1) := dk_172 (dk_at dksX20_orOther_1 0 rfl rfl)
theorem q99 : (Jvm.Cond.initialized "PluralBranches$Choice") ∈ lw_all := lw_g (lw_at lw_m1 33 rfl) rfl
theorem q743 : (Jvm.Cond.sameField "PluralBranches$Choice" "PluralBranches$Plain" "argument" "I") ∈ lw_all := lw_g (lw_at lw_m3 197 rfl) rfl
theorem q816 : (Jvm.Cond.instanceMethod ({ cls := "PluralBranches$Choice", name := "<init>", desc := "(II)V" } : Jvm.MethodName)) ∈ lw_all := lw_g (lw_at lw_m4 30 rfl) rfl
theorem q817 : (Jvm.Cond.code ({ cls := "PluralBranches$Choice", name := "<init>", desc := "(II)V" } : Jvm.MethodName) prog_5_method_1_code (3 : Nat) (Option.none : Option Jvm.ClassFile.FieldType)) ∈ lw_all := lw_g (lw_at lw_m4 31 rfl) rfl
theorem q818 : (Jvm.Cond.methodLink "PluralBranches$Choice" (3 : Nat) ({ cls := "PluralBranches$Plain", name := "<init>", desc := "(I)V" } : Jvm.MethodName)) ∈ lw_all := lw_g (lw_at lw_m4 32 rfl) rfl
theorem q819 : (Jvm.Cond.classLink "PluralBranches$Choice" (9 : Nat) "java/util/ArrayList") ∈ lw_all := lw_g (lw_at lw_m4 33 rfl) rfl
theorem q820 : (Jvm.Cond.methodLink "PluralBranches$Choice" (11 : Nat) ({ cls := "java/util/ArrayList", name := "<init>", desc := "()V" } : Jvm.MethodName)) ∈ lw_all := lw_g (lw_at lw_m4 34 rfl) rfl
theorem q821 : (Jvm.Cond.fieldLink "PluralBranches$Choice" (14 : Nat) "PluralBranches$Choice" "branches" "Ljava/util/ArrayList;") ∈ lw_all := lw_g (lw_at lw_m4 35 rfl) rfl
theorem q828 : (Jvm.Cond.fieldLink "PluralBranches$Choice" (20 : Nat) "PluralBranches$Choice" "around" "I") ∈ lw_all := lw_g (lw_at lw_m4 42 rfl) rfl
theorem q831 : (Jvm.Cond.soleField "PluralBranches$Choice" "branches") ∈ lw_all := lw_g (lw_at lw_m4 45 rfl) rfl
theorem q833 : (Jvm.Cond.soleField "PluralBranches$Choice" "around") ∈ lw_all := lw_g (lw_at lw_m4 47 rfl) rfl
theorem q852 : (Jvm.Cond.declares ({ cls := "PluralBranches$Choice", name := "kind", desc := "()I" } : Jvm.MethodName)) ∈ lw_tbl := lw_at lw_m4 66 rfl
theorem q853 : (Jvm.Cond.sameMethod "PluralBranches$Choice" "PluralBranches$Choice" "kind" "()I") ∈ lw_all := lw_g (lw_at lw_m4 67 rfl) rfl
theorem q955 : (Jvm.Cond.instanceMethod ({ cls := "PluralBranches$Choice", name := "of", desc := "(I)I" } : Jvm.MethodName)) ∈ lw_all := lw_g (lw_at lw_m4 169 rfl) rfl
theorem q956 : (Jvm.Cond.sameMethod "PluralBranches$Choice" "PluralBranches$Choice" "of" "(I)I") ∈ lw_all := lw_g (lw_at lw_m4 170 rfl) rfl
theorem q959 : (Jvm.Cond.code ({ cls := "PluralBranches$Choice", name := "of", desc := "(I)I" } : Jvm.MethodName) prog_5_method_5_code (3 : Nat) (Option.some Jvm.ClassFile.FieldType.int)) ∈ lw_all := lw_g (lw_at lw_m4 173 rfl) rfl
theorem q960 : (Jvm.Cond.methodLink "PluralBranches$Choice" (24 : Nat) ({ cls := "java/util/ArrayList", name := "size", desc := "()I" } : Jvm.MethodName)) ∈ lw_all := lw_g (lw_at lw_m4 174 rfl) rfl
theorem q961 : (Jvm.Cond.methodLink "PluralBranches$Choice" (28 : Nat) ({ cls := "java/util/ArrayList", name := "get", desc := "(I)Ljava/lang/Object;" } : Jvm.MethodName)) ∈ lw_all := lw_g (lw_at lw_m4 175 rfl) rfl
theorem q962 : (Jvm.Cond.classLink "PluralBranches$Choice" (32 : Nat) "PluralBranches$Branch") ∈ lw_all := lw_g (lw_at lw_m4 176 rfl) rfl
theorem q970 : (Jvm.Cond.fieldLinkNest "PluralBranches$Choice" (34 : Nat) "PluralBranches$Branch" "key" "I" "PluralBranches") ∈ lw_tbl := lw_at lw_m4 184 rfl
theorem q976 : (Jvm.Cond.fieldLinkNest "PluralBranches$Choice" (65 : Nat) "PluralBranches$Branch" "parts" "LPluralBranches$Parts;" "PluralBranches") ∈ lw_tbl := lw_at lw_m4 190 rfl
theorem q983 : (Jvm.Cond.declares ({ cls := "PluralBranches$Choice", name := "other", desc := "()I" } : Jvm.MethodName)) ∈ lw_tbl := lw_at lw_m4 197 rfl
theorem q984 : (Jvm.Cond.sameMethod "PluralBranches$Choice" "PluralBranches$Choice" "other" "()I") ∈ lw_all := lw_g (lw_at lw_m4 198 rfl) rfl
theorem q1064 : (Jvm.Cond.instanceMethod ({ cls := "PluralBranches$Choice", name := "depth", desc := "()I" } : Jvm.MethodName)) ∈ lw_all := lw_g (lw_at lw_m5 38 rfl) rfl
theorem q1065 : (Jvm.Cond.code ({ cls := "PluralBranches$Choice", name := "depth", desc := "()I" } : Jvm.MethodName) prog_5_method_9_code (4 : Nat) (Option.some Jvm.ClassFile.FieldType.int)) ∈ lw_all := lw_g (lw_at lw_m5 39 rfl) rfl
theorem q1066 : (Jvm.Cond.methodLink "PluralBranches$Choice" (48 : Nat) ({ cls := "java/util/ArrayList", name := "iterator", desc := "()Ljava/util/Iterator;" } : Jvm.MethodName)) ∈ lw_all := lw_g (lw_at lw_m5 40 rfl) rfl
theorem q1067 : (Jvm.Cond.interfaceEntry "PluralBranches$Choice" (52 : Nat)) ∈ lw_tbl := lw_at lw_m5 41 rfl
theorem q1068 : (Jvm.Cond.methodLink "PluralBranches$Choice" (52 : Nat) ({ cls := "java/util/Iterator", name := "hasNext", desc := "()Z" } : Jvm.MethodName)) ∈ lw_all := lw_g (lw_at lw_m5 42 rfl) rfl
theorem q1069 : (Jvm.Cond.interfaceEntry "PluralBranches$Choice" (58 : Nat)) ∈ lw_tbl := lw_at lw_m5 43 rfl
theorem q1070 : (Jvm.Cond.methodLink "PluralBranches$Choice" (58 : Nat) ({ cls := "java/util/Iterator", name := "next", desc := "()Ljava/lang/Object;" } : Jvm.MethodName)) ∈ lw_all := lw_g (lw_at lw_m5 44 rfl) rfl
theorem q1071 : (Jvm.Cond.methodLink "PluralBranches$Choice" (69 : Nat) ({ cls := "PluralBranches$Parts", name := "depth", desc := "()I" } : Jvm.MethodName)) ∈ lw_all := lw_g (lw_at lw_m5 45 rfl) rfl
theorem q1072 : (Jvm.Cond.methodLink "PluralBranches$Choice" (74 : Nat) ({ cls := "java/lang/Math", name := "max", desc := "(II)I" } : Jvm.MethodName)) ∈ lw_all := lw_g (lw_at lw_m5 46 rfl) rfl
theorem q1109 : (Jvm.Cond.instanceMethod ({ cls := "PluralBranches$Choice", name := "lacks", desc := "(LPluralBranches$Language;)I" } : Jvm.MethodName)) ∈ lw_all := lw_g (lw_at lw_m5 83 rfl) rfl
theorem q1110 : (Jvm.Cond.sameMethod "PluralBranches$Choice" "PluralBranches$Choice" "lacks" "(LPluralBranches$Language;)I") ∈ lw_all := lw_g (lw_at lw_m5 84 rfl) rfl
theorem q1113 : (Jvm.Cond.code ({ cls := "PluralBranches$Choice", name := "lacks", desc := "(LPluralBranches$Language;)I" } : Jvm.MethodName) prog_5_method_7_code (5 : Nat) (Option.some Jvm.ClassFile.FieldType.int)) ∈ lw_all := lw_g (lw_at lw_m5 87 rfl) rfl
theorem q1114 : (Jvm.Cond.methodLink "PluralBranches$Choice" (44 : Nat) ({ cls := "PluralBranches$Choice", name := "wanted", desc := "(LPluralBranches$Language;)I" } : Jvm.MethodName)) ∈ lw_all := lw_g (lw_at lw_m5 88 rfl) rfl
theorem q1115 : (Jvm.Cond.declares ({ cls := "PluralBranches$Choice", name := "wanted", desc := "(LPluralBranches$Language;)I" } : Jvm.MethodName)) ∈ lw_tbl := lw_at lw_m5 89 rfl
theorem q1116 : (Jvm.Cond.sameMethod "PluralBranches$Choice" "PluralBranches$Choice" "wanted" "(LPluralBranches$Language;)I") ∈ lw_all := lw_g (lw_at lw_m5 90 rfl) rfl
theorem q1124 : (Jvm.Cond.methodLink "PluralBranches$Choice" (41 : Nat) ({ cls := "PluralBranches$Choice", name := "other", desc := "()I" } : Jvm.MethodName)) ∈ lw_all := lw_g (lw_at lw_m5 98 rfl) rfl
theorem q1126 : (Jvm.Cond.instanceMethod ({ cls := "PluralBranches$Choice", name := "dead", desc := "(LPluralBranches$Language;)I" } : Jvm.MethodName)) ∈ lw_all := lw_g (lw_at lw_m5 100 rfl) rfl
theorem q1127 : (Jvm.Cond.sameMethod "PluralBranches$Choice" "PluralBranches$Choice" "dead" "(LPluralBranches$Language;)I") ∈ lw_all := lw_g (lw_at lw_m5 101 rfl) rfl
theorem q1136 : (Jvm.Cond.code ({ cls := "PluralBranches$Choice", name := "dead", desc := "(LPluralBranches$Language;)I" } : Jvm.MethodName) prog_5_method_8_code (2 : Nat) (Option.some Jvm.ClassFile.FieldType.int)) ∈ lw_all := lw_g (lw_at lw_m5 110 rfl) rfl
theorem q1137 : (Jvm.Cond.methodLink "PluralBranches$Choice" (62 : Nat) ({ cls := "PluralBranches$Choice", name := "lacks", desc := "(LPluralBranches$Language;)I" } : Jvm.MethodName)) ∈ lw_all := lw_g (lw_at lw_m5 111 rfl) rfl
theorem q1138 : (Jvm.Cond.methodLink "PluralBranches$Choice" (37 : Nat) ({ cls := "PluralBranches$Choice", name := "of", desc := "(I)I" } : Jvm.MethodName)) ∈ lw_all := lw_g (lw_at lw_m5 112 rfl) rfl
theorem q1158 : (Jvm.Cond.declares ({ cls := "PluralBranches$Choice", name := "orOther", desc := "(I)I" } : Jvm.MethodName)) ∈ lw_tbl := lw_at lw_m5 132 rfl
theorem q1160 : (Jvm.Cond.instanceMethod ({ cls := "PluralBranches$Choice", name := "orOther", desc := "(I)I" } : Jvm.MethodName)) ∈ lw_all := lw_g (lw_at lw_m5 134 rfl) rfl
theorem q1161 : (Jvm.Cond.code ({ cls := "PluralBranches$Choice", name := "orOther", desc := "(I)I" } : Jvm.MethodName) prog_5_method_6_code (3 : Nat) (Option.some Jvm.ClassFile.FieldType.int)) ∈ lw_all := lw_g (lw_at lw_m5 135 rfl) rfl
/-! PluralBranches$Plural -/
set_option maxRecDepth 100000
def RX21 : String := "PluralBranches$Plural"
def TX21 : u_T := fun k => match k with
  | 0 => ("PluralBranches$Choice", "branches", "Ljava/util/ArrayList;", true)
  | 1 => ("PluralBranches$Choice", "around", "I", true)
  | _ => ("PluralBranches$Plain", "argument", "I", true)
def tyX21 : Nat → FieldType := fun k => match k with
  | 0 => .object "java/util/ArrayList"
  | 1 => .int
  | _ => .int
abbrev wsX210 : List Cond := u_ws RX21 TX21 3
theorem nmX21 : ∀ a, a < 3 → ∀ b, b < 3 → a ≠ b → (TX21 a).2.1 ≠ (TX21 b).2.1 := by decide +kernel
theorem tyX21_ok : ∀ k, k < 3 → parseFieldDescriptor (TX21 k).2.2.1 = some (tyX21 k) := by decide +kernel
abbrev cX21_init : ByteArray := prog_22_method_1_code
def yX21_init : MethodName := ⟨RX21, "<init>", "(II)V"⟩
def dkwX21_init_0 : List UInt8 := [42, 27, 28, 183, 0, 3, 177]
abbrev dktX21_init_0 : List UInt8 := dkwX21_init_0 ++ []
theorem dksX21_init_0 : cX21_init.data.toList.drop 0 = dktX21_init_0 := by decide +kernel
theorem dX21_init_0 : decode cX21_init 0 = .ok (.aload_n 0, 1) := dk_42 (dk_at dksX21_init_0 0 rfl rfl)
theorem dX21_init_1 : decode cX21_init 1 = .ok (.iload_n 1, 1) := dk_27 (dk_at dksX21_init_0 1 rfl rfl)
theorem dX21_init_2 : decode cX21_init 2 = .ok (.iload_n 2, 1) := dk_28 (dk_at dksX21_init_0 2 rfl rfl)
theorem dX21_init_3 : decode cX21_init 3 = .ok (.invokespecial 3, 3) := dk_183 0 3 (dk_at dksX21_init_0 3 rfl rfl)
theorem dX21_init_6 : decode cX21_init 6 = .ok (.return_, 1) := dk_177 (dk_at dksX21_init_0 6 rfl rfl)
abbrev cX21_kind : ByteArray := prog_22_method_2_code
def yX21_kind : MethodName := ⟨RX21, "kind", "()I"⟩
theorem dX21_kind_0 : decode cX21_kind 0 = .ok (.iconst 1, 1) := by decide +kernel
theorem dX21_kind_1 : decode cX21_kind 1 = .ok (.ireturn, 1) := by decide +kernel
abbrev cX21_other : ByteArray := prog_22_method_3_code
def yX21_other : MethodName := ⟨RX21, "other", "()I"⟩
theorem dX21_other_0 : decode cX21_other 0 = .ok (.iconst 5, 1) := by decide +kernel
theorem dX21_other_1 : decode cX21_other 1 = .ok (.ireturn, 1) := by decide +kernel
abbrev cX21_wanted : ByteArray := prog_22_method_4_code
def yX21_wanted : MethodName := ⟨RX21, "wanted", "(LPluralBranches$Language;)I"⟩
def dkwX21_wanted_0 : List UInt8 := [43, 182, 0, 9, 16, 31, 126, 172]
abbrev dktX21_wanted_0 : List UInt8 := dkwX21_wanted_0 ++ []
theorem dksX21_wanted_0 : cX21_wanted.data.toList.drop 0 = dktX21_wanted_0 := by decide +kernel
theorem dX21_wanted_0 : decode cX21_wanted 0 = .ok (.aload_n 1, 1) := dk_43 (dk_at dksX21_wanted_0 0 rfl rfl)
theorem dX21_wanted_1 : decode cX21_wanted 1 = .ok (.invokevirtual 9, 3) := dk_182 0 9 (dk_at dksX21_wanted_0 1 rfl rfl)
theorem dX21_wanted_4 : decode cX21_wanted 4 = .ok (.bipush 31, 2) := dk_16 31 (dk_at dksX21_wanted_0 4 rfl rfl)
theorem dX21_wanted_6 : decode cX21_wanted 6 = .ok (.iand, 1) := dk_126 (dk_at dksX21_wanted_0 6 rfl rfl)
theorem dX21_wanted_7 : decode cX21_wanted 7 = .ok (.ireturn, 1) := dk_172 (dk_at dksX21_wanted_0 7 rfl rfl)
abbrev cX21_dead : ByteArray := prog_22_method_5_code
def yX21_dead : MethodName := ⟨RX21, "dead", "(LPluralBranches$Language;)I"⟩
def dkwX21_dead_3 : List UInt8 := [4, 21, 4, 120, 167, 0, 4, 3, 128, 62, 132, 4, 1, 167, 255, 198, 29, 172]
abbrev dktX21_dead_3 : List UInt8 := dkwX21_dead_3 ++ []
def dkwX21_dead_2 : List UInt8 := [192, 0, 38, 180, 0, 40, 54, 5, 29, 21, 5, 8, 162, 0, 19, 28, 21, 5, 184, 0, 15, 154, 0, 10]
abbrev dktX21_dead_2 : List UInt8 := dkwX21_dead_2 ++ dktX21_dead_3
def dkwX21_dead_1 : List UInt8 := [54, 4, 21, 4, 42, 180, 0, 23, 182, 0, 29, 162, 0, 52, 42, 180, 0, 23, 21, 4, 182, 0, 34]
abbrev dktX21_dead_1 : List UInt8 := dkwX21_dead_1 ++ dktX21_dead_2
def dkwX21_dead_0 : List UInt8 := [43, 182, 0, 9, 61, 28, 8, 184, 0, 15, 153, 0, 7, 3, 167, 0, 8, 42, 43, 183, 0, 19, 62, 3]
abbrev dktX21_dead_0 : List UInt8 := dkwX21_dead_0 ++ dktX21_dead_1
theorem dksX21_dead_0 : cX21_dead.data.toList.drop 0 = dktX21_dead_0 := by decide +kernel
theorem dksX21_dead_1 : cX21_dead.data.toList.drop 24 = dktX21_dead_1 := dk_seg dksX21_dead_0 24 rfl rfl
theorem dksX21_dead_2 : cX21_dead.data.toList.drop 47 = dktX21_dead_2 := dk_seg dksX21_dead_1 23 rfl rfl
theorem dksX21_dead_3 : cX21_dead.data.toList.drop 71 = dktX21_dead_3 := dk_seg dksX21_dead_2 24 rfl rfl
theorem dX21_dead_0 : decode cX21_dead 0 = .ok (.aload_n 1, 1) := dk_43 (dk_at dksX21_dead_0 0 rfl rfl)
theorem dX21_dead_1 : decode cX21_dead 1 = .ok (.invokevirtual 9, 3) := dk_182 0 9 (dk_at dksX21_dead_0 1 rfl rfl)
theorem dX21_dead_4 : decode cX21_dead 4 = .ok (.istore_n 2, 1) := dk_61 (dk_at dksX21_dead_0 4 rfl rfl)
theorem dX21_dead_5 : decode cX21_dead 5 = .ok (.iload_n 2, 1) := dk_28 (dk_at dksX21_dead_0 5 rfl rfl)
theorem dX21_dead_6 : decode cX21_dead 6 = .ok (.iconst 5, 1) := dk_8 (dk_at dksX21_dead_0 6 rfl rfl)
theorem dX21_dead_7 : decode cX21_dead 7 = .ok (.invokestatic 15, 3) := dk_184 0 15 (dk_at dksX21_dead_0 7 rfl rfl)
theorem dX21_dead_10 : decode cX21_dead 10 = .ok (.ifCond .eq 7, 3) := dk_153 0 7 (dk_at dksX21_dead_0 10 rfl rfl)
theorem dX21_dead_13 : decode cX21_dead 13 = .ok (.iconst 0, 1) := dk_3 (dk_at dksX21_dead_0 13 rfl rfl)
theorem dX21_dead_14 : decode cX21_dead 14 = .ok (.goto 8, 3) := dk_167 0 8 (dk_at dksX21_dead_0 14 rfl rfl)
theorem dX21_dead_17 : decode cX21_dead 17 = .ok (.aload_n 0, 1) := dk_42 (dk_at dksX21_dead_0 17 rfl rfl)
theorem dX21_dead_18 : decode cX21_dead 18 = .ok (.aload_n 1, 1) := dk_43 (dk_at dksX21_dead_0 18 rfl rfl)
theorem dX21_dead_19 : decode cX21_dead 19 = .ok (.invokespecial 19, 3) := dk_183 0 19 (dk_at dksX21_dead_0 19 rfl rfl)
theorem dX21_dead_22 : decode cX21_dead 22 = .ok (.istore_n 3, 1) := dk_62 (dk_at dksX21_dead_0 22 rfl rfl)
theorem dX21_dead_23 : decode cX21_dead 23 = .ok (.iconst 0, 1) := dk_3 (dk_at dksX21_dead_0 23 rfl rfl)
theorem dX21_dead_24 : decode cX21_dead 24 = .ok (.istore 4, 2) := dk_54 4 (dk_at dksX21_dead_1 0 rfl rfl)
theorem dX21_dead_26 : decode cX21_dead 26 = .ok (.iload 4, 2) := dk_21 4 (dk_at dksX21_dead_1 2 rfl rfl)
theorem dX21_dead_28 : decode cX21_dead 28 = .ok (.aload_n 0, 1) := dk_42 (dk_at dksX21_dead_1 4 rfl rfl)
theorem dX21_dead_29 : decode cX21_dead 29 = .ok (.getfield 23, 3) := dk_180 0 23 (dk_at dksX21_dead_1 5 rfl rfl)
theorem dX21_dead_32 : decode cX21_dead 32 = .ok (.invokevirtual 29, 3) := dk_182 0 29 (dk_at dksX21_dead_1 8 rfl rfl)
theorem dX21_dead_35 : decode cX21_dead 35 = .ok (.if_icmp .ge 52, 3) := dk_162 0 52 (dk_at dksX21_dead_1 11 rfl rfl)
theorem dX21_dead_38 : decode cX21_dead 38 = .ok (.aload_n 0, 1) := dk_42 (dk_at dksX21_dead_1 14 rfl rfl)
theorem dX21_dead_39 : decode cX21_dead 39 = .ok (.getfield 23, 3) := dk_180 0 23 (dk_at dksX21_dead_1 15 rfl rfl)
theorem dX21_dead_42 : decode cX21_dead 42 = .ok (.iload 4, 2) := dk_21 4 (dk_at dksX21_dead_1 18 rfl rfl)
theorem dX21_dead_44 : decode cX21_dead 44 = .ok (.invokevirtual 34, 3) := dk_182 0 34 (dk_at dksX21_dead_1 20 rfl rfl)
theorem dX21_dead_47 : decode cX21_dead 47 = .ok (.checkcast 38, 3) := dk_192 0 38 (dk_at dksX21_dead_2 0 rfl rfl)
theorem dX21_dead_50 : decode cX21_dead 50 = .ok (.getfield 40, 3) := dk_180 0 40 (dk_at dksX21_dead_2 3 rfl rfl)
theorem dX21_dead_53 : decode cX21_dead 53 = .ok (.istore 5, 2) := dk_54 5 (dk_at dksX21_dead_2 6 rfl rfl)
theorem dX21_dead_55 : decode cX21_dead 55 = .ok (.iload_n 3, 1) := dk_29 (dk_at dksX21_dead_2 8 rfl rfl)
theorem dX21_dead_56 : decode cX21_dead 56 = .ok (.iload 5, 2) := dk_21 5 (dk_at dksX21_dead_2 9 rfl rfl)
theorem dX21_dead_58 : decode cX21_dead 58 = .ok (.iconst 5, 1) := dk_8 (dk_at dksX21_dead_2 11 rfl rfl)
theorem dX21_dead_59 : decode cX21_dead 59 = .ok (.if_icmp .ge 19, 3) := dk_162 0 19 (dk_at dksX21_dead_2 12 rfl rfl)
theorem dX21_dead_62 : decode cX21_dead 62 = .ok (.iload_n 2, 1) := dk_28 (dk_at dksX21_dead_2 15 rfl rfl)
theorem dX21_dead_63 : decode cX21_dead 63 = .ok (.iload 5, 2) := dk_21 5 (dk_at dksX21_dead_2 16 rfl rfl)
theorem dX21_dead_65 : decode cX21_dead 65 = .ok (.invokestatic 15, 3) := dk_184 0 15 (dk_at dksX21_dead_2 18 rfl rfl)
theorem dX21_dead_68 : decode cX21_dead 68 = .ok (.ifCond .ne 10, 3) := dk_154 0 10 (dk_at dksX21_dead_2 21 rfl rfl)
theorem dX21_dead_71 : decode cX21_dead 71 = .ok (.iconst 1, 1) := dk_4 (dk_at dksX21_dead_3 0 rfl rfl)
theorem dX21_dead_72 : decode cX21_dead 72 = .ok (.iload 4, 2) := dk_21 4 (dk_at dksX21_dead_3 1 rfl rfl)
theorem dX21_dead_74 : decode cX21_dead 74 = .ok (.ishl, 1) := dk_120 (dk_at dksX21_dead_3 3 rfl rfl)
theorem dX21_dead_75 : decode cX21_dead 75 = .ok (.goto 4, 3) := dk_167 0 4 (dk_at dksX21_dead_3 4 rfl rfl)
theorem dX21_dead_78 : decode cX21_dead 78 = .ok (.iconst 0, 1) := dk_3 (dk_at dksX21_dead_3 7 rfl rfl)
theorem dX21_dead_79 : decode cX21_dead 79 = .ok (.ior, 1) := dk_128 (dk_at dksX21_dead_3 8 rfl rfl)
theorem dX21_dead_80 : decode cX21_dead 80 = .ok (.istore_n 3, 1) := dk_62 (dk_at dksX21_dead_3 9 rfl rfl)
theorem dX21_dead_81 : decode cX21_dead 81 = .ok (.iinc 4 1, 3) := dk_132 4 1 (dk_at dksX21_dead_3 10 rfl rfl)
theorem dX21_dead_84 : decode cX21_dead 84 = .ok (.goto (-58), 3) := dk_167 255 198 (dk_at dksX21_dead_3 13 rfl rfl)
theorem dX21_dead_87 : decode cX21_dead 87 = .ok (.iload_n 3, 1) := dk_29 (dk_at dksX21_dead_3 16 rfl rfl)
theorem dX21_dead_88 : decode cX21_dead 88 = .ok (.ireturn, 1) := dk_172 (dk_at dksX21_dead_3 17 rfl rfl)
abbrev cX21_comesTo : ByteArray := prog_22_method_6_code
def yX21_comesTo : MethodName := ⟨RX21, "comesTo", "(LPluralBranches$Language;LPluralBranches$Decimal;)I"⟩
def dkwX21_comesTo_2 : List UInt8 := [29, 172, 132, 3, 1, 167, 255, 205, 42, 43, 44, 182, 0, 50, 182, 0, 54, 172]
abbrev dktX21_comesTo_2 : List UInt8 := dkwX21_comesTo_2 ++ []
def dkwX21_comesTo_1 : List UInt8 := [180, 0, 40, 54, 4, 21, 4, 16, 10, 161, 0, 17, 44, 21, 4, 16, 10, 100, 182, 0, 44, 153, 0, 5]
abbrev dktX21_comesTo_1 : List UInt8 := dkwX21_comesTo_1 ++ dktX21_comesTo_2
def dkwX21_comesTo_0 : List UInt8 := [3, 62, 29, 42, 180, 0, 23, 182, 0, 29, 162, 0, 46, 42, 180, 0, 23, 29, 182, 0, 34, 192, 0, 38]
abbrev dktX21_comesTo_0 : List UInt8 := dkwX21_comesTo_0 ++ dktX21_comesTo_1
theorem dksX21_comesTo_0 : cX21_comesTo.data.toList.drop 0 = dktX21_comesTo_0 := by decide +kernel
theorem dksX21_comesTo_1 : cX21_comesTo.data.toList.drop 24 = dktX21_comesTo_1 := dk_seg dksX21_comesTo_0 24 rfl rfl
theorem dksX21_comesTo_2 : cX21_comesTo.data.toList.drop 48 = dktX21_comesTo_2 := dk_seg dksX21_comesTo_1 24 rfl rfl
theorem dX21_comesTo_0 : decode cX21_comesTo 0 = .ok (.iconst 0, 1) := dk_3 (dk_at dksX21_comesTo_0 0 rfl rfl)
theorem dX21_comesTo_1 : decode cX21_comesTo 1 = .ok (.istore_n 3, 1) := dk_62 (dk_at dksX21_comesTo_0 1 rfl rfl)
theorem dX21_comesTo_2 : decode cX21_comesTo 2 = .ok (.iload_n 3, 1) := dk_29 (dk_at dksX21_comesTo_0 2 rfl rfl)
theorem dX21_comesTo_3 : decode cX21_comesTo 3 = .ok (.aload_n 0, 1) := dk_42 (dk_at dksX21_comesTo_0 3 rfl rfl)
theorem dX21_comesTo_4 : decode cX21_comesTo 4 = .ok (.getfield 23, 3) := dk_180 0 23 (dk_at dksX21_comesTo_0 4 rfl rfl)
theorem dX21_comesTo_7 : decode cX21_comesTo 7 = .ok (.invokevirtual 29, 3) := dk_182 0 29 (dk_at dksX21_comesTo_0 7 rfl rfl)
theorem dX21_comesTo_10 : decode cX21_comesTo 10 = .ok (.if_icmp .ge 46, 3) := dk_162 0 46 (dk_at dksX21_comesTo_0 10 rfl rfl)
theorem dX21_comesTo_13 : decode cX21_comesTo 13 = .ok (.aload_n 0, 1) := dk_42 (dk_at dksX21_comesTo_0 13 rfl rfl)
theorem dX21_comesTo_14 : decode cX21_comesTo 14 = .ok (.getfield 23, 3) := dk_180 0 23 (dk_at dksX21_comesTo_0 14 rfl rfl)
theorem dX21_comesTo_17 : decode cX21_comesTo 17 = .ok (.iload_n 3, 1) := dk_29 (dk_at dksX21_comesTo_0 17 rfl rfl)
theorem dX21_comesTo_18 : decode cX21_comesTo 18 = .ok (.invokevirtual 34, 3) := dk_182 0 34 (dk_at dksX21_comesTo_0 18 rfl rfl)
theorem dX21_comesTo_21 : decode cX21_comesTo 21 = .ok (.checkcast 38, 3) := dk_192 0 38 (dk_at dksX21_comesTo_0 21 rfl rfl)
theorem dX21_comesTo_24 : decode cX21_comesTo 24 = .ok (.getfield 40, 3) := dk_180 0 40 (dk_at dksX21_comesTo_1 0 rfl rfl)
theorem dX21_comesTo_27 : decode cX21_comesTo 27 = .ok (.istore 4, 2) := dk_54 4 (dk_at dksX21_comesTo_1 3 rfl rfl)
theorem dX21_comesTo_29 : decode cX21_comesTo 29 = .ok (.iload 4, 2) := dk_21 4 (dk_at dksX21_comesTo_1 5 rfl rfl)
theorem dX21_comesTo_31 : decode cX21_comesTo 31 = .ok (.bipush 10, 2) := dk_16 10 (dk_at dksX21_comesTo_1 7 rfl rfl)
theorem dX21_comesTo_33 : decode cX21_comesTo 33 = .ok (.if_icmp .lt 17, 3) := dk_161 0 17 (dk_at dksX21_comesTo_1 9 rfl rfl)
theorem dX21_comesTo_36 : decode cX21_comesTo 36 = .ok (.aload_n 2, 1) := dk_44 (dk_at dksX21_comesTo_1 12 rfl rfl)
theorem dX21_comesTo_37 : decode cX21_comesTo 37 = .ok (.iload 4, 2) := dk_21 4 (dk_at dksX21_comesTo_1 13 rfl rfl)
theorem dX21_comesTo_39 : decode cX21_comesTo 39 = .ok (.bipush 10, 2) := dk_16 10 (dk_at dksX21_comesTo_1 15 rfl rfl)
theorem dX21_comesTo_41 : decode cX21_comesTo 41 = .ok (.isub, 1) := dk_100 (dk_at dksX21_comesTo_1 17 rfl rfl)
theorem dX21_comesTo_42 : decode cX21_comesTo 42 = .ok (.invokevirtual 44, 3) := dk_182 0 44 (dk_at dksX21_comesTo_1 18 rfl rfl)
theorem dX21_comesTo_45 : decode cX21_comesTo 45 = .ok (.ifCond .eq 5, 3) := dk_153 0 5 (dk_at dksX21_comesTo_1 21 rfl rfl)
theorem dX21_comesTo_48 : decode cX21_comesTo 48 = .ok (.iload_n 3, 1) := dk_29 (dk_at dksX21_comesTo_2 0 rfl rfl)
theorem dX21_comesTo_49 : decode cX21_comesTo 49 = .ok (.ireturn, 1) := dk_172 (dk_at dksX21_comesTo_2 1 rfl rfl)
theorem dX21_comesTo_50 : decode cX21_comesTo 50 = .ok (.iinc 3 1, 3) := dk_132 3 1 (dk_at dksX21_comesTo_2 2 rfl rfl)
theorem dX21_comesTo_53 : decode cX21_comesTo 53 = .ok (.goto (-51), 3) := dk_167 255 205 (dk_at dksX21_comesTo_2 5 rfl rfl)
theorem dX21_comesTo_56 : decode cX21_comesTo 56 = .ok (.aload_n 0, 1) := dk_42 (dk_at dksX21_comesTo_2 8 rfl rfl)
theorem dX21_comesTo_57 : decode cX21_comesTo 57 = .ok (.aload_n 1, 1) := dk_43 (dk_at dksX21_comesTo_2 9 rfl rfl)
theorem dX21_comesTo_58 : decode cX21_comesTo 58 = .ok (.aload_n 2, 1) := dk_44 (dk_at dksX21_comesTo_2 10 rfl rfl)
theorem dX21_comesTo_59 : decode cX21_comesTo 59 = .ok (.invokevirtual 50, 3) := dk_182 0 50 (dk_at dksX21_comesTo_2 11 rfl rfl)
theorem dX21_comesTo_62 : decode cX21_comesTo 62 = .ok (.invokevirtual 54, 3) := dk_182 0 54 (dk_at dksX21_comesTo_2 14 rfl rfl)
theorem dX21_comesTo_65 : decode cX21_comesTo 65 = .ok (.ireturn, 1) := dk_172 (dk_at dksX21_comesTo_2 17 rfl rfl)
abbrev cX21_write : ByteArray := prog_22_method_7_code
def yX21_write : MethodName := ⟨RX21, "write", "(LPluralBranches$Sheet;)V"⟩
def dkwX21_write_3 : List UInt8 := [191, 177]
abbrev dktX21_write_3 : List UInt8 := dkwX21_write_3 ++ []
def dkwX21_write_2 : List UInt8 := [180, 0, 85, 43, 182, 0, 89, 43, 45, 181, 0, 71, 167, 0, 13, 58, 4, 43, 45, 181, 0, 71, 25, 4]
abbrev dktX21_write_2 : List UInt8 := dkwX21_write_2 ++ dktX21_write_3
def dkwX21_write_1 : List UInt8 := [181, 0, 71, 42, 180, 0, 23, 42, 43, 180, 0, 77, 44, 182, 0, 81, 182, 0, 34, 192, 0, 38]
abbrev dktX21_write_1 : List UInt8 := dkwX21_write_1 ++ dktX21_write_2
def dkwX21_write_0 : List UInt8 := [42, 43, 182, 0, 58, 42, 180, 0, 62, 185, 0, 65, 2, 0, 77, 43, 180, 0, 71, 78, 43, 44]
abbrev dktX21_write_0 : List UInt8 := dkwX21_write_0 ++ dktX21_write_1
theorem dksX21_write_0 : cX21_write.data.toList.drop 0 = dktX21_write_0 := by decide +kernel
theorem dksX21_write_1 : cX21_write.data.toList.drop 22 = dktX21_write_1 := dk_seg dksX21_write_0 22 rfl rfl
theorem dksX21_write_2 : cX21_write.data.toList.drop 44 = dktX21_write_2 := dk_seg dksX21_write_1 22 rfl rfl
theorem dksX21_write_3 : cX21_write.data.toList.drop 68 = dktX21_write_3 := dk_seg dksX21_write_2 24 rfl rfl
theorem dX21_write_0 : decode cX21_write 0 = .ok (.aload_n 0, 1) := dk_42 (dk_at dksX21_write_0 0 rfl rfl)
theorem dX21_write_1 : decode cX21_write 1 = .ok (.aload_n 1, 1) := dk_43 (dk_at dksX21_write_0 1 rfl rfl)
theorem dX21_write_2 : decode cX21_write 2 = .ok (.invokevirtual 58, 3) := dk_182 0 58 (dk_at dksX21_write_0 2 rfl rfl)
theorem dX21_write_5 : decode cX21_write 5 = .ok (.aload_n 0, 1) := dk_42 (dk_at dksX21_write_0 5 rfl rfl)
theorem dX21_write_6 : decode cX21_write 6 = .ok (.getfield 62, 3) := dk_180 0 62 (dk_at dksX21_write_0 6 rfl rfl)
theorem dX21_write_9 : decode cX21_write 9 = .ok (.invokeinterface 65 2, 5) := by decide +kernel
theorem dX21_write_14 : decode cX21_write 14 = .ok (.astore_n 2, 1) := dk_77 (dk_at dksX21_write_0 14 rfl rfl)
theorem dX21_write_15 : decode cX21_write 15 = .ok (.aload_n 1, 1) := dk_43 (dk_at dksX21_write_0 15 rfl rfl)
theorem dX21_write_16 : decode cX21_write 16 = .ok (.getfield 71, 3) := dk_180 0 71 (dk_at dksX21_write_0 16 rfl rfl)
theorem dX21_write_19 : decode cX21_write 19 = .ok (.astore_n 3, 1) := dk_78 (dk_at dksX21_write_0 19 rfl rfl)
theorem dX21_write_20 : decode cX21_write 20 = .ok (.aload_n 1, 1) := dk_43 (dk_at dksX21_write_0 20 rfl rfl)
theorem dX21_write_21 : decode cX21_write 21 = .ok (.aload_n 2, 1) := dk_44 (dk_at dksX21_write_0 21 rfl rfl)
theorem dX21_write_22 : decode cX21_write 22 = .ok (.putfield 71, 3) := dk_181 0 71 (dk_at dksX21_write_1 0 rfl rfl)
theorem dX21_write_25 : decode cX21_write 25 = .ok (.aload_n 0, 1) := dk_42 (dk_at dksX21_write_1 3 rfl rfl)
theorem dX21_write_26 : decode cX21_write 26 = .ok (.getfield 23, 3) := dk_180 0 23 (dk_at dksX21_write_1 4 rfl rfl)
theorem dX21_write_29 : decode cX21_write 29 = .ok (.aload_n 0, 1) := dk_42 (dk_at dksX21_write_1 7 rfl rfl)
theorem dX21_write_30 : decode cX21_write 30 = .ok (.aload_n 1, 1) := dk_43 (dk_at dksX21_write_1 8 rfl rfl)
theorem dX21_write_31 : decode cX21_write 31 = .ok (.getfield 77, 3) := dk_180 0 77 (dk_at dksX21_write_1 9 rfl rfl)
theorem dX21_write_34 : decode cX21_write 34 = .ok (.aload_n 2, 1) := dk_44 (dk_at dksX21_write_1 12 rfl rfl)
theorem dX21_write_35 : decode cX21_write 35 = .ok (.invokevirtual 81, 3) := dk_182 0 81 (dk_at dksX21_write_1 13 rfl rfl)
theorem dX21_write_38 : decode cX21_write 38 = .ok (.invokevirtual 34, 3) := dk_182 0 34 (dk_at dksX21_write_1 16 rfl rfl)
theorem dX21_write_41 : decode cX21_write 41 = .ok (.checkcast 38, 3) := dk_192 0 38 (dk_at dksX21_write_1 19 rfl rfl)
theorem dX21_write_44 : decode cX21_write 44 = .ok (.getfield 85, 3) := dk_180 0 85 (dk_at dksX21_write_2 0 rfl rfl)
theorem dX21_write_47 : decode cX21_write 47 = .ok (.aload_n 1, 1) := dk_43 (dk_at dksX21_write_2 3 rfl rfl)
theorem dX21_write_48 : decode cX21_write 48 = .ok (.invokevirtual 89, 3) := dk_182 0 89 (dk_at dksX21_write_2 4 rfl rfl)
theorem dX21_write_51 : decode cX21_write 51 = .ok (.aload_n 1, 1) := dk_43 (dk_at dksX21_write_2 7 rfl rfl)
theorem dX21_write_52 : decode cX21_write 52 = .ok (.aload_n 3, 1) := dk_45 (dk_at dksX21_write_2 8 rfl rfl)
theorem dX21_write_53 : decode cX21_write 53 = .ok (.putfield 71, 3) := dk_181 0 71 (dk_at dksX21_write_2 9 rfl rfl)
theorem dX21_write_56 : decode cX21_write 56 = .ok (.goto 13, 3) := dk_167 0 13 (dk_at dksX21_write_2 12 rfl rfl)
theorem dX21_write_59 : decode cX21_write 59 = .ok (.astore 4, 2) := dk_58 4 (dk_at dksX21_write_2 15 rfl rfl)
theorem dX21_write_61 : decode cX21_write 61 = .ok (.aload_n 1, 1) := dk_43 (dk_at dksX21_write_2 17 rfl rfl)
theorem dX21_write_62 : decode cX21_write 62 = .ok (.aload_n 3, 1) := dk_45 (dk_at dksX21_write_2 18 rfl rfl)
theorem dX21_write_63 : decode cX21_write 63 = .ok (.putfield 71, 3) := dk_181 0 71 (dk_at dksX21_write_2 19 rfl rfl)
theorem dX21_write_66 : decode cX21_write 66 = .ok (.aload 4, 2) := dk_25 4 (dk_at dksX21_write_2 22 rfl rfl)
theorem dX21_write_68 : decode cX21_write 68 = .ok (.athrow, 1) := dk_191 (dk_at dksX21_write_3 0 rfl rfl)
theorem dX21_write_69 : decode cX21_write 69 = .ok (.return_, 1) := dk_177 (dk_at dksX21_write_3 1 rfl rfl)
theorem q100 : (Jvm.Cond.initialized "PluralBranches$Plural") ∈ lw_all := lw_g (lw_at lw_m1 34 rfl) rfl
theorem q262 : (Jvm.Cond.selects "PluralBranches$Plural" ({ cls := "java/lang/Object", name := "getClass", desc := "()Ljava/lang/Class;" } : Jvm.MethodName) ({ cls := "java/lang/Object", name := "getClass", desc := "()Ljava/lang/Class;" } : Jvm.MethodName)) ∈ lw_all := lw_g (lw_at lw_m1 196 rfl) rfl
theorem q740 : (Jvm.Cond.fieldLink "PluralBranches$Plural" (62 : Nat) "PluralBranches$Plural" "argument" "I") ∈ lw_all := lw_g (lw_at lw_m3 194 rfl) rfl
theorem q741 : (Jvm.Cond.sameField "PluralBranches$Plural" "PluralBranches$Plain" "argument" "I") ∈ lw_all := lw_g (lw_at lw_m3 195 rfl) rfl
theorem q811 : (Jvm.Cond.instantiable "PluralBranches$Plural" (3 : Nat)) ∈ lw_all := lw_g (lw_at lw_m4 25 rfl) rfl
theorem q813 : (Jvm.Cond.instanceMethod ({ cls := "PluralBranches$Plural", name := "<init>", desc := "(II)V" } : Jvm.MethodName)) ∈ lw_all := lw_g (lw_at lw_m4 27 rfl) rfl
theorem q814 : (Jvm.Cond.code ({ cls := "PluralBranches$Plural", name := "<init>", desc := "(II)V" } : Jvm.MethodName) prog_22_method_1_code (3 : Nat) (Option.none : Option Jvm.ClassFile.FieldType)) ∈ lw_all := lw_g (lw_at lw_m4 28 rfl) rfl
theorem q815 : (Jvm.Cond.methodLink "PluralBranches$Plural" (3 : Nat) ({ cls := "PluralBranches$Choice", name := "<init>", desc := "(II)V" } : Jvm.MethodName)) ∈ lw_all := lw_g (lw_at lw_m4 29 rfl) rfl
theorem q824 : (Jvm.Cond.fieldLink "PluralBranches$Plural" (23 : Nat) "PluralBranches$Plural" "branches" "Ljava/util/ArrayList;") ∈ lw_all := lw_g (lw_at lw_m4 38 rfl) rfl
theorem q825 : (Jvm.Cond.sameField "PluralBranches$Plural" "PluralBranches$Choice" "branches" "Ljava/util/ArrayList;") ∈ lw_all := lw_g (lw_at lw_m4 39 rfl) rfl
theorem q830 : (Jvm.Cond.laysFinal "PluralBranches$Plural" "PluralBranches$Choice" "branches" "Ljava/util/ArrayList;") ∈ lw_all := lw_g (lw_at lw_m4 44 rfl) rfl
theorem q832 : (Jvm.Cond.laysFinal "PluralBranches$Plural" "PluralBranches$Choice" "around" "I") ∈ lw_all := lw_g (lw_at lw_m4 46 rfl) rfl
theorem q834 : (Jvm.Cond.laysFinal "PluralBranches$Plural" "PluralBranches$Plain" "argument" "I") ∈ lw_all := lw_g (lw_at lw_m4 48 rfl) rfl
theorem q835 : (Jvm.Cond.superclass "PluralBranches$Plural" "PluralBranches$Choice") ∈ lw_all := lw_g (lw_at lw_m4 49 rfl) rfl
theorem q857 : (Jvm.Cond.selects "PluralBranches$Plural" ({ cls := "PluralBranches$Choice", name := "kind", desc := "()I" } : Jvm.MethodName) ({ cls := "PluralBranches$Plural", name := "kind", desc := "()I" } : Jvm.MethodName)) ∈ lw_all := lw_g (lw_at lw_m4 71 rfl) rfl
theorem q858 : (Jvm.Cond.instanceMethod ({ cls := "PluralBranches$Plural", name := "kind", desc := "()I" } : Jvm.MethodName)) ∈ lw_all := lw_g (lw_at lw_m4 72 rfl) rfl
theorem q859 : (Jvm.Cond.code ({ cls := "PluralBranches$Plural", name := "kind", desc := "()I" } : Jvm.MethodName) prog_22_method_2_code (1 : Nat) (Option.some Jvm.ClassFile.FieldType.int)) ∈ lw_all := lw_g (lw_at lw_m4 73 rfl) rfl
theorem q958 : (Jvm.Cond.selects "PluralBranches$Plural" ({ cls := "PluralBranches$Choice", name := "of", desc := "(I)I" } : Jvm.MethodName) ({ cls := "PluralBranches$Choice", name := "of", desc := "(I)I" } : Jvm.MethodName)) ∈ lw_all := lw_g (lw_at lw_m4 172 rfl) rfl
theorem q971 : (Jvm.Cond.fieldLinkNest "PluralBranches$Plural" (40 : Nat) "PluralBranches$Branch" "key" "I" "PluralBranches") ∈ lw_tbl := lw_at lw_m4 185 rfl
theorem q975 : (Jvm.Cond.fieldLinkNest "PluralBranches$Plural" (85 : Nat) "PluralBranches$Branch" "parts" "LPluralBranches$Parts;" "PluralBranches") ∈ lw_tbl := lw_at lw_m4 189 rfl
theorem q988 : (Jvm.Cond.selects "PluralBranches$Plural" ({ cls := "PluralBranches$Choice", name := "other", desc := "()I" } : Jvm.MethodName) ({ cls := "PluralBranches$Plural", name := "other", desc := "()I" } : Jvm.MethodName)) ∈ lw_all := lw_g (lw_at lw_m4 202 rfl) rfl
theorem q989 : (Jvm.Cond.instanceMethod ({ cls := "PluralBranches$Plural", name := "other", desc := "()I" } : Jvm.MethodName)) ∈ lw_all := lw_g (lw_at lw_m4 203 rfl) rfl
theorem q990 : (Jvm.Cond.code ({ cls := "PluralBranches$Plural", name := "other", desc := "()I" } : Jvm.MethodName) prog_22_method_3_code (1 : Nat) (Option.some Jvm.ClassFile.FieldType.int)) ∈ lw_all := lw_g (lw_at lw_m4 204 rfl) rfl
theorem q1076 : (Jvm.Cond.selects "PluralBranches$Plural" ({ cls := "PluralBranches$Part", name := "depth", desc := "()I" } : Jvm.MethodName) ({ cls := "PluralBranches$Choice", name := "depth", desc := "()I" } : Jvm.MethodName)) ∈ lw_all := lw_g (lw_at lw_m5 50 rfl) rfl
theorem q1112 : (Jvm.Cond.selects "PluralBranches$Plural" ({ cls := "PluralBranches$Choice", name := "lacks", desc := "(LPluralBranches$Language;)I" } : Jvm.MethodName) ({ cls := "PluralBranches$Choice", name := "lacks", desc := "(LPluralBranches$Language;)I" } : Jvm.MethodName)) ∈ lw_all := lw_g (lw_at lw_m5 86 rfl) rfl
theorem q1120 : (Jvm.Cond.selects "PluralBranches$Plural" ({ cls := "PluralBranches$Choice", name := "wanted", desc := "(LPluralBranches$Language;)I" } : Jvm.MethodName) ({ cls := "PluralBranches$Plural", name := "wanted", desc := "(LPluralBranches$Language;)I" } : Jvm.MethodName)) ∈ lw_all := lw_g (lw_at lw_m5 94 rfl) rfl
theorem q1121 : (Jvm.Cond.instanceMethod ({ cls := "PluralBranches$Plural", name := "wanted", desc := "(LPluralBranches$Language;)I" } : Jvm.MethodName)) ∈ lw_all := lw_g (lw_at lw_m5 95 rfl) rfl
theorem q1122 : (Jvm.Cond.code ({ cls := "PluralBranches$Plural", name := "wanted", desc := "(LPluralBranches$Language;)I" } : Jvm.MethodName) prog_22_method_4_code (2 : Nat) (Option.some Jvm.ClassFile.FieldType.int)) ∈ lw_all := lw_g (lw_at lw_m5 96 rfl) rfl
theorem q1123 : (Jvm.Cond.methodLink "PluralBranches$Plural" (9 : Nat) ({ cls := "PluralBranches$Language", name := "used", desc := "()I" } : Jvm.MethodName)) ∈ lw_all := lw_g (lw_at lw_m5 97 rfl) rfl
theorem q1129 : (Jvm.Cond.selects "PluralBranches$Plural" ({ cls := "PluralBranches$Choice", name := "dead", desc := "(LPluralBranches$Language;)I" } : Jvm.MethodName) ({ cls := "PluralBranches$Plural", name := "dead", desc := "(LPluralBranches$Language;)I" } : Jvm.MethodName)) ∈ lw_all := lw_g (lw_at lw_m5 103 rfl) rfl
theorem q1130 : (Jvm.Cond.instanceMethod ({ cls := "PluralBranches$Plural", name := "dead", desc := "(LPluralBranches$Language;)I" } : Jvm.MethodName)) ∈ lw_all := lw_g (lw_at lw_m5 104 rfl) rfl
theorem q1131 : (Jvm.Cond.code ({ cls := "PluralBranches$Plural", name := "dead", desc := "(LPluralBranches$Language;)I" } : Jvm.MethodName) prog_22_method_5_code (6 : Nat) (Option.some Jvm.ClassFile.FieldType.int)) ∈ lw_all := lw_g (lw_at lw_m5 105 rfl) rfl
theorem q1132 : (Jvm.Cond.methodLinkNest "PluralBranches$Plural" (15 : Nat) ({ cls := "PluralBranches", name := "has", desc := "(II)Z" } : Jvm.MethodName) "PluralBranches") ∈ lw_tbl := lw_at lw_m5 106 rfl
theorem q1135 : (Jvm.Cond.methodLink "PluralBranches$Plural" (19 : Nat) ({ cls := "PluralBranches$Choice", name := "dead", desc := "(LPluralBranches$Language;)I" } : Jvm.MethodName)) ∈ lw_all := lw_g (lw_at lw_m5 109 rfl) rfl
theorem q1139 : (Jvm.Cond.methodLink "PluralBranches$Plural" (29 : Nat) ({ cls := "java/util/ArrayList", name := "size", desc := "()I" } : Jvm.MethodName)) ∈ lw_all := lw_g (lw_at lw_m5 113 rfl) rfl
theorem q1140 : (Jvm.Cond.methodLink "PluralBranches$Plural" (34 : Nat) ({ cls := "java/util/ArrayList", name := "get", desc := "(I)Ljava/lang/Object;" } : Jvm.MethodName)) ∈ lw_all := lw_g (lw_at lw_m5 114 rfl) rfl
theorem q1141 : (Jvm.Cond.classLink "PluralBranches$Plural" (38 : Nat) "PluralBranches$Branch") ∈ lw_all := lw_g (lw_at lw_m5 115 rfl) rfl
theorem q1148 : (Jvm.Cond.instanceMethod ({ cls := "PluralBranches$Plural", name := "comesTo", desc := "(LPluralBranches$Language;LPluralBranches$Decimal;)I" } : Jvm.MethodName)) ∈ lw_all := lw_g (lw_at lw_m5 122 rfl) rfl
theorem q1149 : (Jvm.Cond.selects "PluralBranches$Plural" ({ cls := "PluralBranches$Plural", name := "comesTo", desc := "(LPluralBranches$Language;LPluralBranches$Decimal;)I" } : Jvm.MethodName) ({ cls := "PluralBranches$Plural", name := "comesTo", desc := "(LPluralBranches$Language;LPluralBranches$Decimal;)I" } : Jvm.MethodName)) ∈ lw_all := lw_g (lw_at lw_m5 123 rfl) rfl
theorem q1150 : (Jvm.Cond.code ({ cls := "PluralBranches$Plural", name := "comesTo", desc := "(LPluralBranches$Language;LPluralBranches$Decimal;)I" } : Jvm.MethodName) prog_22_method_6_code (5 : Nat) (Option.some Jvm.ClassFile.FieldType.int)) ∈ lw_all := lw_g (lw_at lw_m5 124 rfl) rfl
theorem q1151 : (Jvm.Cond.methodLink "PluralBranches$Plural" (44 : Nat) ({ cls := "PluralBranches$Decimal", name := "is", desc := "(I)Z" } : Jvm.MethodName)) ∈ lw_all := lw_g (lw_at lw_m5 125 rfl) rfl
theorem q1155 : (Jvm.Cond.methodLink "PluralBranches$Plural" (50 : Nat) ({ cls := "PluralBranches$Language", name := "category", desc := "(LPluralBranches$Decimal;)I" } : Jvm.MethodName)) ∈ lw_all := lw_g (lw_at lw_m5 129 rfl) rfl
theorem q1156 : (Jvm.Cond.methodLink "PluralBranches$Plural" (54 : Nat) ({ cls := "PluralBranches$Plural", name := "orOther", desc := "(I)I" } : Jvm.MethodName)) ∈ lw_all := lw_g (lw_at lw_m5 130 rfl) rfl
theorem q1157 : (Jvm.Cond.sameMethod "PluralBranches$Plural" "PluralBranches$Choice" "orOther" "(I)I") ∈ lw_all := lw_g (lw_at lw_m5 131 rfl) rfl
theorem q1159 : (Jvm.Cond.selects "PluralBranches$Plural" ({ cls := "PluralBranches$Plural", name := "orOther", desc := "(I)I" } : Jvm.MethodName) ({ cls := "PluralBranches$Choice", name := "orOther", desc := "(I)I" } : Jvm.MethodName)) ∈ lw_all := lw_g (lw_at lw_m5 133 rfl) rfl
theorem q1378 : (Jvm.Cond.fieldLinkNest "PluralBranches$Plural" (77 : Nat) "PluralBranches$Sheet" "language" "LPluralBranches$Language;" "PluralBranches") ∈ lw_tbl := lw_at lw_m6 112 rfl
theorem q1382 : (Jvm.Cond.fieldLinkNest "PluralBranches$Plural" (71 : Nat) "PluralBranches$Sheet" "nearest" "LPluralBranches$Decimal;" "PluralBranches") ∈ lw_tbl := lw_at lw_m6 116 rfl
theorem q1539 : (Jvm.Cond.selects "PluralBranches$Plural" ({ cls := "PluralBranches$Part", name := "write", desc := "(LPluralBranches$Sheet;)V" } : Jvm.MethodName) ({ cls := "PluralBranches$Plural", name := "write", desc := "(LPluralBranches$Sheet;)V" } : Jvm.MethodName)) ∈ lw_all := lw_g (lw_at lw_m7 33 rfl) rfl
theorem q1540 : (Jvm.Cond.instanceMethod ({ cls := "PluralBranches$Plural", name := "write", desc := "(LPluralBranches$Sheet;)V" } : Jvm.MethodName)) ∈ lw_all := lw_g (lw_at lw_m7 34 rfl) rfl
theorem q1541 : (Jvm.Cond.codeWith ({ cls := "PluralBranches$Plural", name := "write", desc := "(LPluralBranches$Sheet;)V" } : Jvm.MethodName) prog_22_method_7_code (5 : Nat) (Option.none : Option Jvm.ClassFile.FieldType) [((25 : Nat), (51 : Nat), (59 : Nat), (0 : Nat)), ((59 : Nat), (61 : Nat), (59 : Nat), (0 : Nat))]) ∈ lw_all := lw_g (lw_at lw_m7 35 rfl) rfl
theorem q1542 : (Jvm.Cond.methodLink "PluralBranches$Plural" (58 : Nat) ({ cls := "PluralBranches$Plural", name := "thing", desc := "(LPluralBranches$Sheet;)LPluralBranches$Thing;" } : Jvm.MethodName)) ∈ lw_all := lw_g (lw_at lw_m7 36 rfl) rfl
theorem q1543 : (Jvm.Cond.sameMethod "PluralBranches$Plural" "PluralBranches$Plain" "thing" "(LPluralBranches$Sheet;)LPluralBranches$Thing;") ∈ lw_all := lw_g (lw_at lw_m7 37 rfl) rfl
theorem q1544 : (Jvm.Cond.selects "PluralBranches$Plural" ({ cls := "PluralBranches$Plural", name := "thing", desc := "(LPluralBranches$Sheet;)LPluralBranches$Thing;" } : Jvm.MethodName) ({ cls := "PluralBranches$Plain", name := "thing", desc := "(LPluralBranches$Sheet;)LPluralBranches$Thing;" } : Jvm.MethodName)) ∈ lw_all := lw_g (lw_at lw_m7 38 rfl) rfl
theorem q1545 : (Jvm.Cond.interfaceEntry "PluralBranches$Plural" (65 : Nat)) ∈ lw_tbl := lw_at lw_m7 39 rfl
theorem q1546 : (Jvm.Cond.methodLink "PluralBranches$Plural" (65 : Nat) ({ cls := "PluralBranches$Thing", name := "decimal", desc := "(I)LPluralBranches$Decimal;" } : Jvm.MethodName)) ∈ lw_all := lw_g (lw_at lw_m7 40 rfl) rfl
theorem q1547 : (Jvm.Cond.methodLink "PluralBranches$Plural" (81 : Nat) ({ cls := "PluralBranches$Plural", name := "comesTo", desc := "(LPluralBranches$Language;LPluralBranches$Decimal;)I" } : Jvm.MethodName)) ∈ lw_all := lw_g (lw_at lw_m7 41 rfl) rfl
theorem q1548 : (Jvm.Cond.methodLink "PluralBranches$Plural" (89 : Nat) ({ cls := "PluralBranches$Parts", name := "write", desc := "(LPluralBranches$Sheet;)V" } : Jvm.MethodName)) ∈ lw_all := lw_g (lw_at lw_m7 42 rfl) rfl
theorem q2263 : (Jvm.Cond.selects "PluralBranches$Plural" ({ cls := "PluralBranches$Plain", name := "thing", desc := "(LPluralBranches$Sheet;)LPluralBranches$Thing;" } : Jvm.MethodName) ({ cls := "PluralBranches$Plain", name := "thing", desc := "(LPluralBranches$Sheet;)LPluralBranches$Thing;" } : Jvm.MethodName)) ∈ lw_all := lw_g (lw_at lw_m10 37 rfl) rfl
theorem q2271 : (Jvm.Cond.castable "PluralBranches$Plural" "PluralBranches$Part") ∈ lw_tbl := lw_at lw_m10 45 rfl
theorem q2275 : (Jvm.Cond.castable "PluralBranches$Plural" "PluralBranches$Choice") ∈ lw_tbl := lw_at lw_m10 49 rfl
theorem q2297 : (Jvm.Cond.castable "PluralBranches$Plural" "java/lang/Object") ∈ lw_tbl := lw_at lw_m10 71 rfl
theorem in_X21 : ∀ w ∈ wsX210, w ∈ lw_all := lw_in wsX210 [830, 832, 834] (by decide +kernel) (by decide +kernel)
/-! PluralBranches$Bent -/
set_option maxRecDepth 100000
def RX22 : String := "PluralBranches$Bent"
def TX22 : u_T := fun k => match k with
  | 0 => ("PluralBranches$Choice", "branches", "Ljava/util/ArrayList;", true)
  | 1 => ("PluralBranches$Choice", "around", "I", true)
  | _ => ("PluralBranches$Plain", "argument", "I", true)
def tyX22 : Nat → FieldType := fun k => match k with
  | 0 => .object "java/util/ArrayList"
  | 1 => .int
  | _ => .int
abbrev wsX220 : List Cond := u_ws RX22 TX22 3
theorem nmX22 : ∀ a, a < 3 → ∀ b, b < 3 → a ≠ b → (TX22 a).2.1 ≠ (TX22 b).2.1 := by decide +kernel
theorem tyX22_ok : ∀ k, k < 3 → parseFieldDescriptor (TX22 k).2.2.1 = some (tyX22 k) := by decide +kernel
abbrev cX22_init : ByteArray := prog_3_method_1_code
def yX22_init : MethodName := ⟨RX22, "<init>", "(II)V"⟩
def dkwX22_init_0 : List UInt8 := [42, 27, 28, 183, 0, 1, 177]
abbrev dktX22_init_0 : List UInt8 := dkwX22_init_0 ++ []
theorem dksX22_init_0 : cX22_init.data.toList.drop 0 = dktX22_init_0 := by decide +kernel
theorem dX22_init_0 : decode cX22_init 0 = .ok (.aload_n 0, 1) := dk_42 (dk_at dksX22_init_0 0 rfl rfl)
theorem dX22_init_1 : decode cX22_init 1 = .ok (.iload_n 1, 1) := dk_27 (dk_at dksX22_init_0 1 rfl rfl)
theorem dX22_init_2 : decode cX22_init 2 = .ok (.iload_n 2, 1) := dk_28 (dk_at dksX22_init_0 2 rfl rfl)
theorem dX22_init_3 : decode cX22_init 3 = .ok (.invokespecial 1, 3) := dk_183 0 1 (dk_at dksX22_init_0 3 rfl rfl)
theorem dX22_init_6 : decode cX22_init 6 = .ok (.return_, 1) := dk_177 (dk_at dksX22_init_0 6 rfl rfl)
abbrev cX22_kind : ByteArray := prog_3_method_2_code
def yX22_kind : MethodName := ⟨RX22, "kind", "()I"⟩
theorem dX22_kind_0 : decode cX22_kind 0 = .ok (.iconst 2, 1) := by decide +kernel
theorem dX22_kind_1 : decode cX22_kind 1 = .ok (.ireturn, 1) := by decide +kernel
abbrev cX22_other : ByteArray := prog_3_method_3_code
def yX22_other : MethodName := ⟨RX22, "other", "()I"⟩
theorem dX22_other_0 : decode cX22_other 0 = .ok (.iconst 3, 1) := by decide +kernel
theorem dX22_other_1 : decode cX22_other 1 = .ok (.ireturn, 1) := by decide +kernel
abbrev cX22_wanted : ByteArray := prog_3_method_4_code
def yX22_wanted : MethodName := ⟨RX22, "wanted", "(LPluralBranches$Language;)I"⟩
theorem dX22_wanted_0 : decode cX22_wanted 0 = .ok (.bipush 7, 2) := by decide +kernel
theorem dX22_wanted_2 : decode cX22_wanted 2 = .ok (.ireturn, 1) := by decide +kernel
abbrev cX22_write : ByteArray := prog_3_method_5_code
def yX22_write : MethodName := ⟨RX22, "write", "(LPluralBranches$Sheet;)V"⟩
def dkwX22_write_2 : List UInt8 := [182, 0, 51, 177]
abbrev dktX22_write_2 : List UInt8 := dkwX22_write_2 ++ []
def dkwX22_write_1 : List UInt8 := [42, 44, 4, 185, 0, 29, 2, 0, 136, 182, 0, 35, 182, 0, 39, 192, 0, 45, 180, 0, 47, 43]
abbrev dktX22_write_1 : List UInt8 := dkwX22_write_1 ++ dktX22_write_2
def dkwX22_write_0 : List UInt8 := [42, 43, 182, 0, 7, 77, 44, 193, 0, 13, 16, 236, 42, 180, 0, 15, 100, 184, 0, 19, 42, 180, 0, 25]
abbrev dktX22_write_0 : List UInt8 := dkwX22_write_0 ++ dktX22_write_1
theorem dksX22_write_0 : cX22_write.data.toList.drop 0 = dktX22_write_0 := by decide +kernel
theorem dksX22_write_1 : cX22_write.data.toList.drop 24 = dktX22_write_1 := dk_seg dksX22_write_0 24 rfl rfl
theorem dksX22_write_2 : cX22_write.data.toList.drop 46 = dktX22_write_2 := dk_seg dksX22_write_1 22 rfl rfl
theorem dX22_write_0 : decode cX22_write 0 = .ok (.aload_n 0, 1) := dk_42 (dk_at dksX22_write_0 0 rfl rfl)
theorem dX22_write_1 : decode cX22_write 1 = .ok (.aload_n 1, 1) := dk_43 (dk_at dksX22_write_0 1 rfl rfl)
theorem dX22_write_2 : decode cX22_write 2 = .ok (.invokevirtual 7, 3) := dk_182 0 7 (dk_at dksX22_write_0 2 rfl rfl)
theorem dX22_write_5 : decode cX22_write 5 = .ok (.astore_n 2, 1) := dk_77 (dk_at dksX22_write_0 5 rfl rfl)
theorem dX22_write_6 : decode cX22_write 6 = .ok (.aload_n 2, 1) := dk_44 (dk_at dksX22_write_0 6 rfl rfl)
theorem dX22_write_7 : decode cX22_write 7 = .ok (.instanceof 13, 3) := dk_193 0 13 (dk_at dksX22_write_0 7 rfl rfl)
theorem dX22_write_10 : decode cX22_write 10 = .ok (.bipush (-20), 2) := dk_16 236 (dk_at dksX22_write_0 10 rfl rfl)
theorem dX22_write_12 : decode cX22_write 12 = .ok (.aload_n 0, 1) := dk_42 (dk_at dksX22_write_0 12 rfl rfl)
theorem dX22_write_13 : decode cX22_write 13 = .ok (.getfield 15, 3) := dk_180 0 15 (dk_at dksX22_write_0 13 rfl rfl)
theorem dX22_write_16 : decode cX22_write 16 = .ok (.isub, 1) := dk_100 (dk_at dksX22_write_0 16 rfl rfl)
theorem dX22_write_17 : decode cX22_write 17 = .ok (.invokestatic 19, 3) := dk_184 0 19 (dk_at dksX22_write_0 17 rfl rfl)
theorem dX22_write_20 : decode cX22_write 20 = .ok (.aload_n 0, 1) := dk_42 (dk_at dksX22_write_0 20 rfl rfl)
theorem dX22_write_21 : decode cX22_write 21 = .ok (.getfield 25, 3) := dk_180 0 25 (dk_at dksX22_write_0 21 rfl rfl)
theorem dX22_write_24 : decode cX22_write 24 = .ok (.aload_n 0, 1) := dk_42 (dk_at dksX22_write_1 0 rfl rfl)
theorem dX22_write_25 : decode cX22_write 25 = .ok (.aload_n 2, 1) := dk_44 (dk_at dksX22_write_1 1 rfl rfl)
theorem dX22_write_26 : decode cX22_write 26 = .ok (.iconst 1, 1) := dk_4 (dk_at dksX22_write_1 2 rfl rfl)
theorem dX22_write_27 : decode cX22_write 27 = .ok (.invokeinterface 29 2, 5) := by decide +kernel
theorem dX22_write_32 : decode cX22_write 32 = .ok (.l2i, 1) := dk_136 (dk_at dksX22_write_1 8 rfl rfl)
theorem dX22_write_33 : decode cX22_write 33 = .ok (.invokevirtual 35, 3) := dk_182 0 35 (dk_at dksX22_write_1 9 rfl rfl)
theorem dX22_write_36 : decode cX22_write 36 = .ok (.invokevirtual 39, 3) := dk_182 0 39 (dk_at dksX22_write_1 12 rfl rfl)
theorem dX22_write_39 : decode cX22_write 39 = .ok (.checkcast 45, 3) := dk_192 0 45 (dk_at dksX22_write_1 15 rfl rfl)
theorem dX22_write_42 : decode cX22_write 42 = .ok (.getfield 47, 3) := dk_180 0 47 (dk_at dksX22_write_1 18 rfl rfl)
theorem dX22_write_45 : decode cX22_write 45 = .ok (.aload_n 1, 1) := dk_43 (dk_at dksX22_write_1 21 rfl rfl)
theorem dX22_write_46 : decode cX22_write 46 = .ok (.invokevirtual 51, 3) := dk_182 0 51 (dk_at dksX22_write_2 0 rfl rfl)
theorem dX22_write_49 : decode cX22_write 49 = .ok (.return_, 1) := dk_177 (dk_at dksX22_write_2 3 rfl rfl)
theorem q101 : (Jvm.Cond.initialized "PluralBranches$Bent") ∈ lw_all := lw_g (lw_at lw_m1 35 rfl) rfl
theorem q246 : (Jvm.Cond.selects "PluralBranches$Bent" ({ cls := "java/lang/Object", name := "getClass", desc := "()Ljava/lang/Class;" } : Jvm.MethodName) ({ cls := "java/lang/Object", name := "getClass", desc := "()Ljava/lang/Class;" } : Jvm.MethodName)) ∈ lw_all := lw_g (lw_at lw_m1 180 rfl) rfl
theorem q738 : (Jvm.Cond.fieldLink "PluralBranches$Bent" (15 : Nat) "PluralBranches$Bent" "argument" "I") ∈ lw_all := lw_g (lw_at lw_m3 192 rfl) rfl
theorem q739 : (Jvm.Cond.sameField "PluralBranches$Bent" "PluralBranches$Plain" "argument" "I") ∈ lw_all := lw_g (lw_at lw_m3 193 rfl) rfl
theorem q822 : (Jvm.Cond.fieldLink "PluralBranches$Bent" (25 : Nat) "PluralBranches$Bent" "branches" "Ljava/util/ArrayList;") ∈ lw_all := lw_g (lw_at lw_m4 36 rfl) rfl
theorem q823 : (Jvm.Cond.sameField "PluralBranches$Bent" "PluralBranches$Choice" "branches" "Ljava/util/ArrayList;") ∈ lw_all := lw_g (lw_at lw_m4 37 rfl) rfl
theorem q837 : (Jvm.Cond.instantiable "PluralBranches$Bent" (3 : Nat)) ∈ lw_all := lw_g (lw_at lw_m4 51 rfl) rfl
theorem q839 : (Jvm.Cond.instanceMethod ({ cls := "PluralBranches$Bent", name := "<init>", desc := "(II)V" } : Jvm.MethodName)) ∈ lw_all := lw_g (lw_at lw_m4 53 rfl) rfl
theorem q840 : (Jvm.Cond.code ({ cls := "PluralBranches$Bent", name := "<init>", desc := "(II)V" } : Jvm.MethodName) prog_3_method_1_code (3 : Nat) (Option.none : Option Jvm.ClassFile.FieldType)) ∈ lw_all := lw_g (lw_at lw_m4 54 rfl) rfl
theorem q841 : (Jvm.Cond.methodLink "PluralBranches$Bent" (1 : Nat) ({ cls := "PluralBranches$Choice", name := "<init>", desc := "(II)V" } : Jvm.MethodName)) ∈ lw_all := lw_g (lw_at lw_m4 55 rfl) rfl
theorem q842 : (Jvm.Cond.laysFinal "PluralBranches$Bent" "PluralBranches$Choice" "branches" "Ljava/util/ArrayList;") ∈ lw_all := lw_g (lw_at lw_m4 56 rfl) rfl
theorem q843 : (Jvm.Cond.laysFinal "PluralBranches$Bent" "PluralBranches$Choice" "around" "I") ∈ lw_all := lw_g (lw_at lw_m4 57 rfl) rfl
theorem q844 : (Jvm.Cond.laysFinal "PluralBranches$Bent" "PluralBranches$Plain" "argument" "I") ∈ lw_all := lw_g (lw_at lw_m4 58 rfl) rfl
theorem q845 : (Jvm.Cond.superclass "PluralBranches$Bent" "PluralBranches$Choice") ∈ lw_all := lw_g (lw_at lw_m4 59 rfl) rfl
theorem q854 : (Jvm.Cond.selects "PluralBranches$Bent" ({ cls := "PluralBranches$Choice", name := "kind", desc := "()I" } : Jvm.MethodName) ({ cls := "PluralBranches$Bent", name := "kind", desc := "()I" } : Jvm.MethodName)) ∈ lw_all := lw_g (lw_at lw_m4 68 rfl) rfl
theorem q855 : (Jvm.Cond.instanceMethod ({ cls := "PluralBranches$Bent", name := "kind", desc := "()I" } : Jvm.MethodName)) ∈ lw_all := lw_g (lw_at lw_m4 69 rfl) rfl
theorem q856 : (Jvm.Cond.code ({ cls := "PluralBranches$Bent", name := "kind", desc := "()I" } : Jvm.MethodName) prog_3_method_2_code (1 : Nat) (Option.some Jvm.ClassFile.FieldType.int)) ∈ lw_all := lw_g (lw_at lw_m4 70 rfl) rfl
theorem q957 : (Jvm.Cond.selects "PluralBranches$Bent" ({ cls := "PluralBranches$Choice", name := "of", desc := "(I)I" } : Jvm.MethodName) ({ cls := "PluralBranches$Choice", name := "of", desc := "(I)I" } : Jvm.MethodName)) ∈ lw_all := lw_g (lw_at lw_m4 171 rfl) rfl
theorem q974 : (Jvm.Cond.fieldLinkNest "PluralBranches$Bent" (47 : Nat) "PluralBranches$Branch" "parts" "LPluralBranches$Parts;" "PluralBranches") ∈ lw_tbl := lw_at lw_m4 188 rfl
theorem q985 : (Jvm.Cond.selects "PluralBranches$Bent" ({ cls := "PluralBranches$Choice", name := "other", desc := "()I" } : Jvm.MethodName) ({ cls := "PluralBranches$Bent", name := "other", desc := "()I" } : Jvm.MethodName)) ∈ lw_all := lw_g (lw_at lw_m4 199 rfl) rfl
theorem q986 : (Jvm.Cond.instanceMethod ({ cls := "PluralBranches$Bent", name := "other", desc := "()I" } : Jvm.MethodName)) ∈ lw_all := lw_g (lw_at lw_m4 200 rfl) rfl
theorem q987 : (Jvm.Cond.code ({ cls := "PluralBranches$Bent", name := "other", desc := "()I" } : Jvm.MethodName) prog_3_method_3_code (1 : Nat) (Option.some Jvm.ClassFile.FieldType.int)) ∈ lw_all := lw_g (lw_at lw_m4 201 rfl) rfl
theorem q1063 : (Jvm.Cond.selects "PluralBranches$Bent" ({ cls := "PluralBranches$Part", name := "depth", desc := "()I" } : Jvm.MethodName) ({ cls := "PluralBranches$Choice", name := "depth", desc := "()I" } : Jvm.MethodName)) ∈ lw_all := lw_g (lw_at lw_m5 37 rfl) rfl
theorem q1111 : (Jvm.Cond.selects "PluralBranches$Bent" ({ cls := "PluralBranches$Choice", name := "lacks", desc := "(LPluralBranches$Language;)I" } : Jvm.MethodName) ({ cls := "PluralBranches$Choice", name := "lacks", desc := "(LPluralBranches$Language;)I" } : Jvm.MethodName)) ∈ lw_all := lw_g (lw_at lw_m5 85 rfl) rfl
theorem q1117 : (Jvm.Cond.selects "PluralBranches$Bent" ({ cls := "PluralBranches$Choice", name := "wanted", desc := "(LPluralBranches$Language;)I" } : Jvm.MethodName) ({ cls := "PluralBranches$Bent", name := "wanted", desc := "(LPluralBranches$Language;)I" } : Jvm.MethodName)) ∈ lw_all := lw_g (lw_at lw_m5 91 rfl) rfl
theorem q1118 : (Jvm.Cond.instanceMethod ({ cls := "PluralBranches$Bent", name := "wanted", desc := "(LPluralBranches$Language;)I" } : Jvm.MethodName)) ∈ lw_all := lw_g (lw_at lw_m5 92 rfl) rfl
theorem q1119 : (Jvm.Cond.code ({ cls := "PluralBranches$Bent", name := "wanted", desc := "(LPluralBranches$Language;)I" } : Jvm.MethodName) prog_3_method_4_code (2 : Nat) (Option.some Jvm.ClassFile.FieldType.int)) ∈ lw_all := lw_g (lw_at lw_m5 93 rfl) rfl
theorem q1128 : (Jvm.Cond.selects "PluralBranches$Bent" ({ cls := "PluralBranches$Choice", name := "dead", desc := "(LPluralBranches$Language;)I" } : Jvm.MethodName) ({ cls := "PluralBranches$Choice", name := "dead", desc := "(LPluralBranches$Language;)I" } : Jvm.MethodName)) ∈ lw_all := lw_g (lw_at lw_m5 102 rfl) rfl
theorem q1403 : (Jvm.Cond.selects "PluralBranches$Bent" ({ cls := "PluralBranches$Part", name := "write", desc := "(LPluralBranches$Sheet;)V" } : Jvm.MethodName) ({ cls := "PluralBranches$Bent", name := "write", desc := "(LPluralBranches$Sheet;)V" } : Jvm.MethodName)) ∈ lw_all := lw_g (lw_at lw_m6 137 rfl) rfl
theorem q1404 : (Jvm.Cond.instanceMethod ({ cls := "PluralBranches$Bent", name := "write", desc := "(LPluralBranches$Sheet;)V" } : Jvm.MethodName)) ∈ lw_all := lw_g (lw_at lw_m6 138 rfl) rfl
theorem q1405 : (Jvm.Cond.code ({ cls := "PluralBranches$Bent", name := "write", desc := "(LPluralBranches$Sheet;)V" } : Jvm.MethodName) prog_3_method_5_code (3 : Nat) (Option.none : Option Jvm.ClassFile.FieldType)) ∈ lw_all := lw_g (lw_at lw_m6 139 rfl) rfl
theorem q1406 : (Jvm.Cond.methodLink "PluralBranches$Bent" (7 : Nat) ({ cls := "PluralBranches$Bent", name := "thing", desc := "(LPluralBranches$Sheet;)LPluralBranches$Thing;" } : Jvm.MethodName)) ∈ lw_all := lw_g (lw_at lw_m6 140 rfl) rfl
theorem q1407 : (Jvm.Cond.sameMethod "PluralBranches$Bent" "PluralBranches$Plain" "thing" "(LPluralBranches$Sheet;)LPluralBranches$Thing;") ∈ lw_all := lw_g (lw_at lw_m6 141 rfl) rfl
theorem q1409 : (Jvm.Cond.selects "PluralBranches$Bent" ({ cls := "PluralBranches$Bent", name := "thing", desc := "(LPluralBranches$Sheet;)LPluralBranches$Thing;" } : Jvm.MethodName) ({ cls := "PluralBranches$Plain", name := "thing", desc := "(LPluralBranches$Sheet;)LPluralBranches$Thing;" } : Jvm.MethodName)) ∈ lw_all := lw_g (lw_at lw_m6 143 rfl) rfl
theorem q1413 : (Jvm.Cond.classLink "PluralBranches$Bent" (13 : Nat) "PluralBranches$Gendered") ∈ lw_all := lw_g (lw_at lw_m6 147 rfl) rfl
theorem q1414 : (Jvm.Cond.methodLinkNest "PluralBranches$Bent" (19 : Nat) ({ cls := "PluralBranches", name := "need", desc := "(ZI)V" } : Jvm.MethodName) "PluralBranches") ∈ lw_tbl := lw_at lw_m6 148 rfl
theorem q1415 : (Jvm.Cond.interfaceEntry "PluralBranches$Bent" (29 : Nat)) ∈ lw_tbl := lw_at lw_m6 149 rfl
theorem q1416 : (Jvm.Cond.methodLink "PluralBranches$Bent" (29 : Nat) ({ cls := "PluralBranches$Thing", name := "held", desc := "(I)J" } : Jvm.MethodName)) ∈ lw_all := lw_g (lw_at lw_m6 150 rfl) rfl
theorem q1417 : (Jvm.Cond.methodLink "PluralBranches$Bent" (35 : Nat) ({ cls := "PluralBranches$Bent", name := "orOther", desc := "(I)I" } : Jvm.MethodName)) ∈ lw_all := lw_g (lw_at lw_m6 151 rfl) rfl
theorem q1418 : (Jvm.Cond.sameMethod "PluralBranches$Bent" "PluralBranches$Choice" "orOther" "(I)I") ∈ lw_all := lw_g (lw_at lw_m6 152 rfl) rfl
theorem q1419 : (Jvm.Cond.selects "PluralBranches$Bent" ({ cls := "PluralBranches$Bent", name := "orOther", desc := "(I)I" } : Jvm.MethodName) ({ cls := "PluralBranches$Choice", name := "orOther", desc := "(I)I" } : Jvm.MethodName)) ∈ lw_all := lw_g (lw_at lw_m6 153 rfl) rfl
theorem q1420 : (Jvm.Cond.methodLink "PluralBranches$Bent" (39 : Nat) ({ cls := "java/util/ArrayList", name := "get", desc := "(I)Ljava/lang/Object;" } : Jvm.MethodName)) ∈ lw_all := lw_g (lw_at lw_m6 154 rfl) rfl
theorem q1421 : (Jvm.Cond.classLink "PluralBranches$Bent" (45 : Nat) "PluralBranches$Branch") ∈ lw_all := lw_g (lw_at lw_m6 155 rfl) rfl
theorem q1422 : (Jvm.Cond.methodLink "PluralBranches$Bent" (51 : Nat) ({ cls := "PluralBranches$Parts", name := "write", desc := "(LPluralBranches$Sheet;)V" } : Jvm.MethodName)) ∈ lw_all := lw_g (lw_at lw_m6 156 rfl) rfl
theorem q2260 : (Jvm.Cond.selects "PluralBranches$Bent" ({ cls := "PluralBranches$Plain", name := "thing", desc := "(LPluralBranches$Sheet;)LPluralBranches$Thing;" } : Jvm.MethodName) ({ cls := "PluralBranches$Plain", name := "thing", desc := "(LPluralBranches$Sheet;)LPluralBranches$Thing;" } : Jvm.MethodName)) ∈ lw_all := lw_g (lw_at lw_m10 34 rfl) rfl
theorem q2267 : (Jvm.Cond.castable "PluralBranches$Bent" "PluralBranches$Part") ∈ lw_tbl := lw_at lw_m10 41 rfl
theorem q2274 : (Jvm.Cond.castable "PluralBranches$Bent" "PluralBranches$Choice") ∈ lw_tbl := lw_at lw_m10 48 rfl
theorem q2298 : (Jvm.Cond.castable "PluralBranches$Bent" "java/lang/Object") ∈ lw_tbl := lw_at lw_m10 72 rfl
theorem in_X22 : ∀ w ∈ wsX220, w ∈ lw_all := lw_in wsX220 [842, 843, 844] (by decide +kernel) (by decide +kernel)
/-! PluralBranches$Branch -/
set_option maxRecDepth 100000
def RX23 : String := "PluralBranches$Branch"
def TX23 : u_T := fun k => match k with
  | 0 => ("PluralBranches$Branch", "key", "I", true)
  | _ => ("PluralBranches$Branch", "parts", "LPluralBranches$Parts;", true)
def tyX23 : Nat → FieldType := fun k => match k with
  | 0 => .int
  | _ => .object "PluralBranches$Parts"
abbrev wsX230 : List Cond := u_ws RX23 TX23 2
theorem nmX23 : ∀ a, a < 2 → ∀ b, b < 2 → a ≠ b → (TX23 a).2.1 ≠ (TX23 b).2.1 := by decide +kernel
theorem tyX23_ok : ∀ k, k < 2 → parseFieldDescriptor (TX23 k).2.2.1 = some (tyX23 k) := by decide +kernel
abbrev cX23_init : ByteArray := prog_4_method_1_code
def yX23_init : MethodName := ⟨RX23, "<init>", "(ILPluralBranches$Parts;)V"⟩
def dkwX23_init_0 : List UInt8 := [42, 183, 0, 1, 42, 27, 181, 0, 7, 42, 44, 181, 0, 13, 177]
abbrev dktX23_init_0 : List UInt8 := dkwX23_init_0 ++ []
theorem dksX23_init_0 : cX23_init.data.toList.drop 0 = dktX23_init_0 := by decide +kernel
theorem dX23_init_0 : decode cX23_init 0 = .ok (.aload_n 0, 1) := dk_42 (dk_at dksX23_init_0 0 rfl rfl)
theorem dX23_init_1 : decode cX23_init 1 = .ok (.invokespecial 1, 3) := dk_183 0 1 (dk_at dksX23_init_0 1 rfl rfl)
theorem dX23_init_4 : decode cX23_init 4 = .ok (.aload_n 0, 1) := dk_42 (dk_at dksX23_init_0 4 rfl rfl)
theorem dX23_init_5 : decode cX23_init 5 = .ok (.iload_n 1, 1) := dk_27 (dk_at dksX23_init_0 5 rfl rfl)
theorem dX23_init_6 : decode cX23_init 6 = .ok (.putfield 7, 3) := dk_181 0 7 (dk_at dksX23_init_0 6 rfl rfl)
theorem dX23_init_9 : decode cX23_init 9 = .ok (.aload_n 0, 1) := dk_42 (dk_at dksX23_init_0 9 rfl rfl)
theorem dX23_init_10 : decode cX23_init 10 = .ok (.aload_n 2, 1) := dk_44 (dk_at dksX23_init_0 10 rfl rfl)
theorem dX23_init_11 : decode cX23_init 11 = .ok (.putfield 13, 3) := dk_181 0 13 (dk_at dksX23_init_0 11 rfl rfl)
theorem dX23_init_14 : decode cX23_init 14 = .ok (.return_, 1) := dk_177 (dk_at dksX23_init_0 14 rfl rfl)
theorem q106 : (Jvm.Cond.initialized "PluralBranches$Branch") ∈ lw_all := lw_g (lw_at lw_m1 40 rfl) rfl
theorem q247 : (Jvm.Cond.selects "PluralBranches$Branch" ({ cls := "java/lang/Object", name := "getClass", desc := "()Ljava/lang/Class;" } : Jvm.MethodName) ({ cls := "java/lang/Object", name := "getClass", desc := "()Ljava/lang/Class;" } : Jvm.MethodName)) ∈ lw_all := lw_g (lw_at lw_m1 181 rfl) rfl
theorem q964 : (Jvm.Cond.instantiable "PluralBranches$Branch" (2 : Nat)) ∈ lw_all := lw_g (lw_at lw_m4 178 rfl) rfl
theorem q966 : (Jvm.Cond.instanceMethod ({ cls := "PluralBranches$Branch", name := "<init>", desc := "(ILPluralBranches$Parts;)V" } : Jvm.MethodName)) ∈ lw_all := lw_g (lw_at lw_m4 180 rfl) rfl
theorem q967 : (Jvm.Cond.code ({ cls := "PluralBranches$Branch", name := "<init>", desc := "(ILPluralBranches$Parts;)V" } : Jvm.MethodName) prog_4_method_1_code (3 : Nat) (Option.none : Option Jvm.ClassFile.FieldType)) ∈ lw_all := lw_g (lw_at lw_m4 181 rfl) rfl
theorem q968 : (Jvm.Cond.methodLink "PluralBranches$Branch" (1 : Nat) ({ cls := "java/lang/Object", name := "<init>", desc := "()V" } : Jvm.MethodName)) ∈ lw_all := lw_g (lw_at lw_m4 182 rfl) rfl
theorem q969 : (Jvm.Cond.fieldLink "PluralBranches$Branch" (7 : Nat) "PluralBranches$Branch" "key" "I") ∈ lw_all := lw_g (lw_at lw_m4 183 rfl) rfl
theorem q973 : (Jvm.Cond.fieldLink "PluralBranches$Branch" (13 : Nat) "PluralBranches$Branch" "parts" "LPluralBranches$Parts;") ∈ lw_all := lw_g (lw_at lw_m4 187 rfl) rfl
theorem q977 : (Jvm.Cond.laysFinal "PluralBranches$Branch" "PluralBranches$Branch" "key" "I") ∈ lw_all := lw_g (lw_at lw_m4 191 rfl) rfl
theorem q978 : (Jvm.Cond.soleField "PluralBranches$Branch" "key") ∈ lw_all := lw_g (lw_at lw_m4 192 rfl) rfl
theorem q979 : (Jvm.Cond.laysFinal "PluralBranches$Branch" "PluralBranches$Branch" "parts" "LPluralBranches$Parts;") ∈ lw_all := lw_g (lw_at lw_m4 193 rfl) rfl
theorem q980 : (Jvm.Cond.soleField "PluralBranches$Branch" "parts") ∈ lw_all := lw_g (lw_at lw_m4 194 rfl) rfl
theorem q981 : (Jvm.Cond.superclass "PluralBranches$Branch" "java/lang/Object") ∈ lw_all := lw_g (lw_at lw_m4 195 rfl) rfl
theorem q2299 : (Jvm.Cond.castable "PluralBranches$Branch" "java/lang/Object") ∈ lw_tbl := lw_at lw_m10 73 rfl
theorem in_X23 : ∀ w ∈ wsX230, w ∈ lw_all := lw_in wsX230 [977, 979] (by decide +kernel) (by decide +kernel)
/-! PluralBranches$Sign -/
set_option maxRecDepth 100000
def RX24 : String := "PluralBranches$Sign"
def TX24 : u_T := fun k => match k with
  | _ => ("PluralBranches$Sign", "sign", "I", true)
def tyX24 : Nat → FieldType := fun k => match k with
  | _ => .int
abbrev wsX240 : List Cond := u_ws RX24 TX24 1
theorem nmX24 : ∀ a, a < 1 → ∀ b, b < 1 → a ≠ b → (TX24 a).2.1 ≠ (TX24 b).2.1 := by decide +kernel
theorem tyX24_ok : ∀ k, k < 1 → parseFieldDescriptor (TX24 k).2.2.1 = some (tyX24 k) := by decide +kernel
abbrev cX24_init : ByteArray := prog_27_method_1_code
def yX24_init : MethodName := ⟨RX24, "<init>", "(I)V"⟩
def dkwX24_init_0 : List UInt8 := [42, 183, 0, 1, 42, 27, 181, 0, 7, 177]
abbrev dktX24_init_0 : List UInt8 := dkwX24_init_0 ++ []
theorem dksX24_init_0 : cX24_init.data.toList.drop 0 = dktX24_init_0 := by decide +kernel
theorem dX24_init_0 : decode cX24_init 0 = .ok (.aload_n 0, 1) := dk_42 (dk_at dksX24_init_0 0 rfl rfl)
theorem dX24_init_1 : decode cX24_init 1 = .ok (.invokespecial 1, 3) := dk_183 0 1 (dk_at dksX24_init_0 1 rfl rfl)
theorem dX24_init_4 : decode cX24_init 4 = .ok (.aload_n 0, 1) := dk_42 (dk_at dksX24_init_0 4 rfl rfl)
theorem dX24_init_5 : decode cX24_init 5 = .ok (.iload_n 1, 1) := dk_27 (dk_at dksX24_init_0 5 rfl rfl)
theorem dX24_init_6 : decode cX24_init 6 = .ok (.putfield 7, 3) := dk_181 0 7 (dk_at dksX24_init_0 6 rfl rfl)
theorem dX24_init_9 : decode cX24_init 9 = .ok (.return_, 1) := dk_177 (dk_at dksX24_init_0 9 rfl rfl)
abbrev cX24_write : ByteArray := prog_27_method_2_code
def yX24_write : MethodName := ⟨RX24, "write", "(LPluralBranches$Sheet;)V"⟩
def dkwX24_write_0 : List UInt8 := [43, 42, 180, 0, 7, 182, 0, 13, 177]
abbrev dktX24_write_0 : List UInt8 := dkwX24_write_0 ++ []
theorem dksX24_write_0 : cX24_write.data.toList.drop 0 = dktX24_write_0 := by decide +kernel
theorem dX24_write_0 : decode cX24_write 0 = .ok (.aload_n 1, 1) := dk_43 (dk_at dksX24_write_0 0 rfl rfl)
theorem dX24_write_1 : decode cX24_write 1 = .ok (.aload_n 0, 1) := dk_42 (dk_at dksX24_write_0 1 rfl rfl)
theorem dX24_write_2 : decode cX24_write 2 = .ok (.getfield 7, 3) := dk_180 0 7 (dk_at dksX24_write_0 2 rfl rfl)
theorem dX24_write_5 : decode cX24_write 5 = .ok (.invokevirtual 13, 3) := dk_182 0 13 (dk_at dksX24_write_0 5 rfl rfl)
theorem dX24_write_8 : decode cX24_write 8 = .ok (.return_, 1) := dk_177 (dk_at dksX24_write_0 8 rfl rfl)
theorem q107 : (Jvm.Cond.initialized "PluralBranches$Sign") ∈ lw_all := lw_g (lw_at lw_m1 41 rfl) rfl
theorem q267 : (Jvm.Cond.selects "PluralBranches$Sign" ({ cls := "java/lang/Object", name := "getClass", desc := "()Ljava/lang/Class;" } : Jvm.MethodName) ({ cls := "java/lang/Object", name := "getClass", desc := "()Ljava/lang/Class;" } : Jvm.MethodName)) ∈ lw_all := lw_g (lw_at lw_m1 201 rfl) rfl
theorem q992 : (Jvm.Cond.instantiable "PluralBranches$Sign" (1 : Nat)) ∈ lw_all := lw_g (lw_at lw_m4 206 rfl) rfl
theorem q994 : (Jvm.Cond.instanceMethod ({ cls := "PluralBranches$Sign", name := "<init>", desc := "(I)V" } : Jvm.MethodName)) ∈ lw_all := lw_g (lw_at lw_m4 208 rfl) rfl
theorem q995 : (Jvm.Cond.code ({ cls := "PluralBranches$Sign", name := "<init>", desc := "(I)V" } : Jvm.MethodName) prog_27_method_1_code (2 : Nat) (Option.none : Option Jvm.ClassFile.FieldType)) ∈ lw_all := lw_g (lw_at lw_m4 209 rfl) rfl
theorem q996 : (Jvm.Cond.methodLinkNest "PluralBranches$Sign" (1 : Nat) ({ cls := "PluralBranches$Part", name := "<init>", desc := "()V" } : Jvm.MethodName) "PluralBranches") ∈ lw_tbl := lw_at lw_m4 210 rfl
theorem q997 : (Jvm.Cond.fieldLink "PluralBranches$Sign" (7 : Nat) "PluralBranches$Sign" "sign" "I") ∈ lw_all := lw_g (lw_at lw_m4 211 rfl) rfl
theorem q998 : (Jvm.Cond.laysFinal "PluralBranches$Sign" "PluralBranches$Sign" "sign" "I") ∈ lw_all := lw_g (lw_at lw_m4 212 rfl) rfl
theorem q999 : (Jvm.Cond.soleField "PluralBranches$Sign" "sign") ∈ lw_all := lw_g (lw_at lw_m4 213 rfl) rfl
theorem q1000 : (Jvm.Cond.superclass "PluralBranches$Sign" "PluralBranches$Part") ∈ lw_all := lw_g (lw_at lw_m4 214 rfl) rfl
theorem q1078 : (Jvm.Cond.selects "PluralBranches$Sign" ({ cls := "PluralBranches$Part", name := "depth", desc := "()I" } : Jvm.MethodName) ({ cls := "PluralBranches$Part", name := "depth", desc := "()I" } : Jvm.MethodName)) ∈ lw_all := lw_g (lw_at lw_m5 52 rfl) rfl
theorem q1588 : (Jvm.Cond.selects "PluralBranches$Sign" ({ cls := "PluralBranches$Part", name := "write", desc := "(LPluralBranches$Sheet;)V" } : Jvm.MethodName) ({ cls := "PluralBranches$Sign", name := "write", desc := "(LPluralBranches$Sheet;)V" } : Jvm.MethodName)) ∈ lw_all := lw_g (lw_at lw_m7 82 rfl) rfl
theorem q1589 : (Jvm.Cond.instanceMethod ({ cls := "PluralBranches$Sign", name := "write", desc := "(LPluralBranches$Sheet;)V" } : Jvm.MethodName)) ∈ lw_all := lw_g (lw_at lw_m7 83 rfl) rfl
theorem q1590 : (Jvm.Cond.code ({ cls := "PluralBranches$Sign", name := "write", desc := "(LPluralBranches$Sheet;)V" } : Jvm.MethodName) prog_27_method_2_code (2 : Nat) (Option.none : Option Jvm.ClassFile.FieldType)) ∈ lw_all := lw_g (lw_at lw_m7 84 rfl) rfl
theorem q1591 : (Jvm.Cond.methodLink "PluralBranches$Sign" (13 : Nat) ({ cls := "PluralBranches$Sheet", name := "put", desc := "(I)V" } : Jvm.MethodName)) ∈ lw_all := lw_g (lw_at lw_m7 85 rfl) rfl
theorem q2273 : (Jvm.Cond.castable "PluralBranches$Sign" "PluralBranches$Part") ∈ lw_tbl := lw_at lw_m10 47 rfl
theorem q2300 : (Jvm.Cond.castable "PluralBranches$Sign" "java/lang/Object") ∈ lw_tbl := lw_at lw_m10 74 rfl
theorem in_X24 : ∀ w ∈ wsX240, w ∈ lw_all := lw_in wsX240 [998] (by decide +kernel) (by decide +kernel)
/-! PluralBranches$Numbered -/
set_option maxRecDepth 100000
def RX25 : String := "PluralBranches$Numbered"
def TX25 : u_T := fun k => match k with
  | _ => ("PluralBranches$Numbered", "its", "LPluralBranches$Decimal;", true)
def tyX25 : Nat → FieldType := fun k => match k with
  | _ => .object "PluralBranches$Decimal"
abbrev wsX250 : List Cond := u_ws RX25 TX25 1
theorem nmX25 : ∀ a, a < 1 → ∀ b, b < 1 → a ≠ b → (TX25 a).2.1 ≠ (TX25 b).2.1 := by decide +kernel
theorem tyX25_ok : ∀ k, k < 1 → parseFieldDescriptor (TX25 k).2.2.1 = some (tyX25 k) := by decide +kernel
abbrev cX25_init : ByteArray := prog_17_method_1_code
def yX25_init : MethodName := ⟨RX25, "<init>", "(LPluralBranches$Decimal;)V"⟩
def dkwX25_init_0 : List UInt8 := [42, 183, 0, 3, 42, 43, 181, 0, 9, 177]
abbrev dktX25_init_0 : List UInt8 := dkwX25_init_0 ++ []
theorem dksX25_init_0 : cX25_init.data.toList.drop 0 = dktX25_init_0 := by decide +kernel
theorem dX25_init_0 : decode cX25_init 0 = .ok (.aload_n 0, 1) := dk_42 (dk_at dksX25_init_0 0 rfl rfl)
theorem dX25_init_1 : decode cX25_init 1 = .ok (.invokespecial 3, 3) := dk_183 0 3 (dk_at dksX25_init_0 1 rfl rfl)
theorem dX25_init_4 : decode cX25_init 4 = .ok (.aload_n 0, 1) := dk_42 (dk_at dksX25_init_0 4 rfl rfl)
theorem dX25_init_5 : decode cX25_init 5 = .ok (.aload_n 1, 1) := dk_43 (dk_at dksX25_init_0 5 rfl rfl)
theorem dX25_init_6 : decode cX25_init 6 = .ok (.putfield 9, 3) := dk_181 0 9 (dk_at dksX25_init_0 6 rfl rfl)
theorem dX25_init_9 : decode cX25_init 9 = .ok (.return_, 1) := dk_177 (dk_at dksX25_init_0 9 rfl rfl)
abbrev cX25_type : ByteArray := prog_17_method_2_code
def yX25_type : MethodName := ⟨RX25, "type", "()I"⟩
theorem dX25_type_0 : decode cX25_type 0 = .ok (.iconst 1, 1) := by decide +kernel
theorem dX25_type_1 : decode cX25_type 1 = .ok (.ireturn, 1) := by decide +kernel
abbrev cX25_held : ByteArray := prog_17_method_5_code
def yX25_held : MethodName := ⟨RX25, "held", "(I)J"⟩
def dkwX25_held_1 : List UInt8 := [180, 0, 9, 180, 0, 27, 133, 167, 0, 6, 20, 0, 30, 173]
abbrev dktX25_held_1 : List UInt8 := dkwX25_held_1 ++ []
def dkwX25_held_0 : List UInt8 := [27, 4, 160, 0, 14, 42, 180, 0, 9, 180, 0, 21, 133, 167, 0, 22, 27, 5, 160, 0, 14, 42]
abbrev dktX25_held_0 : List UInt8 := dkwX25_held_0 ++ dktX25_held_1
theorem dksX25_held_0 : cX25_held.data.toList.drop 0 = dktX25_held_0 := by decide +kernel
theorem dksX25_held_1 : cX25_held.data.toList.drop 22 = dktX25_held_1 := dk_seg dksX25_held_0 22 rfl rfl
theorem dX25_held_0 : decode cX25_held 0 = .ok (.iload_n 1, 1) := dk_27 (dk_at dksX25_held_0 0 rfl rfl)
theorem dX25_held_1 : decode cX25_held 1 = .ok (.iconst 1, 1) := dk_4 (dk_at dksX25_held_0 1 rfl rfl)
theorem dX25_held_2 : decode cX25_held 2 = .ok (.if_icmp .ne 14, 3) := dk_160 0 14 (dk_at dksX25_held_0 2 rfl rfl)
theorem dX25_held_5 : decode cX25_held 5 = .ok (.aload_n 0, 1) := dk_42 (dk_at dksX25_held_0 5 rfl rfl)
theorem dX25_held_6 : decode cX25_held 6 = .ok (.getfield 9, 3) := dk_180 0 9 (dk_at dksX25_held_0 6 rfl rfl)
theorem dX25_held_9 : decode cX25_held 9 = .ok (.getfield 21, 3) := dk_180 0 21 (dk_at dksX25_held_0 9 rfl rfl)
theorem dX25_held_12 : decode cX25_held 12 = .ok (.i2l, 1) := dk_133 (dk_at dksX25_held_0 12 rfl rfl)
theorem dX25_held_13 : decode cX25_held 13 = .ok (.goto 22, 3) := dk_167 0 22 (dk_at dksX25_held_0 13 rfl rfl)
theorem dX25_held_16 : decode cX25_held 16 = .ok (.iload_n 1, 1) := dk_27 (dk_at dksX25_held_0 16 rfl rfl)
theorem dX25_held_17 : decode cX25_held 17 = .ok (.iconst 2, 1) := dk_5 (dk_at dksX25_held_0 17 rfl rfl)
theorem dX25_held_18 : decode cX25_held 18 = .ok (.if_icmp .ne 14, 3) := dk_160 0 14 (dk_at dksX25_held_0 18 rfl rfl)
theorem dX25_held_21 : decode cX25_held 21 = .ok (.aload_n 0, 1) := dk_42 (dk_at dksX25_held_0 21 rfl rfl)
theorem dX25_held_22 : decode cX25_held 22 = .ok (.getfield 9, 3) := dk_180 0 9 (dk_at dksX25_held_1 0 rfl rfl)
theorem dX25_held_25 : decode cX25_held 25 = .ok (.getfield 27, 3) := dk_180 0 27 (dk_at dksX25_held_1 3 rfl rfl)
theorem dX25_held_28 : decode cX25_held 28 = .ok (.i2l, 1) := dk_133 (dk_at dksX25_held_1 6 rfl rfl)
theorem dX25_held_29 : decode cX25_held 29 = .ok (.goto 6, 3) := dk_167 0 6 (dk_at dksX25_held_1 7 rfl rfl)
theorem dX25_held_32 : decode cX25_held 32 = .ok (.ldc2_w 30, 3) := dk_20 0 30 (dk_at dksX25_held_1 10 rfl rfl)
theorem dX25_held_35 : decode cX25_held 35 = .ok (.lreturn, 1) := dk_173 (dk_at dksX25_held_1 13 rfl rfl)
abbrev cX25_decimal : ByteArray := prog_17_method_3_code
def yX25_decimal : MethodName := ⟨RX25, "decimal", "(I)LPluralBranches$Decimal;"⟩
theorem dX25_decimal_0 : decode cX25_decimal 0 = .ok (.aload_n 0, 1) := by decide +kernel
theorem dX25_decimal_1 : decode cX25_decimal 1 = .ok (.getfield 9, 3) := by decide +kernel
theorem dX25_decimal_4 : decode cX25_decimal 4 = .ok (.areturn, 1) := by decide +kernel
abbrev cX25_write : ByteArray := prog_17_method_4_code
def yX25_write : MethodName := ⟨RX25, "write", "(LPluralBranches$Sheet;)V"⟩
def dkwX25_write_0 : List UInt8 := [43, 42, 180, 0, 9, 182, 0, 15, 177]
abbrev dktX25_write_0 : List UInt8 := dkwX25_write_0 ++ []
theorem dksX25_write_0 : cX25_write.data.toList.drop 0 = dktX25_write_0 := by decide +kernel
theorem dX25_write_0 : decode cX25_write 0 = .ok (.aload_n 1, 1) := dk_43 (dk_at dksX25_write_0 0 rfl rfl)
theorem dX25_write_1 : decode cX25_write 1 = .ok (.aload_n 0, 1) := dk_42 (dk_at dksX25_write_0 1 rfl rfl)
theorem dX25_write_2 : decode cX25_write 2 = .ok (.getfield 9, 3) := dk_180 0 9 (dk_at dksX25_write_0 2 rfl rfl)
theorem dX25_write_5 : decode cX25_write 5 = .ok (.invokevirtual 15, 3) := dk_182 0 15 (dk_at dksX25_write_0 5 rfl rfl)
theorem dX25_write_8 : decode cX25_write 8 = .ok (.return_, 1) := dk_177 (dk_at dksX25_write_0 8 rfl rfl)
theorem q109 : (Jvm.Cond.initialized "PluralBranches$Numbered") ∈ lw_all := lw_g (lw_at lw_m1 43 rfl) rfl
theorem q151 : (Jvm.Cond.fieldLinkNest "PluralBranches$Numbered" (21 : Nat) "PluralBranches$Decimal" "digits" "I" "PluralBranches") ∈ lw_tbl := lw_at lw_m1 85 rfl
theorem q155 : (Jvm.Cond.fieldLinkNest "PluralBranches$Numbered" (27 : Nat) "PluralBranches$Decimal" "scale" "I" "PluralBranches") ∈ lw_tbl := lw_at lw_m1 89 rfl
theorem q258 : (Jvm.Cond.selects "PluralBranches$Numbered" ({ cls := "java/lang/Object", name := "getClass", desc := "()Ljava/lang/Class;" } : Jvm.MethodName) ({ cls := "java/lang/Object", name := "getClass", desc := "()Ljava/lang/Class;" } : Jvm.MethodName)) ∈ lw_all := lw_g (lw_at lw_m1 192 rfl) rfl
theorem q1175 : (Jvm.Cond.instantiable "PluralBranches$Numbered" (1 : Nat)) ∈ lw_all := lw_g (lw_at lw_m5 149 rfl) rfl
theorem q1177 : (Jvm.Cond.instanceMethod ({ cls := "PluralBranches$Numbered", name := "<init>", desc := "(LPluralBranches$Decimal;)V" } : Jvm.MethodName)) ∈ lw_all := lw_g (lw_at lw_m5 151 rfl) rfl
theorem q1178 : (Jvm.Cond.code ({ cls := "PluralBranches$Numbered", name := "<init>", desc := "(LPluralBranches$Decimal;)V" } : Jvm.MethodName) prog_17_method_1_code (2 : Nat) (Option.none : Option Jvm.ClassFile.FieldType)) ∈ lw_all := lw_g (lw_at lw_m5 152 rfl) rfl
theorem q1179 : (Jvm.Cond.methodLink "PluralBranches$Numbered" (3 : Nat) ({ cls := "java/lang/Object", name := "<init>", desc := "()V" } : Jvm.MethodName)) ∈ lw_all := lw_g (lw_at lw_m5 153 rfl) rfl
theorem q1180 : (Jvm.Cond.fieldLink "PluralBranches$Numbered" (9 : Nat) "PluralBranches$Numbered" "its" "LPluralBranches$Decimal;") ∈ lw_all := lw_g (lw_at lw_m5 154 rfl) rfl
theorem q1181 : (Jvm.Cond.laysFinal "PluralBranches$Numbered" "PluralBranches$Numbered" "its" "LPluralBranches$Decimal;") ∈ lw_all := lw_g (lw_at lw_m5 155 rfl) rfl
theorem q1182 : (Jvm.Cond.soleField "PluralBranches$Numbered" "its") ∈ lw_all := lw_g (lw_at lw_m5 156 rfl) rfl
theorem q1183 : (Jvm.Cond.superclass "PluralBranches$Numbered" "java/lang/Object") ∈ lw_all := lw_g (lw_at lw_m5 157 rfl) rfl
theorem q1252 : (Jvm.Cond.castable "PluralBranches$Numbered" "PluralBranches$Thing") ∈ lw_tbl := lw_at lw_m5 226 rfl
theorem q1253 : (Jvm.Cond.selects "PluralBranches$Numbered" ({ cls := "PluralBranches$Thing", name := "type", desc := "()I" } : Jvm.MethodName) ({ cls := "PluralBranches$Numbered", name := "type", desc := "()I" } : Jvm.MethodName)) ∈ lw_all := lw_g (lw_at lw_m5 227 rfl) rfl
theorem q1254 : (Jvm.Cond.unhidden "PluralBranches$Numbered" "type" "()I") ∈ lw_tbl := lw_at lw_m5 228 rfl
theorem q1255 : (Jvm.Cond.instanceMethod ({ cls := "PluralBranches$Numbered", name := "type", desc := "()I" } : Jvm.MethodName)) ∈ lw_all := lw_g (lw_at lw_m5 229 rfl) rfl
theorem q1256 : (Jvm.Cond.publicMethod ({ cls := "PluralBranches$Numbered", name := "type", desc := "()I" } : Jvm.MethodName)) ∈ lw_tbl := lw_at lw_m5 230 rfl
theorem q1257 : (Jvm.Cond.code ({ cls := "PluralBranches$Numbered", name := "type", desc := "()I" } : Jvm.MethodName) prog_17_method_2_code (1 : Nat) (Option.some Jvm.ClassFile.FieldType.int)) ∈ lw_all := lw_g (lw_at lw_m5 231 rfl) rfl
theorem q1279 : (Jvm.Cond.selects "PluralBranches$Numbered" ({ cls := "PluralBranches$Thing", name := "held", desc := "(I)J" } : Jvm.MethodName) ({ cls := "PluralBranches$Numbered", name := "held", desc := "(I)J" } : Jvm.MethodName)) ∈ lw_all := lw_g (lw_at lw_m6 13 rfl) rfl
theorem q1280 : (Jvm.Cond.unhidden "PluralBranches$Numbered" "held" "(I)J") ∈ lw_tbl := lw_at lw_m6 14 rfl
theorem q1281 : (Jvm.Cond.instanceMethod ({ cls := "PluralBranches$Numbered", name := "held", desc := "(I)J" } : Jvm.MethodName)) ∈ lw_all := lw_g (lw_at lw_m6 15 rfl) rfl
theorem q1282 : (Jvm.Cond.publicMethod ({ cls := "PluralBranches$Numbered", name := "held", desc := "(I)J" } : Jvm.MethodName)) ∈ lw_tbl := lw_at lw_m6 16 rfl
theorem q1283 : (Jvm.Cond.code ({ cls := "PluralBranches$Numbered", name := "held", desc := "(I)J" } : Jvm.MethodName) prog_17_method_5_code (2 : Nat) (Option.some Jvm.ClassFile.FieldType.long)) ∈ lw_all := lw_g (lw_at lw_m6 17 rfl) rfl
theorem q1284 : (Jvm.Cond.constantLong "PluralBranches$Numbered" (30 : Nat) (-9223372036854775808 : Int64)) ∈ lw_all := lw_g (lw_at lw_m6 18 rfl) rfl
theorem q1327 : (Jvm.Cond.selects "PluralBranches$Numbered" ({ cls := "PluralBranches$Thing", name := "decimal", desc := "(I)LPluralBranches$Decimal;" } : Jvm.MethodName) ({ cls := "PluralBranches$Numbered", name := "decimal", desc := "(I)LPluralBranches$Decimal;" } : Jvm.MethodName)) ∈ lw_all := lw_g (lw_at lw_m6 61 rfl) rfl
theorem q1328 : (Jvm.Cond.unhidden "PluralBranches$Numbered" "decimal" "(I)LPluralBranches$Decimal;") ∈ lw_tbl := lw_at lw_m6 62 rfl
theorem q1329 : (Jvm.Cond.instanceMethod ({ cls := "PluralBranches$Numbered", name := "decimal", desc := "(I)LPluralBranches$Decimal;" } : Jvm.MethodName)) ∈ lw_all := lw_g (lw_at lw_m6 63 rfl) rfl
theorem q1330 : (Jvm.Cond.publicMethod ({ cls := "PluralBranches$Numbered", name := "decimal", desc := "(I)LPluralBranches$Decimal;" } : Jvm.MethodName)) ∈ lw_tbl := lw_at lw_m6 64 rfl
theorem q1331 : (Jvm.Cond.code ({ cls := "PluralBranches$Numbered", name := "decimal", desc := "(I)LPluralBranches$Decimal;" } : Jvm.MethodName) prog_17_method_3_code (2 : Nat) (Option.some (Jvm.ClassFile.FieldType.object "PluralBranches$Decimal"))) ∈ lw_all := lw_g (lw_at lw_m6 65 rfl) rfl
theorem q1532 : (Jvm.Cond.selects "PluralBranches$Numbered" ({ cls := "PluralBranches$Thing", name := "write", desc := "(LPluralBranches$Sheet;)V" } : Jvm.MethodName) ({ cls := "PluralBranches$Numbered", name := "write", desc := "(LPluralBranches$Sheet;)V" } : Jvm.MethodName)) ∈ lw_all := lw_g (lw_at lw_m7 26 rfl) rfl
theorem q1533 : (Jvm.Cond.unhidden "PluralBranches$Numbered" "write" "(LPluralBranches$Sheet;)V") ∈ lw_tbl := lw_at lw_m7 27 rfl
theorem q1534 : (Jvm.Cond.instanceMethod ({ cls := "PluralBranches$Numbered", name := "write", desc := "(LPluralBranches$Sheet;)V" } : Jvm.MethodName)) ∈ lw_all := lw_g (lw_at lw_m7 28 rfl) rfl
theorem q1535 : (Jvm.Cond.publicMethod ({ cls := "PluralBranches$Numbered", name := "write", desc := "(LPluralBranches$Sheet;)V" } : Jvm.MethodName)) ∈ lw_tbl := lw_at lw_m7 29 rfl
theorem q1536 : (Jvm.Cond.code ({ cls := "PluralBranches$Numbered", name := "write", desc := "(LPluralBranches$Sheet;)V" } : Jvm.MethodName) prog_17_method_4_code (2 : Nat) (Option.none : Option Jvm.ClassFile.FieldType)) ∈ lw_all := lw_g (lw_at lw_m7 30 rfl) rfl
theorem q1537 : (Jvm.Cond.methodLink "PluralBranches$Numbered" (15 : Nat) ({ cls := "PluralBranches$Sheet", name := "plainly", desc := "(LPluralBranches$Decimal;)V" } : Jvm.MethodName)) ∈ lw_all := lw_g (lw_at lw_m7 31 rfl) rfl
theorem q2302 : (Jvm.Cond.castable "PluralBranches$Numbered" "java/lang/Object") ∈ lw_tbl := lw_at lw_m10 76 rfl
theorem in_X25 : ∀ w ∈ wsX250, w ∈ lw_all := lw_in wsX250 [1181] (by decide +kernel) (by decide +kernel)
/-! PluralBranches$Gendered -/
set_option maxRecDepth 100000
def RX26 : String := "PluralBranches$Gendered"
def TX26 : u_T := fun k => match k with
  | _ => ("PluralBranches$Gendered", "its", "I", true)
def tyX26 : Nat → FieldType := fun k => match k with
  | _ => .int
abbrev wsX260 : List Cond := u_ws RX26 TX26 1
theorem nmX26 : ∀ a, a < 1 → ∀ b, b < 1 → a ≠ b → (TX26 a).2.1 ≠ (TX26 b).2.1 := by decide +kernel
theorem tyX26_ok : ∀ k, k < 1 → parseFieldDescriptor (TX26 k).2.2.1 = some (tyX26 k) := by decide +kernel
abbrev cX26_init : ByteArray := prog_10_method_1_code
def yX26_init : MethodName := ⟨RX26, "<init>", "(I)V"⟩
def dkwX26_init_0 : List UInt8 := [42, 183, 0, 3, 42, 27, 181, 0, 9, 177]
abbrev dktX26_init_0 : List UInt8 := dkwX26_init_0 ++ []
theorem dksX26_init_0 : cX26_init.data.toList.drop 0 = dktX26_init_0 := by decide +kernel
theorem dX26_init_0 : decode cX26_init 0 = .ok (.aload_n 0, 1) := dk_42 (dk_at dksX26_init_0 0 rfl rfl)
theorem dX26_init_1 : decode cX26_init 1 = .ok (.invokespecial 3, 3) := dk_183 0 3 (dk_at dksX26_init_0 1 rfl rfl)
theorem dX26_init_4 : decode cX26_init 4 = .ok (.aload_n 0, 1) := dk_42 (dk_at dksX26_init_0 4 rfl rfl)
theorem dX26_init_5 : decode cX26_init 5 = .ok (.iload_n 1, 1) := dk_27 (dk_at dksX26_init_0 5 rfl rfl)
theorem dX26_init_6 : decode cX26_init 6 = .ok (.putfield 9, 3) := dk_181 0 9 (dk_at dksX26_init_0 6 rfl rfl)
theorem dX26_init_9 : decode cX26_init 9 = .ok (.return_, 1) := dk_177 (dk_at dksX26_init_0 9 rfl rfl)
abbrev cX26_type : ByteArray := prog_10_method_2_code
def yX26_type : MethodName := ⟨RX26, "type", "()I"⟩
theorem dX26_type_0 : decode cX26_type 0 = .ok (.iconst 2, 1) := by decide +kernel
theorem dX26_type_1 : decode cX26_type 1 = .ok (.ireturn, 1) := by decide +kernel
abbrev cX26_held : ByteArray := prog_10_method_4_code
def yX26_held : MethodName := ⟨RX26, "held", "(I)J"⟩
def dkwX26_held_1 : List UInt8 := [20, 0, 29, 173]
abbrev dktX26_held_1 : List UInt8 := dkwX26_held_1 ++ []
def dkwX26_held_0 : List UInt8 := [27, 4, 160, 0, 11, 42, 180, 0, 9, 133, 167, 0, 15, 27, 5, 160, 0, 7, 9, 167, 0, 6]
abbrev dktX26_held_0 : List UInt8 := dkwX26_held_0 ++ dktX26_held_1
theorem dksX26_held_0 : cX26_held.data.toList.drop 0 = dktX26_held_0 := by decide +kernel
theorem dksX26_held_1 : cX26_held.data.toList.drop 22 = dktX26_held_1 := dk_seg dksX26_held_0 22 rfl rfl
theorem dX26_held_0 : decode cX26_held 0 = .ok (.iload_n 1, 1) := dk_27 (dk_at dksX26_held_0 0 rfl rfl)
theorem dX26_held_1 : decode cX26_held 1 = .ok (.iconst 1, 1) := dk_4 (dk_at dksX26_held_0 1 rfl rfl)
theorem dX26_held_2 : decode cX26_held 2 = .ok (.if_icmp .ne 11, 3) := dk_160 0 11 (dk_at dksX26_held_0 2 rfl rfl)
theorem dX26_held_5 : decode cX26_held 5 = .ok (.aload_n 0, 1) := dk_42 (dk_at dksX26_held_0 5 rfl rfl)
theorem dX26_held_6 : decode cX26_held 6 = .ok (.getfield 9, 3) := dk_180 0 9 (dk_at dksX26_held_0 6 rfl rfl)
theorem dX26_held_9 : decode cX26_held 9 = .ok (.i2l, 1) := dk_133 (dk_at dksX26_held_0 9 rfl rfl)
theorem dX26_held_10 : decode cX26_held 10 = .ok (.goto 15, 3) := dk_167 0 15 (dk_at dksX26_held_0 10 rfl rfl)
theorem dX26_held_13 : decode cX26_held 13 = .ok (.iload_n 1, 1) := dk_27 (dk_at dksX26_held_0 13 rfl rfl)
theorem dX26_held_14 : decode cX26_held 14 = .ok (.iconst 2, 1) := dk_5 (dk_at dksX26_held_0 14 rfl rfl)
theorem dX26_held_15 : decode cX26_held 15 = .ok (.if_icmp .ne 7, 3) := dk_160 0 7 (dk_at dksX26_held_0 15 rfl rfl)
theorem dX26_held_18 : decode cX26_held 18 = .ok (.lconst 0, 1) := dk_9 (dk_at dksX26_held_0 18 rfl rfl)
theorem dX26_held_19 : decode cX26_held 19 = .ok (.goto 6, 3) := dk_167 0 6 (dk_at dksX26_held_0 19 rfl rfl)
theorem dX26_held_22 : decode cX26_held 22 = .ok (.ldc2_w 29, 3) := dk_20 0 29 (dk_at dksX26_held_1 0 rfl rfl)
theorem dX26_held_25 : decode cX26_held 25 = .ok (.lreturn, 1) := dk_173 (dk_at dksX26_held_1 3 rfl rfl)
abbrev cX26_write : ByteArray := prog_10_method_3_code
def yX26_write : MethodName := ⟨RX26, "write", "(LPluralBranches$Sheet;)V"⟩
def dkwX26_write_0 : List UInt8 := [43, 18, 15, 42, 180, 0, 9, 182, 0, 17, 182, 0, 23, 177]
abbrev dktX26_write_0 : List UInt8 := dkwX26_write_0 ++ []
theorem dksX26_write_0 : cX26_write.data.toList.drop 0 = dktX26_write_0 := by decide +kernel
theorem dX26_write_0 : decode cX26_write 0 = .ok (.aload_n 1, 1) := dk_43 (dk_at dksX26_write_0 0 rfl rfl)
theorem dX26_write_1 : decode cX26_write 1 = .ok (.ldc 15, 2) := dk_18 15 (dk_at dksX26_write_0 1 rfl rfl)
theorem dX26_write_3 : decode cX26_write 3 = .ok (.aload_n 0, 1) := dk_42 (dk_at dksX26_write_0 3 rfl rfl)
theorem dX26_write_4 : decode cX26_write 4 = .ok (.getfield 9, 3) := dk_180 0 9 (dk_at dksX26_write_0 4 rfl rfl)
theorem dX26_write_7 : decode cX26_write 7 = .ok (.invokevirtual 17, 3) := dk_182 0 17 (dk_at dksX26_write_0 7 rfl rfl)
theorem dX26_write_10 : decode cX26_write 10 = .ok (.invokevirtual 23, 3) := dk_182 0 23 (dk_at dksX26_write_0 10 rfl rfl)
theorem dX26_write_13 : decode cX26_write 13 = .ok (.return_, 1) := dk_177 (dk_at dksX26_write_0 13 rfl rfl)
theorem q110 : (Jvm.Cond.initialized "PluralBranches$Gendered") ∈ lw_all := lw_g (lw_at lw_m1 44 rfl) rfl
theorem q252 : (Jvm.Cond.selects "PluralBranches$Gendered" ({ cls := "java/lang/Object", name := "getClass", desc := "()Ljava/lang/Class;" } : Jvm.MethodName) ({ cls := "java/lang/Object", name := "getClass", desc := "()Ljava/lang/Class;" } : Jvm.MethodName)) ∈ lw_all := lw_g (lw_at lw_m1 186 rfl) rfl
theorem q1190 : (Jvm.Cond.instantiable "PluralBranches$Gendered" (1 : Nat)) ∈ lw_all := lw_g (lw_at lw_m5 164 rfl) rfl
theorem q1192 : (Jvm.Cond.instanceMethod ({ cls := "PluralBranches$Gendered", name := "<init>", desc := "(I)V" } : Jvm.MethodName)) ∈ lw_all := lw_g (lw_at lw_m5 166 rfl) rfl
theorem q1193 : (Jvm.Cond.code ({ cls := "PluralBranches$Gendered", name := "<init>", desc := "(I)V" } : Jvm.MethodName) prog_10_method_1_code (2 : Nat) (Option.none : Option Jvm.ClassFile.FieldType)) ∈ lw_all := lw_g (lw_at lw_m5 167 rfl) rfl
theorem q1194 : (Jvm.Cond.methodLink "PluralBranches$Gendered" (3 : Nat) ({ cls := "java/lang/Object", name := "<init>", desc := "()V" } : Jvm.MethodName)) ∈ lw_all := lw_g (lw_at lw_m5 168 rfl) rfl
theorem q1195 : (Jvm.Cond.fieldLink "PluralBranches$Gendered" (9 : Nat) "PluralBranches$Gendered" "its" "I") ∈ lw_all := lw_g (lw_at lw_m5 169 rfl) rfl
theorem q1196 : (Jvm.Cond.laysFinal "PluralBranches$Gendered" "PluralBranches$Gendered" "its" "I") ∈ lw_all := lw_g (lw_at lw_m5 170 rfl) rfl
theorem q1197 : (Jvm.Cond.soleField "PluralBranches$Gendered" "its") ∈ lw_all := lw_g (lw_at lw_m5 171 rfl) rfl
theorem q1198 : (Jvm.Cond.superclass "PluralBranches$Gendered" "java/lang/Object") ∈ lw_all := lw_g (lw_at lw_m5 172 rfl) rfl
theorem q1240 : (Jvm.Cond.castable "PluralBranches$Gendered" "PluralBranches$Thing") ∈ lw_tbl := lw_at lw_m5 214 rfl
theorem q1241 : (Jvm.Cond.selects "PluralBranches$Gendered" ({ cls := "PluralBranches$Thing", name := "type", desc := "()I" } : Jvm.MethodName) ({ cls := "PluralBranches$Gendered", name := "type", desc := "()I" } : Jvm.MethodName)) ∈ lw_all := lw_g (lw_at lw_m5 215 rfl) rfl
theorem q1242 : (Jvm.Cond.unhidden "PluralBranches$Gendered" "type" "()I") ∈ lw_tbl := lw_at lw_m5 216 rfl
theorem q1243 : (Jvm.Cond.instanceMethod ({ cls := "PluralBranches$Gendered", name := "type", desc := "()I" } : Jvm.MethodName)) ∈ lw_all := lw_g (lw_at lw_m5 217 rfl) rfl
theorem q1244 : (Jvm.Cond.publicMethod ({ cls := "PluralBranches$Gendered", name := "type", desc := "()I" } : Jvm.MethodName)) ∈ lw_tbl := lw_at lw_m5 218 rfl
theorem q1245 : (Jvm.Cond.code ({ cls := "PluralBranches$Gendered", name := "type", desc := "()I" } : Jvm.MethodName) prog_10_method_2_code (1 : Nat) (Option.some Jvm.ClassFile.FieldType.int)) ∈ lw_all := lw_g (lw_at lw_m5 219 rfl) rfl
theorem q1267 : (Jvm.Cond.selects "PluralBranches$Gendered" ({ cls := "PluralBranches$Thing", name := "held", desc := "(I)J" } : Jvm.MethodName) ({ cls := "PluralBranches$Gendered", name := "held", desc := "(I)J" } : Jvm.MethodName)) ∈ lw_all := lw_g (lw_at lw_m6 1 rfl) rfl
theorem q1268 : (Jvm.Cond.unhidden "PluralBranches$Gendered" "held" "(I)J") ∈ lw_tbl := lw_at lw_m6 2 rfl
theorem q1269 : (Jvm.Cond.instanceMethod ({ cls := "PluralBranches$Gendered", name := "held", desc := "(I)J" } : Jvm.MethodName)) ∈ lw_all := lw_g (lw_at lw_m6 3 rfl) rfl
theorem q1270 : (Jvm.Cond.publicMethod ({ cls := "PluralBranches$Gendered", name := "held", desc := "(I)J" } : Jvm.MethodName)) ∈ lw_tbl := lw_at lw_m6 4 rfl
theorem q1271 : (Jvm.Cond.code ({ cls := "PluralBranches$Gendered", name := "held", desc := "(I)J" } : Jvm.MethodName) prog_10_method_4_code (2 : Nat) (Option.some Jvm.ClassFile.FieldType.long)) ∈ lw_all := lw_g (lw_at lw_m6 5 rfl) rfl
theorem q1272 : (Jvm.Cond.constantLong "PluralBranches$Gendered" (29 : Nat) (-9223372036854775808 : Int64)) ∈ lw_all := lw_g (lw_at lw_m6 6 rfl) rfl
theorem q1320 : (Jvm.Cond.unhidden "PluralBranches$Gendered" "decimal" "(I)LPluralBranches$Decimal;") ∈ lw_tbl := lw_at lw_m6 54 rfl
theorem q1469 : (Jvm.Cond.selects "PluralBranches$Gendered" ({ cls := "PluralBranches$Thing", name := "write", desc := "(LPluralBranches$Sheet;)V" } : Jvm.MethodName) ({ cls := "PluralBranches$Gendered", name := "write", desc := "(LPluralBranches$Sheet;)V" } : Jvm.MethodName)) ∈ lw_all := lw_g (lw_at lw_m6 203 rfl) rfl
theorem q1470 : (Jvm.Cond.unhidden "PluralBranches$Gendered" "write" "(LPluralBranches$Sheet;)V") ∈ lw_tbl := lw_at lw_m6 204 rfl
theorem q1471 : (Jvm.Cond.instanceMethod ({ cls := "PluralBranches$Gendered", name := "write", desc := "(LPluralBranches$Sheet;)V" } : Jvm.MethodName)) ∈ lw_all := lw_g (lw_at lw_m6 205 rfl) rfl
theorem q1472 : (Jvm.Cond.publicMethod ({ cls := "PluralBranches$Gendered", name := "write", desc := "(LPluralBranches$Sheet;)V" } : Jvm.MethodName)) ∈ lw_tbl := lw_at lw_m6 206 rfl
theorem q1473 : (Jvm.Cond.code ({ cls := "PluralBranches$Gendered", name := "write", desc := "(LPluralBranches$Sheet;)V" } : Jvm.MethodName) prog_10_method_3_code (2 : Nat) (Option.none : Option Jvm.ClassFile.FieldType)) ∈ lw_all := lw_g (lw_at lw_m6 207 rfl) rfl
theorem q1474 : (Jvm.Cond.stringRef "PluralBranches$Gendered" (15 : Nat) "mfn") ∈ lw_tbl := lw_at lw_m6 208 rfl
theorem q1475 : (Jvm.Cond.methodLink "PluralBranches$Gendered" (17 : Nat) ({ cls := "java/lang/String", name := "charAt", desc := "(I)C" } : Jvm.MethodName)) ∈ lw_all := lw_g (lw_at lw_m6 209 rfl) rfl
theorem q1493 : (Jvm.Cond.methodLink "PluralBranches$Gendered" (23 : Nat) ({ cls := "PluralBranches$Sheet", name := "put", desc := "(I)V" } : Jvm.MethodName)) ∈ lw_all := lw_g (lw_at lw_m6 227 rfl) rfl
theorem q2303 : (Jvm.Cond.castable "PluralBranches$Gendered" "java/lang/Object") ∈ lw_tbl := lw_at lw_m10 77 rfl
theorem in_X26 : ∀ w ∈ wsX260, w ∈ lw_all := lw_in wsX260 [1196] (by decide +kernel) (by decide +kernel)
/-! PluralBranches$Listed -/
set_option maxRecDepth 100000
def RX27 : String := "PluralBranches$Listed"
def TX27 : u_T := fun k => match k with
  | _ => ("PluralBranches$Listed", "its", "[I", true)
def tyX27 : Nat → FieldType := fun k => match k with
  | _ => .array .int
abbrev wsX270 : List Cond := u_ws RX27 TX27 1
theorem nmX27 : ∀ a, a < 1 → ∀ b, b < 1 → a ≠ b → (TX27 a).2.1 ≠ (TX27 b).2.1 := by decide +kernel
theorem tyX27_ok : ∀ k, k < 1 → parseFieldDescriptor (TX27 k).2.2.1 = some (tyX27 k) := by decide +kernel
abbrev cX27_init : ByteArray := prog_15_method_1_code
def yX27_init : MethodName := ⟨RX27, "<init>", "([I)V"⟩
def dkwX27_init_0 : List UInt8 := [42, 183, 0, 3, 42, 43, 181, 0, 9, 177]
abbrev dktX27_init_0 : List UInt8 := dkwX27_init_0 ++ []
theorem dksX27_init_0 : cX27_init.data.toList.drop 0 = dktX27_init_0 := by decide +kernel
theorem dX27_init_0 : decode cX27_init 0 = .ok (.aload_n 0, 1) := dk_42 (dk_at dksX27_init_0 0 rfl rfl)
theorem dX27_init_1 : decode cX27_init 1 = .ok (.invokespecial 3, 3) := dk_183 0 3 (dk_at dksX27_init_0 1 rfl rfl)
theorem dX27_init_4 : decode cX27_init 4 = .ok (.aload_n 0, 1) := dk_42 (dk_at dksX27_init_0 4 rfl rfl)
theorem dX27_init_5 : decode cX27_init 5 = .ok (.aload_n 1, 1) := dk_43 (dk_at dksX27_init_0 5 rfl rfl)
theorem dX27_init_6 : decode cX27_init 6 = .ok (.putfield 9, 3) := dk_181 0 9 (dk_at dksX27_init_0 6 rfl rfl)
theorem dX27_init_9 : decode cX27_init 9 = .ok (.return_, 1) := dk_177 (dk_at dksX27_init_0 9 rfl rfl)
abbrev cX27_with : ByteArray := prog_15_method_2_code
def yX27_with : MethodName := ⟨RX27, "with", "(I)LPluralBranches$Listed;"⟩
def dkwX27_with_1 : List UInt8 := [184, 0, 15, 44, 42, 180, 0, 9, 190, 27, 79, 187, 0, 10, 89, 44, 183, 0, 21, 176]
abbrev dktX27_with_1 : List UInt8 := dkwX27_with_1 ++ []
def dkwX27_with_0 : List UInt8 := [42, 180, 0, 9, 190, 4, 96, 188, 10, 77, 42, 180, 0, 9, 3, 44, 3, 42, 180, 0, 9, 190]
abbrev dktX27_with_0 : List UInt8 := dkwX27_with_0 ++ dktX27_with_1
theorem dksX27_with_0 : cX27_with.data.toList.drop 0 = dktX27_with_0 := by decide +kernel
theorem dksX27_with_1 : cX27_with.data.toList.drop 22 = dktX27_with_1 := dk_seg dksX27_with_0 22 rfl rfl
theorem dX27_with_0 : decode cX27_with 0 = .ok (.aload_n 0, 1) := dk_42 (dk_at dksX27_with_0 0 rfl rfl)
theorem dX27_with_1 : decode cX27_with 1 = .ok (.getfield 9, 3) := dk_180 0 9 (dk_at dksX27_with_0 1 rfl rfl)
theorem dX27_with_4 : decode cX27_with 4 = .ok (.arraylength, 1) := dk_190 (dk_at dksX27_with_0 4 rfl rfl)
theorem dX27_with_5 : decode cX27_with 5 = .ok (.iconst 1, 1) := dk_4 (dk_at dksX27_with_0 5 rfl rfl)
theorem dX27_with_6 : decode cX27_with 6 = .ok (.iadd, 1) := dk_96 (dk_at dksX27_with_0 6 rfl rfl)
theorem dX27_with_7 : decode cX27_with 7 = .ok (.newarray .int, 2) := dk_188_10 (dk_at dksX27_with_0 7 rfl rfl)
theorem dX27_with_9 : decode cX27_with 9 = .ok (.astore_n 2, 1) := dk_77 (dk_at dksX27_with_0 9 rfl rfl)
theorem dX27_with_10 : decode cX27_with 10 = .ok (.aload_n 0, 1) := dk_42 (dk_at dksX27_with_0 10 rfl rfl)
theorem dX27_with_11 : decode cX27_with 11 = .ok (.getfield 9, 3) := dk_180 0 9 (dk_at dksX27_with_0 11 rfl rfl)
theorem dX27_with_14 : decode cX27_with 14 = .ok (.iconst 0, 1) := dk_3 (dk_at dksX27_with_0 14 rfl rfl)
theorem dX27_with_15 : decode cX27_with 15 = .ok (.aload_n 2, 1) := dk_44 (dk_at dksX27_with_0 15 rfl rfl)
theorem dX27_with_16 : decode cX27_with 16 = .ok (.iconst 0, 1) := dk_3 (dk_at dksX27_with_0 16 rfl rfl)
theorem dX27_with_17 : decode cX27_with 17 = .ok (.aload_n 0, 1) := dk_42 (dk_at dksX27_with_0 17 rfl rfl)
theorem dX27_with_18 : decode cX27_with 18 = .ok (.getfield 9, 3) := dk_180 0 9 (dk_at dksX27_with_0 18 rfl rfl)
theorem dX27_with_21 : decode cX27_with 21 = .ok (.arraylength, 1) := dk_190 (dk_at dksX27_with_0 21 rfl rfl)
theorem dX27_with_22 : decode cX27_with 22 = .ok (.invokestatic 15, 3) := dk_184 0 15 (dk_at dksX27_with_1 0 rfl rfl)
theorem dX27_with_25 : decode cX27_with 25 = .ok (.aload_n 2, 1) := dk_44 (dk_at dksX27_with_1 3 rfl rfl)
theorem dX27_with_26 : decode cX27_with 26 = .ok (.aload_n 0, 1) := dk_42 (dk_at dksX27_with_1 4 rfl rfl)
theorem dX27_with_27 : decode cX27_with 27 = .ok (.getfield 9, 3) := dk_180 0 9 (dk_at dksX27_with_1 5 rfl rfl)
theorem dX27_with_30 : decode cX27_with 30 = .ok (.arraylength, 1) := dk_190 (dk_at dksX27_with_1 8 rfl rfl)
theorem dX27_with_31 : decode cX27_with 31 = .ok (.iload_n 1, 1) := dk_27 (dk_at dksX27_with_1 9 rfl rfl)
theorem dX27_with_32 : decode cX27_with 32 = .ok (.iastore, 1) := dk_79 (dk_at dksX27_with_1 10 rfl rfl)
theorem dX27_with_33 : decode cX27_with 33 = .ok (.new 10, 3) := dk_187 0 10 (dk_at dksX27_with_1 11 rfl rfl)
theorem dX27_with_36 : decode cX27_with 36 = .ok (.dup, 1) := dk_89 (dk_at dksX27_with_1 14 rfl rfl)
theorem dX27_with_37 : decode cX27_with 37 = .ok (.aload_n 2, 1) := dk_44 (dk_at dksX27_with_1 15 rfl rfl)
theorem dX27_with_38 : decode cX27_with 38 = .ok (.invokespecial 21, 3) := dk_183 0 21 (dk_at dksX27_with_1 16 rfl rfl)
theorem dX27_with_41 : decode cX27_with 41 = .ok (.areturn, 1) := dk_176 (dk_at dksX27_with_1 19 rfl rfl)
abbrev cX27_type : ByteArray := prog_15_method_3_code
def yX27_type : MethodName := ⟨RX27, "type", "()I"⟩
theorem dX27_type_0 : decode cX27_type 0 = .ok (.iconst 3, 1) := by decide +kernel
theorem dX27_type_1 : decode cX27_type 1 = .ok (.ireturn, 1) := by decide +kernel
abbrev cX27_held : ByteArray := prog_15_method_5_code
def yX27_held : MethodName := ⟨RX27, "held", "(I)J"⟩
def dkwX27_held_2 : List UInt8 := [20, 0, 49, 173]
abbrev dktX27_held_2 : List UInt8 := dkwX27_held_2 ++ []
def dkwX27_held_1 : List UInt8 := [6, 100, 42, 180, 0, 9, 190, 162, 0, 15, 42, 180, 0, 9, 27, 6, 100, 46, 133, 167, 0, 6]
abbrev dktX27_held_1 : List UInt8 := dkwX27_held_1 ++ dktX27_held_2
def dkwX27_held_0 : List UInt8 := [27, 4, 160, 0, 12, 42, 180, 0, 9, 190, 133, 167, 0, 38, 27, 5, 160, 0, 7, 9, 167, 0, 29, 27]
abbrev dktX27_held_0 : List UInt8 := dkwX27_held_0 ++ dktX27_held_1
theorem dksX27_held_0 : cX27_held.data.toList.drop 0 = dktX27_held_0 := by decide +kernel
theorem dksX27_held_1 : cX27_held.data.toList.drop 24 = dktX27_held_1 := dk_seg dksX27_held_0 24 rfl rfl
theorem dksX27_held_2 : cX27_held.data.toList.drop 46 = dktX27_held_2 := dk_seg dksX27_held_1 22 rfl rfl
theorem dX27_held_0 : decode cX27_held 0 = .ok (.iload_n 1, 1) := dk_27 (dk_at dksX27_held_0 0 rfl rfl)
theorem dX27_held_1 : decode cX27_held 1 = .ok (.iconst 1, 1) := dk_4 (dk_at dksX27_held_0 1 rfl rfl)
theorem dX27_held_2 : decode cX27_held 2 = .ok (.if_icmp .ne 12, 3) := dk_160 0 12 (dk_at dksX27_held_0 2 rfl rfl)
theorem dX27_held_5 : decode cX27_held 5 = .ok (.aload_n 0, 1) := dk_42 (dk_at dksX27_held_0 5 rfl rfl)
theorem dX27_held_6 : decode cX27_held 6 = .ok (.getfield 9, 3) := dk_180 0 9 (dk_at dksX27_held_0 6 rfl rfl)
theorem dX27_held_9 : decode cX27_held 9 = .ok (.arraylength, 1) := dk_190 (dk_at dksX27_held_0 9 rfl rfl)
theorem dX27_held_10 : decode cX27_held 10 = .ok (.i2l, 1) := dk_133 (dk_at dksX27_held_0 10 rfl rfl)
theorem dX27_held_11 : decode cX27_held 11 = .ok (.goto 38, 3) := dk_167 0 38 (dk_at dksX27_held_0 11 rfl rfl)
theorem dX27_held_14 : decode cX27_held 14 = .ok (.iload_n 1, 1) := dk_27 (dk_at dksX27_held_0 14 rfl rfl)
theorem dX27_held_15 : decode cX27_held 15 = .ok (.iconst 2, 1) := dk_5 (dk_at dksX27_held_0 15 rfl rfl)
theorem dX27_held_16 : decode cX27_held 16 = .ok (.if_icmp .ne 7, 3) := dk_160 0 7 (dk_at dksX27_held_0 16 rfl rfl)
theorem dX27_held_19 : decode cX27_held 19 = .ok (.lconst 0, 1) := dk_9 (dk_at dksX27_held_0 19 rfl rfl)
theorem dX27_held_20 : decode cX27_held 20 = .ok (.goto 29, 3) := dk_167 0 29 (dk_at dksX27_held_0 20 rfl rfl)
theorem dX27_held_23 : decode cX27_held 23 = .ok (.iload_n 1, 1) := dk_27 (dk_at dksX27_held_0 23 rfl rfl)
theorem dX27_held_24 : decode cX27_held 24 = .ok (.iconst 3, 1) := dk_6 (dk_at dksX27_held_1 0 rfl rfl)
theorem dX27_held_25 : decode cX27_held 25 = .ok (.isub, 1) := dk_100 (dk_at dksX27_held_1 1 rfl rfl)
theorem dX27_held_26 : decode cX27_held 26 = .ok (.aload_n 0, 1) := dk_42 (dk_at dksX27_held_1 2 rfl rfl)
theorem dX27_held_27 : decode cX27_held 27 = .ok (.getfield 9, 3) := dk_180 0 9 (dk_at dksX27_held_1 3 rfl rfl)
theorem dX27_held_30 : decode cX27_held 30 = .ok (.arraylength, 1) := dk_190 (dk_at dksX27_held_1 6 rfl rfl)
theorem dX27_held_31 : decode cX27_held 31 = .ok (.if_icmp .ge 15, 3) := dk_162 0 15 (dk_at dksX27_held_1 7 rfl rfl)
theorem dX27_held_34 : decode cX27_held 34 = .ok (.aload_n 0, 1) := dk_42 (dk_at dksX27_held_1 10 rfl rfl)
theorem dX27_held_35 : decode cX27_held 35 = .ok (.getfield 9, 3) := dk_180 0 9 (dk_at dksX27_held_1 11 rfl rfl)
theorem dX27_held_38 : decode cX27_held 38 = .ok (.iload_n 1, 1) := dk_27 (dk_at dksX27_held_1 14 rfl rfl)
theorem dX27_held_39 : decode cX27_held 39 = .ok (.iconst 3, 1) := dk_6 (dk_at dksX27_held_1 15 rfl rfl)
theorem dX27_held_40 : decode cX27_held 40 = .ok (.isub, 1) := dk_100 (dk_at dksX27_held_1 16 rfl rfl)
theorem dX27_held_41 : decode cX27_held 41 = .ok (.iaload, 1) := dk_46 (dk_at dksX27_held_1 17 rfl rfl)
theorem dX27_held_42 : decode cX27_held 42 = .ok (.i2l, 1) := dk_133 (dk_at dksX27_held_1 18 rfl rfl)
theorem dX27_held_43 : decode cX27_held 43 = .ok (.goto 6, 3) := dk_167 0 6 (dk_at dksX27_held_1 19 rfl rfl)
theorem dX27_held_46 : decode cX27_held 46 = .ok (.ldc2_w 49, 3) := dk_20 0 49 (dk_at dksX27_held_2 0 rfl rfl)
theorem dX27_held_49 : decode cX27_held 49 = .ok (.lreturn, 1) := dk_173 (dk_at dksX27_held_2 3 rfl rfl)
abbrev cX27_write : ByteArray := prog_15_method_4_code
def yX27_write : MethodName := ⟨RX27, "write", "(LPluralBranches$Sheet;)V"⟩
def dkwX27_write_3 : List UInt8 := [167, 255, 195, 177]
abbrev dktX27_write_3 : List UInt8 := dkwX27_write_3 ++ []
def dkwX27_write_2 : List UInt8 := [182, 0, 36, 43, 187, 0, 40, 89, 42, 180, 0, 9, 29, 46, 183, 0, 42, 182, 0, 45, 132, 3, 1]
abbrev dktX27_write_2 : List UInt8 := dkwX27_write_2 ++ dktX27_write_3
def dkwX27_write_1 : List UInt8 := [160, 0, 7, 3, 167, 0, 15, 29, 28, 4, 100, 160, 0, 7, 5, 167, 0, 4, 4, 182, 0, 30]
abbrev dktX27_write_1 : List UInt8 := dkwX27_write_1 ++ dktX27_write_2
def dkwX27_write_0 : List UInt8 := [42, 180, 0, 9, 190, 61, 3, 62, 29, 28, 162, 0, 62, 29, 158, 0, 35, 43, 43, 180, 0, 24, 28, 5]
abbrev dktX27_write_0 : List UInt8 := dkwX27_write_0 ++ dktX27_write_1
theorem dksX27_write_0 : cX27_write.data.toList.drop 0 = dktX27_write_0 := by decide +kernel
theorem dksX27_write_1 : cX27_write.data.toList.drop 24 = dktX27_write_1 := dk_seg dksX27_write_0 24 rfl rfl
theorem dksX27_write_2 : cX27_write.data.toList.drop 46 = dktX27_write_2 := dk_seg dksX27_write_1 22 rfl rfl
theorem dksX27_write_3 : cX27_write.data.toList.drop 69 = dktX27_write_3 := dk_seg dksX27_write_2 23 rfl rfl
theorem dX27_write_0 : decode cX27_write 0 = .ok (.aload_n 0, 1) := dk_42 (dk_at dksX27_write_0 0 rfl rfl)
theorem dX27_write_1 : decode cX27_write 1 = .ok (.getfield 9, 3) := dk_180 0 9 (dk_at dksX27_write_0 1 rfl rfl)
theorem dX27_write_4 : decode cX27_write 4 = .ok (.arraylength, 1) := dk_190 (dk_at dksX27_write_0 4 rfl rfl)
theorem dX27_write_5 : decode cX27_write 5 = .ok (.istore_n 2, 1) := dk_61 (dk_at dksX27_write_0 5 rfl rfl)
theorem dX27_write_6 : decode cX27_write 6 = .ok (.iconst 0, 1) := dk_3 (dk_at dksX27_write_0 6 rfl rfl)
theorem dX27_write_7 : decode cX27_write 7 = .ok (.istore_n 3, 1) := dk_62 (dk_at dksX27_write_0 7 rfl rfl)
theorem dX27_write_8 : decode cX27_write 8 = .ok (.iload_n 3, 1) := dk_29 (dk_at dksX27_write_0 8 rfl rfl)
theorem dX27_write_9 : decode cX27_write 9 = .ok (.iload_n 2, 1) := dk_28 (dk_at dksX27_write_0 9 rfl rfl)
theorem dX27_write_10 : decode cX27_write 10 = .ok (.if_icmp .ge 62, 3) := dk_162 0 62 (dk_at dksX27_write_0 10 rfl rfl)
theorem dX27_write_13 : decode cX27_write 13 = .ok (.iload_n 3, 1) := dk_29 (dk_at dksX27_write_0 13 rfl rfl)
theorem dX27_write_14 : decode cX27_write 14 = .ok (.ifCond .le 35, 3) := dk_158 0 35 (dk_at dksX27_write_0 14 rfl rfl)
theorem dX27_write_17 : decode cX27_write 17 = .ok (.aload_n 1, 1) := dk_43 (dk_at dksX27_write_0 17 rfl rfl)
theorem dX27_write_18 : decode cX27_write 18 = .ok (.aload_n 1, 1) := dk_43 (dk_at dksX27_write_0 18 rfl rfl)
theorem dX27_write_19 : decode cX27_write 19 = .ok (.getfield 24, 3) := dk_180 0 24 (dk_at dksX27_write_0 19 rfl rfl)
theorem dX27_write_22 : decode cX27_write 22 = .ok (.iload_n 2, 1) := dk_28 (dk_at dksX27_write_0 22 rfl rfl)
theorem dX27_write_23 : decode cX27_write 23 = .ok (.iconst 2, 1) := dk_5 (dk_at dksX27_write_0 23 rfl rfl)
theorem dX27_write_24 : decode cX27_write 24 = .ok (.if_icmp .ne 7, 3) := dk_160 0 7 (dk_at dksX27_write_1 0 rfl rfl)
theorem dX27_write_27 : decode cX27_write 27 = .ok (.iconst 0, 1) := dk_3 (dk_at dksX27_write_1 3 rfl rfl)
theorem dX27_write_28 : decode cX27_write 28 = .ok (.goto 15, 3) := dk_167 0 15 (dk_at dksX27_write_1 4 rfl rfl)
theorem dX27_write_31 : decode cX27_write 31 = .ok (.iload_n 3, 1) := dk_29 (dk_at dksX27_write_1 7 rfl rfl)
theorem dX27_write_32 : decode cX27_write 32 = .ok (.iload_n 2, 1) := dk_28 (dk_at dksX27_write_1 8 rfl rfl)
theorem dX27_write_33 : decode cX27_write 33 = .ok (.iconst 1, 1) := dk_4 (dk_at dksX27_write_1 9 rfl rfl)
theorem dX27_write_34 : decode cX27_write 34 = .ok (.isub, 1) := dk_100 (dk_at dksX27_write_1 10 rfl rfl)
theorem dX27_write_35 : decode cX27_write 35 = .ok (.if_icmp .ne 7, 3) := dk_160 0 7 (dk_at dksX27_write_1 11 rfl rfl)
theorem dX27_write_38 : decode cX27_write 38 = .ok (.iconst 2, 1) := dk_5 (dk_at dksX27_write_1 14 rfl rfl)
theorem dX27_write_39 : decode cX27_write 39 = .ok (.goto 4, 3) := dk_167 0 4 (dk_at dksX27_write_1 15 rfl rfl)
theorem dX27_write_42 : decode cX27_write 42 = .ok (.iconst 1, 1) := dk_4 (dk_at dksX27_write_1 18 rfl rfl)
theorem dX27_write_43 : decode cX27_write 43 = .ok (.invokevirtual 30, 3) := dk_182 0 30 (dk_at dksX27_write_1 19 rfl rfl)
theorem dX27_write_46 : decode cX27_write 46 = .ok (.invokevirtual 36, 3) := dk_182 0 36 (dk_at dksX27_write_2 0 rfl rfl)
theorem dX27_write_49 : decode cX27_write 49 = .ok (.aload_n 1, 1) := dk_43 (dk_at dksX27_write_2 3 rfl rfl)
theorem dX27_write_50 : decode cX27_write 50 = .ok (.new 40, 3) := dk_187 0 40 (dk_at dksX27_write_2 4 rfl rfl)
theorem dX27_write_53 : decode cX27_write 53 = .ok (.dup, 1) := dk_89 (dk_at dksX27_write_2 7 rfl rfl)
theorem dX27_write_54 : decode cX27_write 54 = .ok (.aload_n 0, 1) := dk_42 (dk_at dksX27_write_2 8 rfl rfl)
theorem dX27_write_55 : decode cX27_write 55 = .ok (.getfield 9, 3) := dk_180 0 9 (dk_at dksX27_write_2 9 rfl rfl)
theorem dX27_write_58 : decode cX27_write 58 = .ok (.iload_n 3, 1) := dk_29 (dk_at dksX27_write_2 12 rfl rfl)
theorem dX27_write_59 : decode cX27_write 59 = .ok (.iaload, 1) := dk_46 (dk_at dksX27_write_2 13 rfl rfl)
theorem dX27_write_60 : decode cX27_write 60 = .ok (.invokespecial 42, 3) := dk_183 0 42 (dk_at dksX27_write_2 14 rfl rfl)
theorem dX27_write_63 : decode cX27_write 63 = .ok (.invokevirtual 45, 3) := dk_182 0 45 (dk_at dksX27_write_2 17 rfl rfl)
theorem dX27_write_66 : decode cX27_write 66 = .ok (.iinc 3 1, 3) := dk_132 3 1 (dk_at dksX27_write_2 20 rfl rfl)
theorem dX27_write_69 : decode cX27_write 69 = .ok (.goto (-61), 3) := dk_167 255 195 (dk_at dksX27_write_3 0 rfl rfl)
theorem dX27_write_72 : decode cX27_write 72 = .ok (.return_, 1) := dk_177 (dk_at dksX27_write_3 3 rfl rfl)
theorem q111 : (Jvm.Cond.initialized "PluralBranches$Listed") ∈ lw_all := lw_g (lw_at lw_m1 45 rfl) rfl
theorem q256 : (Jvm.Cond.selects "PluralBranches$Listed" ({ cls := "java/lang/Object", name := "getClass", desc := "()Ljava/lang/Class;" } : Jvm.MethodName) ({ cls := "java/lang/Object", name := "getClass", desc := "()Ljava/lang/Class;" } : Jvm.MethodName)) ∈ lw_all := lw_g (lw_at lw_m1 190 rfl) rfl
theorem q1207 : (Jvm.Cond.instantiable "PluralBranches$Listed" (1 : Nat)) ∈ lw_all := lw_g (lw_at lw_m5 181 rfl) rfl
theorem q1209 : (Jvm.Cond.instanceMethod ({ cls := "PluralBranches$Listed", name := "<init>", desc := "([I)V" } : Jvm.MethodName)) ∈ lw_all := lw_g (lw_at lw_m5 183 rfl) rfl
theorem q1210 : (Jvm.Cond.code ({ cls := "PluralBranches$Listed", name := "<init>", desc := "([I)V" } : Jvm.MethodName) prog_15_method_1_code (2 : Nat) (Option.none : Option Jvm.ClassFile.FieldType)) ∈ lw_all := lw_g (lw_at lw_m5 184 rfl) rfl
theorem q1211 : (Jvm.Cond.methodLink "PluralBranches$Listed" (3 : Nat) ({ cls := "java/lang/Object", name := "<init>", desc := "()V" } : Jvm.MethodName)) ∈ lw_all := lw_g (lw_at lw_m5 185 rfl) rfl
theorem q1212 : (Jvm.Cond.fieldLink "PluralBranches$Listed" (9 : Nat) "PluralBranches$Listed" "its" "[I") ∈ lw_all := lw_g (lw_at lw_m5 186 rfl) rfl
theorem q1214 : (Jvm.Cond.laysFinal "PluralBranches$Listed" "PluralBranches$Listed" "its" "[I") ∈ lw_all := lw_g (lw_at lw_m5 188 rfl) rfl
theorem q1215 : (Jvm.Cond.soleField "PluralBranches$Listed" "its") ∈ lw_all := lw_g (lw_at lw_m5 189 rfl) rfl
theorem q1216 : (Jvm.Cond.superclass "PluralBranches$Listed" "java/lang/Object") ∈ lw_all := lw_g (lw_at lw_m5 190 rfl) rfl
theorem q1218 : (Jvm.Cond.instanceMethod ({ cls := "PluralBranches$Listed", name := "with", desc := "(I)LPluralBranches$Listed;" } : Jvm.MethodName)) ∈ lw_all := lw_g (lw_at lw_m5 192 rfl) rfl
theorem q1219 : (Jvm.Cond.selects "PluralBranches$Listed" ({ cls := "PluralBranches$Listed", name := "with", desc := "(I)LPluralBranches$Listed;" } : Jvm.MethodName) ({ cls := "PluralBranches$Listed", name := "with", desc := "(I)LPluralBranches$Listed;" } : Jvm.MethodName)) ∈ lw_all := lw_g (lw_at lw_m5 193 rfl) rfl
theorem q1220 : (Jvm.Cond.code ({ cls := "PluralBranches$Listed", name := "with", desc := "(I)LPluralBranches$Listed;" } : Jvm.MethodName) prog_15_method_2_code (3 : Nat) (Option.some (Jvm.ClassFile.FieldType.object "PluralBranches$Listed"))) ∈ lw_all := lw_g (lw_at lw_m5 194 rfl) rfl
theorem q1221 : (Jvm.Cond.methodLink "PluralBranches$Listed" (15 : Nat) ({ cls := "java/lang/System", name := "arraycopy", desc := "(Ljava/lang/Object;ILjava/lang/Object;II)V" } : Jvm.MethodName)) ∈ lw_all := lw_g (lw_at lw_m5 195 rfl) rfl
theorem q1222 : (Jvm.Cond.classLink "PluralBranches$Listed" (10 : Nat) "PluralBranches$Listed") ∈ lw_all := lw_g (lw_at lw_m5 196 rfl) rfl
theorem q1223 : (Jvm.Cond.methodLink "PluralBranches$Listed" (21 : Nat) ({ cls := "PluralBranches$Listed", name := "<init>", desc := "([I)V" } : Jvm.MethodName)) ∈ lw_all := lw_g (lw_at lw_m5 197 rfl) rfl
theorem q1246 : (Jvm.Cond.castable "PluralBranches$Listed" "PluralBranches$Thing") ∈ lw_tbl := lw_at lw_m5 220 rfl
theorem q1247 : (Jvm.Cond.selects "PluralBranches$Listed" ({ cls := "PluralBranches$Thing", name := "type", desc := "()I" } : Jvm.MethodName) ({ cls := "PluralBranches$Listed", name := "type", desc := "()I" } : Jvm.MethodName)) ∈ lw_all := lw_g (lw_at lw_m5 221 rfl) rfl
theorem q1248 : (Jvm.Cond.unhidden "PluralBranches$Listed" "type" "()I") ∈ lw_tbl := lw_at lw_m5 222 rfl
theorem q1249 : (Jvm.Cond.instanceMethod ({ cls := "PluralBranches$Listed", name := "type", desc := "()I" } : Jvm.MethodName)) ∈ lw_all := lw_g (lw_at lw_m5 223 rfl) rfl
theorem q1250 : (Jvm.Cond.publicMethod ({ cls := "PluralBranches$Listed", name := "type", desc := "()I" } : Jvm.MethodName)) ∈ lw_tbl := lw_at lw_m5 224 rfl
theorem q1251 : (Jvm.Cond.code ({ cls := "PluralBranches$Listed", name := "type", desc := "()I" } : Jvm.MethodName) prog_15_method_3_code (1 : Nat) (Option.some Jvm.ClassFile.FieldType.int)) ∈ lw_all := lw_g (lw_at lw_m5 225 rfl) rfl
theorem q1273 : (Jvm.Cond.selects "PluralBranches$Listed" ({ cls := "PluralBranches$Thing", name := "held", desc := "(I)J" } : Jvm.MethodName) ({ cls := "PluralBranches$Listed", name := "held", desc := "(I)J" } : Jvm.MethodName)) ∈ lw_all := lw_g (lw_at lw_m6 7 rfl) rfl
theorem q1274 : (Jvm.Cond.unhidden "PluralBranches$Listed" "held" "(I)J") ∈ lw_tbl := lw_at lw_m6 8 rfl
theorem q1275 : (Jvm.Cond.instanceMethod ({ cls := "PluralBranches$Listed", name := "held", desc := "(I)J" } : Jvm.MethodName)) ∈ lw_all := lw_g (lw_at lw_m6 9 rfl) rfl
theorem q1276 : (Jvm.Cond.publicMethod ({ cls := "PluralBranches$Listed", name := "held", desc := "(I)J" } : Jvm.MethodName)) ∈ lw_tbl := lw_at lw_m6 10 rfl
theorem q1277 : (Jvm.Cond.code ({ cls := "PluralBranches$Listed", name := "held", desc := "(I)J" } : Jvm.MethodName) prog_15_method_5_code (2 : Nat) (Option.some Jvm.ClassFile.FieldType.long)) ∈ lw_all := lw_g (lw_at lw_m6 11 rfl) rfl
theorem q1278 : (Jvm.Cond.constantLong "PluralBranches$Listed" (49 : Nat) (-9223372036854775808 : Int64)) ∈ lw_all := lw_g (lw_at lw_m6 12 rfl) rfl
theorem q1326 : (Jvm.Cond.unhidden "PluralBranches$Listed" "decimal" "(I)LPluralBranches$Decimal;") ∈ lw_tbl := lw_at lw_m6 60 rfl
theorem q1377 : (Jvm.Cond.fieldLinkNest "PluralBranches$Listed" (24 : Nat) "PluralBranches$Sheet" "language" "LPluralBranches$Language;" "PluralBranches") ∈ lw_tbl := lw_at lw_m6 111 rfl
theorem q1494 : (Jvm.Cond.selects "PluralBranches$Listed" ({ cls := "PluralBranches$Thing", name := "write", desc := "(LPluralBranches$Sheet;)V" } : Jvm.MethodName) ({ cls := "PluralBranches$Listed", name := "write", desc := "(LPluralBranches$Sheet;)V" } : Jvm.MethodName)) ∈ lw_all := lw_g (lw_at lw_m6 228 rfl) rfl
theorem q1495 : (Jvm.Cond.unhidden "PluralBranches$Listed" "write" "(LPluralBranches$Sheet;)V") ∈ lw_tbl := lw_at lw_m6 229 rfl
theorem q1496 : (Jvm.Cond.instanceMethod ({ cls := "PluralBranches$Listed", name := "write", desc := "(LPluralBranches$Sheet;)V" } : Jvm.MethodName)) ∈ lw_all := lw_g (lw_at lw_m6 230 rfl) rfl
theorem q1497 : (Jvm.Cond.publicMethod ({ cls := "PluralBranches$Listed", name := "write", desc := "(LPluralBranches$Sheet;)V" } : Jvm.MethodName)) ∈ lw_tbl := lw_at lw_m6 231 rfl
theorem q1498 : (Jvm.Cond.code ({ cls := "PluralBranches$Listed", name := "write", desc := "(LPluralBranches$Sheet;)V" } : Jvm.MethodName) prog_15_method_4_code (4 : Nat) (Option.none : Option Jvm.ClassFile.FieldType)) ∈ lw_all := lw_g (lw_at lw_m6 232 rfl) rfl
theorem q1499 : (Jvm.Cond.methodLink "PluralBranches$Listed" (30 : Nat) ({ cls := "PluralBranches$Language", name := "joiner", desc := "(I)Ljava/lang/String;" } : Jvm.MethodName)) ∈ lw_all := lw_g (lw_at lw_m6 233 rfl) rfl
theorem q1523 : (Jvm.Cond.methodLink "PluralBranches$Listed" (36 : Nat) ({ cls := "PluralBranches$Sheet", name := "puts", desc := "(Ljava/lang/String;)V" } : Jvm.MethodName)) ∈ lw_all := lw_g (lw_at lw_m7 17 rfl) rfl
theorem q1529 : (Jvm.Cond.classLink "PluralBranches$Listed" (40 : Nat) "PluralBranches$Decimal") ∈ lw_all := lw_g (lw_at lw_m7 23 rfl) rfl
theorem q1530 : (Jvm.Cond.methodLink "PluralBranches$Listed" (42 : Nat) ({ cls := "PluralBranches$Decimal", name := "<init>", desc := "(I)V" } : Jvm.MethodName)) ∈ lw_all := lw_g (lw_at lw_m7 24 rfl) rfl
theorem q1531 : (Jvm.Cond.methodLink "PluralBranches$Listed" (45 : Nat) ({ cls := "PluralBranches$Sheet", name := "plainly", desc := "(LPluralBranches$Decimal;)V" } : Jvm.MethodName)) ∈ lw_all := lw_g (lw_at lw_m7 25 rfl) rfl
theorem q2304 : (Jvm.Cond.castable "PluralBranches$Listed" "java/lang/Object") ∈ lw_tbl := lw_at lw_m10 78 rfl
theorem in_X27 : ∀ w ∈ wsX270, w ∈ lw_all := lw_in wsX270 [1214] (by decide +kernel) (by decide +kernel)
/-! PluralBranches$Sheet -/
set_option maxRecDepth 100000
def RX28 : String := "PluralBranches$Sheet"
def TX28 : u_T := fun k => match k with
  | 0 => ("PluralBranches$Sheet", "bytes", "[B", true)
  | 1 => ("PluralBranches$Sheet", "size", "I", false)
  | 2 => ("PluralBranches$Sheet", "language", "LPluralBranches$Language;", true)
  | 3 => ("PluralBranches$Sheet", "things", "[LPluralBranches$Thing;", true)
  | _ => ("PluralBranches$Sheet", "nearest", "LPluralBranches$Decimal;", false)
def tyX28 : Nat → FieldType := fun k => match k with
  | 0 => .array .byte
  | 1 => .int
  | 2 => .object "PluralBranches$Language"
  | 3 => .array (.object "PluralBranches$Thing")
  | _ => .object "PluralBranches$Decimal"
abbrev wsX280 : List Cond := u_ws RX28 TX28 5
theorem nmX28 : ∀ a, a < 5 → ∀ b, b < 5 → a ≠ b → (TX28 a).2.1 ≠ (TX28 b).2.1 := by decide +kernel
theorem tyX28_ok : ∀ k, k < 5 → parseFieldDescriptor (TX28 k).2.2.1 = some (tyX28 k) := by decide +kernel
abbrev cX28_init : ByteArray := prog_26_method_1_code
def yX28_init : MethodName := ⟨RX28, "<init>", "(LPluralBranches$Language;[LPluralBranches$Thing;)V"⟩
def dkwX28_init_0 : List UInt8 := [42, 183, 0, 3, 42, 17, 1, 104, 188, 8, 181, 0, 9, 42, 43, 181, 0, 15, 42, 44, 181, 0, 19, 177]
abbrev dktX28_init_0 : List UInt8 := dkwX28_init_0 ++ []
theorem dksX28_init_0 : cX28_init.data.toList.drop 0 = dktX28_init_0 := by decide +kernel
theorem dX28_init_0 : decode cX28_init 0 = .ok (.aload_n 0, 1) := dk_42 (dk_at dksX28_init_0 0 rfl rfl)
theorem dX28_init_1 : decode cX28_init 1 = .ok (.invokespecial 3, 3) := dk_183 0 3 (dk_at dksX28_init_0 1 rfl rfl)
theorem dX28_init_4 : decode cX28_init 4 = .ok (.aload_n 0, 1) := dk_42 (dk_at dksX28_init_0 4 rfl rfl)
theorem dX28_init_5 : decode cX28_init 5 = .ok (.sipush 360, 3) := dk_17 1 104 (dk_at dksX28_init_0 5 rfl rfl)
theorem dX28_init_8 : decode cX28_init 8 = .ok (.newarray .byte, 2) := dk_188_8 (dk_at dksX28_init_0 8 rfl rfl)
theorem dX28_init_10 : decode cX28_init 10 = .ok (.putfield 9, 3) := dk_181 0 9 (dk_at dksX28_init_0 10 rfl rfl)
theorem dX28_init_13 : decode cX28_init 13 = .ok (.aload_n 0, 1) := dk_42 (dk_at dksX28_init_0 13 rfl rfl)
theorem dX28_init_14 : decode cX28_init 14 = .ok (.aload_n 1, 1) := dk_43 (dk_at dksX28_init_0 14 rfl rfl)
theorem dX28_init_15 : decode cX28_init 15 = .ok (.putfield 15, 3) := dk_181 0 15 (dk_at dksX28_init_0 15 rfl rfl)
theorem dX28_init_18 : decode cX28_init 18 = .ok (.aload_n 0, 1) := dk_42 (dk_at dksX28_init_0 18 rfl rfl)
theorem dX28_init_19 : decode cX28_init 19 = .ok (.aload_n 2, 1) := dk_44 (dk_at dksX28_init_0 19 rfl rfl)
theorem dX28_init_20 : decode cX28_init 20 = .ok (.putfield 19, 3) := dk_181 0 19 (dk_at dksX28_init_0 20 rfl rfl)
theorem dX28_init_23 : decode cX28_init 23 = .ok (.return_, 1) := dk_177 (dk_at dksX28_init_0 23 rfl rfl)
abbrev cX28_plainly : ByteArray := prog_26_method_5_code
def yX28_plainly : MethodName := ⟨RX28, "plainly", "(LPluralBranches$Decimal;)V"⟩
def dkwX28_plainly_2 : List UInt8 := [180, 0, 66, 182, 0, 62, 177]
abbrev dktX28_plainly_2 : List UInt8 := dkwX28_plainly_2 ++ []
def dkwX28_plainly_1 : List UInt8 := [180, 0, 66, 158, 0, 26, 42, 42, 180, 0, 15, 182, 0, 69, 182, 0, 37, 42, 43, 180, 0, 74, 43]
abbrev dktX28_plainly_1 : List UInt8 := dkwX28_plainly_1 ++ dktX28_plainly_2
def dkwX28_plainly_0 : List UInt8 := [43, 180, 0, 53, 156, 0, 9, 42, 16, 45, 182, 0, 37, 42, 43, 180, 0, 58, 4, 182, 0, 62, 43]
abbrev dktX28_plainly_0 : List UInt8 := dkwX28_plainly_0 ++ dktX28_plainly_1
theorem dksX28_plainly_0 : cX28_plainly.data.toList.drop 0 = dktX28_plainly_0 := by decide +kernel
theorem dksX28_plainly_1 : cX28_plainly.data.toList.drop 23 = dktX28_plainly_1 := dk_seg dksX28_plainly_0 23 rfl rfl
theorem dksX28_plainly_2 : cX28_plainly.data.toList.drop 46 = dktX28_plainly_2 := dk_seg dksX28_plainly_1 23 rfl rfl
theorem dX28_plainly_0 : decode cX28_plainly 0 = .ok (.aload_n 1, 1) := dk_43 (dk_at dksX28_plainly_0 0 rfl rfl)
theorem dX28_plainly_1 : decode cX28_plainly 1 = .ok (.getfield 53, 3) := dk_180 0 53 (dk_at dksX28_plainly_0 1 rfl rfl)
theorem dX28_plainly_4 : decode cX28_plainly 4 = .ok (.ifCond .ge 9, 3) := dk_156 0 9 (dk_at dksX28_plainly_0 4 rfl rfl)
theorem dX28_plainly_7 : decode cX28_plainly 7 = .ok (.aload_n 0, 1) := dk_42 (dk_at dksX28_plainly_0 7 rfl rfl)
theorem dX28_plainly_8 : decode cX28_plainly 8 = .ok (.bipush 45, 2) := dk_16 45 (dk_at dksX28_plainly_0 8 rfl rfl)
theorem dX28_plainly_10 : decode cX28_plainly 10 = .ok (.invokevirtual 37, 3) := dk_182 0 37 (dk_at dksX28_plainly_0 10 rfl rfl)
theorem dX28_plainly_13 : decode cX28_plainly 13 = .ok (.aload_n 0, 1) := dk_42 (dk_at dksX28_plainly_0 13 rfl rfl)
theorem dX28_plainly_14 : decode cX28_plainly 14 = .ok (.aload_n 1, 1) := dk_43 (dk_at dksX28_plainly_0 14 rfl rfl)
theorem dX28_plainly_15 : decode cX28_plainly 15 = .ok (.getfield 58, 3) := dk_180 0 58 (dk_at dksX28_plainly_0 15 rfl rfl)
theorem dX28_plainly_18 : decode cX28_plainly 18 = .ok (.iconst 1, 1) := dk_4 (dk_at dksX28_plainly_0 18 rfl rfl)
theorem dX28_plainly_19 : decode cX28_plainly 19 = .ok (.invokevirtual 62, 3) := dk_182 0 62 (dk_at dksX28_plainly_0 19 rfl rfl)
theorem dX28_plainly_22 : decode cX28_plainly 22 = .ok (.aload_n 1, 1) := dk_43 (dk_at dksX28_plainly_0 22 rfl rfl)
theorem dX28_plainly_23 : decode cX28_plainly 23 = .ok (.getfield 66, 3) := dk_180 0 66 (dk_at dksX28_plainly_1 0 rfl rfl)
theorem dX28_plainly_26 : decode cX28_plainly 26 = .ok (.ifCond .le 26, 3) := dk_158 0 26 (dk_at dksX28_plainly_1 3 rfl rfl)
theorem dX28_plainly_29 : decode cX28_plainly 29 = .ok (.aload_n 0, 1) := dk_42 (dk_at dksX28_plainly_1 6 rfl rfl)
theorem dX28_plainly_30 : decode cX28_plainly 30 = .ok (.aload_n 0, 1) := dk_42 (dk_at dksX28_plainly_1 7 rfl rfl)
theorem dX28_plainly_31 : decode cX28_plainly 31 = .ok (.getfield 15, 3) := dk_180 0 15 (dk_at dksX28_plainly_1 8 rfl rfl)
theorem dX28_plainly_34 : decode cX28_plainly 34 = .ok (.invokevirtual 69, 3) := dk_182 0 69 (dk_at dksX28_plainly_1 11 rfl rfl)
theorem dX28_plainly_37 : decode cX28_plainly 37 = .ok (.invokevirtual 37, 3) := dk_182 0 37 (dk_at dksX28_plainly_1 14 rfl rfl)
theorem dX28_plainly_40 : decode cX28_plainly 40 = .ok (.aload_n 0, 1) := dk_42 (dk_at dksX28_plainly_1 17 rfl rfl)
theorem dX28_plainly_41 : decode cX28_plainly 41 = .ok (.aload_n 1, 1) := dk_43 (dk_at dksX28_plainly_1 18 rfl rfl)
theorem dX28_plainly_42 : decode cX28_plainly 42 = .ok (.getfield 74, 3) := dk_180 0 74 (dk_at dksX28_plainly_1 19 rfl rfl)
theorem dX28_plainly_45 : decode cX28_plainly 45 = .ok (.aload_n 1, 1) := dk_43 (dk_at dksX28_plainly_1 22 rfl rfl)
theorem dX28_plainly_46 : decode cX28_plainly 46 = .ok (.getfield 66, 3) := dk_180 0 66 (dk_at dksX28_plainly_2 0 rfl rfl)
theorem dX28_plainly_49 : decode cX28_plainly 49 = .ok (.invokevirtual 62, 3) := dk_182 0 62 (dk_at dksX28_plainly_2 3 rfl rfl)
theorem dX28_plainly_52 : decode cX28_plainly 52 = .ok (.return_, 1) := dk_177 (dk_at dksX28_plainly_2 6 rfl rfl)
abbrev cX28_put : ByteArray := prog_26_method_2_code
def yX28_put : MethodName := ⟨RX28, "put", "(I)V"⟩
def dkwX28_put_0 : List UInt8 := [42, 180, 0, 9, 42, 180, 0, 23, 27, 145, 84, 42, 89, 180, 0, 23, 4, 96, 181, 0, 23, 177]
abbrev dktX28_put_0 : List UInt8 := dkwX28_put_0 ++ []
theorem dksX28_put_0 : cX28_put.data.toList.drop 0 = dktX28_put_0 := by decide +kernel
theorem dX28_put_0 : decode cX28_put 0 = .ok (.aload_n 0, 1) := dk_42 (dk_at dksX28_put_0 0 rfl rfl)
theorem dX28_put_1 : decode cX28_put 1 = .ok (.getfield 9, 3) := dk_180 0 9 (dk_at dksX28_put_0 1 rfl rfl)
theorem dX28_put_4 : decode cX28_put 4 = .ok (.aload_n 0, 1) := dk_42 (dk_at dksX28_put_0 4 rfl rfl)
theorem dX28_put_5 : decode cX28_put 5 = .ok (.getfield 23, 3) := dk_180 0 23 (dk_at dksX28_put_0 5 rfl rfl)
theorem dX28_put_8 : decode cX28_put 8 = .ok (.iload_n 1, 1) := dk_27 (dk_at dksX28_put_0 8 rfl rfl)
theorem dX28_put_9 : decode cX28_put 9 = .ok (.i2b, 1) := dk_145 (dk_at dksX28_put_0 9 rfl rfl)
theorem dX28_put_10 : decode cX28_put 10 = .ok (.bastore, 1) := dk_84 (dk_at dksX28_put_0 10 rfl rfl)
theorem dX28_put_11 : decode cX28_put 11 = .ok (.aload_n 0, 1) := dk_42 (dk_at dksX28_put_0 11 rfl rfl)
theorem dX28_put_12 : decode cX28_put 12 = .ok (.dup, 1) := dk_89 (dk_at dksX28_put_0 12 rfl rfl)
theorem dX28_put_13 : decode cX28_put 13 = .ok (.getfield 23, 3) := dk_180 0 23 (dk_at dksX28_put_0 13 rfl rfl)
theorem dX28_put_16 : decode cX28_put 16 = .ok (.iconst 1, 1) := dk_4 (dk_at dksX28_put_0 16 rfl rfl)
theorem dX28_put_17 : decode cX28_put 17 = .ok (.iadd, 1) := dk_96 (dk_at dksX28_put_0 17 rfl rfl)
theorem dX28_put_18 : decode cX28_put 18 = .ok (.putfield 23, 3) := dk_181 0 23 (dk_at dksX28_put_0 18 rfl rfl)
theorem dX28_put_21 : decode cX28_put 21 = .ok (.return_, 1) := dk_177 (dk_at dksX28_put_0 21 rfl rfl)
abbrev cX28_number : ByteArray := prog_26_method_4_code
def yX28_number : MethodName := ⟨RX28, "number", "(JI)V"⟩
def dkwX28_number_2 : List UInt8 := [184, 0, 41, 109, 20, 0, 51, 113, 136, 96, 182, 0, 37, 132, 5, 255, 167, 255, 229, 177]
abbrev dktX28_number_2 : List UInt8 := dkwX28_number_2 ++ []
def dkwX28_number_1 : List UInt8 := [167, 255, 236, 21, 4, 29, 184, 0, 45, 4, 100, 54, 5, 21, 5, 155, 0, 28, 42, 16, 48, 31, 21, 5]
abbrev dktX28_number_1 : List UInt8 := dkwX28_number_1 ++ dktX28_number_2
def dkwX28_number_0 : List UInt8 := [4, 54, 4, 21, 4, 16, 19, 162, 0, 19, 31, 21, 4, 184, 0, 41, 148, 155, 0, 9, 132, 4, 1]
abbrev dktX28_number_0 : List UInt8 := dkwX28_number_0 ++ dktX28_number_1
theorem dksX28_number_0 : cX28_number.data.toList.drop 0 = dktX28_number_0 := by decide +kernel
theorem dksX28_number_1 : cX28_number.data.toList.drop 23 = dktX28_number_1 := dk_seg dksX28_number_0 23 rfl rfl
theorem dksX28_number_2 : cX28_number.data.toList.drop 47 = dktX28_number_2 := dk_seg dksX28_number_1 24 rfl rfl
theorem dX28_number_0 : decode cX28_number 0 = .ok (.iconst 1, 1) := dk_4 (dk_at dksX28_number_0 0 rfl rfl)
theorem dX28_number_1 : decode cX28_number 1 = .ok (.istore 4, 2) := dk_54 4 (dk_at dksX28_number_0 1 rfl rfl)
theorem dX28_number_3 : decode cX28_number 3 = .ok (.iload 4, 2) := dk_21 4 (dk_at dksX28_number_0 3 rfl rfl)
theorem dX28_number_5 : decode cX28_number 5 = .ok (.bipush 19, 2) := dk_16 19 (dk_at dksX28_number_0 5 rfl rfl)
theorem dX28_number_7 : decode cX28_number 7 = .ok (.if_icmp .ge 19, 3) := dk_162 0 19 (dk_at dksX28_number_0 7 rfl rfl)
theorem dX28_number_10 : decode cX28_number 10 = .ok (.lload_n 1, 1) := dk_31 (dk_at dksX28_number_0 10 rfl rfl)
theorem dX28_number_11 : decode cX28_number 11 = .ok (.iload 4, 2) := dk_21 4 (dk_at dksX28_number_0 11 rfl rfl)
theorem dX28_number_13 : decode cX28_number 13 = .ok (.invokestatic 41, 3) := dk_184 0 41 (dk_at dksX28_number_0 13 rfl rfl)
theorem dX28_number_16 : decode cX28_number 16 = .ok (.lcmp, 1) := dk_148 (dk_at dksX28_number_0 16 rfl rfl)
theorem dX28_number_17 : decode cX28_number 17 = .ok (.ifCond .lt 9, 3) := dk_155 0 9 (dk_at dksX28_number_0 17 rfl rfl)
theorem dX28_number_20 : decode cX28_number 20 = .ok (.iinc 4 1, 3) := dk_132 4 1 (dk_at dksX28_number_0 20 rfl rfl)
theorem dX28_number_23 : decode cX28_number 23 = .ok (.goto (-20), 3) := dk_167 255 236 (dk_at dksX28_number_1 0 rfl rfl)
theorem dX28_number_26 : decode cX28_number 26 = .ok (.iload 4, 2) := dk_21 4 (dk_at dksX28_number_1 3 rfl rfl)
theorem dX28_number_28 : decode cX28_number 28 = .ok (.iload_n 3, 1) := dk_29 (dk_at dksX28_number_1 5 rfl rfl)
theorem dX28_number_29 : decode cX28_number 29 = .ok (.invokestatic 45, 3) := dk_184 0 45 (dk_at dksX28_number_1 6 rfl rfl)
theorem dX28_number_32 : decode cX28_number 32 = .ok (.iconst 1, 1) := dk_4 (dk_at dksX28_number_1 9 rfl rfl)
theorem dX28_number_33 : decode cX28_number 33 = .ok (.isub, 1) := dk_100 (dk_at dksX28_number_1 10 rfl rfl)
theorem dX28_number_34 : decode cX28_number 34 = .ok (.istore 5, 2) := dk_54 5 (dk_at dksX28_number_1 11 rfl rfl)
theorem dX28_number_36 : decode cX28_number 36 = .ok (.iload 5, 2) := dk_21 5 (dk_at dksX28_number_1 13 rfl rfl)
theorem dX28_number_38 : decode cX28_number 38 = .ok (.ifCond .lt 28, 3) := dk_155 0 28 (dk_at dksX28_number_1 15 rfl rfl)
theorem dX28_number_41 : decode cX28_number 41 = .ok (.aload_n 0, 1) := dk_42 (dk_at dksX28_number_1 18 rfl rfl)
theorem dX28_number_42 : decode cX28_number 42 = .ok (.bipush 48, 2) := dk_16 48 (dk_at dksX28_number_1 19 rfl rfl)
theorem dX28_number_44 : decode cX28_number 44 = .ok (.lload_n 1, 1) := dk_31 (dk_at dksX28_number_1 21 rfl rfl)
theorem dX28_number_45 : decode cX28_number 45 = .ok (.iload 5, 2) := dk_21 5 (dk_at dksX28_number_1 22 rfl rfl)
theorem dX28_number_47 : decode cX28_number 47 = .ok (.invokestatic 41, 3) := dk_184 0 41 (dk_at dksX28_number_2 0 rfl rfl)
theorem dX28_number_50 : decode cX28_number 50 = .ok (.ldiv, 1) := dk_109 (dk_at dksX28_number_2 3 rfl rfl)
theorem dX28_number_51 : decode cX28_number 51 = .ok (.ldc2_w 51, 3) := dk_20 0 51 (dk_at dksX28_number_2 4 rfl rfl)
theorem dX28_number_54 : decode cX28_number 54 = .ok (.lrem, 1) := dk_113 (dk_at dksX28_number_2 7 rfl rfl)
theorem dX28_number_55 : decode cX28_number 55 = .ok (.l2i, 1) := dk_136 (dk_at dksX28_number_2 8 rfl rfl)
theorem dX28_number_56 : decode cX28_number 56 = .ok (.iadd, 1) := dk_96 (dk_at dksX28_number_2 9 rfl rfl)
theorem dX28_number_57 : decode cX28_number 57 = .ok (.invokevirtual 37, 3) := dk_182 0 37 (dk_at dksX28_number_2 10 rfl rfl)
theorem dX28_number_60 : decode cX28_number 60 = .ok (.iinc 5 (-1), 3) := dk_132 5 255 (dk_at dksX28_number_2 13 rfl rfl)
theorem dX28_number_63 : decode cX28_number 63 = .ok (.goto (-27), 3) := dk_167 255 229 (dk_at dksX28_number_2 16 rfl rfl)
theorem dX28_number_66 : decode cX28_number 66 = .ok (.return_, 1) := dk_177 (dk_at dksX28_number_2 19 rfl rfl)
abbrev cX28_puts : ByteArray := prog_26_method_3_code
def yX28_puts : MethodName := ⟨RX28, "puts", "(Ljava/lang/String;)V"⟩
def dkwX28_puts_1 : List UInt8 := [167, 255, 236, 177]
abbrev dktX28_puts_1 : List UInt8 := dkwX28_puts_1 ++ []
def dkwX28_puts_0 : List UInt8 := [3, 61, 28, 43, 182, 0, 27, 162, 0, 18, 42, 43, 28, 182, 0, 33, 182, 0, 37, 132, 2, 1]
abbrev dktX28_puts_0 : List UInt8 := dkwX28_puts_0 ++ dktX28_puts_1
theorem dksX28_puts_0 : cX28_puts.data.toList.drop 0 = dktX28_puts_0 := by decide +kernel
theorem dksX28_puts_1 : cX28_puts.data.toList.drop 22 = dktX28_puts_1 := dk_seg dksX28_puts_0 22 rfl rfl
theorem dX28_puts_0 : decode cX28_puts 0 = .ok (.iconst 0, 1) := dk_3 (dk_at dksX28_puts_0 0 rfl rfl)
theorem dX28_puts_1 : decode cX28_puts 1 = .ok (.istore_n 2, 1) := dk_61 (dk_at dksX28_puts_0 1 rfl rfl)
theorem dX28_puts_2 : decode cX28_puts 2 = .ok (.iload_n 2, 1) := dk_28 (dk_at dksX28_puts_0 2 rfl rfl)
theorem dX28_puts_3 : decode cX28_puts 3 = .ok (.aload_n 1, 1) := dk_43 (dk_at dksX28_puts_0 3 rfl rfl)
theorem dX28_puts_4 : decode cX28_puts 4 = .ok (.invokevirtual 27, 3) := dk_182 0 27 (dk_at dksX28_puts_0 4 rfl rfl)
theorem dX28_puts_7 : decode cX28_puts 7 = .ok (.if_icmp .ge 18, 3) := dk_162 0 18 (dk_at dksX28_puts_0 7 rfl rfl)
theorem dX28_puts_10 : decode cX28_puts 10 = .ok (.aload_n 0, 1) := dk_42 (dk_at dksX28_puts_0 10 rfl rfl)
theorem dX28_puts_11 : decode cX28_puts 11 = .ok (.aload_n 1, 1) := dk_43 (dk_at dksX28_puts_0 11 rfl rfl)
theorem dX28_puts_12 : decode cX28_puts 12 = .ok (.iload_n 2, 1) := dk_28 (dk_at dksX28_puts_0 12 rfl rfl)
theorem dX28_puts_13 : decode cX28_puts 13 = .ok (.invokevirtual 33, 3) := dk_182 0 33 (dk_at dksX28_puts_0 13 rfl rfl)
theorem dX28_puts_16 : decode cX28_puts 16 = .ok (.invokevirtual 37, 3) := dk_182 0 37 (dk_at dksX28_puts_0 16 rfl rfl)
theorem dX28_puts_19 : decode cX28_puts 19 = .ok (.iinc 2 1, 3) := dk_132 2 1 (dk_at dksX28_puts_0 19 rfl rfl)
theorem dX28_puts_22 : decode cX28_puts 22 = .ok (.goto (-20), 3) := dk_167 255 236 (dk_at dksX28_puts_1 0 rfl rfl)
theorem dX28_puts_25 : decode cX28_puts 25 = .ok (.return_, 1) := dk_177 (dk_at dksX28_puts_1 3 rfl rfl)
abbrev cX28_checks : ByteArray := prog_26_method_6_code
def yX28_checks : MethodName := ⟨RX28, "checks", "()V"⟩
def dkwX28_checks_0 : List UInt8 := [42, 180, 0, 23, 17, 0, 240, 163, 0, 7, 4, 167, 0, 4, 3, 16, 251, 184, 0, 77, 177]
abbrev dktX28_checks_0 : List UInt8 := dkwX28_checks_0 ++ []
theorem dksX28_checks_0 : cX28_checks.data.toList.drop 0 = dktX28_checks_0 := by decide +kernel
theorem dX28_checks_0 : decode cX28_checks 0 = .ok (.aload_n 0, 1) := dk_42 (dk_at dksX28_checks_0 0 rfl rfl)
theorem dX28_checks_1 : decode cX28_checks 1 = .ok (.getfield 23, 3) := dk_180 0 23 (dk_at dksX28_checks_0 1 rfl rfl)
theorem dX28_checks_4 : decode cX28_checks 4 = .ok (.sipush 240, 3) := dk_17 0 240 (dk_at dksX28_checks_0 4 rfl rfl)
theorem dX28_checks_7 : decode cX28_checks 7 = .ok (.if_icmp .gt 7, 3) := dk_163 0 7 (dk_at dksX28_checks_0 7 rfl rfl)
theorem dX28_checks_10 : decode cX28_checks 10 = .ok (.iconst 1, 1) := dk_4 (dk_at dksX28_checks_0 10 rfl rfl)
theorem dX28_checks_11 : decode cX28_checks 11 = .ok (.goto 4, 3) := dk_167 0 4 (dk_at dksX28_checks_0 11 rfl rfl)
theorem dX28_checks_14 : decode cX28_checks 14 = .ok (.iconst 0, 1) := dk_3 (dk_at dksX28_checks_0 14 rfl rfl)
theorem dX28_checks_15 : decode cX28_checks 15 = .ok (.bipush (-5), 2) := dk_16 251 (dk_at dksX28_checks_0 15 rfl rfl)
theorem dX28_checks_17 : decode cX28_checks 17 = .ok (.invokestatic 77, 3) := dk_184 0 77 (dk_at dksX28_checks_0 17 rfl rfl)
theorem dX28_checks_20 : decode cX28_checks 20 = .ok (.return_, 1) := dk_177 (dk_at dksX28_checks_0 20 rfl rfl)
theorem q113 : (Jvm.Cond.initialized "PluralBranches$Sheet") ∈ lw_all := lw_g (lw_at lw_m1 47 rfl) rfl
theorem q150 : (Jvm.Cond.fieldLinkNest "PluralBranches$Sheet" (53 : Nat) "PluralBranches$Decimal" "digits" "I" "PluralBranches") ∈ lw_tbl := lw_at lw_m1 84 rfl
theorem q154 : (Jvm.Cond.fieldLinkNest "PluralBranches$Sheet" (66 : Nat) "PluralBranches$Decimal" "scale" "I" "PluralBranches") ∈ lw_tbl := lw_at lw_m1 88 rfl
theorem q158 : (Jvm.Cond.fieldLinkNest "PluralBranches$Sheet" (58 : Nat) "PluralBranches$Decimal" "whole" "J" "PluralBranches") ∈ lw_tbl := lw_at lw_m1 92 rfl
theorem q160 : (Jvm.Cond.fieldLinkNest "PluralBranches$Sheet" (74 : Nat) "PluralBranches$Decimal" "part" "J" "PluralBranches") ∈ lw_tbl := lw_at lw_m1 94 rfl
theorem q266 : (Jvm.Cond.selects "PluralBranches$Sheet" ({ cls := "java/lang/Object", name := "getClass", desc := "()Ljava/lang/Class;" } : Jvm.MethodName) ({ cls := "java/lang/Object", name := "getClass", desc := "()Ljava/lang/Class;" } : Jvm.MethodName)) ∈ lw_all := lw_g (lw_at lw_m1 200 rfl) rfl
theorem q1366 : (Jvm.Cond.instantiable "PluralBranches$Sheet" (5 : Nat)) ∈ lw_all := lw_g (lw_at lw_m6 100 rfl) rfl
theorem q1368 : (Jvm.Cond.instanceMethod ({ cls := "PluralBranches$Sheet", name := "<init>", desc := "(LPluralBranches$Language;[LPluralBranches$Thing;)V" } : Jvm.MethodName)) ∈ lw_all := lw_g (lw_at lw_m6 102 rfl) rfl
theorem q1369 : (Jvm.Cond.code ({ cls := "PluralBranches$Sheet", name := "<init>", desc := "(LPluralBranches$Language;[LPluralBranches$Thing;)V" } : Jvm.MethodName) prog_26_method_1_code (3 : Nat) (Option.none : Option Jvm.ClassFile.FieldType)) ∈ lw_all := lw_g (lw_at lw_m6 103 rfl) rfl
theorem q1370 : (Jvm.Cond.methodLink "PluralBranches$Sheet" (3 : Nat) ({ cls := "java/lang/Object", name := "<init>", desc := "()V" } : Jvm.MethodName)) ∈ lw_all := lw_g (lw_at lw_m6 104 rfl) rfl
theorem q1371 : (Jvm.Cond.fieldLink "PluralBranches$Sheet" (9 : Nat) "PluralBranches$Sheet" "bytes" "[B") ∈ lw_all := lw_g (lw_at lw_m6 105 rfl) rfl
theorem q1373 : (Jvm.Cond.fieldLink "PluralBranches$Sheet" (23 : Nat) "PluralBranches$Sheet" "size" "I") ∈ lw_all := lw_g (lw_at lw_m6 107 rfl) rfl
theorem q1375 : (Jvm.Cond.fieldLink "PluralBranches$Sheet" (15 : Nat) "PluralBranches$Sheet" "language" "LPluralBranches$Language;") ∈ lw_all := lw_g (lw_at lw_m6 109 rfl) rfl
theorem q1379 : (Jvm.Cond.fieldLink "PluralBranches$Sheet" (19 : Nat) "PluralBranches$Sheet" "things" "[LPluralBranches$Thing;") ∈ lw_all := lw_g (lw_at lw_m6 113 rfl) rfl
theorem q1383 : (Jvm.Cond.laysFinal "PluralBranches$Sheet" "PluralBranches$Sheet" "bytes" "[B") ∈ lw_all := lw_g (lw_at lw_m6 117 rfl) rfl
theorem q1384 : (Jvm.Cond.soleField "PluralBranches$Sheet" "bytes") ∈ lw_all := lw_g (lw_at lw_m6 118 rfl) rfl
theorem q1385 : (Jvm.Cond.lays "PluralBranches$Sheet" "PluralBranches$Sheet" "size" "I") ∈ lw_all := lw_g (lw_at lw_m6 119 rfl) rfl
theorem q1386 : (Jvm.Cond.soleField "PluralBranches$Sheet" "size") ∈ lw_all := lw_g (lw_at lw_m6 120 rfl) rfl
theorem q1387 : (Jvm.Cond.laysFinal "PluralBranches$Sheet" "PluralBranches$Sheet" "language" "LPluralBranches$Language;") ∈ lw_all := lw_g (lw_at lw_m6 121 rfl) rfl
theorem q1388 : (Jvm.Cond.soleField "PluralBranches$Sheet" "language") ∈ lw_all := lw_g (lw_at lw_m6 122 rfl) rfl
theorem q1389 : (Jvm.Cond.laysFinal "PluralBranches$Sheet" "PluralBranches$Sheet" "things" "[LPluralBranches$Thing;") ∈ lw_all := lw_g (lw_at lw_m6 123 rfl) rfl
theorem q1390 : (Jvm.Cond.soleField "PluralBranches$Sheet" "things") ∈ lw_all := lw_g (lw_at lw_m6 124 rfl) rfl
theorem q1391 : (Jvm.Cond.lays "PluralBranches$Sheet" "PluralBranches$Sheet" "nearest" "LPluralBranches$Decimal;") ∈ lw_all := lw_g (lw_at lw_m6 125 rfl) rfl
theorem q1392 : (Jvm.Cond.soleField "PluralBranches$Sheet" "nearest") ∈ lw_all := lw_g (lw_at lw_m6 126 rfl) rfl
theorem q1393 : (Jvm.Cond.superclass "PluralBranches$Sheet" "java/lang/Object") ∈ lw_all := lw_g (lw_at lw_m6 127 rfl) rfl
theorem q1427 : (Jvm.Cond.instanceMethod ({ cls := "PluralBranches$Sheet", name := "plainly", desc := "(LPluralBranches$Decimal;)V" } : Jvm.MethodName)) ∈ lw_all := lw_g (lw_at lw_m6 161 rfl) rfl
theorem q1428 : (Jvm.Cond.selects "PluralBranches$Sheet" ({ cls := "PluralBranches$Sheet", name := "plainly", desc := "(LPluralBranches$Decimal;)V" } : Jvm.MethodName) ({ cls := "PluralBranches$Sheet", name := "plainly", desc := "(LPluralBranches$Decimal;)V" } : Jvm.MethodName)) ∈ lw_all := lw_g (lw_at lw_m6 162 rfl) rfl
theorem q1429 : (Jvm.Cond.code ({ cls := "PluralBranches$Sheet", name := "plainly", desc := "(LPluralBranches$Decimal;)V" } : Jvm.MethodName) prog_26_method_5_code (2 : Nat) (Option.none : Option Jvm.ClassFile.FieldType)) ∈ lw_all := lw_g (lw_at lw_m6 163 rfl) rfl
theorem q1430 : (Jvm.Cond.methodLink "PluralBranches$Sheet" (37 : Nat) ({ cls := "PluralBranches$Sheet", name := "put", desc := "(I)V" } : Jvm.MethodName)) ∈ lw_all := lw_g (lw_at lw_m6 164 rfl) rfl
theorem q1431 : (Jvm.Cond.instanceMethod ({ cls := "PluralBranches$Sheet", name := "put", desc := "(I)V" } : Jvm.MethodName)) ∈ lw_all := lw_g (lw_at lw_m6 165 rfl) rfl
theorem q1432 : (Jvm.Cond.selects "PluralBranches$Sheet" ({ cls := "PluralBranches$Sheet", name := "put", desc := "(I)V" } : Jvm.MethodName) ({ cls := "PluralBranches$Sheet", name := "put", desc := "(I)V" } : Jvm.MethodName)) ∈ lw_all := lw_g (lw_at lw_m6 166 rfl) rfl
theorem q1433 : (Jvm.Cond.code ({ cls := "PluralBranches$Sheet", name := "put", desc := "(I)V" } : Jvm.MethodName) prog_26_method_2_code (2 : Nat) (Option.none : Option Jvm.ClassFile.FieldType)) ∈ lw_all := lw_g (lw_at lw_m6 167 rfl) rfl
theorem q1434 : (Jvm.Cond.methodLink "PluralBranches$Sheet" (62 : Nat) ({ cls := "PluralBranches$Sheet", name := "number", desc := "(JI)V" } : Jvm.MethodName)) ∈ lw_all := lw_g (lw_at lw_m6 168 rfl) rfl
theorem q1435 : (Jvm.Cond.instanceMethod ({ cls := "PluralBranches$Sheet", name := "number", desc := "(JI)V" } : Jvm.MethodName)) ∈ lw_all := lw_g (lw_at lw_m6 169 rfl) rfl
theorem q1436 : (Jvm.Cond.selects "PluralBranches$Sheet" ({ cls := "PluralBranches$Sheet", name := "number", desc := "(JI)V" } : Jvm.MethodName) ({ cls := "PluralBranches$Sheet", name := "number", desc := "(JI)V" } : Jvm.MethodName)) ∈ lw_all := lw_g (lw_at lw_m6 170 rfl) rfl
theorem q1437 : (Jvm.Cond.code ({ cls := "PluralBranches$Sheet", name := "number", desc := "(JI)V" } : Jvm.MethodName) prog_26_method_4_code (6 : Nat) (Option.none : Option Jvm.ClassFile.FieldType)) ∈ lw_all := lw_g (lw_at lw_m6 171 rfl) rfl
theorem q1438 : (Jvm.Cond.methodLinkNest "PluralBranches$Sheet" (41 : Nat) ({ cls := "PluralBranches", name := "tens", desc := "(I)J" } : Jvm.MethodName) "PluralBranches") ∈ lw_tbl := lw_at lw_m6 172 rfl
theorem q1439 : (Jvm.Cond.methodLink "PluralBranches$Sheet" (45 : Nat) ({ cls := "java/lang/Math", name := "max", desc := "(II)I" } : Jvm.MethodName)) ∈ lw_all := lw_g (lw_at lw_m6 173 rfl) rfl
theorem q1440 : (Jvm.Cond.constantLong "PluralBranches$Sheet" (51 : Nat) (10 : Int64)) ∈ lw_all := lw_g (lw_at lw_m6 174 rfl) rfl
theorem q1441 : (Jvm.Cond.methodLink "PluralBranches$Sheet" (69 : Nat) ({ cls := "PluralBranches$Language", name := "point", desc := "()I" } : Jvm.MethodName)) ∈ lw_all := lw_g (lw_at lw_m6 175 rfl) rfl
theorem q1524 : (Jvm.Cond.instanceMethod ({ cls := "PluralBranches$Sheet", name := "puts", desc := "(Ljava/lang/String;)V" } : Jvm.MethodName)) ∈ lw_all := lw_g (lw_at lw_m7 18 rfl) rfl
theorem q1525 : (Jvm.Cond.selects "PluralBranches$Sheet" ({ cls := "PluralBranches$Sheet", name := "puts", desc := "(Ljava/lang/String;)V" } : Jvm.MethodName) ({ cls := "PluralBranches$Sheet", name := "puts", desc := "(Ljava/lang/String;)V" } : Jvm.MethodName)) ∈ lw_all := lw_g (lw_at lw_m7 19 rfl) rfl
theorem q1526 : (Jvm.Cond.code ({ cls := "PluralBranches$Sheet", name := "puts", desc := "(Ljava/lang/String;)V" } : Jvm.MethodName) prog_26_method_3_code (3 : Nat) (Option.none : Option Jvm.ClassFile.FieldType)) ∈ lw_all := lw_g (lw_at lw_m7 20 rfl) rfl
theorem q1527 : (Jvm.Cond.methodLink "PluralBranches$Sheet" (27 : Nat) ({ cls := "java/lang/String", name := "length", desc := "()I" } : Jvm.MethodName)) ∈ lw_all := lw_g (lw_at lw_m7 21 rfl) rfl
theorem q1528 : (Jvm.Cond.methodLink "PluralBranches$Sheet" (33 : Nat) ({ cls := "java/lang/String", name := "charAt", desc := "(I)C" } : Jvm.MethodName)) ∈ lw_all := lw_g (lw_at lw_m7 22 rfl) rfl
theorem q1593 : (Jvm.Cond.instanceMethod ({ cls := "PluralBranches$Sheet", name := "checks", desc := "()V" } : Jvm.MethodName)) ∈ lw_all := lw_g (lw_at lw_m7 87 rfl) rfl
theorem q1594 : (Jvm.Cond.selects "PluralBranches$Sheet" ({ cls := "PluralBranches$Sheet", name := "checks", desc := "()V" } : Jvm.MethodName) ({ cls := "PluralBranches$Sheet", name := "checks", desc := "()V" } : Jvm.MethodName)) ∈ lw_all := lw_g (lw_at lw_m7 88 rfl) rfl
theorem q1595 : (Jvm.Cond.code ({ cls := "PluralBranches$Sheet", name := "checks", desc := "()V" } : Jvm.MethodName) prog_26_method_6_code (1 : Nat) (Option.none : Option Jvm.ClassFile.FieldType)) ∈ lw_all := lw_g (lw_at lw_m7 89 rfl) rfl
theorem q1596 : (Jvm.Cond.methodLinkNest "PluralBranches$Sheet" (77 : Nat) ({ cls := "PluralBranches", name := "need", desc := "(ZI)V" } : Jvm.MethodName) "PluralBranches") ∈ lw_tbl := lw_at lw_m7 90 rfl
theorem q2306 : (Jvm.Cond.castable "PluralBranches$Sheet" "java/lang/Object") ∈ lw_tbl := lw_at lw_m10 80 rfl
theorem in_X28 : ∀ w ∈ wsX280, w ∈ lw_all := lw_in wsX280 [1383, 1385, 1387, 1389, 1391] (by decide +kernel) (by decide +kernel)
/-! PluralBranches$Thing -/
set_option maxRecDepth 100000
def RX29 : String := "PluralBranches$Thing"
abbrev cX29_decimal : ByteArray := prog_29_method_2_code
def yX29_decimal : MethodName := ⟨RX29, "decimal", "(I)LPluralBranches$Decimal;"⟩
def dkwX29_decimal_0 : List UInt8 := [187, 0, 1, 89, 16, 236, 27, 100, 183, 0, 3, 191]
abbrev dktX29_decimal_0 : List UInt8 := dkwX29_decimal_0 ++ []
theorem dksX29_decimal_0 : cX29_decimal.data.toList.drop 0 = dktX29_decimal_0 := by decide +kernel
theorem dX29_decimal_0 : decode cX29_decimal 0 = .ok (.new 1, 3) := dk_187 0 1 (dk_at dksX29_decimal_0 0 rfl rfl)
theorem dX29_decimal_3 : decode cX29_decimal 3 = .ok (.dup, 1) := dk_89 (dk_at dksX29_decimal_0 3 rfl rfl)
theorem dX29_decimal_4 : decode cX29_decimal 4 = .ok (.bipush (-20), 2) := dk_16 236 (dk_at dksX29_decimal_0 4 rfl rfl)
theorem dX29_decimal_6 : decode cX29_decimal 6 = .ok (.iload_n 1, 1) := dk_27 (dk_at dksX29_decimal_0 6 rfl rfl)
theorem dX29_decimal_7 : decode cX29_decimal 7 = .ok (.isub, 1) := dk_100 (dk_at dksX29_decimal_0 7 rfl rfl)
theorem dX29_decimal_8 : decode cX29_decimal 8 = .ok (.invokespecial 3, 3) := dk_183 0 3 (dk_at dksX29_decimal_0 8 rfl rfl)
theorem dX29_decimal_11 : decode cX29_decimal 11 = .ok (.athrow, 1) := dk_191 (dk_at dksX29_decimal_0 11 rfl rfl)
theorem q1238 : (Jvm.Cond.interfaceMethod "PluralBranches$Thing" "PluralBranches$Thing" "type" "()I") ∈ lw_tbl := lw_at lw_m5 212 rfl
theorem q1239 : (Jvm.Cond.declares ({ cls := "PluralBranches$Thing", name := "type", desc := "()I" } : Jvm.MethodName)) ∈ lw_tbl := lw_at lw_m5 213 rfl
theorem q1265 : (Jvm.Cond.interfaceMethod "PluralBranches$Thing" "PluralBranches$Thing" "held" "(I)J") ∈ lw_tbl := lw_at lw_m5 239 rfl
theorem q1266 : (Jvm.Cond.declares ({ cls := "PluralBranches$Thing", name := "held", desc := "(I)J" } : Jvm.MethodName)) ∈ lw_tbl := lw_at lw_m6 0 rfl
theorem q1318 : (Jvm.Cond.interfaceMethod "PluralBranches$Thing" "PluralBranches$Thing" "decimal" "(I)LPluralBranches$Decimal;") ∈ lw_tbl := lw_at lw_m6 52 rfl
theorem q1319 : (Jvm.Cond.declares ({ cls := "PluralBranches$Thing", name := "decimal", desc := "(I)LPluralBranches$Decimal;" } : Jvm.MethodName)) ∈ lw_tbl := lw_at lw_m6 53 rfl
theorem q1321 : (Jvm.Cond.instanceMethod ({ cls := "PluralBranches$Thing", name := "decimal", desc := "(I)LPluralBranches$Decimal;" } : Jvm.MethodName)) ∈ lw_all := lw_g (lw_at lw_m6 55 rfl) rfl
theorem q1322 : (Jvm.Cond.publicMethod ({ cls := "PluralBranches$Thing", name := "decimal", desc := "(I)LPluralBranches$Decimal;" } : Jvm.MethodName)) ∈ lw_tbl := lw_at lw_m6 56 rfl
theorem q1323 : (Jvm.Cond.code ({ cls := "PluralBranches$Thing", name := "decimal", desc := "(I)LPluralBranches$Decimal;" } : Jvm.MethodName) prog_29_method_2_code (2 : Nat) (Option.some (Jvm.ClassFile.FieldType.object "PluralBranches$Decimal"))) ∈ lw_all := lw_g (lw_at lw_m6 57 rfl) rfl
theorem q1324 : (Jvm.Cond.classLink "PluralBranches$Thing" (1 : Nat) "PluralBranches$Ends") ∈ lw_all := lw_g (lw_at lw_m6 58 rfl) rfl
theorem q1325 : (Jvm.Cond.methodLink "PluralBranches$Thing" (3 : Nat) ({ cls := "PluralBranches$Ends", name := "<init>", desc := "(I)V" } : Jvm.MethodName)) ∈ lw_all := lw_g (lw_at lw_m6 59 rfl) rfl
theorem q1467 : (Jvm.Cond.interfaceMethod "PluralBranches$Thing" "PluralBranches$Thing" "write" "(LPluralBranches$Sheet;)V") ∈ lw_tbl := lw_at lw_m6 201 rfl
theorem q1468 : (Jvm.Cond.declares ({ cls := "PluralBranches$Thing", name := "write", desc := "(LPluralBranches$Sheet;)V" } : Jvm.MethodName)) ∈ lw_tbl := lw_at lw_m6 202 rfl
theorem q2266 : (Jvm.Cond.initialized "PluralBranches$Thing") ∈ lw_all := lw_g (lw_at lw_m10 40 rfl) rfl
theorem q2279 : (Jvm.Cond.castable "PluralBranches$Thing" "java/lang/Object") ∈ lw_tbl := lw_at lw_m10 53 rfl
/-! PluralBranches$Linked -/
set_option maxRecDepth 100000
def RX3 : String := "PluralBranches$Linked"
def TX3 : u_T := fun k => match k with
  | 0 => ("PluralBranches$Language", "all", "Ljava/util/ArrayList;", true)
  | 1 => ("PluralBranches$Language", "tried", "[LPluralBranches$Decimal;", false)
  | _ => ("PluralBranches$Linked", "link", "Ljava/lang/String;", true)
def tyX3 : Nat → FieldType := fun k => match k with
  | 0 => .object "java/util/ArrayList"
  | 1 => .array (.object "PluralBranches$Decimal")
  | _ => .object "java/lang/String"
abbrev wsX30 : List Cond := u_ws RX3 TX3 3
theorem nmX3 : ∀ a, a < 3 → ∀ b, b < 3 → a ≠ b → (TX3 a).2.1 ≠ (TX3 b).2.1 := by decide +kernel
theorem tyX3_ok : ∀ k, k < 3 → parseFieldDescriptor (TX3 k).2.2.1 = some (tyX3 k) := by decide +kernel
abbrev cX3_init : ByteArray := prog_14_method_1_code
def yX3_init : MethodName := ⟨RX3, "<init>", "(Ljava/lang/String;)V"⟩
def dkwX3_init_0 : List UInt8 := [42, 183, 0, 1, 42, 43, 181, 0, 7, 177]
abbrev dktX3_init_0 : List UInt8 := dkwX3_init_0 ++ []
theorem dksX3_init_0 : cX3_init.data.toList.drop 0 = dktX3_init_0 := by decide +kernel
theorem dX3_init_0 : decode cX3_init 0 = .ok (.aload_n 0, 1) := dk_42 (dk_at dksX3_init_0 0 rfl rfl)
theorem dX3_init_1 : decode cX3_init 1 = .ok (.invokespecial 1, 3) := dk_183 0 1 (dk_at dksX3_init_0 1 rfl rfl)
theorem dX3_init_4 : decode cX3_init 4 = .ok (.aload_n 0, 1) := dk_42 (dk_at dksX3_init_0 4 rfl rfl)
theorem dX3_init_5 : decode cX3_init 5 = .ok (.aload_n 1, 1) := dk_43 (dk_at dksX3_init_0 5 rfl rfl)
theorem dX3_init_6 : decode cX3_init 6 = .ok (.putfield 7, 3) := dk_181 0 7 (dk_at dksX3_init_0 6 rfl rfl)
theorem dX3_init_9 : decode cX3_init 9 = .ok (.return_, 1) := dk_177 (dk_at dksX3_init_0 9 rfl rfl)
abbrev cX3_joiner : ByteArray := prog_14_method_2_code
def yX3_joiner : MethodName := ⟨RX3, "joiner", "(I)Ljava/lang/String;"⟩
def dkwX3_joiner_0 : List UInt8 := [27, 4, 160, 0, 11, 42, 27, 183, 0, 13, 167, 0, 7, 42, 180, 0, 7, 176]
abbrev dktX3_joiner_0 : List UInt8 := dkwX3_joiner_0 ++ []
theorem dksX3_joiner_0 : cX3_joiner.data.toList.drop 0 = dktX3_joiner_0 := by decide +kernel
theorem dX3_joiner_0 : decode cX3_joiner 0 = .ok (.iload_n 1, 1) := dk_27 (dk_at dksX3_joiner_0 0 rfl rfl)
theorem dX3_joiner_1 : decode cX3_joiner 1 = .ok (.iconst 1, 1) := dk_4 (dk_at dksX3_joiner_0 1 rfl rfl)
theorem dX3_joiner_2 : decode cX3_joiner 2 = .ok (.if_icmp .ne 11, 3) := dk_160 0 11 (dk_at dksX3_joiner_0 2 rfl rfl)
theorem dX3_joiner_5 : decode cX3_joiner 5 = .ok (.aload_n 0, 1) := dk_42 (dk_at dksX3_joiner_0 5 rfl rfl)
theorem dX3_joiner_6 : decode cX3_joiner 6 = .ok (.iload_n 1, 1) := dk_27 (dk_at dksX3_joiner_0 6 rfl rfl)
theorem dX3_joiner_7 : decode cX3_joiner 7 = .ok (.invokespecial 13, 3) := dk_183 0 13 (dk_at dksX3_joiner_0 7 rfl rfl)
theorem dX3_joiner_10 : decode cX3_joiner 10 = .ok (.goto 7, 3) := dk_167 0 7 (dk_at dksX3_joiner_0 10 rfl rfl)
theorem dX3_joiner_13 : decode cX3_joiner 13 = .ok (.aload_n 0, 1) := dk_42 (dk_at dksX3_joiner_0 13 rfl rfl)
theorem dX3_joiner_14 : decode cX3_joiner 14 = .ok (.getfield 7, 3) := dk_180 0 7 (dk_at dksX3_joiner_0 14 rfl rfl)
theorem dX3_joiner_17 : decode cX3_joiner 17 = .ok (.areturn, 1) := dk_176 (dk_at dksX3_joiner_0 17 rfl rfl)
theorem q71 : (Jvm.Cond.initialized "PluralBranches$Linked") ∈ lw_all := lw_g (lw_at lw_m1 5 rfl) rfl
theorem q181 : (Jvm.Cond.instantiable "PluralBranches$Linked" (3 : Nat)) ∈ lw_all := lw_g (lw_at lw_m1 115 rfl) rfl
theorem q184 : (Jvm.Cond.instanceMethod ({ cls := "PluralBranches$Linked", name := "<init>", desc := "(Ljava/lang/String;)V" } : Jvm.MethodName)) ∈ lw_all := lw_g (lw_at lw_m1 118 rfl) rfl
theorem q185 : (Jvm.Cond.code ({ cls := "PluralBranches$Linked", name := "<init>", desc := "(Ljava/lang/String;)V" } : Jvm.MethodName) prog_14_method_1_code (2 : Nat) (Option.none : Option Jvm.ClassFile.FieldType)) ∈ lw_all := lw_g (lw_at lw_m1 119 rfl) rfl
theorem q186 : (Jvm.Cond.methodLinkNest "PluralBranches$Linked" (1 : Nat) ({ cls := "PluralBranches$Language", name := "<init>", desc := "()V" } : Jvm.MethodName) "PluralBranches") ∈ lw_tbl := lw_at lw_m1 120 rfl
theorem q255 : (Jvm.Cond.selects "PluralBranches$Linked" ({ cls := "java/lang/Object", name := "getClass", desc := "()Ljava/lang/Class;" } : Jvm.MethodName) ({ cls := "java/lang/Object", name := "getClass", desc := "()Ljava/lang/Class;" } : Jvm.MethodName)) ∈ lw_all := lw_g (lw_at lw_m1 189 rfl) rfl
theorem q287 : (Jvm.Cond.fieldLink "PluralBranches$Linked" (7 : Nat) "PluralBranches$Linked" "link" "Ljava/lang/String;") ∈ lw_all := lw_g (lw_at lw_m1 221 rfl) rfl
theorem q292 : (Jvm.Cond.laysFinal "PluralBranches$Linked" "PluralBranches$Linked" "link" "Ljava/lang/String;") ∈ lw_all := lw_g (lw_at lw_m1 226 rfl) rfl
theorem q293 : (Jvm.Cond.soleField "PluralBranches$Linked" "link") ∈ lw_all := lw_g (lw_at lw_m1 227 rfl) rfl
theorem q294 : (Jvm.Cond.laysFinal "PluralBranches$Linked" "PluralBranches$Language" "all" "Ljava/util/ArrayList;") ∈ lw_all := lw_g (lw_at lw_m1 228 rfl) rfl
theorem q296 : (Jvm.Cond.lays "PluralBranches$Linked" "PluralBranches$Language" "tried" "[LPluralBranches$Decimal;") ∈ lw_all := lw_g (lw_at lw_m1 230 rfl) rfl
theorem q298 : (Jvm.Cond.superclass "PluralBranches$Linked" "PluralBranches$Language") ∈ lw_all := lw_g (lw_at lw_m1 232 rfl) rfl
theorem q301 : (Jvm.Cond.sameMethod "PluralBranches$Linked" "PluralBranches$Language" "with" "(Z[I)LPluralBranches$Language;") ∈ lw_all := lw_g (lw_at lw_m1 235 rfl) rfl
theorem q303 : (Jvm.Cond.selects "PluralBranches$Linked" ({ cls := "PluralBranches$Linked", name := "with", desc := "(Z[I)LPluralBranches$Language;" } : Jvm.MethodName) ({ cls := "PluralBranches$Language", name := "with", desc := "(Z[I)LPluralBranches$Language;" } : Jvm.MethodName)) ∈ lw_all := lw_g (lw_at lw_m1 237 rfl) rfl
theorem q455 : (Jvm.Cond.selects "PluralBranches$Linked" ({ cls := "PluralBranches$Language", name := "category", desc := "(LPluralBranches$Decimal;)I" } : Jvm.MethodName) ({ cls := "PluralBranches$Language", name := "category", desc := "(LPluralBranches$Decimal;)I" } : Jvm.MethodName)) ∈ lw_all := lw_g (lw_at lw_m2 149 rfl) rfl
theorem q496 : (Jvm.Cond.selects "PluralBranches$Linked" ({ cls := "PluralBranches$Language", name := "used", desc := "()I" } : Jvm.MethodName) ({ cls := "PluralBranches$Language", name := "used", desc := "()I" } : Jvm.MethodName)) ∈ lw_all := lw_g (lw_at lw_m2 190 rfl) rfl
theorem q1448 : (Jvm.Cond.selects "PluralBranches$Linked" ({ cls := "PluralBranches$Language", name := "point", desc := "()I" } : Jvm.MethodName) ({ cls := "PluralBranches$Language", name := "point", desc := "()I" } : Jvm.MethodName)) ∈ lw_all := lw_g (lw_at lw_m6 182 rfl) rfl
theorem q1513 : (Jvm.Cond.selects "PluralBranches$Linked" ({ cls := "PluralBranches$Language", name := "joiner", desc := "(I)Ljava/lang/String;" } : Jvm.MethodName) ({ cls := "PluralBranches$Linked", name := "joiner", desc := "(I)Ljava/lang/String;" } : Jvm.MethodName)) ∈ lw_all := lw_g (lw_at lw_m7 7 rfl) rfl
theorem q1514 : (Jvm.Cond.instanceMethod ({ cls := "PluralBranches$Linked", name := "joiner", desc := "(I)Ljava/lang/String;" } : Jvm.MethodName)) ∈ lw_all := lw_g (lw_at lw_m7 8 rfl) rfl
theorem q1515 : (Jvm.Cond.code ({ cls := "PluralBranches$Linked", name := "joiner", desc := "(I)Ljava/lang/String;" } : Jvm.MethodName) prog_14_method_2_code (2 : Nat) (Option.some (Jvm.ClassFile.FieldType.object "java/lang/String"))) ∈ lw_all := lw_g (lw_at lw_m7 9 rfl) rfl
theorem q1516 : (Jvm.Cond.methodLink "PluralBranches$Linked" (13 : Nat) ({ cls := "PluralBranches$Language", name := "joiner", desc := "(I)Ljava/lang/String;" } : Jvm.MethodName)) ∈ lw_all := lw_g (lw_at lw_m7 10 rfl) rfl
theorem q1581 : (Jvm.Cond.selects "PluralBranches$Linked" ({ cls := "PluralBranches$Language", name := "group", desc := "()I" } : Jvm.MethodName) ({ cls := "PluralBranches$Language", name := "group", desc := "()I" } : Jvm.MethodName)) ∈ lw_all := lw_g (lw_at lw_m7 75 rfl) rfl
theorem q2254 : (Jvm.Cond.selects "PluralBranches$Linked" ({ cls := "PluralBranches$Language", name := "with", desc := "(Z[I)LPluralBranches$Language;" } : Jvm.MethodName) ({ cls := "PluralBranches$Language", name := "with", desc := "(Z[I)LPluralBranches$Language;" } : Jvm.MethodName)) ∈ lw_all := lw_g (lw_at lw_m10 28 rfl) rfl
theorem q2282 : (Jvm.Cond.castable "PluralBranches$Linked" "java/lang/Object") ∈ lw_tbl := lw_at lw_m10 56 rfl
theorem q2310 : (Jvm.Cond.castable "PluralBranches$Linked" "PluralBranches$Language") ∈ lw_tbl := lw_at lw_m10 84 rfl
theorem in_X3 : ∀ w ∈ wsX30, w ∈ lw_all := lw_in wsX30 [294, 296, 292] (by decide +kernel) (by decide +kernel)
/-! PluralBranches$Condition -/
set_option maxRecDepth 100000
def RX4 : String := "PluralBranches$Condition"
def TX4 : u_T := fun k => match k with
  | 0 => ("PluralBranches$Condition", "category", "I", true)
  | 1 => ("PluralBranches$Condition", "rule", "I", true)
  | 2 => ("PluralBranches$Condition", "operand", "I", true)
  | 3 => ("PluralBranches$Condition", "modulus", "I", true)
  | 4 => ("PluralBranches$Condition", "low", "I", true)
  | 5 => ("PluralBranches$Condition", "high", "I", true)
  | _ => ("PluralBranches$Condition", "not", "Z", true)
def tyX4 : Nat → FieldType := fun k => match k with
  | 0 => .int
  | 1 => .int
  | 2 => .int
  | 3 => .int
  | 4 => .int
  | 5 => .int
  | _ => .boolean
abbrev wsX40 : List Cond := u_ws RX4 TX4 7
theorem nmX4 : ∀ a, a < 7 → ∀ b, b < 7 → a ≠ b → (TX4 a).2.1 ≠ (TX4 b).2.1 := by decide +kernel
theorem tyX4_ok : ∀ k, k < 7 → parseFieldDescriptor (TX4 k).2.2.1 = some (tyX4 k) := by decide +kernel
abbrev cX4_init : ByteArray := prog_6_method_1_code
def yX4_init : MethodName := ⟨RX4, "<init>", "(Z[I)V"⟩
def dkwX4_init_2 : List UInt8 := [181, 0, 29, 177]
abbrev dktX4_init_2 : List UInt8 := dkwX4_init_2 ++ []
def dkwX4_init_1 : List UInt8 := [44, 5, 46, 181, 0, 20, 42, 44, 6, 46, 181, 0, 23, 42, 44, 7, 46, 181, 0, 26, 42, 44, 8, 46]
abbrev dktX4_init_1 : List UInt8 := dkwX4_init_1 ++ dktX4_init_2
def dkwX4_init_0 : List UInt8 := [42, 183, 0, 1, 42, 27, 181, 0, 7, 42, 44, 3, 46, 181, 0, 13, 42, 44, 4, 46, 181, 0, 17, 42]
abbrev dktX4_init_0 : List UInt8 := dkwX4_init_0 ++ dktX4_init_1
theorem dksX4_init_0 : cX4_init.data.toList.drop 0 = dktX4_init_0 := by decide +kernel
theorem dksX4_init_1 : cX4_init.data.toList.drop 24 = dktX4_init_1 := dk_seg dksX4_init_0 24 rfl rfl
theorem dksX4_init_2 : cX4_init.data.toList.drop 48 = dktX4_init_2 := dk_seg dksX4_init_1 24 rfl rfl
theorem dX4_init_0 : decode cX4_init 0 = .ok (.aload_n 0, 1) := dk_42 (dk_at dksX4_init_0 0 rfl rfl)
theorem dX4_init_1 : decode cX4_init 1 = .ok (.invokespecial 1, 3) := dk_183 0 1 (dk_at dksX4_init_0 1 rfl rfl)
theorem dX4_init_4 : decode cX4_init 4 = .ok (.aload_n 0, 1) := dk_42 (dk_at dksX4_init_0 4 rfl rfl)
theorem dX4_init_5 : decode cX4_init 5 = .ok (.iload_n 1, 1) := dk_27 (dk_at dksX4_init_0 5 rfl rfl)
theorem dX4_init_6 : decode cX4_init 6 = .ok (.putfield 7, 3) := dk_181 0 7 (dk_at dksX4_init_0 6 rfl rfl)
theorem dX4_init_9 : decode cX4_init 9 = .ok (.aload_n 0, 1) := dk_42 (dk_at dksX4_init_0 9 rfl rfl)
theorem dX4_init_10 : decode cX4_init 10 = .ok (.aload_n 2, 1) := dk_44 (dk_at dksX4_init_0 10 rfl rfl)
theorem dX4_init_11 : decode cX4_init 11 = .ok (.iconst 0, 1) := dk_3 (dk_at dksX4_init_0 11 rfl rfl)
theorem dX4_init_12 : decode cX4_init 12 = .ok (.iaload, 1) := dk_46 (dk_at dksX4_init_0 12 rfl rfl)
theorem dX4_init_13 : decode cX4_init 13 = .ok (.putfield 13, 3) := dk_181 0 13 (dk_at dksX4_init_0 13 rfl rfl)
theorem dX4_init_16 : decode cX4_init 16 = .ok (.aload_n 0, 1) := dk_42 (dk_at dksX4_init_0 16 rfl rfl)
theorem dX4_init_17 : decode cX4_init 17 = .ok (.aload_n 2, 1) := dk_44 (dk_at dksX4_init_0 17 rfl rfl)
theorem dX4_init_18 : decode cX4_init 18 = .ok (.iconst 1, 1) := dk_4 (dk_at dksX4_init_0 18 rfl rfl)
theorem dX4_init_19 : decode cX4_init 19 = .ok (.iaload, 1) := dk_46 (dk_at dksX4_init_0 19 rfl rfl)
theorem dX4_init_20 : decode cX4_init 20 = .ok (.putfield 17, 3) := dk_181 0 17 (dk_at dksX4_init_0 20 rfl rfl)
theorem dX4_init_23 : decode cX4_init 23 = .ok (.aload_n 0, 1) := dk_42 (dk_at dksX4_init_0 23 rfl rfl)
theorem dX4_init_24 : decode cX4_init 24 = .ok (.aload_n 2, 1) := dk_44 (dk_at dksX4_init_1 0 rfl rfl)
theorem dX4_init_25 : decode cX4_init 25 = .ok (.iconst 2, 1) := dk_5 (dk_at dksX4_init_1 1 rfl rfl)
theorem dX4_init_26 : decode cX4_init 26 = .ok (.iaload, 1) := dk_46 (dk_at dksX4_init_1 2 rfl rfl)
theorem dX4_init_27 : decode cX4_init 27 = .ok (.putfield 20, 3) := dk_181 0 20 (dk_at dksX4_init_1 3 rfl rfl)
theorem dX4_init_30 : decode cX4_init 30 = .ok (.aload_n 0, 1) := dk_42 (dk_at dksX4_init_1 6 rfl rfl)
theorem dX4_init_31 : decode cX4_init 31 = .ok (.aload_n 2, 1) := dk_44 (dk_at dksX4_init_1 7 rfl rfl)
theorem dX4_init_32 : decode cX4_init 32 = .ok (.iconst 3, 1) := dk_6 (dk_at dksX4_init_1 8 rfl rfl)
theorem dX4_init_33 : decode cX4_init 33 = .ok (.iaload, 1) := dk_46 (dk_at dksX4_init_1 9 rfl rfl)
theorem dX4_init_34 : decode cX4_init 34 = .ok (.putfield 23, 3) := dk_181 0 23 (dk_at dksX4_init_1 10 rfl rfl)
theorem dX4_init_37 : decode cX4_init 37 = .ok (.aload_n 0, 1) := dk_42 (dk_at dksX4_init_1 13 rfl rfl)
theorem dX4_init_38 : decode cX4_init 38 = .ok (.aload_n 2, 1) := dk_44 (dk_at dksX4_init_1 14 rfl rfl)
theorem dX4_init_39 : decode cX4_init 39 = .ok (.iconst 4, 1) := dk_7 (dk_at dksX4_init_1 15 rfl rfl)
theorem dX4_init_40 : decode cX4_init 40 = .ok (.iaload, 1) := dk_46 (dk_at dksX4_init_1 16 rfl rfl)
theorem dX4_init_41 : decode cX4_init 41 = .ok (.putfield 26, 3) := dk_181 0 26 (dk_at dksX4_init_1 17 rfl rfl)
theorem dX4_init_44 : decode cX4_init 44 = .ok (.aload_n 0, 1) := dk_42 (dk_at dksX4_init_1 20 rfl rfl)
theorem dX4_init_45 : decode cX4_init 45 = .ok (.aload_n 2, 1) := dk_44 (dk_at dksX4_init_1 21 rfl rfl)
theorem dX4_init_46 : decode cX4_init 46 = .ok (.iconst 5, 1) := dk_8 (dk_at dksX4_init_1 22 rfl rfl)
theorem dX4_init_47 : decode cX4_init 47 = .ok (.iaload, 1) := dk_46 (dk_at dksX4_init_1 23 rfl rfl)
theorem dX4_init_48 : decode cX4_init 48 = .ok (.putfield 29, 3) := dk_181 0 29 (dk_at dksX4_init_2 0 rfl rfl)
theorem dX4_init_51 : decode cX4_init 51 = .ok (.return_, 1) := dk_177 (dk_at dksX4_init_2 3 rfl rfl)
abbrev cX4_holds : ByteArray := prog_6_method_2_code
def yX4_holds : MethodName := ⟨RX4, "holds", "(LPluralBranches$Decimal;)Z"⟩
def dkwX4_holds_2 : List UInt8 := [159, 0, 7, 4, 167, 0, 4, 3, 172]
abbrev dktX4_holds_2 : List UInt8 := dkwX4_holds_2 ++ []
def dkwX4_holds_1 : List UInt8 := [180, 0, 23, 133, 113, 42, 180, 0, 26, 133, 42, 180, 0, 29, 133, 184, 0, 37, 42, 180, 0, 7]
abbrev dktX4_holds_1 : List UInt8 := dkwX4_holds_1 ++ dktX4_holds_2
def dkwX4_holds_0 : List UInt8 := [43, 42, 180, 0, 20, 182, 0, 32, 65, 42, 180, 0, 23, 154, 0, 7, 32, 167, 0, 10, 32, 42]
abbrev dktX4_holds_0 : List UInt8 := dkwX4_holds_0 ++ dktX4_holds_1
theorem dksX4_holds_0 : cX4_holds.data.toList.drop 0 = dktX4_holds_0 := by decide +kernel
theorem dksX4_holds_1 : cX4_holds.data.toList.drop 22 = dktX4_holds_1 := dk_seg dksX4_holds_0 22 rfl rfl
theorem dksX4_holds_2 : cX4_holds.data.toList.drop 44 = dktX4_holds_2 := dk_seg dksX4_holds_1 22 rfl rfl
theorem dX4_holds_0 : decode cX4_holds 0 = .ok (.aload_n 1, 1) := dk_43 (dk_at dksX4_holds_0 0 rfl rfl)
theorem dX4_holds_1 : decode cX4_holds 1 = .ok (.aload_n 0, 1) := dk_42 (dk_at dksX4_holds_0 1 rfl rfl)
theorem dX4_holds_2 : decode cX4_holds 2 = .ok (.getfield 20, 3) := dk_180 0 20 (dk_at dksX4_holds_0 2 rfl rfl)
theorem dX4_holds_5 : decode cX4_holds 5 = .ok (.invokevirtual 32, 3) := dk_182 0 32 (dk_at dksX4_holds_0 5 rfl rfl)
theorem dX4_holds_8 : decode cX4_holds 8 = .ok (.lstore_n 2, 1) := dk_65 (dk_at dksX4_holds_0 8 rfl rfl)
theorem dX4_holds_9 : decode cX4_holds 9 = .ok (.aload_n 0, 1) := dk_42 (dk_at dksX4_holds_0 9 rfl rfl)
theorem dX4_holds_10 : decode cX4_holds 10 = .ok (.getfield 23, 3) := dk_180 0 23 (dk_at dksX4_holds_0 10 rfl rfl)
theorem dX4_holds_13 : decode cX4_holds 13 = .ok (.ifCond .ne 7, 3) := dk_154 0 7 (dk_at dksX4_holds_0 13 rfl rfl)
theorem dX4_holds_16 : decode cX4_holds 16 = .ok (.lload_n 2, 1) := dk_32 (dk_at dksX4_holds_0 16 rfl rfl)
theorem dX4_holds_17 : decode cX4_holds 17 = .ok (.goto 10, 3) := dk_167 0 10 (dk_at dksX4_holds_0 17 rfl rfl)
theorem dX4_holds_20 : decode cX4_holds 20 = .ok (.lload_n 2, 1) := dk_32 (dk_at dksX4_holds_0 20 rfl rfl)
theorem dX4_holds_21 : decode cX4_holds 21 = .ok (.aload_n 0, 1) := dk_42 (dk_at dksX4_holds_0 21 rfl rfl)
theorem dX4_holds_22 : decode cX4_holds 22 = .ok (.getfield 23, 3) := dk_180 0 23 (dk_at dksX4_holds_1 0 rfl rfl)
theorem dX4_holds_25 : decode cX4_holds 25 = .ok (.i2l, 1) := dk_133 (dk_at dksX4_holds_1 3 rfl rfl)
theorem dX4_holds_26 : decode cX4_holds 26 = .ok (.lrem, 1) := dk_113 (dk_at dksX4_holds_1 4 rfl rfl)
theorem dX4_holds_27 : decode cX4_holds 27 = .ok (.aload_n 0, 1) := dk_42 (dk_at dksX4_holds_1 5 rfl rfl)
theorem dX4_holds_28 : decode cX4_holds 28 = .ok (.getfield 26, 3) := dk_180 0 26 (dk_at dksX4_holds_1 6 rfl rfl)
theorem dX4_holds_31 : decode cX4_holds 31 = .ok (.i2l, 1) := dk_133 (dk_at dksX4_holds_1 9 rfl rfl)
theorem dX4_holds_32 : decode cX4_holds 32 = .ok (.aload_n 0, 1) := dk_42 (dk_at dksX4_holds_1 10 rfl rfl)
theorem dX4_holds_33 : decode cX4_holds 33 = .ok (.getfield 29, 3) := dk_180 0 29 (dk_at dksX4_holds_1 11 rfl rfl)
theorem dX4_holds_36 : decode cX4_holds 36 = .ok (.i2l, 1) := dk_133 (dk_at dksX4_holds_1 14 rfl rfl)
theorem dX4_holds_37 : decode cX4_holds 37 = .ok (.invokestatic 37, 3) := dk_184 0 37 (dk_at dksX4_holds_1 15 rfl rfl)
theorem dX4_holds_40 : decode cX4_holds 40 = .ok (.aload_n 0, 1) := dk_42 (dk_at dksX4_holds_1 18 rfl rfl)
theorem dX4_holds_41 : decode cX4_holds 41 = .ok (.getfield 7, 3) := dk_180 0 7 (dk_at dksX4_holds_1 19 rfl rfl)
theorem dX4_holds_44 : decode cX4_holds 44 = .ok (.if_icmp .eq 7, 3) := dk_159 0 7 (dk_at dksX4_holds_2 0 rfl rfl)
theorem dX4_holds_47 : decode cX4_holds 47 = .ok (.iconst 1, 1) := dk_4 (dk_at dksX4_holds_2 3 rfl rfl)
theorem dX4_holds_48 : decode cX4_holds 48 = .ok (.goto 4, 3) := dk_167 0 4 (dk_at dksX4_holds_2 4 rfl rfl)
theorem dX4_holds_51 : decode cX4_holds 51 = .ok (.iconst 0, 1) := dk_3 (dk_at dksX4_holds_2 7 rfl rfl)
theorem dX4_holds_52 : decode cX4_holds 52 = .ok (.ireturn, 1) := dk_172 (dk_at dksX4_holds_2 8 rfl rfl)
theorem q78 : (Jvm.Cond.initialized "PluralBranches$Condition") ∈ lw_all := lw_g (lw_at lw_m1 12 rfl) rfl
theorem q248 : (Jvm.Cond.selects "PluralBranches$Condition" ({ cls := "java/lang/Object", name := "getClass", desc := "()Ljava/lang/Class;" } : Jvm.MethodName) ({ cls := "java/lang/Object", name := "getClass", desc := "()Ljava/lang/Class;" } : Jvm.MethodName)) ∈ lw_all := lw_g (lw_at lw_m1 182 rfl) rfl
theorem q307 : (Jvm.Cond.instantiable "PluralBranches$Condition" (7 : Nat)) ∈ lw_all := lw_g (lw_at lw_m2 1 rfl) rfl
theorem q309 : (Jvm.Cond.instanceMethod ({ cls := "PluralBranches$Condition", name := "<init>", desc := "(Z[I)V" } : Jvm.MethodName)) ∈ lw_all := lw_g (lw_at lw_m2 3 rfl) rfl
theorem q310 : (Jvm.Cond.code ({ cls := "PluralBranches$Condition", name := "<init>", desc := "(Z[I)V" } : Jvm.MethodName) prog_6_method_1_code (3 : Nat) (Option.none : Option Jvm.ClassFile.FieldType)) ∈ lw_all := lw_g (lw_at lw_m2 4 rfl) rfl
theorem q311 : (Jvm.Cond.methodLink "PluralBranches$Condition" (1 : Nat) ({ cls := "java/lang/Object", name := "<init>", desc := "()V" } : Jvm.MethodName)) ∈ lw_all := lw_g (lw_at lw_m2 5 rfl) rfl
theorem q312 : (Jvm.Cond.fieldLink "PluralBranches$Condition" (13 : Nat) "PluralBranches$Condition" "category" "I") ∈ lw_all := lw_g (lw_at lw_m2 6 rfl) rfl
theorem q314 : (Jvm.Cond.fieldLink "PluralBranches$Condition" (17 : Nat) "PluralBranches$Condition" "rule" "I") ∈ lw_all := lw_g (lw_at lw_m2 8 rfl) rfl
theorem q316 : (Jvm.Cond.fieldLink "PluralBranches$Condition" (20 : Nat) "PluralBranches$Condition" "operand" "I") ∈ lw_all := lw_g (lw_at lw_m2 10 rfl) rfl
theorem q317 : (Jvm.Cond.fieldLink "PluralBranches$Condition" (23 : Nat) "PluralBranches$Condition" "modulus" "I") ∈ lw_all := lw_g (lw_at lw_m2 11 rfl) rfl
theorem q318 : (Jvm.Cond.fieldLink "PluralBranches$Condition" (26 : Nat) "PluralBranches$Condition" "low" "I") ∈ lw_all := lw_g (lw_at lw_m2 12 rfl) rfl
theorem q319 : (Jvm.Cond.fieldLink "PluralBranches$Condition" (29 : Nat) "PluralBranches$Condition" "high" "I") ∈ lw_all := lw_g (lw_at lw_m2 13 rfl) rfl
theorem q320 : (Jvm.Cond.fieldLink "PluralBranches$Condition" (7 : Nat) "PluralBranches$Condition" "not" "Z") ∈ lw_all := lw_g (lw_at lw_m2 14 rfl) rfl
theorem q321 : (Jvm.Cond.laysFinal "PluralBranches$Condition" "PluralBranches$Condition" "category" "I") ∈ lw_all := lw_g (lw_at lw_m2 15 rfl) rfl
theorem q322 : (Jvm.Cond.soleField "PluralBranches$Condition" "category") ∈ lw_all := lw_g (lw_at lw_m2 16 rfl) rfl
theorem q323 : (Jvm.Cond.laysFinal "PluralBranches$Condition" "PluralBranches$Condition" "rule" "I") ∈ lw_all := lw_g (lw_at lw_m2 17 rfl) rfl
theorem q324 : (Jvm.Cond.soleField "PluralBranches$Condition" "rule") ∈ lw_all := lw_g (lw_at lw_m2 18 rfl) rfl
theorem q325 : (Jvm.Cond.laysFinal "PluralBranches$Condition" "PluralBranches$Condition" "operand" "I") ∈ lw_all := lw_g (lw_at lw_m2 19 rfl) rfl
theorem q326 : (Jvm.Cond.soleField "PluralBranches$Condition" "operand") ∈ lw_all := lw_g (lw_at lw_m2 20 rfl) rfl
theorem q327 : (Jvm.Cond.laysFinal "PluralBranches$Condition" "PluralBranches$Condition" "modulus" "I") ∈ lw_all := lw_g (lw_at lw_m2 21 rfl) rfl
theorem q328 : (Jvm.Cond.soleField "PluralBranches$Condition" "modulus") ∈ lw_all := lw_g (lw_at lw_m2 22 rfl) rfl
theorem q329 : (Jvm.Cond.laysFinal "PluralBranches$Condition" "PluralBranches$Condition" "low" "I") ∈ lw_all := lw_g (lw_at lw_m2 23 rfl) rfl
theorem q330 : (Jvm.Cond.soleField "PluralBranches$Condition" "low") ∈ lw_all := lw_g (lw_at lw_m2 24 rfl) rfl
theorem q331 : (Jvm.Cond.laysFinal "PluralBranches$Condition" "PluralBranches$Condition" "high" "I") ∈ lw_all := lw_g (lw_at lw_m2 25 rfl) rfl
theorem q332 : (Jvm.Cond.soleField "PluralBranches$Condition" "high") ∈ lw_all := lw_g (lw_at lw_m2 26 rfl) rfl
theorem q333 : (Jvm.Cond.laysFinal "PluralBranches$Condition" "PluralBranches$Condition" "not" "Z") ∈ lw_all := lw_g (lw_at lw_m2 27 rfl) rfl
theorem q334 : (Jvm.Cond.soleField "PluralBranches$Condition" "not") ∈ lw_all := lw_g (lw_at lw_m2 28 rfl) rfl
theorem q335 : (Jvm.Cond.superclass "PluralBranches$Condition" "java/lang/Object") ∈ lw_all := lw_g (lw_at lw_m2 29 rfl) rfl
theorem q482 : (Jvm.Cond.instanceMethod ({ cls := "PluralBranches$Condition", name := "holds", desc := "(LPluralBranches$Decimal;)Z" } : Jvm.MethodName)) ∈ lw_all := lw_g (lw_at lw_m2 176 rfl) rfl
theorem q483 : (Jvm.Cond.selects "PluralBranches$Condition" ({ cls := "PluralBranches$Condition", name := "holds", desc := "(LPluralBranches$Decimal;)Z" } : Jvm.MethodName) ({ cls := "PluralBranches$Condition", name := "holds", desc := "(LPluralBranches$Decimal;)Z" } : Jvm.MethodName)) ∈ lw_all := lw_g (lw_at lw_m2 177 rfl) rfl
theorem q484 : (Jvm.Cond.code ({ cls := "PluralBranches$Condition", name := "holds", desc := "(LPluralBranches$Decimal;)Z" } : Jvm.MethodName) prog_6_method_2_code (4 : Nat) (Option.some Jvm.ClassFile.FieldType.boolean)) ∈ lw_all := lw_g (lw_at lw_m2 178 rfl) rfl
theorem q485 : (Jvm.Cond.methodLink "PluralBranches$Condition" (32 : Nat) ({ cls := "PluralBranches$Decimal", name := "operand", desc := "(I)J" } : Jvm.MethodName)) ∈ lw_all := lw_g (lw_at lw_m2 179 rfl) rfl
theorem q486 : (Jvm.Cond.methodLinkNest "PluralBranches$Condition" (37 : Nat) ({ cls := "PluralBranches", name := "in", desc := "(JJJ)Z" } : Jvm.MethodName) "PluralBranches") ∈ lw_tbl := lw_at lw_m2 180 rfl
theorem q2284 : (Jvm.Cond.castable "PluralBranches$Condition" "java/lang/Object") ∈ lw_tbl := lw_at lw_m10 58 rfl
theorem in_X4 : ∀ w ∈ wsX40, w ∈ lw_all := lw_in wsX40 [321, 323, 325, 327, 329, 331, 333] (by decide +kernel) (by decide +kernel)
/-! PluralBranches$Everywhere -/
set_option maxRecDepth 100000
def RX5 : String := "PluralBranches$Everywhere"
def TX5 : u_T := fun k => match k with
  | 0 => ("PluralBranches$Language", "all", "Ljava/util/ArrayList;", true)
  | _ => ("PluralBranches$Language", "tried", "[LPluralBranches$Decimal;", false)
def tyX5 : Nat → FieldType := fun k => match k with
  | 0 => .object "java/util/ArrayList"
  | _ => .array (.object "PluralBranches$Decimal")
abbrev wsX50 : List Cond := u_ws RX5 TX5 2
theorem nmX5 : ∀ a, a < 2 → ∀ b, b < 2 → a ≠ b → (TX5 a).2.1 ≠ (TX5 b).2.1 := by decide +kernel
theorem tyX5_ok : ∀ k, k < 2 → parseFieldDescriptor (TX5 k).2.2.1 = some (tyX5 k) := by decide +kernel
abbrev cX5_init : ByteArray := prog_9_method_1_code
def yX5_init : MethodName := ⟨RX5, "<init>", "()V"⟩
theorem dX5_init_0 : decode cX5_init 0 = .ok (.aload_n 0, 1) := by decide +kernel
theorem dX5_init_1 : decode cX5_init 1 = .ok (.invokespecial 1, 3) := by decide +kernel
theorem dX5_init_4 : decode cX5_init 4 = .ok (.return_, 1) := by decide +kernel
abbrev cX5_joiner : ByteArray := prog_9_method_2_code
def yX5_joiner : MethodName := ⟨RX5, "joiner", "(I)Ljava/lang/String;"⟩
def dkwX5_joiner_0 : List UInt8 := [42, 3, 183, 0, 7, 176]
abbrev dktX5_joiner_0 : List UInt8 := dkwX5_joiner_0 ++ []
theorem dksX5_joiner_0 : cX5_joiner.data.toList.drop 0 = dktX5_joiner_0 := by decide +kernel
theorem dX5_joiner_0 : decode cX5_joiner 0 = .ok (.aload_n 0, 1) := dk_42 (dk_at dksX5_joiner_0 0 rfl rfl)
theorem dX5_joiner_1 : decode cX5_joiner 1 = .ok (.iconst 0, 1) := dk_3 (dk_at dksX5_joiner_0 1 rfl rfl)
theorem dX5_joiner_2 : decode cX5_joiner 2 = .ok (.invokespecial 7, 3) := dk_183 0 7 (dk_at dksX5_joiner_0 2 rfl rfl)
theorem dX5_joiner_5 : decode cX5_joiner 5 = .ok (.areturn, 1) := dk_176 (dk_at dksX5_joiner_0 5 rfl rfl)
theorem q79 : (Jvm.Cond.initialized "PluralBranches$Everywhere") ∈ lw_all := lw_g (lw_at lw_m1 13 rfl) rfl
theorem q251 : (Jvm.Cond.selects "PluralBranches$Everywhere" ({ cls := "java/lang/Object", name := "getClass", desc := "()Ljava/lang/Class;" } : Jvm.MethodName) ({ cls := "java/lang/Object", name := "getClass", desc := "()Ljava/lang/Class;" } : Jvm.MethodName)) ∈ lw_all := lw_g (lw_at lw_m1 185 rfl) rfl
theorem q352 : (Jvm.Cond.instantiable "PluralBranches$Everywhere" (2 : Nat)) ∈ lw_all := lw_g (lw_at lw_m2 46 rfl) rfl
theorem q354 : (Jvm.Cond.instanceMethod ({ cls := "PluralBranches$Everywhere", name := "<init>", desc := "()V" } : Jvm.MethodName)) ∈ lw_all := lw_g (lw_at lw_m2 48 rfl) rfl
theorem q355 : (Jvm.Cond.code ({ cls := "PluralBranches$Everywhere", name := "<init>", desc := "()V" } : Jvm.MethodName) prog_9_method_1_code (1 : Nat) (Option.none : Option Jvm.ClassFile.FieldType)) ∈ lw_all := lw_g (lw_at lw_m2 49 rfl) rfl
theorem q356 : (Jvm.Cond.methodLinkNest "PluralBranches$Everywhere" (1 : Nat) ({ cls := "PluralBranches$Language", name := "<init>", desc := "()V" } : Jvm.MethodName) "PluralBranches") ∈ lw_tbl := lw_at lw_m2 50 rfl
theorem q357 : (Jvm.Cond.laysFinal "PluralBranches$Everywhere" "PluralBranches$Language" "all" "Ljava/util/ArrayList;") ∈ lw_all := lw_g (lw_at lw_m2 51 rfl) rfl
theorem q358 : (Jvm.Cond.lays "PluralBranches$Everywhere" "PluralBranches$Language" "tried" "[LPluralBranches$Decimal;") ∈ lw_all := lw_g (lw_at lw_m2 52 rfl) rfl
theorem q359 : (Jvm.Cond.superclass "PluralBranches$Everywhere" "PluralBranches$Language") ∈ lw_all := lw_g (lw_at lw_m2 53 rfl) rfl
theorem q361 : (Jvm.Cond.sameMethod "PluralBranches$Everywhere" "PluralBranches$Language" "with" "(Z[I)LPluralBranches$Language;") ∈ lw_all := lw_g (lw_at lw_m2 55 rfl) rfl
theorem q362 : (Jvm.Cond.selects "PluralBranches$Everywhere" ({ cls := "PluralBranches$Everywhere", name := "with", desc := "(Z[I)LPluralBranches$Language;" } : Jvm.MethodName) ({ cls := "PluralBranches$Language", name := "with", desc := "(Z[I)LPluralBranches$Language;" } : Jvm.MethodName)) ∈ lw_all := lw_g (lw_at lw_m2 56 rfl) rfl
theorem q454 : (Jvm.Cond.selects "PluralBranches$Everywhere" ({ cls := "PluralBranches$Language", name := "category", desc := "(LPluralBranches$Decimal;)I" } : Jvm.MethodName) ({ cls := "PluralBranches$Language", name := "category", desc := "(LPluralBranches$Decimal;)I" } : Jvm.MethodName)) ∈ lw_all := lw_g (lw_at lw_m2 148 rfl) rfl
theorem q495 : (Jvm.Cond.selects "PluralBranches$Everywhere" ({ cls := "PluralBranches$Language", name := "used", desc := "()I" } : Jvm.MethodName) ({ cls := "PluralBranches$Language", name := "used", desc := "()I" } : Jvm.MethodName)) ∈ lw_all := lw_g (lw_at lw_m2 189 rfl) rfl
theorem q1447 : (Jvm.Cond.selects "PluralBranches$Everywhere" ({ cls := "PluralBranches$Language", name := "point", desc := "()I" } : Jvm.MethodName) ({ cls := "PluralBranches$Language", name := "point", desc := "()I" } : Jvm.MethodName)) ∈ lw_all := lw_g (lw_at lw_m6 181 rfl) rfl
theorem q1506 : (Jvm.Cond.selects "PluralBranches$Everywhere" ({ cls := "PluralBranches$Language", name := "joiner", desc := "(I)Ljava/lang/String;" } : Jvm.MethodName) ({ cls := "PluralBranches$Everywhere", name := "joiner", desc := "(I)Ljava/lang/String;" } : Jvm.MethodName)) ∈ lw_all := lw_g (lw_at lw_m7 0 rfl) rfl
theorem q1507 : (Jvm.Cond.instanceMethod ({ cls := "PluralBranches$Everywhere", name := "joiner", desc := "(I)Ljava/lang/String;" } : Jvm.MethodName)) ∈ lw_all := lw_g (lw_at lw_m7 1 rfl) rfl
theorem q1508 : (Jvm.Cond.code ({ cls := "PluralBranches$Everywhere", name := "joiner", desc := "(I)Ljava/lang/String;" } : Jvm.MethodName) prog_9_method_2_code (2 : Nat) (Option.some (Jvm.ClassFile.FieldType.object "java/lang/String"))) ∈ lw_all := lw_g (lw_at lw_m7 2 rfl) rfl
theorem q1509 : (Jvm.Cond.methodLink "PluralBranches$Everywhere" (7 : Nat) ({ cls := "PluralBranches$Language", name := "joiner", desc := "(I)Ljava/lang/String;" } : Jvm.MethodName)) ∈ lw_all := lw_g (lw_at lw_m7 3 rfl) rfl
theorem q1580 : (Jvm.Cond.selects "PluralBranches$Everywhere" ({ cls := "PluralBranches$Language", name := "group", desc := "()I" } : Jvm.MethodName) ({ cls := "PluralBranches$Language", name := "group", desc := "()I" } : Jvm.MethodName)) ∈ lw_all := lw_g (lw_at lw_m7 74 rfl) rfl
theorem q2253 : (Jvm.Cond.selects "PluralBranches$Everywhere" ({ cls := "PluralBranches$Language", name := "with", desc := "(Z[I)LPluralBranches$Language;" } : Jvm.MethodName) ({ cls := "PluralBranches$Language", name := "with", desc := "(Z[I)LPluralBranches$Language;" } : Jvm.MethodName)) ∈ lw_all := lw_g (lw_at lw_m10 27 rfl) rfl
theorem q2285 : (Jvm.Cond.castable "PluralBranches$Everywhere" "java/lang/Object") ∈ lw_tbl := lw_at lw_m10 59 rfl
theorem q2311 : (Jvm.Cond.castable "PluralBranches$Everywhere" "PluralBranches$Language") ∈ lw_tbl := lw_at lw_m10 85 rfl
theorem in_X5 : ∀ w ∈ wsX50, w ∈ lw_all := lw_in wsX50 [357, 358] (by decide +kernel) (by decide +kernel)
/-! PluralBranches$Bare -/
set_option maxRecDepth 100000
def RX6 : String := "PluralBranches$Bare"
def TX6 : u_T := fun k => match k with
  | 0 => ("PluralBranches$Language", "all", "Ljava/util/ArrayList;", true)
  | _ => ("PluralBranches$Language", "tried", "[LPluralBranches$Decimal;", false)
def tyX6 : Nat → FieldType := fun k => match k with
  | 0 => .object "java/util/ArrayList"
  | _ => .array (.object "PluralBranches$Decimal")
abbrev wsX60 : List Cond := u_ws RX6 TX6 2
theorem nmX6 : ∀ a, a < 2 → ∀ b, b < 2 → a ≠ b → (TX6 a).2.1 ≠ (TX6 b).2.1 := by decide +kernel
theorem tyX6_ok : ∀ k, k < 2 → parseFieldDescriptor (TX6 k).2.2.1 = some (tyX6 k) := by decide +kernel
abbrev cX6_init : ByteArray := prog_2_method_1_code
def yX6_init : MethodName := ⟨RX6, "<init>", "()V"⟩
theorem dX6_init_0 : decode cX6_init 0 = .ok (.aload_n 0, 1) := by decide +kernel
theorem dX6_init_1 : decode cX6_init 1 = .ok (.invokespecial 1, 3) := by decide +kernel
theorem dX6_init_4 : decode cX6_init 4 = .ok (.return_, 1) := by decide +kernel
abbrev cX6_point : ByteArray := prog_2_method_2_code
def yX6_point : MethodName := ⟨RX6, "point", "()I"⟩
theorem dX6_point_0 : decode cX6_point 0 = .ok (.bipush 46, 2) := by decide +kernel
theorem dX6_point_2 : decode cX6_point 2 = .ok (.ireturn, 1) := by decide +kernel
abbrev cX6_joiner : ByteArray := prog_2_method_4_code
def yX6_joiner : MethodName := ⟨RX6, "joiner", "(I)Ljava/lang/String;"⟩
theorem dX6_joiner_0 : decode cX6_joiner 0 = .ok (.ldc 7, 2) := by decide +kernel
theorem dX6_joiner_2 : decode cX6_joiner 2 = .ok (.areturn, 1) := by decide +kernel
abbrev cX6_group : ByteArray := prog_2_method_3_code
def yX6_group : MethodName := ⟨RX6, "group", "()I"⟩
theorem dX6_group_0 : decode cX6_group 0 = .ok (.bipush 44, 2) := by decide +kernel
theorem dX6_group_2 : decode cX6_group 2 = .ok (.ireturn, 1) := by decide +kernel
theorem q80 : (Jvm.Cond.initialized "PluralBranches$Bare") ∈ lw_all := lw_g (lw_at lw_m1 14 rfl) rfl
theorem q245 : (Jvm.Cond.selects "PluralBranches$Bare" ({ cls := "java/lang/Object", name := "getClass", desc := "()Ljava/lang/Class;" } : Jvm.MethodName) ({ cls := "java/lang/Object", name := "getClass", desc := "()Ljava/lang/Class;" } : Jvm.MethodName)) ∈ lw_all := lw_g (lw_at lw_m1 179 rfl) rfl
theorem q364 : (Jvm.Cond.instantiable "PluralBranches$Bare" (2 : Nat)) ∈ lw_all := lw_g (lw_at lw_m2 58 rfl) rfl
theorem q366 : (Jvm.Cond.instanceMethod ({ cls := "PluralBranches$Bare", name := "<init>", desc := "()V" } : Jvm.MethodName)) ∈ lw_all := lw_g (lw_at lw_m2 60 rfl) rfl
theorem q367 : (Jvm.Cond.code ({ cls := "PluralBranches$Bare", name := "<init>", desc := "()V" } : Jvm.MethodName) prog_2_method_1_code (1 : Nat) (Option.none : Option Jvm.ClassFile.FieldType)) ∈ lw_all := lw_g (lw_at lw_m2 61 rfl) rfl
theorem q368 : (Jvm.Cond.methodLinkNest "PluralBranches$Bare" (1 : Nat) ({ cls := "PluralBranches$Language", name := "<init>", desc := "()V" } : Jvm.MethodName) "PluralBranches") ∈ lw_tbl := lw_at lw_m2 62 rfl
theorem q369 : (Jvm.Cond.laysFinal "PluralBranches$Bare" "PluralBranches$Language" "all" "Ljava/util/ArrayList;") ∈ lw_all := lw_g (lw_at lw_m2 63 rfl) rfl
theorem q370 : (Jvm.Cond.lays "PluralBranches$Bare" "PluralBranches$Language" "tried" "[LPluralBranches$Decimal;") ∈ lw_all := lw_g (lw_at lw_m2 64 rfl) rfl
theorem q371 : (Jvm.Cond.superclass "PluralBranches$Bare" "PluralBranches$Language") ∈ lw_all := lw_g (lw_at lw_m2 65 rfl) rfl
theorem q453 : (Jvm.Cond.selects "PluralBranches$Bare" ({ cls := "PluralBranches$Language", name := "category", desc := "(LPluralBranches$Decimal;)I" } : Jvm.MethodName) ({ cls := "PluralBranches$Language", name := "category", desc := "(LPluralBranches$Decimal;)I" } : Jvm.MethodName)) ∈ lw_all := lw_g (lw_at lw_m2 147 rfl) rfl
theorem q494 : (Jvm.Cond.selects "PluralBranches$Bare" ({ cls := "PluralBranches$Language", name := "used", desc := "()I" } : Jvm.MethodName) ({ cls := "PluralBranches$Language", name := "used", desc := "()I" } : Jvm.MethodName)) ∈ lw_all := lw_g (lw_at lw_m2 188 rfl) rfl
theorem q1444 : (Jvm.Cond.selects "PluralBranches$Bare" ({ cls := "PluralBranches$Language", name := "point", desc := "()I" } : Jvm.MethodName) ({ cls := "PluralBranches$Bare", name := "point", desc := "()I" } : Jvm.MethodName)) ∈ lw_all := lw_g (lw_at lw_m6 178 rfl) rfl
theorem q1445 : (Jvm.Cond.instanceMethod ({ cls := "PluralBranches$Bare", name := "point", desc := "()I" } : Jvm.MethodName)) ∈ lw_all := lw_g (lw_at lw_m6 179 rfl) rfl
theorem q1446 : (Jvm.Cond.code ({ cls := "PluralBranches$Bare", name := "point", desc := "()I" } : Jvm.MethodName) prog_2_method_2_code (1 : Nat) (Option.some Jvm.ClassFile.FieldType.int)) ∈ lw_all := lw_g (lw_at lw_m6 180 rfl) rfl
theorem q1502 : (Jvm.Cond.selects "PluralBranches$Bare" ({ cls := "PluralBranches$Language", name := "joiner", desc := "(I)Ljava/lang/String;" } : Jvm.MethodName) ({ cls := "PluralBranches$Bare", name := "joiner", desc := "(I)Ljava/lang/String;" } : Jvm.MethodName)) ∈ lw_all := lw_g (lw_at lw_m6 236 rfl) rfl
theorem q1503 : (Jvm.Cond.instanceMethod ({ cls := "PluralBranches$Bare", name := "joiner", desc := "(I)Ljava/lang/String;" } : Jvm.MethodName)) ∈ lw_all := lw_g (lw_at lw_m6 237 rfl) rfl
theorem q1504 : (Jvm.Cond.code ({ cls := "PluralBranches$Bare", name := "joiner", desc := "(I)Ljava/lang/String;" } : Jvm.MethodName) prog_2_method_4_code (2 : Nat) (Option.some (Jvm.ClassFile.FieldType.object "java/lang/String"))) ∈ lw_all := lw_g (lw_at lw_m6 238 rfl) rfl
theorem q1505 : (Jvm.Cond.stringRef "PluralBranches$Bare" (7 : Nat) ",") ∈ lw_tbl := lw_at lw_m6 239 rfl
theorem q1577 : (Jvm.Cond.selects "PluralBranches$Bare" ({ cls := "PluralBranches$Language", name := "group", desc := "()I" } : Jvm.MethodName) ({ cls := "PluralBranches$Bare", name := "group", desc := "()I" } : Jvm.MethodName)) ∈ lw_all := lw_g (lw_at lw_m7 71 rfl) rfl
theorem q1578 : (Jvm.Cond.instanceMethod ({ cls := "PluralBranches$Bare", name := "group", desc := "()I" } : Jvm.MethodName)) ∈ lw_all := lw_g (lw_at lw_m7 72 rfl) rfl
theorem q1579 : (Jvm.Cond.code ({ cls := "PluralBranches$Bare", name := "group", desc := "()I" } : Jvm.MethodName) prog_2_method_3_code (1 : Nat) (Option.some Jvm.ClassFile.FieldType.int)) ∈ lw_all := lw_g (lw_at lw_m7 73 rfl) rfl
theorem q2252 : (Jvm.Cond.selects "PluralBranches$Bare" ({ cls := "PluralBranches$Language", name := "with", desc := "(Z[I)LPluralBranches$Language;" } : Jvm.MethodName) ({ cls := "PluralBranches$Language", name := "with", desc := "(Z[I)LPluralBranches$Language;" } : Jvm.MethodName)) ∈ lw_all := lw_g (lw_at lw_m10 26 rfl) rfl
theorem q2286 : (Jvm.Cond.castable "PluralBranches$Bare" "java/lang/Object") ∈ lw_tbl := lw_at lw_m10 60 rfl
theorem q2312 : (Jvm.Cond.castable "PluralBranches$Bare" "PluralBranches$Language") ∈ lw_tbl := lw_at lw_m10 86 rfl
theorem in_X6 : ∀ w ∈ wsX60, w ∈ lw_all := lw_in wsX60 [369, 370] (by decide +kernel) (by decide +kernel)
/-! PluralBranches$Stopped -/
set_option maxRecDepth 100000
def RX7 : String := "PluralBranches$Stopped"
def TX7 : u_T := fun k => match k with
  | 0 => ("PluralBranches$Language", "all", "Ljava/util/ArrayList;", true)
  | _ => ("PluralBranches$Language", "tried", "[LPluralBranches$Decimal;", false)
def tyX7 : Nat → FieldType := fun k => match k with
  | 0 => .object "java/util/ArrayList"
  | _ => .array (.object "PluralBranches$Decimal")
abbrev wsX70 : List Cond := u_ws RX7 TX7 2
theorem nmX7 : ∀ a, a < 2 → ∀ b, b < 2 → a ≠ b → (TX7 a).2.1 ≠ (TX7 b).2.1 := by decide +kernel
theorem tyX7_ok : ∀ k, k < 2 → parseFieldDescriptor (TX7 k).2.2.1 = some (tyX7 k) := by decide +kernel
abbrev cX7_init : ByteArray := prog_28_method_1_code
def yX7_init : MethodName := ⟨RX7, "<init>", "()V"⟩
theorem dX7_init_0 : decode cX7_init 0 = .ok (.aload_n 0, 1) := by decide +kernel
theorem dX7_init_1 : decode cX7_init 1 = .ok (.invokespecial 1, 3) := by decide +kernel
theorem dX7_init_4 : decode cX7_init 4 = .ok (.return_, 1) := by decide +kernel
abbrev cX7_point : ByteArray := prog_28_method_2_code
def yX7_point : MethodName := ⟨RX7, "point", "()I"⟩
theorem dX7_point_0 : decode cX7_point 0 = .ok (.bipush 46, 2) := by decide +kernel
theorem dX7_point_2 : decode cX7_point 2 = .ok (.ireturn, 1) := by decide +kernel
abbrev cX7_joiner : ByteArray := prog_28_method_4_code
def yX7_joiner : MethodName := ⟨RX7, "joiner", "(I)Ljava/lang/String;"⟩
def dkwX7_joiner_1 : List UInt8 := [176]
abbrev dktX7_joiner_1 : List UInt8 := dkwX7_joiner_1 ++ []
def dkwX7_joiner_0 : List UInt8 := [27, 154, 0, 8, 18, 7, 167, 0, 18, 27, 4, 160, 0, 11, 42, 27, 183, 0, 9, 167, 0, 5, 18, 13]
abbrev dktX7_joiner_0 : List UInt8 := dkwX7_joiner_0 ++ dktX7_joiner_1
theorem dksX7_joiner_0 : cX7_joiner.data.toList.drop 0 = dktX7_joiner_0 := by decide +kernel
theorem dksX7_joiner_1 : cX7_joiner.data.toList.drop 24 = dktX7_joiner_1 := dk_seg dksX7_joiner_0 24 rfl rfl
theorem dX7_joiner_0 : decode cX7_joiner 0 = .ok (.iload_n 1, 1) := dk_27 (dk_at dksX7_joiner_0 0 rfl rfl)
theorem dX7_joiner_1 : decode cX7_joiner 1 = .ok (.ifCond .ne 8, 3) := dk_154 0 8 (dk_at dksX7_joiner_0 1 rfl rfl)
theorem dX7_joiner_4 : decode cX7_joiner 4 = .ok (.ldc 7, 2) := dk_18 7 (dk_at dksX7_joiner_0 4 rfl rfl)
theorem dX7_joiner_6 : decode cX7_joiner 6 = .ok (.goto 18, 3) := dk_167 0 18 (dk_at dksX7_joiner_0 6 rfl rfl)
theorem dX7_joiner_9 : decode cX7_joiner 9 = .ok (.iload_n 1, 1) := dk_27 (dk_at dksX7_joiner_0 9 rfl rfl)
theorem dX7_joiner_10 : decode cX7_joiner 10 = .ok (.iconst 1, 1) := dk_4 (dk_at dksX7_joiner_0 10 rfl rfl)
theorem dX7_joiner_11 : decode cX7_joiner 11 = .ok (.if_icmp .ne 11, 3) := dk_160 0 11 (dk_at dksX7_joiner_0 11 rfl rfl)
theorem dX7_joiner_14 : decode cX7_joiner 14 = .ok (.aload_n 0, 1) := dk_42 (dk_at dksX7_joiner_0 14 rfl rfl)
theorem dX7_joiner_15 : decode cX7_joiner 15 = .ok (.iload_n 1, 1) := dk_27 (dk_at dksX7_joiner_0 15 rfl rfl)
theorem dX7_joiner_16 : decode cX7_joiner 16 = .ok (.invokespecial 9, 3) := dk_183 0 9 (dk_at dksX7_joiner_0 16 rfl rfl)
theorem dX7_joiner_19 : decode cX7_joiner 19 = .ok (.goto 5, 3) := dk_167 0 5 (dk_at dksX7_joiner_0 19 rfl rfl)
theorem dX7_joiner_22 : decode cX7_joiner 22 = .ok (.ldc 13, 2) := dk_18 13 (dk_at dksX7_joiner_0 22 rfl rfl)
theorem dX7_joiner_24 : decode cX7_joiner 24 = .ok (.areturn, 1) := dk_176 (dk_at dksX7_joiner_1 0 rfl rfl)
abbrev cX7_group : ByteArray := prog_28_method_3_code
def yX7_group : MethodName := ⟨RX7, "group", "()I"⟩
theorem dX7_group_0 : decode cX7_group 0 = .ok (.bipush 44, 2) := by decide +kernel
theorem dX7_group_2 : decode cX7_group 2 = .ok (.ireturn, 1) := by decide +kernel
theorem q81 : (Jvm.Cond.initialized "PluralBranches$Stopped") ∈ lw_all := lw_g (lw_at lw_m1 15 rfl) rfl
theorem q268 : (Jvm.Cond.selects "PluralBranches$Stopped" ({ cls := "java/lang/Object", name := "getClass", desc := "()Ljava/lang/Class;" } : Jvm.MethodName) ({ cls := "java/lang/Object", name := "getClass", desc := "()Ljava/lang/Class;" } : Jvm.MethodName)) ∈ lw_all := lw_g (lw_at lw_m1 202 rfl) rfl
theorem q373 : (Jvm.Cond.instantiable "PluralBranches$Stopped" (2 : Nat)) ∈ lw_all := lw_g (lw_at lw_m2 67 rfl) rfl
theorem q375 : (Jvm.Cond.instanceMethod ({ cls := "PluralBranches$Stopped", name := "<init>", desc := "()V" } : Jvm.MethodName)) ∈ lw_all := lw_g (lw_at lw_m2 69 rfl) rfl
theorem q376 : (Jvm.Cond.code ({ cls := "PluralBranches$Stopped", name := "<init>", desc := "()V" } : Jvm.MethodName) prog_28_method_1_code (1 : Nat) (Option.none : Option Jvm.ClassFile.FieldType)) ∈ lw_all := lw_g (lw_at lw_m2 70 rfl) rfl
theorem q377 : (Jvm.Cond.methodLinkNest "PluralBranches$Stopped" (1 : Nat) ({ cls := "PluralBranches$Language", name := "<init>", desc := "()V" } : Jvm.MethodName) "PluralBranches") ∈ lw_tbl := lw_at lw_m2 71 rfl
theorem q378 : (Jvm.Cond.laysFinal "PluralBranches$Stopped" "PluralBranches$Language" "all" "Ljava/util/ArrayList;") ∈ lw_all := lw_g (lw_at lw_m2 72 rfl) rfl
theorem q379 : (Jvm.Cond.lays "PluralBranches$Stopped" "PluralBranches$Language" "tried" "[LPluralBranches$Decimal;") ∈ lw_all := lw_g (lw_at lw_m2 73 rfl) rfl
theorem q380 : (Jvm.Cond.superclass "PluralBranches$Stopped" "PluralBranches$Language") ∈ lw_all := lw_g (lw_at lw_m2 74 rfl) rfl
theorem q456 : (Jvm.Cond.selects "PluralBranches$Stopped" ({ cls := "PluralBranches$Language", name := "category", desc := "(LPluralBranches$Decimal;)I" } : Jvm.MethodName) ({ cls := "PluralBranches$Language", name := "category", desc := "(LPluralBranches$Decimal;)I" } : Jvm.MethodName)) ∈ lw_all := lw_g (lw_at lw_m2 150 rfl) rfl
theorem q497 : (Jvm.Cond.selects "PluralBranches$Stopped" ({ cls := "PluralBranches$Language", name := "used", desc := "()I" } : Jvm.MethodName) ({ cls := "PluralBranches$Language", name := "used", desc := "()I" } : Jvm.MethodName)) ∈ lw_all := lw_g (lw_at lw_m2 191 rfl) rfl
theorem q1449 : (Jvm.Cond.selects "PluralBranches$Stopped" ({ cls := "PluralBranches$Language", name := "point", desc := "()I" } : Jvm.MethodName) ({ cls := "PluralBranches$Stopped", name := "point", desc := "()I" } : Jvm.MethodName)) ∈ lw_all := lw_g (lw_at lw_m6 183 rfl) rfl
theorem q1450 : (Jvm.Cond.instanceMethod ({ cls := "PluralBranches$Stopped", name := "point", desc := "()I" } : Jvm.MethodName)) ∈ lw_all := lw_g (lw_at lw_m6 184 rfl) rfl
theorem q1451 : (Jvm.Cond.code ({ cls := "PluralBranches$Stopped", name := "point", desc := "()I" } : Jvm.MethodName) prog_28_method_2_code (1 : Nat) (Option.some Jvm.ClassFile.FieldType.int)) ∈ lw_all := lw_g (lw_at lw_m6 185 rfl) rfl
theorem q1517 : (Jvm.Cond.selects "PluralBranches$Stopped" ({ cls := "PluralBranches$Language", name := "joiner", desc := "(I)Ljava/lang/String;" } : Jvm.MethodName) ({ cls := "PluralBranches$Stopped", name := "joiner", desc := "(I)Ljava/lang/String;" } : Jvm.MethodName)) ∈ lw_all := lw_g (lw_at lw_m7 11 rfl) rfl
theorem q1518 : (Jvm.Cond.instanceMethod ({ cls := "PluralBranches$Stopped", name := "joiner", desc := "(I)Ljava/lang/String;" } : Jvm.MethodName)) ∈ lw_all := lw_g (lw_at lw_m7 12 rfl) rfl
theorem q1519 : (Jvm.Cond.code ({ cls := "PluralBranches$Stopped", name := "joiner", desc := "(I)Ljava/lang/String;" } : Jvm.MethodName) prog_28_method_4_code (2 : Nat) (Option.some (Jvm.ClassFile.FieldType.object "java/lang/String"))) ∈ lw_all := lw_g (lw_at lw_m7 13 rfl) rfl
theorem q1520 : (Jvm.Cond.stringRef "PluralBranches$Stopped" (7 : Nat) " and ") ∈ lw_tbl := lw_at lw_m7 14 rfl
theorem q1521 : (Jvm.Cond.methodLink "PluralBranches$Stopped" (9 : Nat) ({ cls := "PluralBranches$Language", name := "joiner", desc := "(I)Ljava/lang/String;" } : Jvm.MethodName)) ∈ lw_all := lw_g (lw_at lw_m7 15 rfl) rfl
theorem q1522 : (Jvm.Cond.stringRef "PluralBranches$Stopped" (13 : Nat) ", and ") ∈ lw_tbl := lw_at lw_m7 16 rfl
theorem q1582 : (Jvm.Cond.selects "PluralBranches$Stopped" ({ cls := "PluralBranches$Language", name := "group", desc := "()I" } : Jvm.MethodName) ({ cls := "PluralBranches$Stopped", name := "group", desc := "()I" } : Jvm.MethodName)) ∈ lw_all := lw_g (lw_at lw_m7 76 rfl) rfl
theorem q1583 : (Jvm.Cond.instanceMethod ({ cls := "PluralBranches$Stopped", name := "group", desc := "()I" } : Jvm.MethodName)) ∈ lw_all := lw_g (lw_at lw_m7 77 rfl) rfl
theorem q1584 : (Jvm.Cond.code ({ cls := "PluralBranches$Stopped", name := "group", desc := "()I" } : Jvm.MethodName) prog_28_method_3_code (1 : Nat) (Option.some Jvm.ClassFile.FieldType.int)) ∈ lw_all := lw_g (lw_at lw_m7 78 rfl) rfl
theorem q2255 : (Jvm.Cond.selects "PluralBranches$Stopped" ({ cls := "PluralBranches$Language", name := "with", desc := "(Z[I)LPluralBranches$Language;" } : Jvm.MethodName) ({ cls := "PluralBranches$Language", name := "with", desc := "(Z[I)LPluralBranches$Language;" } : Jvm.MethodName)) ∈ lw_all := lw_g (lw_at lw_m10 29 rfl) rfl
theorem q2287 : (Jvm.Cond.castable "PluralBranches$Stopped" "java/lang/Object") ∈ lw_tbl := lw_at lw_m10 61 rfl
theorem q2313 : (Jvm.Cond.castable "PluralBranches$Stopped" "PluralBranches$Language") ∈ lw_tbl := lw_at lw_m10 87 rfl
theorem in_X7 : ∀ w ∈ wsX70, w ∈ lw_all := lw_in wsX70 [378, 379] (by decide +kernel) (by decide +kernel)
/-! PluralBranches$Row -/
set_option maxRecDepth 100000
def RX8 : String := "PluralBranches$Row"
def TX8 : u_T := fun k => match k with
  | _ => ("PluralBranches$Row", "held", "Ljava/lang/Object;", false)
def tyX8 : Nat → FieldType := fun k => match k with
  | _ => .object "java/lang/Object"
abbrev wsX80 : List Cond := u_ws RX8 TX8 1
theorem nmX8 : ∀ a, a < 1 → ∀ b, b < 1 → a ≠ b → (TX8 a).2.1 ≠ (TX8 b).2.1 := by decide +kernel
theorem tyX8_ok : ∀ k, k < 1 → parseFieldDescriptor (TX8 k).2.2.1 = some (tyX8 k) := by decide +kernel
abbrev cX8_init : ByteArray := prog_24_method_1_code
def yX8_init : MethodName := ⟨RX8, "<init>", "()V"⟩
theorem dX8_init_0 : decode cX8_init 0 = .ok (.aload_n 0, 1) := by decide +kernel
theorem dX8_init_1 : decode cX8_init 1 = .ok (.invokespecial 1, 3) := by decide +kernel
theorem dX8_init_4 : decode cX8_init 4 = .ok (.return_, 1) := by decide +kernel
abbrev cX8_size : ByteArray := prog_24_method_3_code
def yX8_size : MethodName := ⟨RX8, "size", "()I"⟩
def dkwX8_size_2 : List UInt8 := [180, 0, 7, 192, 0, 17, 190, 172]
abbrev dktX8_size_2 : List UInt8 := dkwX8_size_2 ++ []
def dkwX8_size_1 : List UInt8 := [180, 0, 7, 78, 45, 193, 0, 15, 153, 0, 13, 45, 192, 0, 15, 76, 43, 190, 167, 0, 11, 42]
abbrev dktX8_size_1 : List UInt8 := dkwX8_size_1 ++ dktX8_size_2
def dkwX8_size_0 : List UInt8 := [42, 180, 0, 7, 78, 45, 193, 0, 13, 153, 0, 13, 45, 192, 0, 13, 77, 44, 190, 167, 0, 33, 42]
abbrev dktX8_size_0 : List UInt8 := dkwX8_size_0 ++ dktX8_size_1
theorem dksX8_size_0 : cX8_size.data.toList.drop 0 = dktX8_size_0 := by decide +kernel
theorem dksX8_size_1 : cX8_size.data.toList.drop 23 = dktX8_size_1 := dk_seg dksX8_size_0 23 rfl rfl
theorem dksX8_size_2 : cX8_size.data.toList.drop 45 = dktX8_size_2 := dk_seg dksX8_size_1 22 rfl rfl
theorem dX8_size_0 : decode cX8_size 0 = .ok (.aload_n 0, 1) := dk_42 (dk_at dksX8_size_0 0 rfl rfl)
theorem dX8_size_1 : decode cX8_size 1 = .ok (.getfield 7, 3) := dk_180 0 7 (dk_at dksX8_size_0 1 rfl rfl)
theorem dX8_size_4 : decode cX8_size 4 = .ok (.astore_n 3, 1) := dk_78 (dk_at dksX8_size_0 4 rfl rfl)
theorem dX8_size_5 : decode cX8_size 5 = .ok (.aload_n 3, 1) := dk_45 (dk_at dksX8_size_0 5 rfl rfl)
theorem dX8_size_6 : decode cX8_size 6 = .ok (.instanceof 13, 3) := dk_193 0 13 (dk_at dksX8_size_0 6 rfl rfl)
theorem dX8_size_9 : decode cX8_size 9 = .ok (.ifCond .eq 13, 3) := dk_153 0 13 (dk_at dksX8_size_0 9 rfl rfl)
theorem dX8_size_12 : decode cX8_size 12 = .ok (.aload_n 3, 1) := dk_45 (dk_at dksX8_size_0 12 rfl rfl)
theorem dX8_size_13 : decode cX8_size 13 = .ok (.checkcast 13, 3) := dk_192 0 13 (dk_at dksX8_size_0 13 rfl rfl)
theorem dX8_size_16 : decode cX8_size 16 = .ok (.astore_n 2, 1) := dk_77 (dk_at dksX8_size_0 16 rfl rfl)
theorem dX8_size_17 : decode cX8_size 17 = .ok (.aload_n 2, 1) := dk_44 (dk_at dksX8_size_0 17 rfl rfl)
theorem dX8_size_18 : decode cX8_size 18 = .ok (.arraylength, 1) := dk_190 (dk_at dksX8_size_0 18 rfl rfl)
theorem dX8_size_19 : decode cX8_size 19 = .ok (.goto 33, 3) := dk_167 0 33 (dk_at dksX8_size_0 19 rfl rfl)
theorem dX8_size_22 : decode cX8_size 22 = .ok (.aload_n 0, 1) := dk_42 (dk_at dksX8_size_0 22 rfl rfl)
theorem dX8_size_23 : decode cX8_size 23 = .ok (.getfield 7, 3) := dk_180 0 7 (dk_at dksX8_size_1 0 rfl rfl)
theorem dX8_size_26 : decode cX8_size 26 = .ok (.astore_n 3, 1) := dk_78 (dk_at dksX8_size_1 3 rfl rfl)
theorem dX8_size_27 : decode cX8_size 27 = .ok (.aload_n 3, 1) := dk_45 (dk_at dksX8_size_1 4 rfl rfl)
theorem dX8_size_28 : decode cX8_size 28 = .ok (.instanceof 15, 3) := dk_193 0 15 (dk_at dksX8_size_1 5 rfl rfl)
theorem dX8_size_31 : decode cX8_size 31 = .ok (.ifCond .eq 13, 3) := dk_153 0 13 (dk_at dksX8_size_1 8 rfl rfl)
theorem dX8_size_34 : decode cX8_size 34 = .ok (.aload_n 3, 1) := dk_45 (dk_at dksX8_size_1 11 rfl rfl)
theorem dX8_size_35 : decode cX8_size 35 = .ok (.checkcast 15, 3) := dk_192 0 15 (dk_at dksX8_size_1 12 rfl rfl)
theorem dX8_size_38 : decode cX8_size 38 = .ok (.astore_n 1, 1) := dk_76 (dk_at dksX8_size_1 15 rfl rfl)
theorem dX8_size_39 : decode cX8_size 39 = .ok (.aload_n 1, 1) := dk_43 (dk_at dksX8_size_1 16 rfl rfl)
theorem dX8_size_40 : decode cX8_size 40 = .ok (.arraylength, 1) := dk_190 (dk_at dksX8_size_1 17 rfl rfl)
theorem dX8_size_41 : decode cX8_size 41 = .ok (.goto 11, 3) := dk_167 0 11 (dk_at dksX8_size_1 18 rfl rfl)
theorem dX8_size_44 : decode cX8_size 44 = .ok (.aload_n 0, 1) := dk_42 (dk_at dksX8_size_1 21 rfl rfl)
theorem dX8_size_45 : decode cX8_size 45 = .ok (.getfield 7, 3) := dk_180 0 7 (dk_at dksX8_size_2 0 rfl rfl)
theorem dX8_size_48 : decode cX8_size 48 = .ok (.checkcast 17, 3) := dk_192 0 17 (dk_at dksX8_size_2 3 rfl rfl)
theorem dX8_size_51 : decode cX8_size 51 = .ok (.arraylength, 1) := dk_190 (dk_at dksX8_size_2 6 rfl rfl)
theorem dX8_size_52 : decode cX8_size 52 = .ok (.ireturn, 1) := dk_172 (dk_at dksX8_size_2 7 rfl rfl)
abbrev cX8_number : ByteArray := prog_24_method_4_code
def yX8_number : MethodName := ⟨RX8, "number", "(I)D"⟩
def dkwX8_number_2 : List UInt8 := [27, 49, 167, 0, 13, 42, 180, 0, 7, 192, 0, 17, 27, 47, 138, 175]
abbrev dktX8_number_2 : List UInt8 := dkwX8_number_2 ++ []
def dkwX8_number_1 : List UInt8 := [167, 0, 39, 42, 180, 0, 7, 58, 4, 25, 4, 193, 0, 15, 153, 0, 15, 25, 4, 192, 0, 15, 77, 44]
abbrev dktX8_number_1 : List UInt8 := dkwX8_number_1 ++ dktX8_number_2
def dkwX8_number_0 : List UInt8 := [42, 180, 0, 7, 58, 4, 25, 4, 193, 0, 13, 153, 0, 16, 25, 4, 192, 0, 13, 78, 45, 27, 48, 141]
abbrev dktX8_number_0 : List UInt8 := dkwX8_number_0 ++ dktX8_number_1
theorem dksX8_number_0 : cX8_number.data.toList.drop 0 = dktX8_number_0 := by decide +kernel
theorem dksX8_number_1 : cX8_number.data.toList.drop 24 = dktX8_number_1 := dk_seg dksX8_number_0 24 rfl rfl
theorem dksX8_number_2 : cX8_number.data.toList.drop 48 = dktX8_number_2 := dk_seg dksX8_number_1 24 rfl rfl
theorem dX8_number_0 : decode cX8_number 0 = .ok (.aload_n 0, 1) := dk_42 (dk_at dksX8_number_0 0 rfl rfl)
theorem dX8_number_1 : decode cX8_number 1 = .ok (.getfield 7, 3) := dk_180 0 7 (dk_at dksX8_number_0 1 rfl rfl)
theorem dX8_number_4 : decode cX8_number 4 = .ok (.astore 4, 2) := dk_58 4 (dk_at dksX8_number_0 4 rfl rfl)
theorem dX8_number_6 : decode cX8_number 6 = .ok (.aload 4, 2) := dk_25 4 (dk_at dksX8_number_0 6 rfl rfl)
theorem dX8_number_8 : decode cX8_number 8 = .ok (.instanceof 13, 3) := dk_193 0 13 (dk_at dksX8_number_0 8 rfl rfl)
theorem dX8_number_11 : decode cX8_number 11 = .ok (.ifCond .eq 16, 3) := dk_153 0 16 (dk_at dksX8_number_0 11 rfl rfl)
theorem dX8_number_14 : decode cX8_number 14 = .ok (.aload 4, 2) := dk_25 4 (dk_at dksX8_number_0 14 rfl rfl)
theorem dX8_number_16 : decode cX8_number 16 = .ok (.checkcast 13, 3) := dk_192 0 13 (dk_at dksX8_number_0 16 rfl rfl)
theorem dX8_number_19 : decode cX8_number 19 = .ok (.astore_n 3, 1) := dk_78 (dk_at dksX8_number_0 19 rfl rfl)
theorem dX8_number_20 : decode cX8_number 20 = .ok (.aload_n 3, 1) := dk_45 (dk_at dksX8_number_0 20 rfl rfl)
theorem dX8_number_21 : decode cX8_number 21 = .ok (.iload_n 1, 1) := dk_27 (dk_at dksX8_number_0 21 rfl rfl)
theorem dX8_number_22 : decode cX8_number 22 = .ok (.faload, 1) := dk_48 (dk_at dksX8_number_0 22 rfl rfl)
theorem dX8_number_23 : decode cX8_number 23 = .ok (.f2d, 1) := dk_141 (dk_at dksX8_number_0 23 rfl rfl)
theorem dX8_number_24 : decode cX8_number 24 = .ok (.goto 39, 3) := dk_167 0 39 (dk_at dksX8_number_1 0 rfl rfl)
theorem dX8_number_27 : decode cX8_number 27 = .ok (.aload_n 0, 1) := dk_42 (dk_at dksX8_number_1 3 rfl rfl)
theorem dX8_number_28 : decode cX8_number 28 = .ok (.getfield 7, 3) := dk_180 0 7 (dk_at dksX8_number_1 4 rfl rfl)
theorem dX8_number_31 : decode cX8_number 31 = .ok (.astore 4, 2) := dk_58 4 (dk_at dksX8_number_1 7 rfl rfl)
theorem dX8_number_33 : decode cX8_number 33 = .ok (.aload 4, 2) := dk_25 4 (dk_at dksX8_number_1 9 rfl rfl)
theorem dX8_number_35 : decode cX8_number 35 = .ok (.instanceof 15, 3) := dk_193 0 15 (dk_at dksX8_number_1 11 rfl rfl)
theorem dX8_number_38 : decode cX8_number 38 = .ok (.ifCond .eq 15, 3) := dk_153 0 15 (dk_at dksX8_number_1 14 rfl rfl)
theorem dX8_number_41 : decode cX8_number 41 = .ok (.aload 4, 2) := dk_25 4 (dk_at dksX8_number_1 17 rfl rfl)
theorem dX8_number_43 : decode cX8_number 43 = .ok (.checkcast 15, 3) := dk_192 0 15 (dk_at dksX8_number_1 19 rfl rfl)
theorem dX8_number_46 : decode cX8_number 46 = .ok (.astore_n 2, 1) := dk_77 (dk_at dksX8_number_1 22 rfl rfl)
theorem dX8_number_47 : decode cX8_number 47 = .ok (.aload_n 2, 1) := dk_44 (dk_at dksX8_number_1 23 rfl rfl)
theorem dX8_number_48 : decode cX8_number 48 = .ok (.iload_n 1, 1) := dk_27 (dk_at dksX8_number_2 0 rfl rfl)
theorem dX8_number_49 : decode cX8_number 49 = .ok (.daload, 1) := dk_49 (dk_at dksX8_number_2 1 rfl rfl)
theorem dX8_number_50 : decode cX8_number 50 = .ok (.goto 13, 3) := dk_167 0 13 (dk_at dksX8_number_2 2 rfl rfl)
theorem dX8_number_53 : decode cX8_number 53 = .ok (.aload_n 0, 1) := dk_42 (dk_at dksX8_number_2 5 rfl rfl)
theorem dX8_number_54 : decode cX8_number 54 = .ok (.getfield 7, 3) := dk_180 0 7 (dk_at dksX8_number_2 6 rfl rfl)
theorem dX8_number_57 : decode cX8_number 57 = .ok (.checkcast 17, 3) := dk_192 0 17 (dk_at dksX8_number_2 9 rfl rfl)
theorem dX8_number_60 : decode cX8_number 60 = .ok (.iload_n 1, 1) := dk_27 (dk_at dksX8_number_2 12 rfl rfl)
theorem dX8_number_61 : decode cX8_number 61 = .ok (.laload, 1) := dk_47 (dk_at dksX8_number_2 13 rfl rfl)
theorem dX8_number_62 : decode cX8_number 62 = .ok (.l2d, 1) := dk_138 (dk_at dksX8_number_2 14 rfl rfl)
theorem dX8_number_63 : decode cX8_number 63 = .ok (.dreturn, 1) := dk_175 (dk_at dksX8_number_2 15 rfl rfl)
abbrev cX8_sort : ByteArray := prog_24_method_2_code
def yX8_sort : MethodName := ⟨RX8, "sort", "()I"⟩
def dkwX8_sort_1 : List UInt8 := [4, 167, 0, 4, 5, 172]
abbrev dktX8_sort_1 : List UInt8 := dkwX8_sort_1 ++ []
def dkwX8_sort_0 : List UInt8 := [42, 180, 0, 7, 193, 0, 13, 153, 0, 7, 3, 167, 0, 18, 42, 180, 0, 7, 193, 0, 15, 153, 0, 7]
abbrev dktX8_sort_0 : List UInt8 := dkwX8_sort_0 ++ dktX8_sort_1
theorem dksX8_sort_0 : cX8_sort.data.toList.drop 0 = dktX8_sort_0 := by decide +kernel
theorem dksX8_sort_1 : cX8_sort.data.toList.drop 24 = dktX8_sort_1 := dk_seg dksX8_sort_0 24 rfl rfl
theorem dX8_sort_0 : decode cX8_sort 0 = .ok (.aload_n 0, 1) := dk_42 (dk_at dksX8_sort_0 0 rfl rfl)
theorem dX8_sort_1 : decode cX8_sort 1 = .ok (.getfield 7, 3) := dk_180 0 7 (dk_at dksX8_sort_0 1 rfl rfl)
theorem dX8_sort_4 : decode cX8_sort 4 = .ok (.instanceof 13, 3) := dk_193 0 13 (dk_at dksX8_sort_0 4 rfl rfl)
theorem dX8_sort_7 : decode cX8_sort 7 = .ok (.ifCond .eq 7, 3) := dk_153 0 7 (dk_at dksX8_sort_0 7 rfl rfl)
theorem dX8_sort_10 : decode cX8_sort 10 = .ok (.iconst 0, 1) := dk_3 (dk_at dksX8_sort_0 10 rfl rfl)
theorem dX8_sort_11 : decode cX8_sort 11 = .ok (.goto 18, 3) := dk_167 0 18 (dk_at dksX8_sort_0 11 rfl rfl)
theorem dX8_sort_14 : decode cX8_sort 14 = .ok (.aload_n 0, 1) := dk_42 (dk_at dksX8_sort_0 14 rfl rfl)
theorem dX8_sort_15 : decode cX8_sort 15 = .ok (.getfield 7, 3) := dk_180 0 7 (dk_at dksX8_sort_0 15 rfl rfl)
theorem dX8_sort_18 : decode cX8_sort 18 = .ok (.instanceof 15, 3) := dk_193 0 15 (dk_at dksX8_sort_0 18 rfl rfl)
theorem dX8_sort_21 : decode cX8_sort 21 = .ok (.ifCond .eq 7, 3) := dk_153 0 7 (dk_at dksX8_sort_0 21 rfl rfl)
theorem dX8_sort_24 : decode cX8_sort 24 = .ok (.iconst 1, 1) := dk_4 (dk_at dksX8_sort_1 0 rfl rfl)
theorem dX8_sort_25 : decode cX8_sort 25 = .ok (.goto 4, 3) := dk_167 0 4 (dk_at dksX8_sort_1 1 rfl rfl)
theorem dX8_sort_28 : decode cX8_sort 28 = .ok (.iconst 2, 1) := dk_5 (dk_at dksX8_sort_1 4 rfl rfl)
theorem dX8_sort_29 : decode cX8_sort 29 = .ok (.ireturn, 1) := dk_172 (dk_at dksX8_sort_1 5 rfl rfl)
theorem q82 : (Jvm.Cond.initialized "PluralBranches$Row") ∈ lw_all := lw_g (lw_at lw_m1 16 rfl) rfl
theorem q264 : (Jvm.Cond.selects "PluralBranches$Row" ({ cls := "java/lang/Object", name := "getClass", desc := "()Ljava/lang/Class;" } : Jvm.MethodName) ({ cls := "java/lang/Object", name := "getClass", desc := "()Ljava/lang/Class;" } : Jvm.MethodName)) ∈ lw_all := lw_g (lw_at lw_m1 198 rfl) rfl
theorem q389 : (Jvm.Cond.instantiable "PluralBranches$Row" (1 : Nat)) ∈ lw_all := lw_g (lw_at lw_m2 83 rfl) rfl
theorem q391 : (Jvm.Cond.instanceMethod ({ cls := "PluralBranches$Row", name := "<init>", desc := "()V" } : Jvm.MethodName)) ∈ lw_all := lw_g (lw_at lw_m2 85 rfl) rfl
theorem q392 : (Jvm.Cond.code ({ cls := "PluralBranches$Row", name := "<init>", desc := "()V" } : Jvm.MethodName) prog_24_method_1_code (1 : Nat) (Option.none : Option Jvm.ClassFile.FieldType)) ∈ lw_all := lw_g (lw_at lw_m2 86 rfl) rfl
theorem q393 : (Jvm.Cond.methodLink "PluralBranches$Row" (1 : Nat) ({ cls := "java/lang/Object", name := "<init>", desc := "()V" } : Jvm.MethodName)) ∈ lw_all := lw_g (lw_at lw_m2 87 rfl) rfl
theorem q394 : (Jvm.Cond.fieldLink "PluralBranches$Row" (7 : Nat) "PluralBranches$Row" "held" "Ljava/lang/Object;") ∈ lw_all := lw_g (lw_at lw_m2 88 rfl) rfl
theorem q396 : (Jvm.Cond.lays "PluralBranches$Row" "PluralBranches$Row" "held" "Ljava/lang/Object;") ∈ lw_all := lw_g (lw_at lw_m2 90 rfl) rfl
theorem q397 : (Jvm.Cond.soleField "PluralBranches$Row" "held") ∈ lw_all := lw_g (lw_at lw_m2 91 rfl) rfl
theorem q398 : (Jvm.Cond.superclass "PluralBranches$Row" "java/lang/Object") ∈ lw_all := lw_g (lw_at lw_m2 92 rfl) rfl
theorem q1650 : (Jvm.Cond.instanceMethod ({ cls := "PluralBranches$Row", name := "size", desc := "()I" } : Jvm.MethodName)) ∈ lw_all := lw_g (lw_at lw_m7 144 rfl) rfl
theorem q1651 : (Jvm.Cond.selects "PluralBranches$Row" ({ cls := "PluralBranches$Row", name := "size", desc := "()I" } : Jvm.MethodName) ({ cls := "PluralBranches$Row", name := "size", desc := "()I" } : Jvm.MethodName)) ∈ lw_all := lw_g (lw_at lw_m7 145 rfl) rfl
theorem q1652 : (Jvm.Cond.code ({ cls := "PluralBranches$Row", name := "size", desc := "()I" } : Jvm.MethodName) prog_24_method_3_code (4 : Nat) (Option.some Jvm.ClassFile.FieldType.int)) ∈ lw_all := lw_g (lw_at lw_m7 146 rfl) rfl
theorem q1653 : (Jvm.Cond.classLink "PluralBranches$Row" (13 : Nat) "[F") ∈ lw_all := lw_g (lw_at lw_m7 147 rfl) rfl
theorem q1654 : (Jvm.Cond.classLink "PluralBranches$Row" (15 : Nat) "[D") ∈ lw_all := lw_g (lw_at lw_m7 148 rfl) rfl
theorem q1655 : (Jvm.Cond.classLink "PluralBranches$Row" (17 : Nat) "[J") ∈ lw_all := lw_g (lw_at lw_m7 149 rfl) rfl
theorem q1668 : (Jvm.Cond.instanceMethod ({ cls := "PluralBranches$Row", name := "number", desc := "(I)D" } : Jvm.MethodName)) ∈ lw_all := lw_g (lw_at lw_m7 162 rfl) rfl
theorem q1669 : (Jvm.Cond.selects "PluralBranches$Row" ({ cls := "PluralBranches$Row", name := "number", desc := "(I)D" } : Jvm.MethodName) ({ cls := "PluralBranches$Row", name := "number", desc := "(I)D" } : Jvm.MethodName)) ∈ lw_all := lw_g (lw_at lw_m7 163 rfl) rfl
theorem q1670 : (Jvm.Cond.code ({ cls := "PluralBranches$Row", name := "number", desc := "(I)D" } : Jvm.MethodName) prog_24_method_4_code (5 : Nat) (Option.some Jvm.ClassFile.FieldType.double)) ∈ lw_all := lw_g (lw_at lw_m7 164 rfl) rfl
theorem q1707 : (Jvm.Cond.instanceMethod ({ cls := "PluralBranches$Row", name := "sort", desc := "()I" } : Jvm.MethodName)) ∈ lw_all := lw_g (lw_at lw_m7 201 rfl) rfl
theorem q1708 : (Jvm.Cond.selects "PluralBranches$Row" ({ cls := "PluralBranches$Row", name := "sort", desc := "()I" } : Jvm.MethodName) ({ cls := "PluralBranches$Row", name := "sort", desc := "()I" } : Jvm.MethodName)) ∈ lw_all := lw_g (lw_at lw_m7 202 rfl) rfl
theorem q1709 : (Jvm.Cond.code ({ cls := "PluralBranches$Row", name := "sort", desc := "()I" } : Jvm.MethodName) prog_24_method_2_code (1 : Nat) (Option.some Jvm.ClassFile.FieldType.int)) ∈ lw_all := lw_g (lw_at lw_m7 203 rfl) rfl
theorem q2280 : (Jvm.Cond.castable "PluralBranches$Row" "java/lang/Object") ∈ lw_tbl := lw_at lw_m10 54 rfl
theorem in_X8 : ∀ w ∈ wsX80, w ∈ lw_all := lw_in wsX80 [396] (by decide +kernel) (by decide +kernel)
