/-! PluralBranches -/
set_option maxRecDepth 100000
def RX0 : String := "PluralBranches"
def TX0 : u_T := fun k => match k with
  | 0 => ("PluralBranches", "languages", "[LPluralBranches$Language;", true)
  | 1 => ("PluralBranches", "output", "[B", true)
  | 2 => ("PluralBranches", "written", "I", false)
  | 3 => ("PluralBranches", "tape", "[B", true)
  | 4 => ("PluralBranches", "taped", "I", false)
  | 5 => ("PluralBranches", "slots", "[LPluralBranches$Message;", true)
  | 6 => ("PluralBranches", "things", "[LPluralBranches$Thing;", true)
  | _ => ("PluralBranches", "rows", "[LPluralBranches$Row;", true)
def tyX0 : Nat → FieldType := fun k => match k with
  | 0 => .array (.object "PluralBranches$Language")
  | 1 => .array .byte
  | 2 => .int
  | 3 => .array .byte
  | 4 => .int
  | 5 => .array (.object "PluralBranches$Message")
  | 6 => .array (.object "PluralBranches$Thing")
  | _ => .array (.object "PluralBranches$Row")
abbrev wsX00 : List Cond := u_ws RX0 TX0 8
theorem nmX0 : ∀ a, a < 8 → ∀ b, b < 8 → a ≠ b → (TX0 a).2.1 ≠ (TX0 b).2.1 := by decide +kernel
theorem tyX0_ok : ∀ k, k < 8 → parseFieldDescriptor (TX0 k).2.2.1 = some (tyX0 k) := by decide +kernel
abbrev cX0_init : ByteArray := prog_1_method_1_code
def yX0_init : MethodName := ⟨RX0, "<init>", "()V"⟩
def dkwX0_init_11 : List UInt8 := [183, 0, 62, 83, 181, 0, 63, 177]
abbrev dktX0_init_11 : List UInt8 := dkwX0_init_11 ++ []
def dkwX0_init_10 : List UInt8 := [187, 0, 60, 89, 183, 0, 62, 83, 89, 4, 187, 0, 60, 89, 183, 0, 62, 83, 89, 5, 187, 0, 60, 89]
abbrev dktX0_init_10 : List UInt8 := dkwX0_init_10 ++ dktX0_init_11
def dkwX0_init_9 : List UInt8 := [7, 189, 0, 48, 181, 0, 50, 42, 8, 189, 0, 54, 181, 0, 56, 42, 6, 189, 0, 60, 89, 3]
abbrev dktX0_init_9 : List UInt8 := dkwX0_init_9 ++ dktX0_init_10
def dkwX0_init_8 : List UInt8 := [132, 2, 7, 167, 255, 165, 42, 17, 0, 240, 188, 8, 181, 0, 41, 42, 16, 120, 188, 8, 181, 0, 45, 42]
abbrev dktX0_init_8 : List UInt8 := dkwX0_init_8 ++ dktX0_init_9
def dkwX0_init_7 : List UInt8 := [7, 178, 0, 33, 28, 8, 96, 46, 79, 89, 8, 178, 0, 33, 28, 16, 6, 96, 46, 79, 182, 0, 37, 87]
abbrev dktX0_init_7 : List UInt8 := dkwX0_init_7 ++ dktX0_init_8
def dkwX0_init_6 : List UInt8 := [96, 46, 79, 89, 5, 178, 0, 33, 28, 6, 96, 46, 79, 89, 6, 178, 0, 33, 28, 7, 96, 46, 79, 89]
abbrev dktX0_init_6 : List UInt8 := dkwX0_init_6 ++ dktX0_init_7
def dkwX0_init_5 : List UInt8 := [46, 50, 3, 16, 6, 188, 10, 89, 3, 178, 0, 33, 28, 4, 96, 46, 79, 89, 4, 178, 0, 33, 28, 5]
abbrev dktX0_init_5 : List UInt8 := dkwX0_init_5 ++ dktX0_init_6
def dkwX0_init_4 : List UInt8 := [132, 2, 1, 167, 255, 227, 3, 61, 28, 178, 0, 33, 190, 162, 0, 89, 42, 180, 0, 13, 178, 0, 33, 28]
abbrev dktX0_init_4 : List UInt8 := dkwX0_init_4 ++ dktX0_init_5
def dkwX0_init_3 : List UInt8 := [162, 0, 29, 42, 180, 0, 13, 28, 28, 184, 0, 25, 83, 42, 180, 0, 13, 28, 50, 43, 181, 0, 29]
abbrev dktX0_init_3 : List UInt8 := dkwX0_init_3 ++ dktX0_init_4
def dkwX0_init_2 : List UInt8 := [96, 187, 0, 17, 89, 28, 4, 183, 0, 22, 83, 132, 2, 1, 167, 255, 217, 3, 61, 28, 16, 7]
abbrev dktX0_init_2 : List UInt8 := dkwX0_init_2 ++ dktX0_init_3
def dkwX0_init_1 : List UInt8 := [17, 0, 210, 163, 0, 38, 43, 5, 28, 104, 187, 0, 17, 89, 28, 183, 0, 19, 83, 43, 5, 28, 104, 4]
abbrev dktX0_init_1 : List UInt8 := dkwX0_init_1 ++ dktX0_init_2
def dkwX0_init_0 : List UInt8 := [42, 183, 0, 3, 42, 16, 7, 189, 0, 11, 181, 0, 13, 17, 1, 166, 189, 0, 17, 76, 3, 61, 28]
abbrev dktX0_init_0 : List UInt8 := dkwX0_init_0 ++ dktX0_init_1
theorem dksX0_init_0 : cX0_init.data.toList.drop 0 = dktX0_init_0 := by decide +kernel
theorem dksX0_init_1 : cX0_init.data.toList.drop 23 = dktX0_init_1 := dk_seg dksX0_init_0 23 rfl rfl
theorem dksX0_init_2 : cX0_init.data.toList.drop 47 = dktX0_init_2 := dk_seg dksX0_init_1 24 rfl rfl
theorem dksX0_init_3 : cX0_init.data.toList.drop 69 = dktX0_init_3 := dk_seg dksX0_init_2 22 rfl rfl
theorem dksX0_init_4 : cX0_init.data.toList.drop 92 = dktX0_init_4 := dk_seg dksX0_init_3 23 rfl rfl
theorem dksX0_init_5 : cX0_init.data.toList.drop 116 = dktX0_init_5 := dk_seg dksX0_init_4 24 rfl rfl
theorem dksX0_init_6 : cX0_init.data.toList.drop 140 = dktX0_init_6 := dk_seg dksX0_init_5 24 rfl rfl
theorem dksX0_init_7 : cX0_init.data.toList.drop 164 = dktX0_init_7 := dk_seg dksX0_init_6 24 rfl rfl
theorem dksX0_init_8 : cX0_init.data.toList.drop 188 = dktX0_init_8 := dk_seg dksX0_init_7 24 rfl rfl
theorem dksX0_init_9 : cX0_init.data.toList.drop 212 = dktX0_init_9 := dk_seg dksX0_init_8 24 rfl rfl
theorem dksX0_init_10 : cX0_init.data.toList.drop 234 = dktX0_init_10 := dk_seg dksX0_init_9 22 rfl rfl
theorem dksX0_init_11 : cX0_init.data.toList.drop 258 = dktX0_init_11 := dk_seg dksX0_init_10 24 rfl rfl
theorem dX0_init_0 : decode cX0_init 0 = .ok (.aload_n 0, 1) := dk_42 (dk_at dksX0_init_0 0 rfl rfl)
theorem dX0_init_1 : decode cX0_init 1 = .ok (.invokespecial 3, 3) := dk_183 0 3 (dk_at dksX0_init_0 1 rfl rfl)
theorem dX0_init_4 : decode cX0_init 4 = .ok (.aload_n 0, 1) := dk_42 (dk_at dksX0_init_0 4 rfl rfl)
theorem dX0_init_5 : decode cX0_init 5 = .ok (.bipush 7, 2) := dk_16 7 (dk_at dksX0_init_0 5 rfl rfl)
theorem dX0_init_7 : decode cX0_init 7 = .ok (.anewarray 11, 3) := dk_189 0 11 (dk_at dksX0_init_0 7 rfl rfl)
theorem dX0_init_10 : decode cX0_init 10 = .ok (.putfield 13, 3) := dk_181 0 13 (dk_at dksX0_init_0 10 rfl rfl)
theorem dX0_init_13 : decode cX0_init 13 = .ok (.sipush 422, 3) := dk_17 1 166 (dk_at dksX0_init_0 13 rfl rfl)
theorem dX0_init_16 : decode cX0_init 16 = .ok (.anewarray 17, 3) := dk_189 0 17 (dk_at dksX0_init_0 16 rfl rfl)
theorem dX0_init_19 : decode cX0_init 19 = .ok (.astore_n 1, 1) := dk_76 (dk_at dksX0_init_0 19 rfl rfl)
theorem dX0_init_20 : decode cX0_init 20 = .ok (.iconst 0, 1) := dk_3 (dk_at dksX0_init_0 20 rfl rfl)
theorem dX0_init_21 : decode cX0_init 21 = .ok (.istore_n 2, 1) := dk_61 (dk_at dksX0_init_0 21 rfl rfl)
theorem dX0_init_22 : decode cX0_init 22 = .ok (.iload_n 2, 1) := dk_28 (dk_at dksX0_init_0 22 rfl rfl)
theorem dX0_init_23 : decode cX0_init 23 = .ok (.sipush 210, 3) := dk_17 0 210 (dk_at dksX0_init_1 0 rfl rfl)
theorem dX0_init_26 : decode cX0_init 26 = .ok (.if_icmp .gt 38, 3) := dk_163 0 38 (dk_at dksX0_init_1 3 rfl rfl)
theorem dX0_init_29 : decode cX0_init 29 = .ok (.aload_n 1, 1) := dk_43 (dk_at dksX0_init_1 6 rfl rfl)
theorem dX0_init_30 : decode cX0_init 30 = .ok (.iconst 2, 1) := dk_5 (dk_at dksX0_init_1 7 rfl rfl)
theorem dX0_init_31 : decode cX0_init 31 = .ok (.iload_n 2, 1) := dk_28 (dk_at dksX0_init_1 8 rfl rfl)
theorem dX0_init_32 : decode cX0_init 32 = .ok (.imul, 1) := dk_104 (dk_at dksX0_init_1 9 rfl rfl)
theorem dX0_init_33 : decode cX0_init 33 = .ok (.new 17, 3) := dk_187 0 17 (dk_at dksX0_init_1 10 rfl rfl)
theorem dX0_init_36 : decode cX0_init 36 = .ok (.dup, 1) := dk_89 (dk_at dksX0_init_1 13 rfl rfl)
theorem dX0_init_37 : decode cX0_init 37 = .ok (.iload_n 2, 1) := dk_28 (dk_at dksX0_init_1 14 rfl rfl)
theorem dX0_init_38 : decode cX0_init 38 = .ok (.invokespecial 19, 3) := dk_183 0 19 (dk_at dksX0_init_1 15 rfl rfl)
theorem dX0_init_41 : decode cX0_init 41 = .ok (.aastore, 1) := dk_83 (dk_at dksX0_init_1 18 rfl rfl)
theorem dX0_init_42 : decode cX0_init 42 = .ok (.aload_n 1, 1) := dk_43 (dk_at dksX0_init_1 19 rfl rfl)
theorem dX0_init_43 : decode cX0_init 43 = .ok (.iconst 2, 1) := dk_5 (dk_at dksX0_init_1 20 rfl rfl)
theorem dX0_init_44 : decode cX0_init 44 = .ok (.iload_n 2, 1) := dk_28 (dk_at dksX0_init_1 21 rfl rfl)
theorem dX0_init_45 : decode cX0_init 45 = .ok (.imul, 1) := dk_104 (dk_at dksX0_init_1 22 rfl rfl)
theorem dX0_init_46 : decode cX0_init 46 = .ok (.iconst 1, 1) := dk_4 (dk_at dksX0_init_1 23 rfl rfl)
theorem dX0_init_47 : decode cX0_init 47 = .ok (.iadd, 1) := dk_96 (dk_at dksX0_init_2 0 rfl rfl)
theorem dX0_init_48 : decode cX0_init 48 = .ok (.new 17, 3) := dk_187 0 17 (dk_at dksX0_init_2 1 rfl rfl)
theorem dX0_init_51 : decode cX0_init 51 = .ok (.dup, 1) := dk_89 (dk_at dksX0_init_2 4 rfl rfl)
theorem dX0_init_52 : decode cX0_init 52 = .ok (.iload_n 2, 1) := dk_28 (dk_at dksX0_init_2 5 rfl rfl)
theorem dX0_init_53 : decode cX0_init 53 = .ok (.iconst 1, 1) := dk_4 (dk_at dksX0_init_2 6 rfl rfl)
theorem dX0_init_54 : decode cX0_init 54 = .ok (.invokespecial 22, 3) := dk_183 0 22 (dk_at dksX0_init_2 7 rfl rfl)
theorem dX0_init_57 : decode cX0_init 57 = .ok (.aastore, 1) := dk_83 (dk_at dksX0_init_2 10 rfl rfl)
theorem dX0_init_58 : decode cX0_init 58 = .ok (.iinc 2 1, 3) := dk_132 2 1 (dk_at dksX0_init_2 11 rfl rfl)
theorem dX0_init_61 : decode cX0_init 61 = .ok (.goto (-39), 3) := dk_167 255 217 (dk_at dksX0_init_2 14 rfl rfl)
theorem dX0_init_64 : decode cX0_init 64 = .ok (.iconst 0, 1) := dk_3 (dk_at dksX0_init_2 17 rfl rfl)
theorem dX0_init_65 : decode cX0_init 65 = .ok (.istore_n 2, 1) := dk_61 (dk_at dksX0_init_2 18 rfl rfl)
theorem dX0_init_66 : decode cX0_init 66 = .ok (.iload_n 2, 1) := dk_28 (dk_at dksX0_init_2 19 rfl rfl)
theorem dX0_init_67 : decode cX0_init 67 = .ok (.bipush 7, 2) := dk_16 7 (dk_at dksX0_init_2 20 rfl rfl)
theorem dX0_init_69 : decode cX0_init 69 = .ok (.if_icmp .ge 29, 3) := dk_162 0 29 (dk_at dksX0_init_3 0 rfl rfl)
theorem dX0_init_72 : decode cX0_init 72 = .ok (.aload_n 0, 1) := dk_42 (dk_at dksX0_init_3 3 rfl rfl)
theorem dX0_init_73 : decode cX0_init 73 = .ok (.getfield 13, 3) := dk_180 0 13 (dk_at dksX0_init_3 4 rfl rfl)
theorem dX0_init_76 : decode cX0_init 76 = .ok (.iload_n 2, 1) := dk_28 (dk_at dksX0_init_3 7 rfl rfl)
theorem dX0_init_77 : decode cX0_init 77 = .ok (.iload_n 2, 1) := dk_28 (dk_at dksX0_init_3 8 rfl rfl)
theorem dX0_init_78 : decode cX0_init 78 = .ok (.invokestatic 25, 3) := dk_184 0 25 (dk_at dksX0_init_3 9 rfl rfl)
theorem dX0_init_81 : decode cX0_init 81 = .ok (.aastore, 1) := dk_83 (dk_at dksX0_init_3 12 rfl rfl)
theorem dX0_init_82 : decode cX0_init 82 = .ok (.aload_n 0, 1) := dk_42 (dk_at dksX0_init_3 13 rfl rfl)
theorem dX0_init_83 : decode cX0_init 83 = .ok (.getfield 13, 3) := dk_180 0 13 (dk_at dksX0_init_3 14 rfl rfl)
theorem dX0_init_86 : decode cX0_init 86 = .ok (.iload_n 2, 1) := dk_28 (dk_at dksX0_init_3 17 rfl rfl)
theorem dX0_init_87 : decode cX0_init 87 = .ok (.aaload, 1) := dk_50 (dk_at dksX0_init_3 18 rfl rfl)
theorem dX0_init_88 : decode cX0_init 88 = .ok (.aload_n 1, 1) := dk_43 (dk_at dksX0_init_3 19 rfl rfl)
theorem dX0_init_89 : decode cX0_init 89 = .ok (.putfield 29, 3) := dk_181 0 29 (dk_at dksX0_init_3 20 rfl rfl)
theorem dX0_init_92 : decode cX0_init 92 = .ok (.iinc 2 1, 3) := dk_132 2 1 (dk_at dksX0_init_4 0 rfl rfl)
theorem dX0_init_95 : decode cX0_init 95 = .ok (.goto (-29), 3) := dk_167 255 227 (dk_at dksX0_init_4 3 rfl rfl)
theorem dX0_init_98 : decode cX0_init 98 = .ok (.iconst 0, 1) := dk_3 (dk_at dksX0_init_4 6 rfl rfl)
theorem dX0_init_99 : decode cX0_init 99 = .ok (.istore_n 2, 1) := dk_61 (dk_at dksX0_init_4 7 rfl rfl)
theorem dX0_init_100 : decode cX0_init 100 = .ok (.iload_n 2, 1) := dk_28 (dk_at dksX0_init_4 8 rfl rfl)
theorem dX0_init_101 : decode cX0_init 101 = .ok (.getstatic 33, 3) := dk_178 0 33 (dk_at dksX0_init_4 9 rfl rfl)
theorem dX0_init_104 : decode cX0_init 104 = .ok (.arraylength, 1) := dk_190 (dk_at dksX0_init_4 12 rfl rfl)
theorem dX0_init_105 : decode cX0_init 105 = .ok (.if_icmp .ge 89, 3) := dk_162 0 89 (dk_at dksX0_init_4 13 rfl rfl)
theorem dX0_init_108 : decode cX0_init 108 = .ok (.aload_n 0, 1) := dk_42 (dk_at dksX0_init_4 16 rfl rfl)
theorem dX0_init_109 : decode cX0_init 109 = .ok (.getfield 13, 3) := dk_180 0 13 (dk_at dksX0_init_4 17 rfl rfl)
theorem dX0_init_112 : decode cX0_init 112 = .ok (.getstatic 33, 3) := dk_178 0 33 (dk_at dksX0_init_4 20 rfl rfl)
theorem dX0_init_115 : decode cX0_init 115 = .ok (.iload_n 2, 1) := dk_28 (dk_at dksX0_init_4 23 rfl rfl)
theorem dX0_init_116 : decode cX0_init 116 = .ok (.iaload, 1) := dk_46 (dk_at dksX0_init_5 0 rfl rfl)
theorem dX0_init_117 : decode cX0_init 117 = .ok (.aaload, 1) := dk_50 (dk_at dksX0_init_5 1 rfl rfl)
theorem dX0_init_118 : decode cX0_init 118 = .ok (.iconst 0, 1) := dk_3 (dk_at dksX0_init_5 2 rfl rfl)
theorem dX0_init_119 : decode cX0_init 119 = .ok (.bipush 6, 2) := dk_16 6 (dk_at dksX0_init_5 3 rfl rfl)
theorem dX0_init_121 : decode cX0_init 121 = .ok (.newarray .int, 2) := dk_188_10 (dk_at dksX0_init_5 5 rfl rfl)
theorem dX0_init_123 : decode cX0_init 123 = .ok (.dup, 1) := dk_89 (dk_at dksX0_init_5 7 rfl rfl)
theorem dX0_init_124 : decode cX0_init 124 = .ok (.iconst 0, 1) := dk_3 (dk_at dksX0_init_5 8 rfl rfl)
theorem dX0_init_125 : decode cX0_init 125 = .ok (.getstatic 33, 3) := dk_178 0 33 (dk_at dksX0_init_5 9 rfl rfl)
theorem dX0_init_128 : decode cX0_init 128 = .ok (.iload_n 2, 1) := dk_28 (dk_at dksX0_init_5 12 rfl rfl)
theorem dX0_init_129 : decode cX0_init 129 = .ok (.iconst 1, 1) := dk_4 (dk_at dksX0_init_5 13 rfl rfl)
theorem dX0_init_130 : decode cX0_init 130 = .ok (.iadd, 1) := dk_96 (dk_at dksX0_init_5 14 rfl rfl)
theorem dX0_init_131 : decode cX0_init 131 = .ok (.iaload, 1) := dk_46 (dk_at dksX0_init_5 15 rfl rfl)
theorem dX0_init_132 : decode cX0_init 132 = .ok (.iastore, 1) := dk_79 (dk_at dksX0_init_5 16 rfl rfl)
theorem dX0_init_133 : decode cX0_init 133 = .ok (.dup, 1) := dk_89 (dk_at dksX0_init_5 17 rfl rfl)
theorem dX0_init_134 : decode cX0_init 134 = .ok (.iconst 1, 1) := dk_4 (dk_at dksX0_init_5 18 rfl rfl)
theorem dX0_init_135 : decode cX0_init 135 = .ok (.getstatic 33, 3) := dk_178 0 33 (dk_at dksX0_init_5 19 rfl rfl)
theorem dX0_init_138 : decode cX0_init 138 = .ok (.iload_n 2, 1) := dk_28 (dk_at dksX0_init_5 22 rfl rfl)
theorem dX0_init_139 : decode cX0_init 139 = .ok (.iconst 2, 1) := dk_5 (dk_at dksX0_init_5 23 rfl rfl)
theorem dX0_init_140 : decode cX0_init 140 = .ok (.iadd, 1) := dk_96 (dk_at dksX0_init_6 0 rfl rfl)
theorem dX0_init_141 : decode cX0_init 141 = .ok (.iaload, 1) := dk_46 (dk_at dksX0_init_6 1 rfl rfl)
theorem dX0_init_142 : decode cX0_init 142 = .ok (.iastore, 1) := dk_79 (dk_at dksX0_init_6 2 rfl rfl)
theorem dX0_init_143 : decode cX0_init 143 = .ok (.dup, 1) := dk_89 (dk_at dksX0_init_6 3 rfl rfl)
theorem dX0_init_144 : decode cX0_init 144 = .ok (.iconst 2, 1) := dk_5 (dk_at dksX0_init_6 4 rfl rfl)
theorem dX0_init_145 : decode cX0_init 145 = .ok (.getstatic 33, 3) := dk_178 0 33 (dk_at dksX0_init_6 5 rfl rfl)
theorem dX0_init_148 : decode cX0_init 148 = .ok (.iload_n 2, 1) := dk_28 (dk_at dksX0_init_6 8 rfl rfl)
theorem dX0_init_149 : decode cX0_init 149 = .ok (.iconst 3, 1) := dk_6 (dk_at dksX0_init_6 9 rfl rfl)
theorem dX0_init_150 : decode cX0_init 150 = .ok (.iadd, 1) := dk_96 (dk_at dksX0_init_6 10 rfl rfl)
theorem dX0_init_151 : decode cX0_init 151 = .ok (.iaload, 1) := dk_46 (dk_at dksX0_init_6 11 rfl rfl)
theorem dX0_init_152 : decode cX0_init 152 = .ok (.iastore, 1) := dk_79 (dk_at dksX0_init_6 12 rfl rfl)
theorem dX0_init_153 : decode cX0_init 153 = .ok (.dup, 1) := dk_89 (dk_at dksX0_init_6 13 rfl rfl)
theorem dX0_init_154 : decode cX0_init 154 = .ok (.iconst 3, 1) := dk_6 (dk_at dksX0_init_6 14 rfl rfl)
theorem dX0_init_155 : decode cX0_init 155 = .ok (.getstatic 33, 3) := dk_178 0 33 (dk_at dksX0_init_6 15 rfl rfl)
theorem dX0_init_158 : decode cX0_init 158 = .ok (.iload_n 2, 1) := dk_28 (dk_at dksX0_init_6 18 rfl rfl)
theorem dX0_init_159 : decode cX0_init 159 = .ok (.iconst 4, 1) := dk_7 (dk_at dksX0_init_6 19 rfl rfl)
theorem dX0_init_160 : decode cX0_init 160 = .ok (.iadd, 1) := dk_96 (dk_at dksX0_init_6 20 rfl rfl)
theorem dX0_init_161 : decode cX0_init 161 = .ok (.iaload, 1) := dk_46 (dk_at dksX0_init_6 21 rfl rfl)
theorem dX0_init_162 : decode cX0_init 162 = .ok (.iastore, 1) := dk_79 (dk_at dksX0_init_6 22 rfl rfl)
theorem dX0_init_163 : decode cX0_init 163 = .ok (.dup, 1) := dk_89 (dk_at dksX0_init_6 23 rfl rfl)
theorem dX0_init_164 : decode cX0_init 164 = .ok (.iconst 4, 1) := dk_7 (dk_at dksX0_init_7 0 rfl rfl)
theorem dX0_init_165 : decode cX0_init 165 = .ok (.getstatic 33, 3) := dk_178 0 33 (dk_at dksX0_init_7 1 rfl rfl)
theorem dX0_init_168 : decode cX0_init 168 = .ok (.iload_n 2, 1) := dk_28 (dk_at dksX0_init_7 4 rfl rfl)
theorem dX0_init_169 : decode cX0_init 169 = .ok (.iconst 5, 1) := dk_8 (dk_at dksX0_init_7 5 rfl rfl)
theorem dX0_init_170 : decode cX0_init 170 = .ok (.iadd, 1) := dk_96 (dk_at dksX0_init_7 6 rfl rfl)
theorem dX0_init_171 : decode cX0_init 171 = .ok (.iaload, 1) := dk_46 (dk_at dksX0_init_7 7 rfl rfl)
theorem dX0_init_172 : decode cX0_init 172 = .ok (.iastore, 1) := dk_79 (dk_at dksX0_init_7 8 rfl rfl)
theorem dX0_init_173 : decode cX0_init 173 = .ok (.dup, 1) := dk_89 (dk_at dksX0_init_7 9 rfl rfl)
theorem dX0_init_174 : decode cX0_init 174 = .ok (.iconst 5, 1) := dk_8 (dk_at dksX0_init_7 10 rfl rfl)
theorem dX0_init_175 : decode cX0_init 175 = .ok (.getstatic 33, 3) := dk_178 0 33 (dk_at dksX0_init_7 11 rfl rfl)
theorem dX0_init_178 : decode cX0_init 178 = .ok (.iload_n 2, 1) := dk_28 (dk_at dksX0_init_7 14 rfl rfl)
theorem dX0_init_179 : decode cX0_init 179 = .ok (.bipush 6, 2) := dk_16 6 (dk_at dksX0_init_7 15 rfl rfl)
theorem dX0_init_181 : decode cX0_init 181 = .ok (.iadd, 1) := dk_96 (dk_at dksX0_init_7 17 rfl rfl)
theorem dX0_init_182 : decode cX0_init 182 = .ok (.iaload, 1) := dk_46 (dk_at dksX0_init_7 18 rfl rfl)
theorem dX0_init_183 : decode cX0_init 183 = .ok (.iastore, 1) := dk_79 (dk_at dksX0_init_7 19 rfl rfl)
theorem dX0_init_184 : decode cX0_init 184 = .ok (.invokevirtual 37, 3) := dk_182 0 37 (dk_at dksX0_init_7 20 rfl rfl)
theorem dX0_init_187 : decode cX0_init 187 = .ok (.pop, 1) := dk_87 (dk_at dksX0_init_7 23 rfl rfl)
theorem dX0_init_188 : decode cX0_init 188 = .ok (.iinc 2 7, 3) := dk_132 2 7 (dk_at dksX0_init_8 0 rfl rfl)
theorem dX0_init_191 : decode cX0_init 191 = .ok (.goto (-91), 3) := dk_167 255 165 (dk_at dksX0_init_8 3 rfl rfl)
theorem dX0_init_194 : decode cX0_init 194 = .ok (.aload_n 0, 1) := dk_42 (dk_at dksX0_init_8 6 rfl rfl)
theorem dX0_init_195 : decode cX0_init 195 = .ok (.sipush 240, 3) := dk_17 0 240 (dk_at dksX0_init_8 7 rfl rfl)
theorem dX0_init_198 : decode cX0_init 198 = .ok (.newarray .byte, 2) := dk_188_8 (dk_at dksX0_init_8 10 rfl rfl)
theorem dX0_init_200 : decode cX0_init 200 = .ok (.putfield 41, 3) := dk_181 0 41 (dk_at dksX0_init_8 12 rfl rfl)
theorem dX0_init_203 : decode cX0_init 203 = .ok (.aload_n 0, 1) := dk_42 (dk_at dksX0_init_8 15 rfl rfl)
theorem dX0_init_204 : decode cX0_init 204 = .ok (.bipush 120, 2) := dk_16 120 (dk_at dksX0_init_8 16 rfl rfl)
theorem dX0_init_206 : decode cX0_init 206 = .ok (.newarray .byte, 2) := dk_188_8 (dk_at dksX0_init_8 18 rfl rfl)
theorem dX0_init_208 : decode cX0_init 208 = .ok (.putfield 45, 3) := dk_181 0 45 (dk_at dksX0_init_8 20 rfl rfl)
theorem dX0_init_211 : decode cX0_init 211 = .ok (.aload_n 0, 1) := dk_42 (dk_at dksX0_init_8 23 rfl rfl)
theorem dX0_init_212 : decode cX0_init 212 = .ok (.iconst 4, 1) := dk_7 (dk_at dksX0_init_9 0 rfl rfl)
theorem dX0_init_213 : decode cX0_init 213 = .ok (.anewarray 48, 3) := dk_189 0 48 (dk_at dksX0_init_9 1 rfl rfl)
theorem dX0_init_216 : decode cX0_init 216 = .ok (.putfield 50, 3) := dk_181 0 50 (dk_at dksX0_init_9 4 rfl rfl)
theorem dX0_init_219 : decode cX0_init 219 = .ok (.aload_n 0, 1) := dk_42 (dk_at dksX0_init_9 7 rfl rfl)
theorem dX0_init_220 : decode cX0_init 220 = .ok (.iconst 5, 1) := dk_8 (dk_at dksX0_init_9 8 rfl rfl)
theorem dX0_init_221 : decode cX0_init 221 = .ok (.anewarray 54, 3) := dk_189 0 54 (dk_at dksX0_init_9 9 rfl rfl)
theorem dX0_init_224 : decode cX0_init 224 = .ok (.putfield 56, 3) := dk_181 0 56 (dk_at dksX0_init_9 12 rfl rfl)
theorem dX0_init_227 : decode cX0_init 227 = .ok (.aload_n 0, 1) := dk_42 (dk_at dksX0_init_9 15 rfl rfl)
theorem dX0_init_228 : decode cX0_init 228 = .ok (.iconst 3, 1) := dk_6 (dk_at dksX0_init_9 16 rfl rfl)
theorem dX0_init_229 : decode cX0_init 229 = .ok (.anewarray 60, 3) := dk_189 0 60 (dk_at dksX0_init_9 17 rfl rfl)
theorem dX0_init_232 : decode cX0_init 232 = .ok (.dup, 1) := dk_89 (dk_at dksX0_init_9 20 rfl rfl)
theorem dX0_init_233 : decode cX0_init 233 = .ok (.iconst 0, 1) := dk_3 (dk_at dksX0_init_9 21 rfl rfl)
theorem dX0_init_234 : decode cX0_init 234 = .ok (.new 60, 3) := dk_187 0 60 (dk_at dksX0_init_10 0 rfl rfl)
theorem dX0_init_237 : decode cX0_init 237 = .ok (.dup, 1) := dk_89 (dk_at dksX0_init_10 3 rfl rfl)
theorem dX0_init_238 : decode cX0_init 238 = .ok (.invokespecial 62, 3) := dk_183 0 62 (dk_at dksX0_init_10 4 rfl rfl)
theorem dX0_init_241 : decode cX0_init 241 = .ok (.aastore, 1) := dk_83 (dk_at dksX0_init_10 7 rfl rfl)
theorem dX0_init_242 : decode cX0_init 242 = .ok (.dup, 1) := dk_89 (dk_at dksX0_init_10 8 rfl rfl)
theorem dX0_init_243 : decode cX0_init 243 = .ok (.iconst 1, 1) := dk_4 (dk_at dksX0_init_10 9 rfl rfl)
theorem dX0_init_244 : decode cX0_init 244 = .ok (.new 60, 3) := dk_187 0 60 (dk_at dksX0_init_10 10 rfl rfl)
theorem dX0_init_247 : decode cX0_init 247 = .ok (.dup, 1) := dk_89 (dk_at dksX0_init_10 13 rfl rfl)
theorem dX0_init_248 : decode cX0_init 248 = .ok (.invokespecial 62, 3) := dk_183 0 62 (dk_at dksX0_init_10 14 rfl rfl)
theorem dX0_init_251 : decode cX0_init 251 = .ok (.aastore, 1) := dk_83 (dk_at dksX0_init_10 17 rfl rfl)
theorem dX0_init_252 : decode cX0_init 252 = .ok (.dup, 1) := dk_89 (dk_at dksX0_init_10 18 rfl rfl)
theorem dX0_init_253 : decode cX0_init 253 = .ok (.iconst 2, 1) := dk_5 (dk_at dksX0_init_10 19 rfl rfl)
theorem dX0_init_254 : decode cX0_init 254 = .ok (.new 60, 3) := dk_187 0 60 (dk_at dksX0_init_10 20 rfl rfl)
theorem dX0_init_257 : decode cX0_init 257 = .ok (.dup, 1) := dk_89 (dk_at dksX0_init_10 23 rfl rfl)
theorem dX0_init_258 : decode cX0_init 258 = .ok (.invokespecial 62, 3) := dk_183 0 62 (dk_at dksX0_init_11 0 rfl rfl)
theorem dX0_init_261 : decode cX0_init 261 = .ok (.aastore, 1) := dk_83 (dk_at dksX0_init_11 3 rfl rfl)
theorem dX0_init_262 : decode cX0_init 262 = .ok (.putfield 63, 3) := dk_181 0 63 (dk_at dksX0_init_11 4 rfl rfl)
theorem dX0_init_265 : decode cX0_init 265 = .ok (.return_, 1) := dk_177 (dk_at dksX0_init_11 7 rfl rfl)
abbrev cX0_tens : ByteArray := prog_1_method_5_code
def yX0_tens : MethodName := ⟨RX0, "tens", "(I)J"⟩
def dkwX0_tens_0 : List UInt8 := [10, 64, 3, 62, 29, 26, 162, 0, 15, 31, 20, 0, 67, 105, 64, 132, 3, 1, 167, 255, 242, 31, 173]
abbrev dktX0_tens_0 : List UInt8 := dkwX0_tens_0 ++ []
theorem dksX0_tens_0 : cX0_tens.data.toList.drop 0 = dktX0_tens_0 := by decide +kernel
theorem dX0_tens_0 : decode cX0_tens 0 = .ok (.lconst 1, 1) := dk_10 (dk_at dksX0_tens_0 0 rfl rfl)
theorem dX0_tens_1 : decode cX0_tens 1 = .ok (.lstore_n 1, 1) := dk_64 (dk_at dksX0_tens_0 1 rfl rfl)
theorem dX0_tens_2 : decode cX0_tens 2 = .ok (.iconst 0, 1) := dk_3 (dk_at dksX0_tens_0 2 rfl rfl)
theorem dX0_tens_3 : decode cX0_tens 3 = .ok (.istore_n 3, 1) := dk_62 (dk_at dksX0_tens_0 3 rfl rfl)
theorem dX0_tens_4 : decode cX0_tens 4 = .ok (.iload_n 3, 1) := dk_29 (dk_at dksX0_tens_0 4 rfl rfl)
theorem dX0_tens_5 : decode cX0_tens 5 = .ok (.iload_n 0, 1) := dk_26 (dk_at dksX0_tens_0 5 rfl rfl)
theorem dX0_tens_6 : decode cX0_tens 6 = .ok (.if_icmp .ge 15, 3) := dk_162 0 15 (dk_at dksX0_tens_0 6 rfl rfl)
theorem dX0_tens_9 : decode cX0_tens 9 = .ok (.lload_n 1, 1) := dk_31 (dk_at dksX0_tens_0 9 rfl rfl)
theorem dX0_tens_10 : decode cX0_tens 10 = .ok (.ldc2_w 67, 3) := dk_20 0 67 (dk_at dksX0_tens_0 10 rfl rfl)
theorem dX0_tens_13 : decode cX0_tens 13 = .ok (.lmul, 1) := dk_105 (dk_at dksX0_tens_0 13 rfl rfl)
theorem dX0_tens_14 : decode cX0_tens 14 = .ok (.lstore_n 1, 1) := dk_64 (dk_at dksX0_tens_0 14 rfl rfl)
theorem dX0_tens_15 : decode cX0_tens 15 = .ok (.iinc 3 1, 3) := dk_132 3 1 (dk_at dksX0_tens_0 15 rfl rfl)
theorem dX0_tens_18 : decode cX0_tens 18 = .ok (.goto (-14), 3) := dk_167 255 242 (dk_at dksX0_tens_0 18 rfl rfl)
theorem dX0_tens_21 : decode cX0_tens 21 = .ok (.lload_n 1, 1) := dk_31 (dk_at dksX0_tens_0 21 rfl rfl)
theorem dX0_tens_22 : decode cX0_tens 22 = .ok (.lreturn, 1) := dk_173 (dk_at dksX0_tens_0 22 rfl rfl)
abbrev cX0_languageOf : ByteArray := prog_1_method_7_code
def yX0_languageOf : MethodName := ⟨RX0, "languageOf", "(I)LPluralBranches$Language;"⟩
def dkwX0_languageOf_22 : List UInt8 := [89, 183, 0, 93, 176]
abbrev dktX0_languageOf_22 : List UInt8 := dkwX0_languageOf_22 ++ []
def dkwX0_languageOf_21 : List UInt8 := [79, 89, 7, 3, 79, 89, 8, 3, 79, 182, 0, 87, 176, 187, 0, 88, 89, 183, 0, 90, 176, 187, 0, 91]
abbrev dktX0_languageOf_21 : List UInt8 := dkwX0_languageOf_21 ++ dktX0_languageOf_22
def dkwX0_languageOf_20 : List UInt8 := [89, 183, 0, 86, 3, 16, 6, 188, 10, 89, 3, 7, 79, 89, 4, 3, 79, 89, 5, 4, 79, 89, 6, 3]
abbrev dktX0_languageOf_20 : List UInt8 := dkwX0_languageOf_20 ++ dktX0_languageOf_21
def dkwX0_languageOf_19 : List UInt8 := [89, 5, 5, 79, 89, 6, 16, 10, 79, 89, 7, 4, 79, 89, 8, 4, 79, 182, 0, 37, 176, 187, 0, 84]
abbrev dktX0_languageOf_19 : List UInt8 := dkwX0_languageOf_19 ++ dktX0_languageOf_20
def dkwX0_languageOf_18 : List UInt8 := [89, 7, 3, 79, 89, 8, 3, 79, 182, 0, 37, 3, 16, 6, 188, 10, 89, 3, 4, 79, 89, 4, 4, 79]
abbrev dktX0_languageOf_18 : List UInt8 := dkwX0_languageOf_18 ++ dktX0_languageOf_19
def dkwX0_languageOf_17 : List UInt8 := [182, 0, 37, 4, 16, 6, 188, 10, 89, 3, 4, 79, 89, 4, 4, 79, 89, 5, 4, 79, 89, 6, 3, 79]
abbrev dktX0_languageOf_17 : List UInt8 := dkwX0_languageOf_17 ++ dktX0_languageOf_18
def dkwX0_languageOf_16 : List UInt8 := [79, 89, 4, 3, 79, 89, 5, 3, 79, 89, 6, 16, 10, 79, 89, 7, 4, 79, 89, 8, 4, 79]
abbrev dktX0_languageOf_16 : List UInt8 := dkwX0_languageOf_16 ++ dktX0_languageOf_17
def dkwX0_languageOf_15 : List UInt8 := [79, 89, 6, 3, 79, 89, 7, 3, 79, 89, 8, 3, 79, 182, 0, 37, 3, 16, 6, 188, 10, 89, 3, 4]
abbrev dktX0_languageOf_15 : List UInt8 := dkwX0_languageOf_15 ++ dktX0_languageOf_16
def dkwX0_languageOf_14 : List UInt8 := [89, 8, 16, 19, 79, 182, 0, 37, 3, 16, 6, 188, 10, 89, 3, 4, 79, 89, 4, 3, 79, 89, 5, 4]
abbrev dktX0_languageOf_14 : List UInt8 := dkwX0_languageOf_14 ++ dktX0_languageOf_15
def dkwX0_languageOf_13 : List UInt8 := [188, 10, 89, 3, 3, 79, 89, 4, 4, 79, 89, 5, 3, 79, 89, 6, 16, 100, 79, 89, 7, 16, 11, 79]
abbrev dktX0_languageOf_13 : List UInt8 := dkwX0_languageOf_13 ++ dktX0_languageOf_14
def dkwX0_languageOf_12 : List UInt8 := [79, 89, 5, 4, 79, 89, 6, 3, 79, 89, 7, 3, 79, 89, 8, 3, 79, 182, 0, 37, 3, 16, 6]
abbrev dktX0_languageOf_12 : List UInt8 := dkwX0_languageOf_12 ++ dktX0_languageOf_13
def dkwX0_languageOf_11 : List UInt8 := [79, 89, 7, 3, 79, 89, 8, 3, 79, 182, 0, 37, 3, 16, 6, 188, 10, 89, 3, 3, 79, 89, 4, 4]
abbrev dktX0_languageOf_11 : List UInt8 := dkwX0_languageOf_11 ++ dktX0_languageOf_12
def dkwX0_languageOf_10 : List UInt8 := [182, 0, 81, 3, 16, 6, 188, 10, 89, 3, 3, 79, 89, 4, 3, 79, 89, 5, 3, 79, 89, 6, 16, 10]
abbrev dktX0_languageOf_10 : List UInt8 := dkwX0_languageOf_10 ++ dktX0_languageOf_11
def dkwX0_languageOf_9 : List UInt8 := [3, 79, 89, 4, 3, 79, 89, 5, 4, 79, 89, 6, 3, 79, 89, 7, 3, 79, 89, 8, 3, 79]
abbrev dktX0_languageOf_9 : List UInt8 := dkwX0_languageOf_9 ++ dktX0_languageOf_10
def dkwX0_languageOf_8 : List UInt8 := [89, 8, 3, 79, 182, 0, 37, 176, 187, 0, 72, 89, 18, 82, 183, 0, 76, 3, 16, 6, 188, 10, 89, 3]
abbrev dktX0_languageOf_8 : List UInt8 := dkwX0_languageOf_8 ++ dktX0_languageOf_9
def dkwX0_languageOf_7 : List UInt8 := [16, 6, 188, 10, 89, 3, 7, 79, 89, 4, 3, 79, 89, 5, 4, 79, 89, 6, 3, 79, 89, 7, 3, 79]
abbrev dktX0_languageOf_7 : List UInt8 := dkwX0_languageOf_7 ++ dktX0_languageOf_8
def dkwX0_languageOf_6 : List UInt8 := [79, 89, 5, 3, 79, 89, 6, 16, 100, 79, 89, 7, 16, 12, 79, 89, 8, 16, 14, 79, 182, 0, 37, 3]
abbrev dktX0_languageOf_6 : List UInt8 := dkwX0_languageOf_6 ++ dktX0_languageOf_7
def dkwX0_languageOf_5 : List UInt8 := [79, 89, 7, 5, 79, 89, 8, 7, 79, 182, 0, 37, 4, 16, 6, 188, 10, 89, 3, 6, 79, 89, 4, 3]
abbrev dktX0_languageOf_5 : List UInt8 := dkwX0_languageOf_5 ++ dktX0_languageOf_6
def dkwX0_languageOf_4 : List UInt8 := [182, 0, 81, 3, 16, 6, 188, 10, 89, 3, 6, 79, 89, 4, 3, 79, 89, 5, 3, 79, 89, 6, 16, 10]
abbrev dktX0_languageOf_4 : List UInt8 := dkwX0_languageOf_4 ++ dktX0_languageOf_5
def dkwX0_languageOf_3 : List UInt8 := [89, 3, 6, 79, 89, 4, 3, 79, 89, 5, 4, 79, 89, 6, 3, 79, 89, 7, 3, 79, 89, 8, 3, 79]
abbrev dktX0_languageOf_3 : List UInt8 := dkwX0_languageOf_3 ++ dktX0_languageOf_4
def dkwX0_languageOf_2 : List UInt8 := [187, 0, 72, 89, 18, 74, 183, 0, 76, 176, 187, 0, 72, 89, 18, 79, 183, 0, 76, 3, 16, 6, 188, 10]
abbrev dktX0_languageOf_2 : List UInt8 := dkwX0_languageOf_2 ++ dktX0_languageOf_3
def dkwX0_languageOf_1 : List UInt8 := [170, 0, 0, 0, 0, 1, 251, 0, 0, 0, 1, 0, 0, 0, 5, 0, 0, 0, 35, 0, 0, 0, 45, 0, 0, 0, 187, 0, 0, 1, 203, 0, 0, 1, 243]
abbrev dktX0_languageOf_1 : List UInt8 := dkwX0_languageOf_1 ++ dktX0_languageOf_2
def dkwX0_languageOf_0 : List UInt8 := [26]
abbrev dktX0_languageOf_0 : List UInt8 := dkwX0_languageOf_0 ++ dktX0_languageOf_1
theorem dksX0_languageOf_0 : cX0_languageOf.data.toList.drop 0 = dktX0_languageOf_0 := by decide +kernel
theorem dksX0_languageOf_1 : cX0_languageOf.data.toList.drop 1 = dktX0_languageOf_1 := dk_seg dksX0_languageOf_0 1 rfl rfl
theorem dksX0_languageOf_2 : cX0_languageOf.data.toList.drop 36 = dktX0_languageOf_2 := dk_seg dksX0_languageOf_1 35 rfl rfl
theorem dksX0_languageOf_3 : cX0_languageOf.data.toList.drop 60 = dktX0_languageOf_3 := dk_seg dksX0_languageOf_2 24 rfl rfl
theorem dksX0_languageOf_4 : cX0_languageOf.data.toList.drop 84 = dktX0_languageOf_4 := dk_seg dksX0_languageOf_3 24 rfl rfl
theorem dksX0_languageOf_5 : cX0_languageOf.data.toList.drop 108 = dktX0_languageOf_5 := dk_seg dksX0_languageOf_4 24 rfl rfl
theorem dksX0_languageOf_6 : cX0_languageOf.data.toList.drop 132 = dktX0_languageOf_6 := dk_seg dksX0_languageOf_5 24 rfl rfl
theorem dksX0_languageOf_7 : cX0_languageOf.data.toList.drop 156 = dktX0_languageOf_7 := dk_seg dksX0_languageOf_6 24 rfl rfl
theorem dksX0_languageOf_8 : cX0_languageOf.data.toList.drop 180 = dktX0_languageOf_8 := dk_seg dksX0_languageOf_7 24 rfl rfl
theorem dksX0_languageOf_9 : cX0_languageOf.data.toList.drop 204 = dktX0_languageOf_9 := dk_seg dksX0_languageOf_8 24 rfl rfl
theorem dksX0_languageOf_10 : cX0_languageOf.data.toList.drop 226 = dktX0_languageOf_10 := dk_seg dksX0_languageOf_9 22 rfl rfl
theorem dksX0_languageOf_11 : cX0_languageOf.data.toList.drop 250 = dktX0_languageOf_11 := dk_seg dksX0_languageOf_10 24 rfl rfl
theorem dksX0_languageOf_12 : cX0_languageOf.data.toList.drop 274 = dktX0_languageOf_12 := dk_seg dksX0_languageOf_11 24 rfl rfl
theorem dksX0_languageOf_13 : cX0_languageOf.data.toList.drop 297 = dktX0_languageOf_13 := dk_seg dksX0_languageOf_12 23 rfl rfl
theorem dksX0_languageOf_14 : cX0_languageOf.data.toList.drop 321 = dktX0_languageOf_14 := dk_seg dksX0_languageOf_13 24 rfl rfl
theorem dksX0_languageOf_15 : cX0_languageOf.data.toList.drop 345 = dktX0_languageOf_15 := dk_seg dksX0_languageOf_14 24 rfl rfl
theorem dksX0_languageOf_16 : cX0_languageOf.data.toList.drop 369 = dktX0_languageOf_16 := dk_seg dksX0_languageOf_15 24 rfl rfl
theorem dksX0_languageOf_17 : cX0_languageOf.data.toList.drop 391 = dktX0_languageOf_17 := dk_seg dksX0_languageOf_16 22 rfl rfl
theorem dksX0_languageOf_18 : cX0_languageOf.data.toList.drop 415 = dktX0_languageOf_18 := dk_seg dksX0_languageOf_17 24 rfl rfl
theorem dksX0_languageOf_19 : cX0_languageOf.data.toList.drop 439 = dktX0_languageOf_19 := dk_seg dksX0_languageOf_18 24 rfl rfl
theorem dksX0_languageOf_20 : cX0_languageOf.data.toList.drop 463 = dktX0_languageOf_20 := dk_seg dksX0_languageOf_19 24 rfl rfl
theorem dksX0_languageOf_21 : cX0_languageOf.data.toList.drop 487 = dktX0_languageOf_21 := dk_seg dksX0_languageOf_20 24 rfl rfl
theorem dksX0_languageOf_22 : cX0_languageOf.data.toList.drop 511 = dktX0_languageOf_22 := dk_seg dksX0_languageOf_21 24 rfl rfl
theorem dX0_languageOf_0 : decode cX0_languageOf 0 = .ok (.iload_n 0, 1) := dk_26 (dk_at dksX0_languageOf_0 0 rfl rfl)
theorem dX0_languageOf_1 : decode cX0_languageOf 1 = .ok (.tableswitch 507 1 5 #[35, 45, 187, 459, 499], 35) := by decide +kernel
theorem dX0_languageOf_36 : decode cX0_languageOf 36 = .ok (.new 72, 3) := dk_187 0 72 (dk_at dksX0_languageOf_2 0 rfl rfl)
theorem dX0_languageOf_39 : decode cX0_languageOf 39 = .ok (.dup, 1) := dk_89 (dk_at dksX0_languageOf_2 3 rfl rfl)
theorem dX0_languageOf_40 : decode cX0_languageOf 40 = .ok (.ldc 74, 2) := dk_18 74 (dk_at dksX0_languageOf_2 4 rfl rfl)
theorem dX0_languageOf_42 : decode cX0_languageOf 42 = .ok (.invokespecial 76, 3) := dk_183 0 76 (dk_at dksX0_languageOf_2 6 rfl rfl)
theorem dX0_languageOf_45 : decode cX0_languageOf 45 = .ok (.areturn, 1) := dk_176 (dk_at dksX0_languageOf_2 9 rfl rfl)
theorem dX0_languageOf_46 : decode cX0_languageOf 46 = .ok (.new 72, 3) := dk_187 0 72 (dk_at dksX0_languageOf_2 10 rfl rfl)
theorem dX0_languageOf_49 : decode cX0_languageOf 49 = .ok (.dup, 1) := dk_89 (dk_at dksX0_languageOf_2 13 rfl rfl)
theorem dX0_languageOf_50 : decode cX0_languageOf 50 = .ok (.ldc 79, 2) := dk_18 79 (dk_at dksX0_languageOf_2 14 rfl rfl)
theorem dX0_languageOf_52 : decode cX0_languageOf 52 = .ok (.invokespecial 76, 3) := dk_183 0 76 (dk_at dksX0_languageOf_2 16 rfl rfl)
theorem dX0_languageOf_55 : decode cX0_languageOf 55 = .ok (.iconst 0, 1) := dk_3 (dk_at dksX0_languageOf_2 19 rfl rfl)
theorem dX0_languageOf_56 : decode cX0_languageOf 56 = .ok (.bipush 6, 2) := dk_16 6 (dk_at dksX0_languageOf_2 20 rfl rfl)
theorem dX0_languageOf_58 : decode cX0_languageOf 58 = .ok (.newarray .int, 2) := dk_188_10 (dk_at dksX0_languageOf_2 22 rfl rfl)
theorem dX0_languageOf_60 : decode cX0_languageOf 60 = .ok (.dup, 1) := dk_89 (dk_at dksX0_languageOf_3 0 rfl rfl)
theorem dX0_languageOf_61 : decode cX0_languageOf 61 = .ok (.iconst 0, 1) := dk_3 (dk_at dksX0_languageOf_3 1 rfl rfl)
theorem dX0_languageOf_62 : decode cX0_languageOf 62 = .ok (.iconst 3, 1) := dk_6 (dk_at dksX0_languageOf_3 2 rfl rfl)
theorem dX0_languageOf_63 : decode cX0_languageOf 63 = .ok (.iastore, 1) := dk_79 (dk_at dksX0_languageOf_3 3 rfl rfl)
theorem dX0_languageOf_64 : decode cX0_languageOf 64 = .ok (.dup, 1) := dk_89 (dk_at dksX0_languageOf_3 4 rfl rfl)
theorem dX0_languageOf_65 : decode cX0_languageOf 65 = .ok (.iconst 1, 1) := dk_4 (dk_at dksX0_languageOf_3 5 rfl rfl)
theorem dX0_languageOf_66 : decode cX0_languageOf 66 = .ok (.iconst 0, 1) := dk_3 (dk_at dksX0_languageOf_3 6 rfl rfl)
theorem dX0_languageOf_67 : decode cX0_languageOf 67 = .ok (.iastore, 1) := dk_79 (dk_at dksX0_languageOf_3 7 rfl rfl)
theorem dX0_languageOf_68 : decode cX0_languageOf 68 = .ok (.dup, 1) := dk_89 (dk_at dksX0_languageOf_3 8 rfl rfl)
theorem dX0_languageOf_69 : decode cX0_languageOf 69 = .ok (.iconst 2, 1) := dk_5 (dk_at dksX0_languageOf_3 9 rfl rfl)
theorem dX0_languageOf_70 : decode cX0_languageOf 70 = .ok (.iconst 1, 1) := dk_4 (dk_at dksX0_languageOf_3 10 rfl rfl)
theorem dX0_languageOf_71 : decode cX0_languageOf 71 = .ok (.iastore, 1) := dk_79 (dk_at dksX0_languageOf_3 11 rfl rfl)
theorem dX0_languageOf_72 : decode cX0_languageOf 72 = .ok (.dup, 1) := dk_89 (dk_at dksX0_languageOf_3 12 rfl rfl)
theorem dX0_languageOf_73 : decode cX0_languageOf 73 = .ok (.iconst 3, 1) := dk_6 (dk_at dksX0_languageOf_3 13 rfl rfl)
theorem dX0_languageOf_74 : decode cX0_languageOf 74 = .ok (.iconst 0, 1) := dk_3 (dk_at dksX0_languageOf_3 14 rfl rfl)
theorem dX0_languageOf_75 : decode cX0_languageOf 75 = .ok (.iastore, 1) := dk_79 (dk_at dksX0_languageOf_3 15 rfl rfl)
theorem dX0_languageOf_76 : decode cX0_languageOf 76 = .ok (.dup, 1) := dk_89 (dk_at dksX0_languageOf_3 16 rfl rfl)
theorem dX0_languageOf_77 : decode cX0_languageOf 77 = .ok (.iconst 4, 1) := dk_7 (dk_at dksX0_languageOf_3 17 rfl rfl)
theorem dX0_languageOf_78 : decode cX0_languageOf 78 = .ok (.iconst 0, 1) := dk_3 (dk_at dksX0_languageOf_3 18 rfl rfl)
theorem dX0_languageOf_79 : decode cX0_languageOf 79 = .ok (.iastore, 1) := dk_79 (dk_at dksX0_languageOf_3 19 rfl rfl)
theorem dX0_languageOf_80 : decode cX0_languageOf 80 = .ok (.dup, 1) := dk_89 (dk_at dksX0_languageOf_3 20 rfl rfl)
theorem dX0_languageOf_81 : decode cX0_languageOf 81 = .ok (.iconst 5, 1) := dk_8 (dk_at dksX0_languageOf_3 21 rfl rfl)
theorem dX0_languageOf_82 : decode cX0_languageOf 82 = .ok (.iconst 0, 1) := dk_3 (dk_at dksX0_languageOf_3 22 rfl rfl)
theorem dX0_languageOf_83 : decode cX0_languageOf 83 = .ok (.iastore, 1) := dk_79 (dk_at dksX0_languageOf_3 23 rfl rfl)
theorem dX0_languageOf_84 : decode cX0_languageOf 84 = .ok (.invokevirtual 81, 3) := dk_182 0 81 (dk_at dksX0_languageOf_4 0 rfl rfl)
theorem dX0_languageOf_87 : decode cX0_languageOf 87 = .ok (.iconst 0, 1) := dk_3 (dk_at dksX0_languageOf_4 3 rfl rfl)
theorem dX0_languageOf_88 : decode cX0_languageOf 88 = .ok (.bipush 6, 2) := dk_16 6 (dk_at dksX0_languageOf_4 4 rfl rfl)
theorem dX0_languageOf_90 : decode cX0_languageOf 90 = .ok (.newarray .int, 2) := dk_188_10 (dk_at dksX0_languageOf_4 6 rfl rfl)
theorem dX0_languageOf_92 : decode cX0_languageOf 92 = .ok (.dup, 1) := dk_89 (dk_at dksX0_languageOf_4 8 rfl rfl)
theorem dX0_languageOf_93 : decode cX0_languageOf 93 = .ok (.iconst 0, 1) := dk_3 (dk_at dksX0_languageOf_4 9 rfl rfl)
theorem dX0_languageOf_94 : decode cX0_languageOf 94 = .ok (.iconst 3, 1) := dk_6 (dk_at dksX0_languageOf_4 10 rfl rfl)
theorem dX0_languageOf_95 : decode cX0_languageOf 95 = .ok (.iastore, 1) := dk_79 (dk_at dksX0_languageOf_4 11 rfl rfl)
theorem dX0_languageOf_96 : decode cX0_languageOf 96 = .ok (.dup, 1) := dk_89 (dk_at dksX0_languageOf_4 12 rfl rfl)
theorem dX0_languageOf_97 : decode cX0_languageOf 97 = .ok (.iconst 1, 1) := dk_4 (dk_at dksX0_languageOf_4 13 rfl rfl)
theorem dX0_languageOf_98 : decode cX0_languageOf 98 = .ok (.iconst 0, 1) := dk_3 (dk_at dksX0_languageOf_4 14 rfl rfl)
theorem dX0_languageOf_99 : decode cX0_languageOf 99 = .ok (.iastore, 1) := dk_79 (dk_at dksX0_languageOf_4 15 rfl rfl)
theorem dX0_languageOf_100 : decode cX0_languageOf 100 = .ok (.dup, 1) := dk_89 (dk_at dksX0_languageOf_4 16 rfl rfl)
theorem dX0_languageOf_101 : decode cX0_languageOf 101 = .ok (.iconst 2, 1) := dk_5 (dk_at dksX0_languageOf_4 17 rfl rfl)
theorem dX0_languageOf_102 : decode cX0_languageOf 102 = .ok (.iconst 0, 1) := dk_3 (dk_at dksX0_languageOf_4 18 rfl rfl)
theorem dX0_languageOf_103 : decode cX0_languageOf 103 = .ok (.iastore, 1) := dk_79 (dk_at dksX0_languageOf_4 19 rfl rfl)
theorem dX0_languageOf_104 : decode cX0_languageOf 104 = .ok (.dup, 1) := dk_89 (dk_at dksX0_languageOf_4 20 rfl rfl)
theorem dX0_languageOf_105 : decode cX0_languageOf 105 = .ok (.iconst 3, 1) := dk_6 (dk_at dksX0_languageOf_4 21 rfl rfl)
theorem dX0_languageOf_106 : decode cX0_languageOf 106 = .ok (.bipush 10, 2) := dk_16 10 (dk_at dksX0_languageOf_4 22 rfl rfl)
theorem dX0_languageOf_108 : decode cX0_languageOf 108 = .ok (.iastore, 1) := dk_79 (dk_at dksX0_languageOf_5 0 rfl rfl)
theorem dX0_languageOf_109 : decode cX0_languageOf 109 = .ok (.dup, 1) := dk_89 (dk_at dksX0_languageOf_5 1 rfl rfl)
theorem dX0_languageOf_110 : decode cX0_languageOf 110 = .ok (.iconst 4, 1) := dk_7 (dk_at dksX0_languageOf_5 2 rfl rfl)
theorem dX0_languageOf_111 : decode cX0_languageOf 111 = .ok (.iconst 2, 1) := dk_5 (dk_at dksX0_languageOf_5 3 rfl rfl)
theorem dX0_languageOf_112 : decode cX0_languageOf 112 = .ok (.iastore, 1) := dk_79 (dk_at dksX0_languageOf_5 4 rfl rfl)
theorem dX0_languageOf_113 : decode cX0_languageOf 113 = .ok (.dup, 1) := dk_89 (dk_at dksX0_languageOf_5 5 rfl rfl)
theorem dX0_languageOf_114 : decode cX0_languageOf 114 = .ok (.iconst 5, 1) := dk_8 (dk_at dksX0_languageOf_5 6 rfl rfl)
theorem dX0_languageOf_115 : decode cX0_languageOf 115 = .ok (.iconst 4, 1) := dk_7 (dk_at dksX0_languageOf_5 7 rfl rfl)
theorem dX0_languageOf_116 : decode cX0_languageOf 116 = .ok (.iastore, 1) := dk_79 (dk_at dksX0_languageOf_5 8 rfl rfl)
theorem dX0_languageOf_117 : decode cX0_languageOf 117 = .ok (.invokevirtual 37, 3) := dk_182 0 37 (dk_at dksX0_languageOf_5 9 rfl rfl)
theorem dX0_languageOf_120 : decode cX0_languageOf 120 = .ok (.iconst 1, 1) := dk_4 (dk_at dksX0_languageOf_5 12 rfl rfl)
theorem dX0_languageOf_121 : decode cX0_languageOf 121 = .ok (.bipush 6, 2) := dk_16 6 (dk_at dksX0_languageOf_5 13 rfl rfl)
theorem dX0_languageOf_123 : decode cX0_languageOf 123 = .ok (.newarray .int, 2) := dk_188_10 (dk_at dksX0_languageOf_5 15 rfl rfl)
theorem dX0_languageOf_125 : decode cX0_languageOf 125 = .ok (.dup, 1) := dk_89 (dk_at dksX0_languageOf_5 17 rfl rfl)
theorem dX0_languageOf_126 : decode cX0_languageOf 126 = .ok (.iconst 0, 1) := dk_3 (dk_at dksX0_languageOf_5 18 rfl rfl)
theorem dX0_languageOf_127 : decode cX0_languageOf 127 = .ok (.iconst 3, 1) := dk_6 (dk_at dksX0_languageOf_5 19 rfl rfl)
theorem dX0_languageOf_128 : decode cX0_languageOf 128 = .ok (.iastore, 1) := dk_79 (dk_at dksX0_languageOf_5 20 rfl rfl)
theorem dX0_languageOf_129 : decode cX0_languageOf 129 = .ok (.dup, 1) := dk_89 (dk_at dksX0_languageOf_5 21 rfl rfl)
theorem dX0_languageOf_130 : decode cX0_languageOf 130 = .ok (.iconst 1, 1) := dk_4 (dk_at dksX0_languageOf_5 22 rfl rfl)
theorem dX0_languageOf_131 : decode cX0_languageOf 131 = .ok (.iconst 0, 1) := dk_3 (dk_at dksX0_languageOf_5 23 rfl rfl)
theorem dX0_languageOf_132 : decode cX0_languageOf 132 = .ok (.iastore, 1) := dk_79 (dk_at dksX0_languageOf_6 0 rfl rfl)
theorem dX0_languageOf_133 : decode cX0_languageOf 133 = .ok (.dup, 1) := dk_89 (dk_at dksX0_languageOf_6 1 rfl rfl)
theorem dX0_languageOf_134 : decode cX0_languageOf 134 = .ok (.iconst 2, 1) := dk_5 (dk_at dksX0_languageOf_6 2 rfl rfl)
theorem dX0_languageOf_135 : decode cX0_languageOf 135 = .ok (.iconst 0, 1) := dk_3 (dk_at dksX0_languageOf_6 3 rfl rfl)
theorem dX0_languageOf_136 : decode cX0_languageOf 136 = .ok (.iastore, 1) := dk_79 (dk_at dksX0_languageOf_6 4 rfl rfl)
theorem dX0_languageOf_137 : decode cX0_languageOf 137 = .ok (.dup, 1) := dk_89 (dk_at dksX0_languageOf_6 5 rfl rfl)
theorem dX0_languageOf_138 : decode cX0_languageOf 138 = .ok (.iconst 3, 1) := dk_6 (dk_at dksX0_languageOf_6 6 rfl rfl)
theorem dX0_languageOf_139 : decode cX0_languageOf 139 = .ok (.bipush 100, 2) := dk_16 100 (dk_at dksX0_languageOf_6 7 rfl rfl)
theorem dX0_languageOf_141 : decode cX0_languageOf 141 = .ok (.iastore, 1) := dk_79 (dk_at dksX0_languageOf_6 9 rfl rfl)
theorem dX0_languageOf_142 : decode cX0_languageOf 142 = .ok (.dup, 1) := dk_89 (dk_at dksX0_languageOf_6 10 rfl rfl)
theorem dX0_languageOf_143 : decode cX0_languageOf 143 = .ok (.iconst 4, 1) := dk_7 (dk_at dksX0_languageOf_6 11 rfl rfl)
theorem dX0_languageOf_144 : decode cX0_languageOf 144 = .ok (.bipush 12, 2) := dk_16 12 (dk_at dksX0_languageOf_6 12 rfl rfl)
theorem dX0_languageOf_146 : decode cX0_languageOf 146 = .ok (.iastore, 1) := dk_79 (dk_at dksX0_languageOf_6 14 rfl rfl)
theorem dX0_languageOf_147 : decode cX0_languageOf 147 = .ok (.dup, 1) := dk_89 (dk_at dksX0_languageOf_6 15 rfl rfl)
theorem dX0_languageOf_148 : decode cX0_languageOf 148 = .ok (.iconst 5, 1) := dk_8 (dk_at dksX0_languageOf_6 16 rfl rfl)
theorem dX0_languageOf_149 : decode cX0_languageOf 149 = .ok (.bipush 14, 2) := dk_16 14 (dk_at dksX0_languageOf_6 17 rfl rfl)
theorem dX0_languageOf_151 : decode cX0_languageOf 151 = .ok (.iastore, 1) := dk_79 (dk_at dksX0_languageOf_6 19 rfl rfl)
theorem dX0_languageOf_152 : decode cX0_languageOf 152 = .ok (.invokevirtual 37, 3) := dk_182 0 37 (dk_at dksX0_languageOf_6 20 rfl rfl)
theorem dX0_languageOf_155 : decode cX0_languageOf 155 = .ok (.iconst 0, 1) := dk_3 (dk_at dksX0_languageOf_6 23 rfl rfl)
theorem dX0_languageOf_156 : decode cX0_languageOf 156 = .ok (.bipush 6, 2) := dk_16 6 (dk_at dksX0_languageOf_7 0 rfl rfl)
theorem dX0_languageOf_158 : decode cX0_languageOf 158 = .ok (.newarray .int, 2) := dk_188_10 (dk_at dksX0_languageOf_7 2 rfl rfl)
theorem dX0_languageOf_160 : decode cX0_languageOf 160 = .ok (.dup, 1) := dk_89 (dk_at dksX0_languageOf_7 4 rfl rfl)
theorem dX0_languageOf_161 : decode cX0_languageOf 161 = .ok (.iconst 0, 1) := dk_3 (dk_at dksX0_languageOf_7 5 rfl rfl)
theorem dX0_languageOf_162 : decode cX0_languageOf 162 = .ok (.iconst 4, 1) := dk_7 (dk_at dksX0_languageOf_7 6 rfl rfl)
theorem dX0_languageOf_163 : decode cX0_languageOf 163 = .ok (.iastore, 1) := dk_79 (dk_at dksX0_languageOf_7 7 rfl rfl)
theorem dX0_languageOf_164 : decode cX0_languageOf 164 = .ok (.dup, 1) := dk_89 (dk_at dksX0_languageOf_7 8 rfl rfl)
theorem dX0_languageOf_165 : decode cX0_languageOf 165 = .ok (.iconst 1, 1) := dk_4 (dk_at dksX0_languageOf_7 9 rfl rfl)
theorem dX0_languageOf_166 : decode cX0_languageOf 166 = .ok (.iconst 0, 1) := dk_3 (dk_at dksX0_languageOf_7 10 rfl rfl)
theorem dX0_languageOf_167 : decode cX0_languageOf 167 = .ok (.iastore, 1) := dk_79 (dk_at dksX0_languageOf_7 11 rfl rfl)
theorem dX0_languageOf_168 : decode cX0_languageOf 168 = .ok (.dup, 1) := dk_89 (dk_at dksX0_languageOf_7 12 rfl rfl)
theorem dX0_languageOf_169 : decode cX0_languageOf 169 = .ok (.iconst 2, 1) := dk_5 (dk_at dksX0_languageOf_7 13 rfl rfl)
theorem dX0_languageOf_170 : decode cX0_languageOf 170 = .ok (.iconst 1, 1) := dk_4 (dk_at dksX0_languageOf_7 14 rfl rfl)
theorem dX0_languageOf_171 : decode cX0_languageOf 171 = .ok (.iastore, 1) := dk_79 (dk_at dksX0_languageOf_7 15 rfl rfl)
theorem dX0_languageOf_172 : decode cX0_languageOf 172 = .ok (.dup, 1) := dk_89 (dk_at dksX0_languageOf_7 16 rfl rfl)
theorem dX0_languageOf_173 : decode cX0_languageOf 173 = .ok (.iconst 3, 1) := dk_6 (dk_at dksX0_languageOf_7 17 rfl rfl)
theorem dX0_languageOf_174 : decode cX0_languageOf 174 = .ok (.iconst 0, 1) := dk_3 (dk_at dksX0_languageOf_7 18 rfl rfl)
theorem dX0_languageOf_175 : decode cX0_languageOf 175 = .ok (.iastore, 1) := dk_79 (dk_at dksX0_languageOf_7 19 rfl rfl)
theorem dX0_languageOf_176 : decode cX0_languageOf 176 = .ok (.dup, 1) := dk_89 (dk_at dksX0_languageOf_7 20 rfl rfl)
theorem dX0_languageOf_177 : decode cX0_languageOf 177 = .ok (.iconst 4, 1) := dk_7 (dk_at dksX0_languageOf_7 21 rfl rfl)
theorem dX0_languageOf_178 : decode cX0_languageOf 178 = .ok (.iconst 0, 1) := dk_3 (dk_at dksX0_languageOf_7 22 rfl rfl)
theorem dX0_languageOf_179 : decode cX0_languageOf 179 = .ok (.iastore, 1) := dk_79 (dk_at dksX0_languageOf_7 23 rfl rfl)
theorem dX0_languageOf_180 : decode cX0_languageOf 180 = .ok (.dup, 1) := dk_89 (dk_at dksX0_languageOf_8 0 rfl rfl)
theorem dX0_languageOf_181 : decode cX0_languageOf 181 = .ok (.iconst 5, 1) := dk_8 (dk_at dksX0_languageOf_8 1 rfl rfl)
theorem dX0_languageOf_182 : decode cX0_languageOf 182 = .ok (.iconst 0, 1) := dk_3 (dk_at dksX0_languageOf_8 2 rfl rfl)
theorem dX0_languageOf_183 : decode cX0_languageOf 183 = .ok (.iastore, 1) := dk_79 (dk_at dksX0_languageOf_8 3 rfl rfl)
theorem dX0_languageOf_184 : decode cX0_languageOf 184 = .ok (.invokevirtual 37, 3) := dk_182 0 37 (dk_at dksX0_languageOf_8 4 rfl rfl)
theorem dX0_languageOf_187 : decode cX0_languageOf 187 = .ok (.areturn, 1) := dk_176 (dk_at dksX0_languageOf_8 7 rfl rfl)
theorem dX0_languageOf_188 : decode cX0_languageOf 188 = .ok (.new 72, 3) := dk_187 0 72 (dk_at dksX0_languageOf_8 8 rfl rfl)
theorem dX0_languageOf_191 : decode cX0_languageOf 191 = .ok (.dup, 1) := dk_89 (dk_at dksX0_languageOf_8 11 rfl rfl)
theorem dX0_languageOf_192 : decode cX0_languageOf 192 = .ok (.ldc 82, 2) := dk_18 82 (dk_at dksX0_languageOf_8 12 rfl rfl)
theorem dX0_languageOf_194 : decode cX0_languageOf 194 = .ok (.invokespecial 76, 3) := dk_183 0 76 (dk_at dksX0_languageOf_8 14 rfl rfl)
theorem dX0_languageOf_197 : decode cX0_languageOf 197 = .ok (.iconst 0, 1) := dk_3 (dk_at dksX0_languageOf_8 17 rfl rfl)
theorem dX0_languageOf_198 : decode cX0_languageOf 198 = .ok (.bipush 6, 2) := dk_16 6 (dk_at dksX0_languageOf_8 18 rfl rfl)
theorem dX0_languageOf_200 : decode cX0_languageOf 200 = .ok (.newarray .int, 2) := dk_188_10 (dk_at dksX0_languageOf_8 20 rfl rfl)
theorem dX0_languageOf_202 : decode cX0_languageOf 202 = .ok (.dup, 1) := dk_89 (dk_at dksX0_languageOf_8 22 rfl rfl)
theorem dX0_languageOf_203 : decode cX0_languageOf 203 = .ok (.iconst 0, 1) := dk_3 (dk_at dksX0_languageOf_8 23 rfl rfl)
theorem dX0_languageOf_204 : decode cX0_languageOf 204 = .ok (.iconst 0, 1) := dk_3 (dk_at dksX0_languageOf_9 0 rfl rfl)
theorem dX0_languageOf_205 : decode cX0_languageOf 205 = .ok (.iastore, 1) := dk_79 (dk_at dksX0_languageOf_9 1 rfl rfl)
theorem dX0_languageOf_206 : decode cX0_languageOf 206 = .ok (.dup, 1) := dk_89 (dk_at dksX0_languageOf_9 2 rfl rfl)
theorem dX0_languageOf_207 : decode cX0_languageOf 207 = .ok (.iconst 1, 1) := dk_4 (dk_at dksX0_languageOf_9 3 rfl rfl)
theorem dX0_languageOf_208 : decode cX0_languageOf 208 = .ok (.iconst 0, 1) := dk_3 (dk_at dksX0_languageOf_9 4 rfl rfl)
theorem dX0_languageOf_209 : decode cX0_languageOf 209 = .ok (.iastore, 1) := dk_79 (dk_at dksX0_languageOf_9 5 rfl rfl)
theorem dX0_languageOf_210 : decode cX0_languageOf 210 = .ok (.dup, 1) := dk_89 (dk_at dksX0_languageOf_9 6 rfl rfl)
theorem dX0_languageOf_211 : decode cX0_languageOf 211 = .ok (.iconst 2, 1) := dk_5 (dk_at dksX0_languageOf_9 7 rfl rfl)
theorem dX0_languageOf_212 : decode cX0_languageOf 212 = .ok (.iconst 1, 1) := dk_4 (dk_at dksX0_languageOf_9 8 rfl rfl)
theorem dX0_languageOf_213 : decode cX0_languageOf 213 = .ok (.iastore, 1) := dk_79 (dk_at dksX0_languageOf_9 9 rfl rfl)
theorem dX0_languageOf_214 : decode cX0_languageOf 214 = .ok (.dup, 1) := dk_89 (dk_at dksX0_languageOf_9 10 rfl rfl)
theorem dX0_languageOf_215 : decode cX0_languageOf 215 = .ok (.iconst 3, 1) := dk_6 (dk_at dksX0_languageOf_9 11 rfl rfl)
theorem dX0_languageOf_216 : decode cX0_languageOf 216 = .ok (.iconst 0, 1) := dk_3 (dk_at dksX0_languageOf_9 12 rfl rfl)
theorem dX0_languageOf_217 : decode cX0_languageOf 217 = .ok (.iastore, 1) := dk_79 (dk_at dksX0_languageOf_9 13 rfl rfl)
theorem dX0_languageOf_218 : decode cX0_languageOf 218 = .ok (.dup, 1) := dk_89 (dk_at dksX0_languageOf_9 14 rfl rfl)
theorem dX0_languageOf_219 : decode cX0_languageOf 219 = .ok (.iconst 4, 1) := dk_7 (dk_at dksX0_languageOf_9 15 rfl rfl)
theorem dX0_languageOf_220 : decode cX0_languageOf 220 = .ok (.iconst 0, 1) := dk_3 (dk_at dksX0_languageOf_9 16 rfl rfl)
theorem dX0_languageOf_221 : decode cX0_languageOf 221 = .ok (.iastore, 1) := dk_79 (dk_at dksX0_languageOf_9 17 rfl rfl)
theorem dX0_languageOf_222 : decode cX0_languageOf 222 = .ok (.dup, 1) := dk_89 (dk_at dksX0_languageOf_9 18 rfl rfl)
theorem dX0_languageOf_223 : decode cX0_languageOf 223 = .ok (.iconst 5, 1) := dk_8 (dk_at dksX0_languageOf_9 19 rfl rfl)
theorem dX0_languageOf_224 : decode cX0_languageOf 224 = .ok (.iconst 0, 1) := dk_3 (dk_at dksX0_languageOf_9 20 rfl rfl)
theorem dX0_languageOf_225 : decode cX0_languageOf 225 = .ok (.iastore, 1) := dk_79 (dk_at dksX0_languageOf_9 21 rfl rfl)
theorem dX0_languageOf_226 : decode cX0_languageOf 226 = .ok (.invokevirtual 81, 3) := dk_182 0 81 (dk_at dksX0_languageOf_10 0 rfl rfl)
theorem dX0_languageOf_229 : decode cX0_languageOf 229 = .ok (.iconst 0, 1) := dk_3 (dk_at dksX0_languageOf_10 3 rfl rfl)
theorem dX0_languageOf_230 : decode cX0_languageOf 230 = .ok (.bipush 6, 2) := dk_16 6 (dk_at dksX0_languageOf_10 4 rfl rfl)
theorem dX0_languageOf_232 : decode cX0_languageOf 232 = .ok (.newarray .int, 2) := dk_188_10 (dk_at dksX0_languageOf_10 6 rfl rfl)
theorem dX0_languageOf_234 : decode cX0_languageOf 234 = .ok (.dup, 1) := dk_89 (dk_at dksX0_languageOf_10 8 rfl rfl)
theorem dX0_languageOf_235 : decode cX0_languageOf 235 = .ok (.iconst 0, 1) := dk_3 (dk_at dksX0_languageOf_10 9 rfl rfl)
theorem dX0_languageOf_236 : decode cX0_languageOf 236 = .ok (.iconst 0, 1) := dk_3 (dk_at dksX0_languageOf_10 10 rfl rfl)
theorem dX0_languageOf_237 : decode cX0_languageOf 237 = .ok (.iastore, 1) := dk_79 (dk_at dksX0_languageOf_10 11 rfl rfl)
theorem dX0_languageOf_238 : decode cX0_languageOf 238 = .ok (.dup, 1) := dk_89 (dk_at dksX0_languageOf_10 12 rfl rfl)
theorem dX0_languageOf_239 : decode cX0_languageOf 239 = .ok (.iconst 1, 1) := dk_4 (dk_at dksX0_languageOf_10 13 rfl rfl)
theorem dX0_languageOf_240 : decode cX0_languageOf 240 = .ok (.iconst 0, 1) := dk_3 (dk_at dksX0_languageOf_10 14 rfl rfl)
theorem dX0_languageOf_241 : decode cX0_languageOf 241 = .ok (.iastore, 1) := dk_79 (dk_at dksX0_languageOf_10 15 rfl rfl)
theorem dX0_languageOf_242 : decode cX0_languageOf 242 = .ok (.dup, 1) := dk_89 (dk_at dksX0_languageOf_10 16 rfl rfl)
theorem dX0_languageOf_243 : decode cX0_languageOf 243 = .ok (.iconst 2, 1) := dk_5 (dk_at dksX0_languageOf_10 17 rfl rfl)
theorem dX0_languageOf_244 : decode cX0_languageOf 244 = .ok (.iconst 0, 1) := dk_3 (dk_at dksX0_languageOf_10 18 rfl rfl)
theorem dX0_languageOf_245 : decode cX0_languageOf 245 = .ok (.iastore, 1) := dk_79 (dk_at dksX0_languageOf_10 19 rfl rfl)
theorem dX0_languageOf_246 : decode cX0_languageOf 246 = .ok (.dup, 1) := dk_89 (dk_at dksX0_languageOf_10 20 rfl rfl)
theorem dX0_languageOf_247 : decode cX0_languageOf 247 = .ok (.iconst 3, 1) := dk_6 (dk_at dksX0_languageOf_10 21 rfl rfl)
theorem dX0_languageOf_248 : decode cX0_languageOf 248 = .ok (.bipush 10, 2) := dk_16 10 (dk_at dksX0_languageOf_10 22 rfl rfl)
theorem dX0_languageOf_250 : decode cX0_languageOf 250 = .ok (.iastore, 1) := dk_79 (dk_at dksX0_languageOf_11 0 rfl rfl)
theorem dX0_languageOf_251 : decode cX0_languageOf 251 = .ok (.dup, 1) := dk_89 (dk_at dksX0_languageOf_11 1 rfl rfl)
theorem dX0_languageOf_252 : decode cX0_languageOf 252 = .ok (.iconst 4, 1) := dk_7 (dk_at dksX0_languageOf_11 2 rfl rfl)
theorem dX0_languageOf_253 : decode cX0_languageOf 253 = .ok (.iconst 0, 1) := dk_3 (dk_at dksX0_languageOf_11 3 rfl rfl)
theorem dX0_languageOf_254 : decode cX0_languageOf 254 = .ok (.iastore, 1) := dk_79 (dk_at dksX0_languageOf_11 4 rfl rfl)
theorem dX0_languageOf_255 : decode cX0_languageOf 255 = .ok (.dup, 1) := dk_89 (dk_at dksX0_languageOf_11 5 rfl rfl)
theorem dX0_languageOf_256 : decode cX0_languageOf 256 = .ok (.iconst 5, 1) := dk_8 (dk_at dksX0_languageOf_11 6 rfl rfl)
theorem dX0_languageOf_257 : decode cX0_languageOf 257 = .ok (.iconst 0, 1) := dk_3 (dk_at dksX0_languageOf_11 7 rfl rfl)
theorem dX0_languageOf_258 : decode cX0_languageOf 258 = .ok (.iastore, 1) := dk_79 (dk_at dksX0_languageOf_11 8 rfl rfl)
theorem dX0_languageOf_259 : decode cX0_languageOf 259 = .ok (.invokevirtual 37, 3) := dk_182 0 37 (dk_at dksX0_languageOf_11 9 rfl rfl)
theorem dX0_languageOf_262 : decode cX0_languageOf 262 = .ok (.iconst 0, 1) := dk_3 (dk_at dksX0_languageOf_11 12 rfl rfl)
theorem dX0_languageOf_263 : decode cX0_languageOf 263 = .ok (.bipush 6, 2) := dk_16 6 (dk_at dksX0_languageOf_11 13 rfl rfl)
theorem dX0_languageOf_265 : decode cX0_languageOf 265 = .ok (.newarray .int, 2) := dk_188_10 (dk_at dksX0_languageOf_11 15 rfl rfl)
theorem dX0_languageOf_267 : decode cX0_languageOf 267 = .ok (.dup, 1) := dk_89 (dk_at dksX0_languageOf_11 17 rfl rfl)
theorem dX0_languageOf_268 : decode cX0_languageOf 268 = .ok (.iconst 0, 1) := dk_3 (dk_at dksX0_languageOf_11 18 rfl rfl)
theorem dX0_languageOf_269 : decode cX0_languageOf 269 = .ok (.iconst 0, 1) := dk_3 (dk_at dksX0_languageOf_11 19 rfl rfl)
theorem dX0_languageOf_270 : decode cX0_languageOf 270 = .ok (.iastore, 1) := dk_79 (dk_at dksX0_languageOf_11 20 rfl rfl)
theorem dX0_languageOf_271 : decode cX0_languageOf 271 = .ok (.dup, 1) := dk_89 (dk_at dksX0_languageOf_11 21 rfl rfl)
theorem dX0_languageOf_272 : decode cX0_languageOf 272 = .ok (.iconst 1, 1) := dk_4 (dk_at dksX0_languageOf_11 22 rfl rfl)
theorem dX0_languageOf_273 : decode cX0_languageOf 273 = .ok (.iconst 1, 1) := dk_4 (dk_at dksX0_languageOf_11 23 rfl rfl)
theorem dX0_languageOf_274 : decode cX0_languageOf 274 = .ok (.iastore, 1) := dk_79 (dk_at dksX0_languageOf_12 0 rfl rfl)
theorem dX0_languageOf_275 : decode cX0_languageOf 275 = .ok (.dup, 1) := dk_89 (dk_at dksX0_languageOf_12 1 rfl rfl)
theorem dX0_languageOf_276 : decode cX0_languageOf 276 = .ok (.iconst 2, 1) := dk_5 (dk_at dksX0_languageOf_12 2 rfl rfl)
theorem dX0_languageOf_277 : decode cX0_languageOf 277 = .ok (.iconst 1, 1) := dk_4 (dk_at dksX0_languageOf_12 3 rfl rfl)
theorem dX0_languageOf_278 : decode cX0_languageOf 278 = .ok (.iastore, 1) := dk_79 (dk_at dksX0_languageOf_12 4 rfl rfl)
theorem dX0_languageOf_279 : decode cX0_languageOf 279 = .ok (.dup, 1) := dk_89 (dk_at dksX0_languageOf_12 5 rfl rfl)
theorem dX0_languageOf_280 : decode cX0_languageOf 280 = .ok (.iconst 3, 1) := dk_6 (dk_at dksX0_languageOf_12 6 rfl rfl)
theorem dX0_languageOf_281 : decode cX0_languageOf 281 = .ok (.iconst 0, 1) := dk_3 (dk_at dksX0_languageOf_12 7 rfl rfl)
theorem dX0_languageOf_282 : decode cX0_languageOf 282 = .ok (.iastore, 1) := dk_79 (dk_at dksX0_languageOf_12 8 rfl rfl)
theorem dX0_languageOf_283 : decode cX0_languageOf 283 = .ok (.dup, 1) := dk_89 (dk_at dksX0_languageOf_12 9 rfl rfl)
theorem dX0_languageOf_284 : decode cX0_languageOf 284 = .ok (.iconst 4, 1) := dk_7 (dk_at dksX0_languageOf_12 10 rfl rfl)
theorem dX0_languageOf_285 : decode cX0_languageOf 285 = .ok (.iconst 0, 1) := dk_3 (dk_at dksX0_languageOf_12 11 rfl rfl)
theorem dX0_languageOf_286 : decode cX0_languageOf 286 = .ok (.iastore, 1) := dk_79 (dk_at dksX0_languageOf_12 12 rfl rfl)
theorem dX0_languageOf_287 : decode cX0_languageOf 287 = .ok (.dup, 1) := dk_89 (dk_at dksX0_languageOf_12 13 rfl rfl)
theorem dX0_languageOf_288 : decode cX0_languageOf 288 = .ok (.iconst 5, 1) := dk_8 (dk_at dksX0_languageOf_12 14 rfl rfl)
theorem dX0_languageOf_289 : decode cX0_languageOf 289 = .ok (.iconst 0, 1) := dk_3 (dk_at dksX0_languageOf_12 15 rfl rfl)
theorem dX0_languageOf_290 : decode cX0_languageOf 290 = .ok (.iastore, 1) := dk_79 (dk_at dksX0_languageOf_12 16 rfl rfl)
theorem dX0_languageOf_291 : decode cX0_languageOf 291 = .ok (.invokevirtual 37, 3) := dk_182 0 37 (dk_at dksX0_languageOf_12 17 rfl rfl)
theorem dX0_languageOf_294 : decode cX0_languageOf 294 = .ok (.iconst 0, 1) := dk_3 (dk_at dksX0_languageOf_12 20 rfl rfl)
theorem dX0_languageOf_295 : decode cX0_languageOf 295 = .ok (.bipush 6, 2) := dk_16 6 (dk_at dksX0_languageOf_12 21 rfl rfl)
theorem dX0_languageOf_297 : decode cX0_languageOf 297 = .ok (.newarray .int, 2) := dk_188_10 (dk_at dksX0_languageOf_13 0 rfl rfl)
theorem dX0_languageOf_299 : decode cX0_languageOf 299 = .ok (.dup, 1) := dk_89 (dk_at dksX0_languageOf_13 2 rfl rfl)
theorem dX0_languageOf_300 : decode cX0_languageOf 300 = .ok (.iconst 0, 1) := dk_3 (dk_at dksX0_languageOf_13 3 rfl rfl)
theorem dX0_languageOf_301 : decode cX0_languageOf 301 = .ok (.iconst 0, 1) := dk_3 (dk_at dksX0_languageOf_13 4 rfl rfl)
theorem dX0_languageOf_302 : decode cX0_languageOf 302 = .ok (.iastore, 1) := dk_79 (dk_at dksX0_languageOf_13 5 rfl rfl)
theorem dX0_languageOf_303 : decode cX0_languageOf 303 = .ok (.dup, 1) := dk_89 (dk_at dksX0_languageOf_13 6 rfl rfl)
theorem dX0_languageOf_304 : decode cX0_languageOf 304 = .ok (.iconst 1, 1) := dk_4 (dk_at dksX0_languageOf_13 7 rfl rfl)
theorem dX0_languageOf_305 : decode cX0_languageOf 305 = .ok (.iconst 1, 1) := dk_4 (dk_at dksX0_languageOf_13 8 rfl rfl)
theorem dX0_languageOf_306 : decode cX0_languageOf 306 = .ok (.iastore, 1) := dk_79 (dk_at dksX0_languageOf_13 9 rfl rfl)
theorem dX0_languageOf_307 : decode cX0_languageOf 307 = .ok (.dup, 1) := dk_89 (dk_at dksX0_languageOf_13 10 rfl rfl)
theorem dX0_languageOf_308 : decode cX0_languageOf 308 = .ok (.iconst 2, 1) := dk_5 (dk_at dksX0_languageOf_13 11 rfl rfl)
theorem dX0_languageOf_309 : decode cX0_languageOf 309 = .ok (.iconst 0, 1) := dk_3 (dk_at dksX0_languageOf_13 12 rfl rfl)
theorem dX0_languageOf_310 : decode cX0_languageOf 310 = .ok (.iastore, 1) := dk_79 (dk_at dksX0_languageOf_13 13 rfl rfl)
theorem dX0_languageOf_311 : decode cX0_languageOf 311 = .ok (.dup, 1) := dk_89 (dk_at dksX0_languageOf_13 14 rfl rfl)
theorem dX0_languageOf_312 : decode cX0_languageOf 312 = .ok (.iconst 3, 1) := dk_6 (dk_at dksX0_languageOf_13 15 rfl rfl)
theorem dX0_languageOf_313 : decode cX0_languageOf 313 = .ok (.bipush 100, 2) := dk_16 100 (dk_at dksX0_languageOf_13 16 rfl rfl)
theorem dX0_languageOf_315 : decode cX0_languageOf 315 = .ok (.iastore, 1) := dk_79 (dk_at dksX0_languageOf_13 18 rfl rfl)
theorem dX0_languageOf_316 : decode cX0_languageOf 316 = .ok (.dup, 1) := dk_89 (dk_at dksX0_languageOf_13 19 rfl rfl)
theorem dX0_languageOf_317 : decode cX0_languageOf 317 = .ok (.iconst 4, 1) := dk_7 (dk_at dksX0_languageOf_13 20 rfl rfl)
theorem dX0_languageOf_318 : decode cX0_languageOf 318 = .ok (.bipush 11, 2) := dk_16 11 (dk_at dksX0_languageOf_13 21 rfl rfl)
theorem dX0_languageOf_320 : decode cX0_languageOf 320 = .ok (.iastore, 1) := dk_79 (dk_at dksX0_languageOf_13 23 rfl rfl)
theorem dX0_languageOf_321 : decode cX0_languageOf 321 = .ok (.dup, 1) := dk_89 (dk_at dksX0_languageOf_14 0 rfl rfl)
theorem dX0_languageOf_322 : decode cX0_languageOf 322 = .ok (.iconst 5, 1) := dk_8 (dk_at dksX0_languageOf_14 1 rfl rfl)
theorem dX0_languageOf_323 : decode cX0_languageOf 323 = .ok (.bipush 19, 2) := dk_16 19 (dk_at dksX0_languageOf_14 2 rfl rfl)
theorem dX0_languageOf_325 : decode cX0_languageOf 325 = .ok (.iastore, 1) := dk_79 (dk_at dksX0_languageOf_14 4 rfl rfl)
theorem dX0_languageOf_326 : decode cX0_languageOf 326 = .ok (.invokevirtual 37, 3) := dk_182 0 37 (dk_at dksX0_languageOf_14 5 rfl rfl)
theorem dX0_languageOf_329 : decode cX0_languageOf 329 = .ok (.iconst 0, 1) := dk_3 (dk_at dksX0_languageOf_14 8 rfl rfl)
theorem dX0_languageOf_330 : decode cX0_languageOf 330 = .ok (.bipush 6, 2) := dk_16 6 (dk_at dksX0_languageOf_14 9 rfl rfl)
theorem dX0_languageOf_332 : decode cX0_languageOf 332 = .ok (.newarray .int, 2) := dk_188_10 (dk_at dksX0_languageOf_14 11 rfl rfl)
theorem dX0_languageOf_334 : decode cX0_languageOf 334 = .ok (.dup, 1) := dk_89 (dk_at dksX0_languageOf_14 13 rfl rfl)
theorem dX0_languageOf_335 : decode cX0_languageOf 335 = .ok (.iconst 0, 1) := dk_3 (dk_at dksX0_languageOf_14 14 rfl rfl)
theorem dX0_languageOf_336 : decode cX0_languageOf 336 = .ok (.iconst 1, 1) := dk_4 (dk_at dksX0_languageOf_14 15 rfl rfl)
theorem dX0_languageOf_337 : decode cX0_languageOf 337 = .ok (.iastore, 1) := dk_79 (dk_at dksX0_languageOf_14 16 rfl rfl)
theorem dX0_languageOf_338 : decode cX0_languageOf 338 = .ok (.dup, 1) := dk_89 (dk_at dksX0_languageOf_14 17 rfl rfl)
theorem dX0_languageOf_339 : decode cX0_languageOf 339 = .ok (.iconst 1, 1) := dk_4 (dk_at dksX0_languageOf_14 18 rfl rfl)
theorem dX0_languageOf_340 : decode cX0_languageOf 340 = .ok (.iconst 0, 1) := dk_3 (dk_at dksX0_languageOf_14 19 rfl rfl)
theorem dX0_languageOf_341 : decode cX0_languageOf 341 = .ok (.iastore, 1) := dk_79 (dk_at dksX0_languageOf_14 20 rfl rfl)
theorem dX0_languageOf_342 : decode cX0_languageOf 342 = .ok (.dup, 1) := dk_89 (dk_at dksX0_languageOf_14 21 rfl rfl)
theorem dX0_languageOf_343 : decode cX0_languageOf 343 = .ok (.iconst 2, 1) := dk_5 (dk_at dksX0_languageOf_14 22 rfl rfl)
theorem dX0_languageOf_344 : decode cX0_languageOf 344 = .ok (.iconst 1, 1) := dk_4 (dk_at dksX0_languageOf_14 23 rfl rfl)
theorem dX0_languageOf_345 : decode cX0_languageOf 345 = .ok (.iastore, 1) := dk_79 (dk_at dksX0_languageOf_15 0 rfl rfl)
theorem dX0_languageOf_346 : decode cX0_languageOf 346 = .ok (.dup, 1) := dk_89 (dk_at dksX0_languageOf_15 1 rfl rfl)
theorem dX0_languageOf_347 : decode cX0_languageOf 347 = .ok (.iconst 3, 1) := dk_6 (dk_at dksX0_languageOf_15 2 rfl rfl)
theorem dX0_languageOf_348 : decode cX0_languageOf 348 = .ok (.iconst 0, 1) := dk_3 (dk_at dksX0_languageOf_15 3 rfl rfl)
theorem dX0_languageOf_349 : decode cX0_languageOf 349 = .ok (.iastore, 1) := dk_79 (dk_at dksX0_languageOf_15 4 rfl rfl)
theorem dX0_languageOf_350 : decode cX0_languageOf 350 = .ok (.dup, 1) := dk_89 (dk_at dksX0_languageOf_15 5 rfl rfl)
theorem dX0_languageOf_351 : decode cX0_languageOf 351 = .ok (.iconst 4, 1) := dk_7 (dk_at dksX0_languageOf_15 6 rfl rfl)
theorem dX0_languageOf_352 : decode cX0_languageOf 352 = .ok (.iconst 0, 1) := dk_3 (dk_at dksX0_languageOf_15 7 rfl rfl)
theorem dX0_languageOf_353 : decode cX0_languageOf 353 = .ok (.iastore, 1) := dk_79 (dk_at dksX0_languageOf_15 8 rfl rfl)
theorem dX0_languageOf_354 : decode cX0_languageOf 354 = .ok (.dup, 1) := dk_89 (dk_at dksX0_languageOf_15 9 rfl rfl)
theorem dX0_languageOf_355 : decode cX0_languageOf 355 = .ok (.iconst 5, 1) := dk_8 (dk_at dksX0_languageOf_15 10 rfl rfl)
theorem dX0_languageOf_356 : decode cX0_languageOf 356 = .ok (.iconst 0, 1) := dk_3 (dk_at dksX0_languageOf_15 11 rfl rfl)
theorem dX0_languageOf_357 : decode cX0_languageOf 357 = .ok (.iastore, 1) := dk_79 (dk_at dksX0_languageOf_15 12 rfl rfl)
theorem dX0_languageOf_358 : decode cX0_languageOf 358 = .ok (.invokevirtual 37, 3) := dk_182 0 37 (dk_at dksX0_languageOf_15 13 rfl rfl)
theorem dX0_languageOf_361 : decode cX0_languageOf 361 = .ok (.iconst 0, 1) := dk_3 (dk_at dksX0_languageOf_15 16 rfl rfl)
theorem dX0_languageOf_362 : decode cX0_languageOf 362 = .ok (.bipush 6, 2) := dk_16 6 (dk_at dksX0_languageOf_15 17 rfl rfl)
theorem dX0_languageOf_364 : decode cX0_languageOf 364 = .ok (.newarray .int, 2) := dk_188_10 (dk_at dksX0_languageOf_15 19 rfl rfl)
theorem dX0_languageOf_366 : decode cX0_languageOf 366 = .ok (.dup, 1) := dk_89 (dk_at dksX0_languageOf_15 21 rfl rfl)
theorem dX0_languageOf_367 : decode cX0_languageOf 367 = .ok (.iconst 0, 1) := dk_3 (dk_at dksX0_languageOf_15 22 rfl rfl)
theorem dX0_languageOf_368 : decode cX0_languageOf 368 = .ok (.iconst 1, 1) := dk_4 (dk_at dksX0_languageOf_15 23 rfl rfl)
theorem dX0_languageOf_369 : decode cX0_languageOf 369 = .ok (.iastore, 1) := dk_79 (dk_at dksX0_languageOf_16 0 rfl rfl)
theorem dX0_languageOf_370 : decode cX0_languageOf 370 = .ok (.dup, 1) := dk_89 (dk_at dksX0_languageOf_16 1 rfl rfl)
theorem dX0_languageOf_371 : decode cX0_languageOf 371 = .ok (.iconst 1, 1) := dk_4 (dk_at dksX0_languageOf_16 2 rfl rfl)
theorem dX0_languageOf_372 : decode cX0_languageOf 372 = .ok (.iconst 0, 1) := dk_3 (dk_at dksX0_languageOf_16 3 rfl rfl)
theorem dX0_languageOf_373 : decode cX0_languageOf 373 = .ok (.iastore, 1) := dk_79 (dk_at dksX0_languageOf_16 4 rfl rfl)
theorem dX0_languageOf_374 : decode cX0_languageOf 374 = .ok (.dup, 1) := dk_89 (dk_at dksX0_languageOf_16 5 rfl rfl)
theorem dX0_languageOf_375 : decode cX0_languageOf 375 = .ok (.iconst 2, 1) := dk_5 (dk_at dksX0_languageOf_16 6 rfl rfl)
theorem dX0_languageOf_376 : decode cX0_languageOf 376 = .ok (.iconst 0, 1) := dk_3 (dk_at dksX0_languageOf_16 7 rfl rfl)
theorem dX0_languageOf_377 : decode cX0_languageOf 377 = .ok (.iastore, 1) := dk_79 (dk_at dksX0_languageOf_16 8 rfl rfl)
theorem dX0_languageOf_378 : decode cX0_languageOf 378 = .ok (.dup, 1) := dk_89 (dk_at dksX0_languageOf_16 9 rfl rfl)
theorem dX0_languageOf_379 : decode cX0_languageOf 379 = .ok (.iconst 3, 1) := dk_6 (dk_at dksX0_languageOf_16 10 rfl rfl)
theorem dX0_languageOf_380 : decode cX0_languageOf 380 = .ok (.bipush 10, 2) := dk_16 10 (dk_at dksX0_languageOf_16 11 rfl rfl)
theorem dX0_languageOf_382 : decode cX0_languageOf 382 = .ok (.iastore, 1) := dk_79 (dk_at dksX0_languageOf_16 13 rfl rfl)
theorem dX0_languageOf_383 : decode cX0_languageOf 383 = .ok (.dup, 1) := dk_89 (dk_at dksX0_languageOf_16 14 rfl rfl)
theorem dX0_languageOf_384 : decode cX0_languageOf 384 = .ok (.iconst 4, 1) := dk_7 (dk_at dksX0_languageOf_16 15 rfl rfl)
theorem dX0_languageOf_385 : decode cX0_languageOf 385 = .ok (.iconst 1, 1) := dk_4 (dk_at dksX0_languageOf_16 16 rfl rfl)
theorem dX0_languageOf_386 : decode cX0_languageOf 386 = .ok (.iastore, 1) := dk_79 (dk_at dksX0_languageOf_16 17 rfl rfl)
theorem dX0_languageOf_387 : decode cX0_languageOf 387 = .ok (.dup, 1) := dk_89 (dk_at dksX0_languageOf_16 18 rfl rfl)
theorem dX0_languageOf_388 : decode cX0_languageOf 388 = .ok (.iconst 5, 1) := dk_8 (dk_at dksX0_languageOf_16 19 rfl rfl)
theorem dX0_languageOf_389 : decode cX0_languageOf 389 = .ok (.iconst 1, 1) := dk_4 (dk_at dksX0_languageOf_16 20 rfl rfl)
theorem dX0_languageOf_390 : decode cX0_languageOf 390 = .ok (.iastore, 1) := dk_79 (dk_at dksX0_languageOf_16 21 rfl rfl)
theorem dX0_languageOf_391 : decode cX0_languageOf 391 = .ok (.invokevirtual 37, 3) := dk_182 0 37 (dk_at dksX0_languageOf_17 0 rfl rfl)
theorem dX0_languageOf_394 : decode cX0_languageOf 394 = .ok (.iconst 1, 1) := dk_4 (dk_at dksX0_languageOf_17 3 rfl rfl)
theorem dX0_languageOf_395 : decode cX0_languageOf 395 = .ok (.bipush 6, 2) := dk_16 6 (dk_at dksX0_languageOf_17 4 rfl rfl)
theorem dX0_languageOf_397 : decode cX0_languageOf 397 = .ok (.newarray .int, 2) := dk_188_10 (dk_at dksX0_languageOf_17 6 rfl rfl)
theorem dX0_languageOf_399 : decode cX0_languageOf 399 = .ok (.dup, 1) := dk_89 (dk_at dksX0_languageOf_17 8 rfl rfl)
theorem dX0_languageOf_400 : decode cX0_languageOf 400 = .ok (.iconst 0, 1) := dk_3 (dk_at dksX0_languageOf_17 9 rfl rfl)
theorem dX0_languageOf_401 : decode cX0_languageOf 401 = .ok (.iconst 1, 1) := dk_4 (dk_at dksX0_languageOf_17 10 rfl rfl)
theorem dX0_languageOf_402 : decode cX0_languageOf 402 = .ok (.iastore, 1) := dk_79 (dk_at dksX0_languageOf_17 11 rfl rfl)
theorem dX0_languageOf_403 : decode cX0_languageOf 403 = .ok (.dup, 1) := dk_89 (dk_at dksX0_languageOf_17 12 rfl rfl)
theorem dX0_languageOf_404 : decode cX0_languageOf 404 = .ok (.iconst 1, 1) := dk_4 (dk_at dksX0_languageOf_17 13 rfl rfl)
theorem dX0_languageOf_405 : decode cX0_languageOf 405 = .ok (.iconst 1, 1) := dk_4 (dk_at dksX0_languageOf_17 14 rfl rfl)
theorem dX0_languageOf_406 : decode cX0_languageOf 406 = .ok (.iastore, 1) := dk_79 (dk_at dksX0_languageOf_17 15 rfl rfl)
theorem dX0_languageOf_407 : decode cX0_languageOf 407 = .ok (.dup, 1) := dk_89 (dk_at dksX0_languageOf_17 16 rfl rfl)
theorem dX0_languageOf_408 : decode cX0_languageOf 408 = .ok (.iconst 2, 1) := dk_5 (dk_at dksX0_languageOf_17 17 rfl rfl)
theorem dX0_languageOf_409 : decode cX0_languageOf 409 = .ok (.iconst 1, 1) := dk_4 (dk_at dksX0_languageOf_17 18 rfl rfl)
theorem dX0_languageOf_410 : decode cX0_languageOf 410 = .ok (.iastore, 1) := dk_79 (dk_at dksX0_languageOf_17 19 rfl rfl)
theorem dX0_languageOf_411 : decode cX0_languageOf 411 = .ok (.dup, 1) := dk_89 (dk_at dksX0_languageOf_17 20 rfl rfl)
theorem dX0_languageOf_412 : decode cX0_languageOf 412 = .ok (.iconst 3, 1) := dk_6 (dk_at dksX0_languageOf_17 21 rfl rfl)
theorem dX0_languageOf_413 : decode cX0_languageOf 413 = .ok (.iconst 0, 1) := dk_3 (dk_at dksX0_languageOf_17 22 rfl rfl)
theorem dX0_languageOf_414 : decode cX0_languageOf 414 = .ok (.iastore, 1) := dk_79 (dk_at dksX0_languageOf_17 23 rfl rfl)
theorem dX0_languageOf_415 : decode cX0_languageOf 415 = .ok (.dup, 1) := dk_89 (dk_at dksX0_languageOf_18 0 rfl rfl)
theorem dX0_languageOf_416 : decode cX0_languageOf 416 = .ok (.iconst 4, 1) := dk_7 (dk_at dksX0_languageOf_18 1 rfl rfl)
theorem dX0_languageOf_417 : decode cX0_languageOf 417 = .ok (.iconst 0, 1) := dk_3 (dk_at dksX0_languageOf_18 2 rfl rfl)
theorem dX0_languageOf_418 : decode cX0_languageOf 418 = .ok (.iastore, 1) := dk_79 (dk_at dksX0_languageOf_18 3 rfl rfl)
theorem dX0_languageOf_419 : decode cX0_languageOf 419 = .ok (.dup, 1) := dk_89 (dk_at dksX0_languageOf_18 4 rfl rfl)
theorem dX0_languageOf_420 : decode cX0_languageOf 420 = .ok (.iconst 5, 1) := dk_8 (dk_at dksX0_languageOf_18 5 rfl rfl)
theorem dX0_languageOf_421 : decode cX0_languageOf 421 = .ok (.iconst 0, 1) := dk_3 (dk_at dksX0_languageOf_18 6 rfl rfl)
theorem dX0_languageOf_422 : decode cX0_languageOf 422 = .ok (.iastore, 1) := dk_79 (dk_at dksX0_languageOf_18 7 rfl rfl)
theorem dX0_languageOf_423 : decode cX0_languageOf 423 = .ok (.invokevirtual 37, 3) := dk_182 0 37 (dk_at dksX0_languageOf_18 8 rfl rfl)
theorem dX0_languageOf_426 : decode cX0_languageOf 426 = .ok (.iconst 0, 1) := dk_3 (dk_at dksX0_languageOf_18 11 rfl rfl)
theorem dX0_languageOf_427 : decode cX0_languageOf 427 = .ok (.bipush 6, 2) := dk_16 6 (dk_at dksX0_languageOf_18 12 rfl rfl)
theorem dX0_languageOf_429 : decode cX0_languageOf 429 = .ok (.newarray .int, 2) := dk_188_10 (dk_at dksX0_languageOf_18 14 rfl rfl)
theorem dX0_languageOf_431 : decode cX0_languageOf 431 = .ok (.dup, 1) := dk_89 (dk_at dksX0_languageOf_18 16 rfl rfl)
theorem dX0_languageOf_432 : decode cX0_languageOf 432 = .ok (.iconst 0, 1) := dk_3 (dk_at dksX0_languageOf_18 17 rfl rfl)
theorem dX0_languageOf_433 : decode cX0_languageOf 433 = .ok (.iconst 1, 1) := dk_4 (dk_at dksX0_languageOf_18 18 rfl rfl)
theorem dX0_languageOf_434 : decode cX0_languageOf 434 = .ok (.iastore, 1) := dk_79 (dk_at dksX0_languageOf_18 19 rfl rfl)
theorem dX0_languageOf_435 : decode cX0_languageOf 435 = .ok (.dup, 1) := dk_89 (dk_at dksX0_languageOf_18 20 rfl rfl)
theorem dX0_languageOf_436 : decode cX0_languageOf 436 = .ok (.iconst 1, 1) := dk_4 (dk_at dksX0_languageOf_18 21 rfl rfl)
theorem dX0_languageOf_437 : decode cX0_languageOf 437 = .ok (.iconst 1, 1) := dk_4 (dk_at dksX0_languageOf_18 22 rfl rfl)
theorem dX0_languageOf_438 : decode cX0_languageOf 438 = .ok (.iastore, 1) := dk_79 (dk_at dksX0_languageOf_18 23 rfl rfl)
theorem dX0_languageOf_439 : decode cX0_languageOf 439 = .ok (.dup, 1) := dk_89 (dk_at dksX0_languageOf_19 0 rfl rfl)
theorem dX0_languageOf_440 : decode cX0_languageOf 440 = .ok (.iconst 2, 1) := dk_5 (dk_at dksX0_languageOf_19 1 rfl rfl)
theorem dX0_languageOf_441 : decode cX0_languageOf 441 = .ok (.iconst 2, 1) := dk_5 (dk_at dksX0_languageOf_19 2 rfl rfl)
theorem dX0_languageOf_442 : decode cX0_languageOf 442 = .ok (.iastore, 1) := dk_79 (dk_at dksX0_languageOf_19 3 rfl rfl)
theorem dX0_languageOf_443 : decode cX0_languageOf 443 = .ok (.dup, 1) := dk_89 (dk_at dksX0_languageOf_19 4 rfl rfl)
theorem dX0_languageOf_444 : decode cX0_languageOf 444 = .ok (.iconst 3, 1) := dk_6 (dk_at dksX0_languageOf_19 5 rfl rfl)
theorem dX0_languageOf_445 : decode cX0_languageOf 445 = .ok (.bipush 10, 2) := dk_16 10 (dk_at dksX0_languageOf_19 6 rfl rfl)
theorem dX0_languageOf_447 : decode cX0_languageOf 447 = .ok (.iastore, 1) := dk_79 (dk_at dksX0_languageOf_19 8 rfl rfl)
theorem dX0_languageOf_448 : decode cX0_languageOf 448 = .ok (.dup, 1) := dk_89 (dk_at dksX0_languageOf_19 9 rfl rfl)
theorem dX0_languageOf_449 : decode cX0_languageOf 449 = .ok (.iconst 4, 1) := dk_7 (dk_at dksX0_languageOf_19 10 rfl rfl)
theorem dX0_languageOf_450 : decode cX0_languageOf 450 = .ok (.iconst 1, 1) := dk_4 (dk_at dksX0_languageOf_19 11 rfl rfl)
theorem dX0_languageOf_451 : decode cX0_languageOf 451 = .ok (.iastore, 1) := dk_79 (dk_at dksX0_languageOf_19 12 rfl rfl)
theorem dX0_languageOf_452 : decode cX0_languageOf 452 = .ok (.dup, 1) := dk_89 (dk_at dksX0_languageOf_19 13 rfl rfl)
theorem dX0_languageOf_453 : decode cX0_languageOf 453 = .ok (.iconst 5, 1) := dk_8 (dk_at dksX0_languageOf_19 14 rfl rfl)
theorem dX0_languageOf_454 : decode cX0_languageOf 454 = .ok (.iconst 1, 1) := dk_4 (dk_at dksX0_languageOf_19 15 rfl rfl)
theorem dX0_languageOf_455 : decode cX0_languageOf 455 = .ok (.iastore, 1) := dk_79 (dk_at dksX0_languageOf_19 16 rfl rfl)
theorem dX0_languageOf_456 : decode cX0_languageOf 456 = .ok (.invokevirtual 37, 3) := dk_182 0 37 (dk_at dksX0_languageOf_19 17 rfl rfl)
theorem dX0_languageOf_459 : decode cX0_languageOf 459 = .ok (.areturn, 1) := dk_176 (dk_at dksX0_languageOf_19 20 rfl rfl)
theorem dX0_languageOf_460 : decode cX0_languageOf 460 = .ok (.new 84, 3) := dk_187 0 84 (dk_at dksX0_languageOf_19 21 rfl rfl)
theorem dX0_languageOf_463 : decode cX0_languageOf 463 = .ok (.dup, 1) := dk_89 (dk_at dksX0_languageOf_20 0 rfl rfl)
theorem dX0_languageOf_464 : decode cX0_languageOf 464 = .ok (.invokespecial 86, 3) := dk_183 0 86 (dk_at dksX0_languageOf_20 1 rfl rfl)
theorem dX0_languageOf_467 : decode cX0_languageOf 467 = .ok (.iconst 0, 1) := dk_3 (dk_at dksX0_languageOf_20 4 rfl rfl)
theorem dX0_languageOf_468 : decode cX0_languageOf 468 = .ok (.bipush 6, 2) := dk_16 6 (dk_at dksX0_languageOf_20 5 rfl rfl)
theorem dX0_languageOf_470 : decode cX0_languageOf 470 = .ok (.newarray .int, 2) := dk_188_10 (dk_at dksX0_languageOf_20 7 rfl rfl)
theorem dX0_languageOf_472 : decode cX0_languageOf 472 = .ok (.dup, 1) := dk_89 (dk_at dksX0_languageOf_20 9 rfl rfl)
theorem dX0_languageOf_473 : decode cX0_languageOf 473 = .ok (.iconst 0, 1) := dk_3 (dk_at dksX0_languageOf_20 10 rfl rfl)
theorem dX0_languageOf_474 : decode cX0_languageOf 474 = .ok (.iconst 4, 1) := dk_7 (dk_at dksX0_languageOf_20 11 rfl rfl)
theorem dX0_languageOf_475 : decode cX0_languageOf 475 = .ok (.iastore, 1) := dk_79 (dk_at dksX0_languageOf_20 12 rfl rfl)
theorem dX0_languageOf_476 : decode cX0_languageOf 476 = .ok (.dup, 1) := dk_89 (dk_at dksX0_languageOf_20 13 rfl rfl)
theorem dX0_languageOf_477 : decode cX0_languageOf 477 = .ok (.iconst 1, 1) := dk_4 (dk_at dksX0_languageOf_20 14 rfl rfl)
theorem dX0_languageOf_478 : decode cX0_languageOf 478 = .ok (.iconst 0, 1) := dk_3 (dk_at dksX0_languageOf_20 15 rfl rfl)
theorem dX0_languageOf_479 : decode cX0_languageOf 479 = .ok (.iastore, 1) := dk_79 (dk_at dksX0_languageOf_20 16 rfl rfl)
theorem dX0_languageOf_480 : decode cX0_languageOf 480 = .ok (.dup, 1) := dk_89 (dk_at dksX0_languageOf_20 17 rfl rfl)
theorem dX0_languageOf_481 : decode cX0_languageOf 481 = .ok (.iconst 2, 1) := dk_5 (dk_at dksX0_languageOf_20 18 rfl rfl)
theorem dX0_languageOf_482 : decode cX0_languageOf 482 = .ok (.iconst 1, 1) := dk_4 (dk_at dksX0_languageOf_20 19 rfl rfl)
theorem dX0_languageOf_483 : decode cX0_languageOf 483 = .ok (.iastore, 1) := dk_79 (dk_at dksX0_languageOf_20 20 rfl rfl)
theorem dX0_languageOf_484 : decode cX0_languageOf 484 = .ok (.dup, 1) := dk_89 (dk_at dksX0_languageOf_20 21 rfl rfl)
theorem dX0_languageOf_485 : decode cX0_languageOf 485 = .ok (.iconst 3, 1) := dk_6 (dk_at dksX0_languageOf_20 22 rfl rfl)
theorem dX0_languageOf_486 : decode cX0_languageOf 486 = .ok (.iconst 0, 1) := dk_3 (dk_at dksX0_languageOf_20 23 rfl rfl)
theorem dX0_languageOf_487 : decode cX0_languageOf 487 = .ok (.iastore, 1) := dk_79 (dk_at dksX0_languageOf_21 0 rfl rfl)
theorem dX0_languageOf_488 : decode cX0_languageOf 488 = .ok (.dup, 1) := dk_89 (dk_at dksX0_languageOf_21 1 rfl rfl)
theorem dX0_languageOf_489 : decode cX0_languageOf 489 = .ok (.iconst 4, 1) := dk_7 (dk_at dksX0_languageOf_21 2 rfl rfl)
theorem dX0_languageOf_490 : decode cX0_languageOf 490 = .ok (.iconst 0, 1) := dk_3 (dk_at dksX0_languageOf_21 3 rfl rfl)
theorem dX0_languageOf_491 : decode cX0_languageOf 491 = .ok (.iastore, 1) := dk_79 (dk_at dksX0_languageOf_21 4 rfl rfl)
theorem dX0_languageOf_492 : decode cX0_languageOf 492 = .ok (.dup, 1) := dk_89 (dk_at dksX0_languageOf_21 5 rfl rfl)
theorem dX0_languageOf_493 : decode cX0_languageOf 493 = .ok (.iconst 5, 1) := dk_8 (dk_at dksX0_languageOf_21 6 rfl rfl)
theorem dX0_languageOf_494 : decode cX0_languageOf 494 = .ok (.iconst 0, 1) := dk_3 (dk_at dksX0_languageOf_21 7 rfl rfl)
theorem dX0_languageOf_495 : decode cX0_languageOf 495 = .ok (.iastore, 1) := dk_79 (dk_at dksX0_languageOf_21 8 rfl rfl)
theorem dX0_languageOf_496 : decode cX0_languageOf 496 = .ok (.invokevirtual 87, 3) := dk_182 0 87 (dk_at dksX0_languageOf_21 9 rfl rfl)
theorem dX0_languageOf_499 : decode cX0_languageOf 499 = .ok (.areturn, 1) := dk_176 (dk_at dksX0_languageOf_21 12 rfl rfl)
theorem dX0_languageOf_500 : decode cX0_languageOf 500 = .ok (.new 88, 3) := dk_187 0 88 (dk_at dksX0_languageOf_21 13 rfl rfl)
theorem dX0_languageOf_503 : decode cX0_languageOf 503 = .ok (.dup, 1) := dk_89 (dk_at dksX0_languageOf_21 16 rfl rfl)
theorem dX0_languageOf_504 : decode cX0_languageOf 504 = .ok (.invokespecial 90, 3) := dk_183 0 90 (dk_at dksX0_languageOf_21 17 rfl rfl)
theorem dX0_languageOf_507 : decode cX0_languageOf 507 = .ok (.areturn, 1) := dk_176 (dk_at dksX0_languageOf_21 20 rfl rfl)
theorem dX0_languageOf_508 : decode cX0_languageOf 508 = .ok (.new 91, 3) := dk_187 0 91 (dk_at dksX0_languageOf_21 21 rfl rfl)
theorem dX0_languageOf_511 : decode cX0_languageOf 511 = .ok (.dup, 1) := dk_89 (dk_at dksX0_languageOf_22 0 rfl rfl)
theorem dX0_languageOf_512 : decode cX0_languageOf 512 = .ok (.invokespecial 93, 3) := dk_183 0 93 (dk_at dksX0_languageOf_22 1 rfl rfl)
theorem dX0_languageOf_515 : decode cX0_languageOf 515 = .ok (.areturn, 1) := dk_176 (dk_at dksX0_languageOf_22 4 rfl rfl)
abbrev cX0_operand : ByteArray := prog_1_method_10_code
def yX0_operand : MethodName := ⟨RX0, "operand", "(III)J"⟩
def dkwX0_operand_1 : List UInt8 := [28, 183, 0, 22, 29, 182, 0, 106, 167, 0, 6, 20, 0, 110, 173]
abbrev dktX0_operand_1 : List UInt8 := dkwX0_operand_1 ++ []
def dkwX0_operand_0 : List UInt8 := [28, 184, 0, 100, 153, 0, 31, 29, 133, 9, 20, 0, 104, 184, 0, 96, 153, 0, 19, 187, 0, 17, 89, 27]
abbrev dktX0_operand_0 : List UInt8 := dkwX0_operand_0 ++ dktX0_operand_1
theorem dksX0_operand_0 : cX0_operand.data.toList.drop 0 = dktX0_operand_0 := by decide +kernel
theorem dksX0_operand_1 : cX0_operand.data.toList.drop 24 = dktX0_operand_1 := dk_seg dksX0_operand_0 24 rfl rfl
theorem dX0_operand_0 : decode cX0_operand 0 = .ok (.iload_n 2, 1) := dk_28 (dk_at dksX0_operand_0 0 rfl rfl)
theorem dX0_operand_1 : decode cX0_operand 1 = .ok (.invokestatic 100, 3) := dk_184 0 100 (dk_at dksX0_operand_0 1 rfl rfl)
theorem dX0_operand_4 : decode cX0_operand 4 = .ok (.ifCond .eq 31, 3) := dk_153 0 31 (dk_at dksX0_operand_0 4 rfl rfl)
theorem dX0_operand_7 : decode cX0_operand 7 = .ok (.iload_n 3, 1) := dk_29 (dk_at dksX0_operand_0 7 rfl rfl)
theorem dX0_operand_8 : decode cX0_operand 8 = .ok (.i2l, 1) := dk_133 (dk_at dksX0_operand_0 8 rfl rfl)
theorem dX0_operand_9 : decode cX0_operand 9 = .ok (.lconst 0, 1) := dk_9 (dk_at dksX0_operand_0 9 rfl rfl)
theorem dX0_operand_10 : decode cX0_operand 10 = .ok (.ldc2_w 104, 3) := dk_20 0 104 (dk_at dksX0_operand_0 10 rfl rfl)
theorem dX0_operand_13 : decode cX0_operand 13 = .ok (.invokestatic 96, 3) := dk_184 0 96 (dk_at dksX0_operand_0 13 rfl rfl)
theorem dX0_operand_16 : decode cX0_operand 16 = .ok (.ifCond .eq 19, 3) := dk_153 0 19 (dk_at dksX0_operand_0 16 rfl rfl)
theorem dX0_operand_19 : decode cX0_operand 19 = .ok (.new 17, 3) := dk_187 0 17 (dk_at dksX0_operand_0 19 rfl rfl)
theorem dX0_operand_22 : decode cX0_operand 22 = .ok (.dup, 1) := dk_89 (dk_at dksX0_operand_0 22 rfl rfl)
theorem dX0_operand_23 : decode cX0_operand 23 = .ok (.iload_n 1, 1) := dk_27 (dk_at dksX0_operand_0 23 rfl rfl)
theorem dX0_operand_24 : decode cX0_operand 24 = .ok (.iload_n 2, 1) := dk_28 (dk_at dksX0_operand_1 0 rfl rfl)
theorem dX0_operand_25 : decode cX0_operand 25 = .ok (.invokespecial 22, 3) := dk_183 0 22 (dk_at dksX0_operand_1 1 rfl rfl)
theorem dX0_operand_28 : decode cX0_operand 28 = .ok (.iload_n 3, 1) := dk_29 (dk_at dksX0_operand_1 4 rfl rfl)
theorem dX0_operand_29 : decode cX0_operand 29 = .ok (.invokevirtual 106, 3) := dk_182 0 106 (dk_at dksX0_operand_1 5 rfl rfl)
theorem dX0_operand_32 : decode cX0_operand 32 = .ok (.goto 6, 3) := dk_167 0 6 (dk_at dksX0_operand_1 8 rfl rfl)
theorem dX0_operand_35 : decode cX0_operand 35 = .ok (.ldc2_w 110, 3) := dk_20 0 110 (dk_at dksX0_operand_1 11 rfl rfl)
theorem dX0_operand_38 : decode cX0_operand 38 = .ok (.lreturn, 1) := dk_173 (dk_at dksX0_operand_1 14 rfl rfl)
abbrev cX0_isScale : ByteArray := prog_1_method_9_code
def yX0_isScale : MethodName := ⟨RX0, "isScale", "(I)Z"⟩
def dkwX0_isScale_0 : List UInt8 := [26, 133, 9, 20, 0, 94, 184, 0, 96, 172]
abbrev dktX0_isScale_0 : List UInt8 := dkwX0_isScale_0 ++ []
theorem dksX0_isScale_0 : cX0_isScale.data.toList.drop 0 = dktX0_isScale_0 := by decide +kernel
theorem dX0_isScale_0 : decode cX0_isScale 0 = .ok (.iload_n 0, 1) := dk_26 (dk_at dksX0_isScale_0 0 rfl rfl)
theorem dX0_isScale_1 : decode cX0_isScale 1 = .ok (.i2l, 1) := dk_133 (dk_at dksX0_isScale_0 1 rfl rfl)
theorem dX0_isScale_2 : decode cX0_isScale 2 = .ok (.lconst 0, 1) := dk_9 (dk_at dksX0_isScale_0 2 rfl rfl)
theorem dX0_isScale_3 : decode cX0_isScale 3 = .ok (.ldc2_w 94, 3) := dk_20 0 94 (dk_at dksX0_isScale_0 3 rfl rfl)
theorem dX0_isScale_6 : decode cX0_isScale 6 = .ok (.invokestatic 96, 3) := dk_184 0 96 (dk_at dksX0_isScale_0 6 rfl rfl)
theorem dX0_isScale_9 : decode cX0_isScale 9 = .ok (.ireturn, 1) := dk_172 (dk_at dksX0_isScale_0 9 rfl rfl)
abbrev cX0_in : ByteArray := prog_1_method_3_code
def yX0_in : MethodName := ⟨RX0, "in", "(JJJ)Z"⟩
def dkwX0_in_0 : List UInt8 := [30, 32, 148, 155, 0, 14, 30, 22, 4, 148, 157, 0, 7, 4, 167, 0, 4, 3, 172]
abbrev dktX0_in_0 : List UInt8 := dkwX0_in_0 ++ []
theorem dksX0_in_0 : cX0_in.data.toList.drop 0 = dktX0_in_0 := by decide +kernel
theorem dX0_in_0 : decode cX0_in 0 = .ok (.lload_n 0, 1) := dk_30 (dk_at dksX0_in_0 0 rfl rfl)
theorem dX0_in_1 : decode cX0_in 1 = .ok (.lload_n 2, 1) := dk_32 (dk_at dksX0_in_0 1 rfl rfl)
theorem dX0_in_2 : decode cX0_in 2 = .ok (.lcmp, 1) := dk_148 (dk_at dksX0_in_0 2 rfl rfl)
theorem dX0_in_3 : decode cX0_in 3 = .ok (.ifCond .lt 14, 3) := dk_155 0 14 (dk_at dksX0_in_0 3 rfl rfl)
theorem dX0_in_6 : decode cX0_in 6 = .ok (.lload_n 0, 1) := dk_30 (dk_at dksX0_in_0 6 rfl rfl)
theorem dX0_in_7 : decode cX0_in 7 = .ok (.lload 4, 2) := dk_22 4 (dk_at dksX0_in_0 7 rfl rfl)
theorem dX0_in_9 : decode cX0_in 9 = .ok (.lcmp, 1) := dk_148 (dk_at dksX0_in_0 9 rfl rfl)
theorem dX0_in_10 : decode cX0_in 10 = .ok (.ifCond .gt 7, 3) := dk_157 0 7 (dk_at dksX0_in_0 10 rfl rfl)
theorem dX0_in_13 : decode cX0_in 13 = .ok (.iconst 1, 1) := dk_4 (dk_at dksX0_in_0 13 rfl rfl)
theorem dX0_in_14 : decode cX0_in 14 = .ok (.goto 4, 3) := dk_167 0 4 (dk_at dksX0_in_0 14 rfl rfl)
theorem dX0_in_17 : decode cX0_in 17 = .ok (.iconst 0, 1) := dk_3 (dk_at dksX0_in_0 17 rfl rfl)
theorem dX0_in_18 : decode cX0_in 18 = .ok (.ireturn, 1) := dk_172 (dk_at dksX0_in_0 18 rfl rfl)
abbrev cX0_category : ByteArray := prog_1_method_11_code
def yX0_category : MethodName := ⟨RX0, "category", "(III)I"⟩
def dkwX0_category_1 : List UInt8 := [28, 29, 183, 0, 22, 182, 0, 115, 167, 0, 4, 2, 172]
abbrev dktX0_category_1 : List UInt8 := dkwX0_category_1 ++ []
def dkwX0_category_0 : List UInt8 := [27, 184, 0, 112, 153, 0, 31, 29, 184, 0, 100, 153, 0, 24, 42, 180, 0, 13, 27, 50, 187, 0, 17, 89]
abbrev dktX0_category_0 : List UInt8 := dkwX0_category_0 ++ dktX0_category_1
theorem dksX0_category_0 : cX0_category.data.toList.drop 0 = dktX0_category_0 := by decide +kernel
theorem dksX0_category_1 : cX0_category.data.toList.drop 24 = dktX0_category_1 := dk_seg dksX0_category_0 24 rfl rfl
theorem dX0_category_0 : decode cX0_category 0 = .ok (.iload_n 1, 1) := dk_27 (dk_at dksX0_category_0 0 rfl rfl)
theorem dX0_category_1 : decode cX0_category 1 = .ok (.invokestatic 112, 3) := dk_184 0 112 (dk_at dksX0_category_0 1 rfl rfl)
theorem dX0_category_4 : decode cX0_category 4 = .ok (.ifCond .eq 31, 3) := dk_153 0 31 (dk_at dksX0_category_0 4 rfl rfl)
theorem dX0_category_7 : decode cX0_category 7 = .ok (.iload_n 3, 1) := dk_29 (dk_at dksX0_category_0 7 rfl rfl)
theorem dX0_category_8 : decode cX0_category 8 = .ok (.invokestatic 100, 3) := dk_184 0 100 (dk_at dksX0_category_0 8 rfl rfl)
theorem dX0_category_11 : decode cX0_category 11 = .ok (.ifCond .eq 24, 3) := dk_153 0 24 (dk_at dksX0_category_0 11 rfl rfl)
theorem dX0_category_14 : decode cX0_category 14 = .ok (.aload_n 0, 1) := dk_42 (dk_at dksX0_category_0 14 rfl rfl)
theorem dX0_category_15 : decode cX0_category 15 = .ok (.getfield 13, 3) := dk_180 0 13 (dk_at dksX0_category_0 15 rfl rfl)
theorem dX0_category_18 : decode cX0_category 18 = .ok (.iload_n 1, 1) := dk_27 (dk_at dksX0_category_0 18 rfl rfl)
theorem dX0_category_19 : decode cX0_category 19 = .ok (.aaload, 1) := dk_50 (dk_at dksX0_category_0 19 rfl rfl)
theorem dX0_category_20 : decode cX0_category 20 = .ok (.new 17, 3) := dk_187 0 17 (dk_at dksX0_category_0 20 rfl rfl)
theorem dX0_category_23 : decode cX0_category 23 = .ok (.dup, 1) := dk_89 (dk_at dksX0_category_0 23 rfl rfl)
theorem dX0_category_24 : decode cX0_category 24 = .ok (.iload_n 2, 1) := dk_28 (dk_at dksX0_category_1 0 rfl rfl)
theorem dX0_category_25 : decode cX0_category 25 = .ok (.iload_n 3, 1) := dk_29 (dk_at dksX0_category_1 1 rfl rfl)
theorem dX0_category_26 : decode cX0_category 26 = .ok (.invokespecial 22, 3) := dk_183 0 22 (dk_at dksX0_category_1 2 rfl rfl)
theorem dX0_category_29 : decode cX0_category 29 = .ok (.invokevirtual 115, 3) := dk_182 0 115 (dk_at dksX0_category_1 5 rfl rfl)
theorem dX0_category_32 : decode cX0_category 32 = .ok (.goto 4, 3) := dk_167 0 4 (dk_at dksX0_category_1 8 rfl rfl)
theorem dX0_category_35 : decode cX0_category 35 = .ok (.iconst (-1), 1) := dk_2 (dk_at dksX0_category_1 11 rfl rfl)
theorem dX0_category_36 : decode cX0_category 36 = .ok (.ireturn, 1) := dk_172 (dk_at dksX0_category_1 12 rfl rfl)
abbrev cX0_isLanguage : ByteArray := prog_1_method_8_code
def yX0_isLanguage : MethodName := ⟨RX0, "isLanguage", "(I)Z"⟩
def dkwX0_isLanguage_0 : List UInt8 := [26, 133, 9, 20, 0, 94, 184, 0, 96, 172]
abbrev dktX0_isLanguage_0 : List UInt8 := dkwX0_isLanguage_0 ++ []
theorem dksX0_isLanguage_0 : cX0_isLanguage.data.toList.drop 0 = dktX0_isLanguage_0 := by decide +kernel
theorem dX0_isLanguage_0 : decode cX0_isLanguage 0 = .ok (.iload_n 0, 1) := dk_26 (dk_at dksX0_isLanguage_0 0 rfl rfl)
theorem dX0_isLanguage_1 : decode cX0_isLanguage 1 = .ok (.i2l, 1) := dk_133 (dk_at dksX0_isLanguage_0 1 rfl rfl)
theorem dX0_isLanguage_2 : decode cX0_isLanguage 2 = .ok (.lconst 0, 1) := dk_9 (dk_at dksX0_isLanguage_0 2 rfl rfl)
theorem dX0_isLanguage_3 : decode cX0_isLanguage 3 = .ok (.ldc2_w 94, 3) := dk_20 0 94 (dk_at dksX0_isLanguage_0 3 rfl rfl)
theorem dX0_isLanguage_6 : decode cX0_isLanguage 6 = .ok (.invokestatic 96, 3) := dk_184 0 96 (dk_at dksX0_isLanguage_0 6 rfl rfl)
theorem dX0_isLanguage_9 : decode cX0_isLanguage 9 = .ok (.ireturn, 1) := dk_172 (dk_at dksX0_isLanguage_0 9 rfl rfl)
abbrev cX0_used : ByteArray := prog_1_method_12_code
def yX0_used : MethodName := ⟨RX0, "used", "(I)I"⟩
def dkwX0_used_0 : List UInt8 := [27, 184, 0, 112, 153, 0, 15, 42, 180, 0, 13, 27, 50, 182, 0, 119, 167, 0, 4, 2, 172]
abbrev dktX0_used_0 : List UInt8 := dkwX0_used_0 ++ []
theorem dksX0_used_0 : cX0_used.data.toList.drop 0 = dktX0_used_0 := by decide +kernel
theorem dX0_used_0 : decode cX0_used 0 = .ok (.iload_n 1, 1) := dk_27 (dk_at dksX0_used_0 0 rfl rfl)
theorem dX0_used_1 : decode cX0_used 1 = .ok (.invokestatic 112, 3) := dk_184 0 112 (dk_at dksX0_used_0 1 rfl rfl)
theorem dX0_used_4 : decode cX0_used 4 = .ok (.ifCond .eq 15, 3) := dk_153 0 15 (dk_at dksX0_used_0 4 rfl rfl)
theorem dX0_used_7 : decode cX0_used 7 = .ok (.aload_n 0, 1) := dk_42 (dk_at dksX0_used_0 7 rfl rfl)
theorem dX0_used_8 : decode cX0_used 8 = .ok (.getfield 13, 3) := dk_180 0 13 (dk_at dksX0_used_0 8 rfl rfl)
theorem dX0_used_11 : decode cX0_used 11 = .ok (.iload_n 1, 1) := dk_27 (dk_at dksX0_used_0 11 rfl rfl)
theorem dX0_used_12 : decode cX0_used 12 = .ok (.aaload, 1) := dk_50 (dk_at dksX0_used_0 12 rfl rfl)
theorem dX0_used_13 : decode cX0_used 13 = .ok (.invokevirtual 119, 3) := dk_182 0 119 (dk_at dksX0_used_0 13 rfl rfl)
theorem dX0_used_16 : decode cX0_used 16 = .ok (.goto 4, 3) := dk_167 0 4 (dk_at dksX0_used_0 16 rfl rfl)
theorem dX0_used_19 : decode cX0_used 19 = .ok (.iconst (-1), 1) := dk_2 (dk_at dksX0_used_0 19 rfl rfl)
theorem dX0_used_20 : decode cX0_used 20 = .ok (.ireturn, 1) := dk_172 (dk_at dksX0_used_0 20 rfl rfl)
abbrev cX0_condition : ByteArray := prog_1_method_13_code
def yX0_condition : MethodName := ⟨RX0, "condition", "(IIIIII)I"⟩
def dkwX0_condition_5 : List UInt8 := [8, 21, 5, 79, 182, 0, 37, 87, 25, 7, 182, 0, 129, 172]
abbrev dktX0_condition_5 : List UInt8 := dkwX0_condition_5 ++ []
def dkwX0_condition_4 : List UInt8 := [188, 10, 89, 3, 27, 79, 89, 4, 3, 79, 89, 5, 28, 79, 89, 6, 29, 79, 89, 7, 21, 4, 79, 89]
abbrev dktX0_condition_4 : List UInt8 := dkwX0_condition_4 ++ dktX0_condition_5
def dkwX0_condition_3 : List UInt8 := [16, 253, 172, 42, 180, 0, 13, 16, 6, 50, 21, 6, 4, 160, 0, 7, 4, 167, 0, 4, 3, 16, 6]
abbrev dktX0_condition_3 : List UInt8 := dkwX0_condition_3 ++ dktX0_condition_4
def dkwX0_condition_2 : List UInt8 := [172, 42, 180, 0, 13, 16, 6, 50, 180, 0, 125, 58, 7, 25, 7, 182, 0, 129, 16, 12, 160, 0, 6]
abbrev dktX0_condition_2 : List UInt8 := dkwX0_condition_2 ++ dktX0_condition_3
def dkwX0_condition_1 : List UInt8 := [29, 133, 9, 20, 0, 123, 184, 0, 96, 153, 0, 14, 21, 6, 133, 9, 10, 184, 0, 96, 154, 0, 5, 2]
abbrev dktX0_condition_1 : List UInt8 := dkwX0_condition_1 ++ dktX0_condition_2
def dkwX0_condition_0 : List UInt8 := [27, 133, 9, 20, 0, 104, 184, 0, 96, 153, 0, 38, 28, 133, 9, 20, 0, 104, 184, 0, 96, 153, 0, 26]
abbrev dktX0_condition_0 : List UInt8 := dkwX0_condition_0 ++ dktX0_condition_1
theorem dksX0_condition_0 : cX0_condition.data.toList.drop 0 = dktX0_condition_0 := by decide +kernel
theorem dksX0_condition_1 : cX0_condition.data.toList.drop 24 = dktX0_condition_1 := dk_seg dksX0_condition_0 24 rfl rfl
theorem dksX0_condition_2 : cX0_condition.data.toList.drop 48 = dktX0_condition_2 := dk_seg dksX0_condition_1 24 rfl rfl
theorem dksX0_condition_3 : cX0_condition.data.toList.drop 71 = dktX0_condition_3 := dk_seg dksX0_condition_2 23 rfl rfl
theorem dksX0_condition_4 : cX0_condition.data.toList.drop 94 = dktX0_condition_4 := dk_seg dksX0_condition_3 23 rfl rfl
theorem dksX0_condition_5 : cX0_condition.data.toList.drop 118 = dktX0_condition_5 := dk_seg dksX0_condition_4 24 rfl rfl
theorem dX0_condition_0 : decode cX0_condition 0 = .ok (.iload_n 1, 1) := dk_27 (dk_at dksX0_condition_0 0 rfl rfl)
theorem dX0_condition_1 : decode cX0_condition 1 = .ok (.i2l, 1) := dk_133 (dk_at dksX0_condition_0 1 rfl rfl)
theorem dX0_condition_2 : decode cX0_condition 2 = .ok (.lconst 0, 1) := dk_9 (dk_at dksX0_condition_0 2 rfl rfl)
theorem dX0_condition_3 : decode cX0_condition 3 = .ok (.ldc2_w 104, 3) := dk_20 0 104 (dk_at dksX0_condition_0 3 rfl rfl)
theorem dX0_condition_6 : decode cX0_condition 6 = .ok (.invokestatic 96, 3) := dk_184 0 96 (dk_at dksX0_condition_0 6 rfl rfl)
theorem dX0_condition_9 : decode cX0_condition 9 = .ok (.ifCond .eq 38, 3) := dk_153 0 38 (dk_at dksX0_condition_0 9 rfl rfl)
theorem dX0_condition_12 : decode cX0_condition 12 = .ok (.iload_n 2, 1) := dk_28 (dk_at dksX0_condition_0 12 rfl rfl)
theorem dX0_condition_13 : decode cX0_condition 13 = .ok (.i2l, 1) := dk_133 (dk_at dksX0_condition_0 13 rfl rfl)
theorem dX0_condition_14 : decode cX0_condition 14 = .ok (.lconst 0, 1) := dk_9 (dk_at dksX0_condition_0 14 rfl rfl)
theorem dX0_condition_15 : decode cX0_condition 15 = .ok (.ldc2_w 104, 3) := dk_20 0 104 (dk_at dksX0_condition_0 15 rfl rfl)
theorem dX0_condition_18 : decode cX0_condition 18 = .ok (.invokestatic 96, 3) := dk_184 0 96 (dk_at dksX0_condition_0 18 rfl rfl)
theorem dX0_condition_21 : decode cX0_condition 21 = .ok (.ifCond .eq 26, 3) := dk_153 0 26 (dk_at dksX0_condition_0 21 rfl rfl)
theorem dX0_condition_24 : decode cX0_condition 24 = .ok (.iload_n 3, 1) := dk_29 (dk_at dksX0_condition_1 0 rfl rfl)
theorem dX0_condition_25 : decode cX0_condition 25 = .ok (.i2l, 1) := dk_133 (dk_at dksX0_condition_1 1 rfl rfl)
theorem dX0_condition_26 : decode cX0_condition 26 = .ok (.lconst 0, 1) := dk_9 (dk_at dksX0_condition_1 2 rfl rfl)
theorem dX0_condition_27 : decode cX0_condition 27 = .ok (.ldc2_w 123, 3) := dk_20 0 123 (dk_at dksX0_condition_1 3 rfl rfl)
theorem dX0_condition_30 : decode cX0_condition 30 = .ok (.invokestatic 96, 3) := dk_184 0 96 (dk_at dksX0_condition_1 6 rfl rfl)
theorem dX0_condition_33 : decode cX0_condition 33 = .ok (.ifCond .eq 14, 3) := dk_153 0 14 (dk_at dksX0_condition_1 9 rfl rfl)
theorem dX0_condition_36 : decode cX0_condition 36 = .ok (.iload 6, 2) := dk_21 6 (dk_at dksX0_condition_1 12 rfl rfl)
theorem dX0_condition_38 : decode cX0_condition 38 = .ok (.i2l, 1) := dk_133 (dk_at dksX0_condition_1 14 rfl rfl)
theorem dX0_condition_39 : decode cX0_condition 39 = .ok (.lconst 0, 1) := dk_9 (dk_at dksX0_condition_1 15 rfl rfl)
theorem dX0_condition_40 : decode cX0_condition 40 = .ok (.lconst 1, 1) := dk_10 (dk_at dksX0_condition_1 16 rfl rfl)
theorem dX0_condition_41 : decode cX0_condition 41 = .ok (.invokestatic 96, 3) := dk_184 0 96 (dk_at dksX0_condition_1 17 rfl rfl)
theorem dX0_condition_44 : decode cX0_condition 44 = .ok (.ifCond .ne 5, 3) := dk_154 0 5 (dk_at dksX0_condition_1 20 rfl rfl)
theorem dX0_condition_47 : decode cX0_condition 47 = .ok (.iconst (-1), 1) := dk_2 (dk_at dksX0_condition_1 23 rfl rfl)
theorem dX0_condition_48 : decode cX0_condition 48 = .ok (.ireturn, 1) := dk_172 (dk_at dksX0_condition_2 0 rfl rfl)
theorem dX0_condition_49 : decode cX0_condition 49 = .ok (.aload_n 0, 1) := dk_42 (dk_at dksX0_condition_2 1 rfl rfl)
theorem dX0_condition_50 : decode cX0_condition 50 = .ok (.getfield 13, 3) := dk_180 0 13 (dk_at dksX0_condition_2 2 rfl rfl)
theorem dX0_condition_53 : decode cX0_condition 53 = .ok (.bipush 6, 2) := dk_16 6 (dk_at dksX0_condition_2 5 rfl rfl)
theorem dX0_condition_55 : decode cX0_condition 55 = .ok (.aaload, 1) := dk_50 (dk_at dksX0_condition_2 7 rfl rfl)
theorem dX0_condition_56 : decode cX0_condition 56 = .ok (.getfield 125, 3) := dk_180 0 125 (dk_at dksX0_condition_2 8 rfl rfl)
theorem dX0_condition_59 : decode cX0_condition 59 = .ok (.astore 7, 2) := dk_58 7 (dk_at dksX0_condition_2 11 rfl rfl)
theorem dX0_condition_61 : decode cX0_condition 61 = .ok (.aload 7, 2) := dk_25 7 (dk_at dksX0_condition_2 13 rfl rfl)
theorem dX0_condition_63 : decode cX0_condition 63 = .ok (.invokevirtual 129, 3) := dk_182 0 129 (dk_at dksX0_condition_2 15 rfl rfl)
theorem dX0_condition_66 : decode cX0_condition 66 = .ok (.bipush 12, 2) := dk_16 12 (dk_at dksX0_condition_2 18 rfl rfl)
theorem dX0_condition_68 : decode cX0_condition 68 = .ok (.if_icmp .ne 6, 3) := dk_160 0 6 (dk_at dksX0_condition_2 20 rfl rfl)
theorem dX0_condition_71 : decode cX0_condition 71 = .ok (.bipush (-3), 2) := dk_16 253 (dk_at dksX0_condition_3 0 rfl rfl)
theorem dX0_condition_73 : decode cX0_condition 73 = .ok (.ireturn, 1) := dk_172 (dk_at dksX0_condition_3 2 rfl rfl)
theorem dX0_condition_74 : decode cX0_condition 74 = .ok (.aload_n 0, 1) := dk_42 (dk_at dksX0_condition_3 3 rfl rfl)
theorem dX0_condition_75 : decode cX0_condition 75 = .ok (.getfield 13, 3) := dk_180 0 13 (dk_at dksX0_condition_3 4 rfl rfl)
theorem dX0_condition_78 : decode cX0_condition 78 = .ok (.bipush 6, 2) := dk_16 6 (dk_at dksX0_condition_3 7 rfl rfl)
theorem dX0_condition_80 : decode cX0_condition 80 = .ok (.aaload, 1) := dk_50 (dk_at dksX0_condition_3 9 rfl rfl)
theorem dX0_condition_81 : decode cX0_condition 81 = .ok (.iload 6, 2) := dk_21 6 (dk_at dksX0_condition_3 10 rfl rfl)
theorem dX0_condition_83 : decode cX0_condition 83 = .ok (.iconst 1, 1) := dk_4 (dk_at dksX0_condition_3 12 rfl rfl)
theorem dX0_condition_84 : decode cX0_condition 84 = .ok (.if_icmp .ne 7, 3) := dk_160 0 7 (dk_at dksX0_condition_3 13 rfl rfl)
theorem dX0_condition_87 : decode cX0_condition 87 = .ok (.iconst 1, 1) := dk_4 (dk_at dksX0_condition_3 16 rfl rfl)
theorem dX0_condition_88 : decode cX0_condition 88 = .ok (.goto 4, 3) := dk_167 0 4 (dk_at dksX0_condition_3 17 rfl rfl)
theorem dX0_condition_91 : decode cX0_condition 91 = .ok (.iconst 0, 1) := dk_3 (dk_at dksX0_condition_3 20 rfl rfl)
theorem dX0_condition_92 : decode cX0_condition 92 = .ok (.bipush 6, 2) := dk_16 6 (dk_at dksX0_condition_3 21 rfl rfl)
theorem dX0_condition_94 : decode cX0_condition 94 = .ok (.newarray .int, 2) := dk_188_10 (dk_at dksX0_condition_4 0 rfl rfl)
theorem dX0_condition_96 : decode cX0_condition 96 = .ok (.dup, 1) := dk_89 (dk_at dksX0_condition_4 2 rfl rfl)
theorem dX0_condition_97 : decode cX0_condition 97 = .ok (.iconst 0, 1) := dk_3 (dk_at dksX0_condition_4 3 rfl rfl)
theorem dX0_condition_98 : decode cX0_condition 98 = .ok (.iload_n 1, 1) := dk_27 (dk_at dksX0_condition_4 4 rfl rfl)
theorem dX0_condition_99 : decode cX0_condition 99 = .ok (.iastore, 1) := dk_79 (dk_at dksX0_condition_4 5 rfl rfl)
theorem dX0_condition_100 : decode cX0_condition 100 = .ok (.dup, 1) := dk_89 (dk_at dksX0_condition_4 6 rfl rfl)
theorem dX0_condition_101 : decode cX0_condition 101 = .ok (.iconst 1, 1) := dk_4 (dk_at dksX0_condition_4 7 rfl rfl)
theorem dX0_condition_102 : decode cX0_condition 102 = .ok (.iconst 0, 1) := dk_3 (dk_at dksX0_condition_4 8 rfl rfl)
theorem dX0_condition_103 : decode cX0_condition 103 = .ok (.iastore, 1) := dk_79 (dk_at dksX0_condition_4 9 rfl rfl)
theorem dX0_condition_104 : decode cX0_condition 104 = .ok (.dup, 1) := dk_89 (dk_at dksX0_condition_4 10 rfl rfl)
theorem dX0_condition_105 : decode cX0_condition 105 = .ok (.iconst 2, 1) := dk_5 (dk_at dksX0_condition_4 11 rfl rfl)
theorem dX0_condition_106 : decode cX0_condition 106 = .ok (.iload_n 2, 1) := dk_28 (dk_at dksX0_condition_4 12 rfl rfl)
theorem dX0_condition_107 : decode cX0_condition 107 = .ok (.iastore, 1) := dk_79 (dk_at dksX0_condition_4 13 rfl rfl)
theorem dX0_condition_108 : decode cX0_condition 108 = .ok (.dup, 1) := dk_89 (dk_at dksX0_condition_4 14 rfl rfl)
theorem dX0_condition_109 : decode cX0_condition 109 = .ok (.iconst 3, 1) := dk_6 (dk_at dksX0_condition_4 15 rfl rfl)
theorem dX0_condition_110 : decode cX0_condition 110 = .ok (.iload_n 3, 1) := dk_29 (dk_at dksX0_condition_4 16 rfl rfl)
theorem dX0_condition_111 : decode cX0_condition 111 = .ok (.iastore, 1) := dk_79 (dk_at dksX0_condition_4 17 rfl rfl)
theorem dX0_condition_112 : decode cX0_condition 112 = .ok (.dup, 1) := dk_89 (dk_at dksX0_condition_4 18 rfl rfl)
theorem dX0_condition_113 : decode cX0_condition 113 = .ok (.iconst 4, 1) := dk_7 (dk_at dksX0_condition_4 19 rfl rfl)
theorem dX0_condition_114 : decode cX0_condition 114 = .ok (.iload 4, 2) := dk_21 4 (dk_at dksX0_condition_4 20 rfl rfl)
theorem dX0_condition_116 : decode cX0_condition 116 = .ok (.iastore, 1) := dk_79 (dk_at dksX0_condition_4 22 rfl rfl)
theorem dX0_condition_117 : decode cX0_condition 117 = .ok (.dup, 1) := dk_89 (dk_at dksX0_condition_4 23 rfl rfl)
theorem dX0_condition_118 : decode cX0_condition 118 = .ok (.iconst 5, 1) := dk_8 (dk_at dksX0_condition_5 0 rfl rfl)
theorem dX0_condition_119 : decode cX0_condition 119 = .ok (.iload 5, 2) := dk_21 5 (dk_at dksX0_condition_5 1 rfl rfl)
theorem dX0_condition_121 : decode cX0_condition 121 = .ok (.iastore, 1) := dk_79 (dk_at dksX0_condition_5 3 rfl rfl)
theorem dX0_condition_122 : decode cX0_condition 122 = .ok (.invokevirtual 37, 3) := dk_182 0 37 (dk_at dksX0_condition_5 4 rfl rfl)
theorem dX0_condition_125 : decode cX0_condition 125 = .ok (.pop, 1) := dk_87 (dk_at dksX0_condition_5 7 rfl rfl)
theorem dX0_condition_126 : decode cX0_condition 126 = .ok (.aload 7, 2) := dk_25 7 (dk_at dksX0_condition_5 8 rfl rfl)
theorem dX0_condition_128 : decode cX0_condition 128 = .ok (.invokevirtual 129, 3) := dk_182 0 129 (dk_at dksX0_condition_5 10 rfl rfl)
theorem dX0_condition_131 : decode cX0_condition 131 = .ok (.ireturn, 1) := dk_172 (dk_at dksX0_condition_5 13 rfl rfl)
abbrev cX0_plain : ByteArray := prog_1_method_14_code
def yX0_plain : MethodName := ⟨RX0, "plain", "()I"⟩
def dkwX0_plain_1 : List UInt8 := [182, 0, 134, 27, 172]
abbrev dktX0_plain_1 : List UInt8 := dkwX0_plain_1 ++ []
def dkwX0_plain_0 : List UInt8 := [42, 180, 0, 13, 16, 6, 50, 180, 0, 125, 182, 0, 129, 60, 42, 180, 0, 13, 16, 6, 50, 180, 0, 125]
abbrev dktX0_plain_0 : List UInt8 := dkwX0_plain_0 ++ dktX0_plain_1
theorem dksX0_plain_0 : cX0_plain.data.toList.drop 0 = dktX0_plain_0 := by decide +kernel
theorem dksX0_plain_1 : cX0_plain.data.toList.drop 24 = dktX0_plain_1 := dk_seg dksX0_plain_0 24 rfl rfl
theorem dX0_plain_0 : decode cX0_plain 0 = .ok (.aload_n 0, 1) := dk_42 (dk_at dksX0_plain_0 0 rfl rfl)
theorem dX0_plain_1 : decode cX0_plain 1 = .ok (.getfield 13, 3) := dk_180 0 13 (dk_at dksX0_plain_0 1 rfl rfl)
theorem dX0_plain_4 : decode cX0_plain 4 = .ok (.bipush 6, 2) := dk_16 6 (dk_at dksX0_plain_0 4 rfl rfl)
theorem dX0_plain_6 : decode cX0_plain 6 = .ok (.aaload, 1) := dk_50 (dk_at dksX0_plain_0 6 rfl rfl)
theorem dX0_plain_7 : decode cX0_plain 7 = .ok (.getfield 125, 3) := dk_180 0 125 (dk_at dksX0_plain_0 7 rfl rfl)
theorem dX0_plain_10 : decode cX0_plain 10 = .ok (.invokevirtual 129, 3) := dk_182 0 129 (dk_at dksX0_plain_0 10 rfl rfl)
theorem dX0_plain_13 : decode cX0_plain 13 = .ok (.istore_n 1, 1) := dk_60 (dk_at dksX0_plain_0 13 rfl rfl)
theorem dX0_plain_14 : decode cX0_plain 14 = .ok (.aload_n 0, 1) := dk_42 (dk_at dksX0_plain_0 14 rfl rfl)
theorem dX0_plain_15 : decode cX0_plain 15 = .ok (.getfield 13, 3) := dk_180 0 13 (dk_at dksX0_plain_0 15 rfl rfl)
theorem dX0_plain_18 : decode cX0_plain 18 = .ok (.bipush 6, 2) := dk_16 6 (dk_at dksX0_plain_0 18 rfl rfl)
theorem dX0_plain_20 : decode cX0_plain 20 = .ok (.aaload, 1) := dk_50 (dk_at dksX0_plain_0 20 rfl rfl)
theorem dX0_plain_21 : decode cX0_plain 21 = .ok (.getfield 125, 3) := dk_180 0 125 (dk_at dksX0_plain_0 21 rfl rfl)
theorem dX0_plain_24 : decode cX0_plain 24 = .ok (.invokevirtual 134, 3) := dk_182 0 134 (dk_at dksX0_plain_1 0 rfl rfl)
theorem dX0_plain_27 : decode cX0_plain 27 = .ok (.iload_n 1, 1) := dk_27 (dk_at dksX0_plain_1 3 rfl rfl)
theorem dX0_plain_28 : decode cX0_plain 28 = .ok (.ireturn, 1) := dk_172 (dk_at dksX0_plain_1 4 rfl rfl)
abbrev cX0_feed : ByteArray := prog_1_method_17_code
def yX0_feed : MethodName := ⟨RX0, "feed", "(I)I"⟩
def dkwX0_feed_2 : List UInt8 := [42, 180, 0, 141, 172]
abbrev dktX0_feed_2 : List UInt8 := dkwX0_feed_2 ++ []
def dkwX0_feed_1 : List UInt8 := [16, 253, 172, 42, 180, 0, 45, 42, 180, 0, 141, 27, 145, 84, 42, 89, 180, 0, 141, 4, 96, 181, 0, 141]
abbrev dktX0_feed_1 : List UInt8 := dkwX0_feed_1 ++ dktX0_feed_2
def dkwX0_feed_0 : List UInt8 := [27, 133, 9, 20, 0, 139, 184, 0, 96, 154, 0, 5, 2, 172, 42, 180, 0, 141, 16, 120, 160, 0, 6]
abbrev dktX0_feed_0 : List UInt8 := dkwX0_feed_0 ++ dktX0_feed_1
theorem dksX0_feed_0 : cX0_feed.data.toList.drop 0 = dktX0_feed_0 := by decide +kernel
theorem dksX0_feed_1 : cX0_feed.data.toList.drop 23 = dktX0_feed_1 := dk_seg dksX0_feed_0 23 rfl rfl
theorem dksX0_feed_2 : cX0_feed.data.toList.drop 47 = dktX0_feed_2 := dk_seg dksX0_feed_1 24 rfl rfl
theorem dX0_feed_0 : decode cX0_feed 0 = .ok (.iload_n 1, 1) := dk_27 (dk_at dksX0_feed_0 0 rfl rfl)
theorem dX0_feed_1 : decode cX0_feed 1 = .ok (.i2l, 1) := dk_133 (dk_at dksX0_feed_0 1 rfl rfl)
theorem dX0_feed_2 : decode cX0_feed 2 = .ok (.lconst 0, 1) := dk_9 (dk_at dksX0_feed_0 2 rfl rfl)
theorem dX0_feed_3 : decode cX0_feed 3 = .ok (.ldc2_w 139, 3) := dk_20 0 139 (dk_at dksX0_feed_0 3 rfl rfl)
theorem dX0_feed_6 : decode cX0_feed 6 = .ok (.invokestatic 96, 3) := dk_184 0 96 (dk_at dksX0_feed_0 6 rfl rfl)
theorem dX0_feed_9 : decode cX0_feed 9 = .ok (.ifCond .ne 5, 3) := dk_154 0 5 (dk_at dksX0_feed_0 9 rfl rfl)
theorem dX0_feed_12 : decode cX0_feed 12 = .ok (.iconst (-1), 1) := dk_2 (dk_at dksX0_feed_0 12 rfl rfl)
theorem dX0_feed_13 : decode cX0_feed 13 = .ok (.ireturn, 1) := dk_172 (dk_at dksX0_feed_0 13 rfl rfl)
theorem dX0_feed_14 : decode cX0_feed 14 = .ok (.aload_n 0, 1) := dk_42 (dk_at dksX0_feed_0 14 rfl rfl)
theorem dX0_feed_15 : decode cX0_feed 15 = .ok (.getfield 141, 3) := dk_180 0 141 (dk_at dksX0_feed_0 15 rfl rfl)
theorem dX0_feed_18 : decode cX0_feed 18 = .ok (.bipush 120, 2) := dk_16 120 (dk_at dksX0_feed_0 18 rfl rfl)
theorem dX0_feed_20 : decode cX0_feed 20 = .ok (.if_icmp .ne 6, 3) := dk_160 0 6 (dk_at dksX0_feed_0 20 rfl rfl)
theorem dX0_feed_23 : decode cX0_feed 23 = .ok (.bipush (-3), 2) := dk_16 253 (dk_at dksX0_feed_1 0 rfl rfl)
theorem dX0_feed_25 : decode cX0_feed 25 = .ok (.ireturn, 1) := dk_172 (dk_at dksX0_feed_1 2 rfl rfl)
theorem dX0_feed_26 : decode cX0_feed 26 = .ok (.aload_n 0, 1) := dk_42 (dk_at dksX0_feed_1 3 rfl rfl)
theorem dX0_feed_27 : decode cX0_feed 27 = .ok (.getfield 45, 3) := dk_180 0 45 (dk_at dksX0_feed_1 4 rfl rfl)
theorem dX0_feed_30 : decode cX0_feed 30 = .ok (.aload_n 0, 1) := dk_42 (dk_at dksX0_feed_1 7 rfl rfl)
theorem dX0_feed_31 : decode cX0_feed 31 = .ok (.getfield 141, 3) := dk_180 0 141 (dk_at dksX0_feed_1 8 rfl rfl)
theorem dX0_feed_34 : decode cX0_feed 34 = .ok (.iload_n 1, 1) := dk_27 (dk_at dksX0_feed_1 11 rfl rfl)
theorem dX0_feed_35 : decode cX0_feed 35 = .ok (.i2b, 1) := dk_145 (dk_at dksX0_feed_1 12 rfl rfl)
theorem dX0_feed_36 : decode cX0_feed 36 = .ok (.bastore, 1) := dk_84 (dk_at dksX0_feed_1 13 rfl rfl)
theorem dX0_feed_37 : decode cX0_feed 37 = .ok (.aload_n 0, 1) := dk_42 (dk_at dksX0_feed_1 14 rfl rfl)
theorem dX0_feed_38 : decode cX0_feed 38 = .ok (.dup, 1) := dk_89 (dk_at dksX0_feed_1 15 rfl rfl)
theorem dX0_feed_39 : decode cX0_feed 39 = .ok (.getfield 141, 3) := dk_180 0 141 (dk_at dksX0_feed_1 16 rfl rfl)
theorem dX0_feed_42 : decode cX0_feed 42 = .ok (.iconst 1, 1) := dk_4 (dk_at dksX0_feed_1 19 rfl rfl)
theorem dX0_feed_43 : decode cX0_feed 43 = .ok (.iadd, 1) := dk_96 (dk_at dksX0_feed_1 20 rfl rfl)
theorem dX0_feed_44 : decode cX0_feed 44 = .ok (.putfield 141, 3) := dk_181 0 141 (dk_at dksX0_feed_1 21 rfl rfl)
theorem dX0_feed_47 : decode cX0_feed 47 = .ok (.aload_n 0, 1) := dk_42 (dk_at dksX0_feed_2 0 rfl rfl)
theorem dX0_feed_48 : decode cX0_feed 48 = .ok (.getfield 141, 3) := dk_180 0 141 (dk_at dksX0_feed_2 1 rfl rfl)
theorem dX0_feed_51 : decode cX0_feed 51 = .ok (.ireturn, 1) := dk_172 (dk_at dksX0_feed_2 4 rfl rfl)
abbrev cX0_wipe : ByteArray := prog_1_method_18_code
def yX0_wipe : MethodName := ⟨RX0, "wipe", "()I"⟩
def dkwX0_wipe_0 : List UInt8 := [42, 180, 0, 141, 60, 42, 3, 181, 0, 141, 27, 172]
abbrev dktX0_wipe_0 : List UInt8 := dkwX0_wipe_0 ++ []
theorem dksX0_wipe_0 : cX0_wipe.data.toList.drop 0 = dktX0_wipe_0 := by decide +kernel
theorem dX0_wipe_0 : decode cX0_wipe 0 = .ok (.aload_n 0, 1) := dk_42 (dk_at dksX0_wipe_0 0 rfl rfl)
theorem dX0_wipe_1 : decode cX0_wipe 1 = .ok (.getfield 141, 3) := dk_180 0 141 (dk_at dksX0_wipe_0 1 rfl rfl)
theorem dX0_wipe_4 : decode cX0_wipe 4 = .ok (.istore_n 1, 1) := dk_60 (dk_at dksX0_wipe_0 4 rfl rfl)
theorem dX0_wipe_5 : decode cX0_wipe 5 = .ok (.aload_n 0, 1) := dk_42 (dk_at dksX0_wipe_0 5 rfl rfl)
theorem dX0_wipe_6 : decode cX0_wipe 6 = .ok (.iconst 0, 1) := dk_3 (dk_at dksX0_wipe_0 6 rfl rfl)
theorem dX0_wipe_7 : decode cX0_wipe 7 = .ok (.putfield 141, 3) := dk_181 0 141 (dk_at dksX0_wipe_0 7 rfl rfl)
theorem dX0_wipe_10 : decode cX0_wipe 10 = .ok (.iload_n 1, 1) := dk_27 (dk_at dksX0_wipe_0 10 rfl rfl)
theorem dX0_wipe_11 : decode cX0_wipe 11 = .ok (.ireturn, 1) := dk_172 (dk_at dksX0_wipe_0 11 rfl rfl)
abbrev cX0_read : ByteArray := prog_1_method_19_code
def yX0_read : MethodName := ⟨RX0, "read", "(I)I"⟩
def dkwX0_read_2 : List UInt8 := [180, 0, 160, 62, 42, 3, 181, 0, 141, 29, 172, 58, 4, 42, 3, 181, 0, 141, 25, 4, 191]
abbrev dktX0_read_2 : List UInt8 := dkwX0_read_2 ++ []
def dkwX0_read_1 : List UInt8 := [180, 0, 50, 27, 44, 83, 44, 180, 0, 157, 182, 0, 129, 62, 42, 3, 181, 0, 141, 29, 172, 77, 44]
abbrev dktX0_read_1 : List UInt8 := dkwX0_read_1 ++ dktX0_read_2
def dkwX0_read_0 : List UInt8 := [27, 184, 0, 145, 154, 0, 5, 2, 172, 187, 0, 148, 89, 42, 183, 0, 150, 182, 0, 153, 77, 42]
abbrev dktX0_read_0 : List UInt8 := dkwX0_read_0 ++ dktX0_read_1
theorem dksX0_read_0 : cX0_read.data.toList.drop 0 = dktX0_read_0 := by decide +kernel
theorem dksX0_read_1 : cX0_read.data.toList.drop 22 = dktX0_read_1 := dk_seg dksX0_read_0 22 rfl rfl
theorem dksX0_read_2 : cX0_read.data.toList.drop 45 = dktX0_read_2 := dk_seg dksX0_read_1 23 rfl rfl
theorem dX0_read_0 : decode cX0_read 0 = .ok (.iload_n 1, 1) := dk_27 (dk_at dksX0_read_0 0 rfl rfl)
theorem dX0_read_1 : decode cX0_read 1 = .ok (.invokestatic 145, 3) := dk_184 0 145 (dk_at dksX0_read_0 1 rfl rfl)
theorem dX0_read_4 : decode cX0_read 4 = .ok (.ifCond .ne 5, 3) := dk_154 0 5 (dk_at dksX0_read_0 4 rfl rfl)
theorem dX0_read_7 : decode cX0_read 7 = .ok (.iconst (-1), 1) := dk_2 (dk_at dksX0_read_0 7 rfl rfl)
theorem dX0_read_8 : decode cX0_read 8 = .ok (.ireturn, 1) := dk_172 (dk_at dksX0_read_0 8 rfl rfl)
theorem dX0_read_9 : decode cX0_read 9 = .ok (.new 148, 3) := dk_187 0 148 (dk_at dksX0_read_0 9 rfl rfl)
theorem dX0_read_12 : decode cX0_read 12 = .ok (.dup, 1) := dk_89 (dk_at dksX0_read_0 12 rfl rfl)
theorem dX0_read_13 : decode cX0_read 13 = .ok (.aload_n 0, 1) := dk_42 (dk_at dksX0_read_0 13 rfl rfl)
theorem dX0_read_14 : decode cX0_read 14 = .ok (.invokespecial 150, 3) := dk_183 0 150 (dk_at dksX0_read_0 14 rfl rfl)
theorem dX0_read_17 : decode cX0_read 17 = .ok (.invokevirtual 153, 3) := dk_182 0 153 (dk_at dksX0_read_0 17 rfl rfl)
theorem dX0_read_20 : decode cX0_read 20 = .ok (.astore_n 2, 1) := dk_77 (dk_at dksX0_read_0 20 rfl rfl)
theorem dX0_read_21 : decode cX0_read 21 = .ok (.aload_n 0, 1) := dk_42 (dk_at dksX0_read_0 21 rfl rfl)
theorem dX0_read_22 : decode cX0_read 22 = .ok (.getfield 50, 3) := dk_180 0 50 (dk_at dksX0_read_1 0 rfl rfl)
theorem dX0_read_25 : decode cX0_read 25 = .ok (.iload_n 1, 1) := dk_27 (dk_at dksX0_read_1 3 rfl rfl)
theorem dX0_read_26 : decode cX0_read 26 = .ok (.aload_n 2, 1) := dk_44 (dk_at dksX0_read_1 4 rfl rfl)
theorem dX0_read_27 : decode cX0_read 27 = .ok (.aastore, 1) := dk_83 (dk_at dksX0_read_1 5 rfl rfl)
theorem dX0_read_28 : decode cX0_read 28 = .ok (.aload_n 2, 1) := dk_44 (dk_at dksX0_read_1 6 rfl rfl)
theorem dX0_read_29 : decode cX0_read 29 = .ok (.getfield 157, 3) := dk_180 0 157 (dk_at dksX0_read_1 7 rfl rfl)
theorem dX0_read_32 : decode cX0_read 32 = .ok (.invokevirtual 129, 3) := dk_182 0 129 (dk_at dksX0_read_1 10 rfl rfl)
theorem dX0_read_35 : decode cX0_read 35 = .ok (.istore_n 3, 1) := dk_62 (dk_at dksX0_read_1 13 rfl rfl)
theorem dX0_read_36 : decode cX0_read 36 = .ok (.aload_n 0, 1) := dk_42 (dk_at dksX0_read_1 14 rfl rfl)
theorem dX0_read_37 : decode cX0_read 37 = .ok (.iconst 0, 1) := dk_3 (dk_at dksX0_read_1 15 rfl rfl)
theorem dX0_read_38 : decode cX0_read 38 = .ok (.putfield 141, 3) := dk_181 0 141 (dk_at dksX0_read_1 16 rfl rfl)
theorem dX0_read_41 : decode cX0_read 41 = .ok (.iload_n 3, 1) := dk_29 (dk_at dksX0_read_1 19 rfl rfl)
theorem dX0_read_42 : decode cX0_read 42 = .ok (.ireturn, 1) := dk_172 (dk_at dksX0_read_1 20 rfl rfl)
theorem dX0_read_43 : decode cX0_read 43 = .ok (.astore_n 2, 1) := dk_77 (dk_at dksX0_read_1 21 rfl rfl)
theorem dX0_read_44 : decode cX0_read 44 = .ok (.aload_n 2, 1) := dk_44 (dk_at dksX0_read_1 22 rfl rfl)
theorem dX0_read_45 : decode cX0_read 45 = .ok (.getfield 160, 3) := dk_180 0 160 (dk_at dksX0_read_2 0 rfl rfl)
theorem dX0_read_48 : decode cX0_read 48 = .ok (.istore_n 3, 1) := dk_62 (dk_at dksX0_read_2 3 rfl rfl)
theorem dX0_read_49 : decode cX0_read 49 = .ok (.aload_n 0, 1) := dk_42 (dk_at dksX0_read_2 4 rfl rfl)
theorem dX0_read_50 : decode cX0_read 50 = .ok (.iconst 0, 1) := dk_3 (dk_at dksX0_read_2 5 rfl rfl)
theorem dX0_read_51 : decode cX0_read 51 = .ok (.putfield 141, 3) := dk_181 0 141 (dk_at dksX0_read_2 6 rfl rfl)
theorem dX0_read_54 : decode cX0_read 54 = .ok (.iload_n 3, 1) := dk_29 (dk_at dksX0_read_2 9 rfl rfl)
theorem dX0_read_55 : decode cX0_read 55 = .ok (.ireturn, 1) := dk_172 (dk_at dksX0_read_2 10 rfl rfl)
theorem dX0_read_56 : decode cX0_read 56 = .ok (.astore 4, 2) := dk_58 4 (dk_at dksX0_read_2 11 rfl rfl)
theorem dX0_read_58 : decode cX0_read 58 = .ok (.aload_n 0, 1) := dk_42 (dk_at dksX0_read_2 13 rfl rfl)
theorem dX0_read_59 : decode cX0_read 59 = .ok (.iconst 0, 1) := dk_3 (dk_at dksX0_read_2 14 rfl rfl)
theorem dX0_read_60 : decode cX0_read 60 = .ok (.putfield 141, 3) := dk_181 0 141 (dk_at dksX0_read_2 15 rfl rfl)
theorem dX0_read_63 : decode cX0_read 63 = .ok (.aload 4, 2) := dk_25 4 (dk_at dksX0_read_2 18 rfl rfl)
theorem dX0_read_65 : decode cX0_read 65 = .ok (.athrow, 1) := dk_191 (dk_at dksX0_read_2 20 rfl rfl)
abbrev cX0_isSlot : ByteArray := prog_1_method_15_code
def yX0_isSlot : MethodName := ⟨RX0, "isSlot", "(I)Z"⟩
def dkwX0_isSlot_0 : List UInt8 := [26, 133, 9, 20, 0, 137, 184, 0, 96, 172]
abbrev dktX0_isSlot_0 : List UInt8 := dkwX0_isSlot_0 ++ []
theorem dksX0_isSlot_0 : cX0_isSlot.data.toList.drop 0 = dktX0_isSlot_0 := by decide +kernel
theorem dX0_isSlot_0 : decode cX0_isSlot 0 = .ok (.iload_n 0, 1) := dk_26 (dk_at dksX0_isSlot_0 0 rfl rfl)
theorem dX0_isSlot_1 : decode cX0_isSlot 1 = .ok (.i2l, 1) := dk_133 (dk_at dksX0_isSlot_0 1 rfl rfl)
theorem dX0_isSlot_2 : decode cX0_isSlot 2 = .ok (.lconst 0, 1) := dk_9 (dk_at dksX0_isSlot_0 2 rfl rfl)
theorem dX0_isSlot_3 : decode cX0_isSlot 3 = .ok (.ldc2_w 137, 3) := dk_20 0 137 (dk_at dksX0_isSlot_0 3 rfl rfl)
theorem dX0_isSlot_6 : decode cX0_isSlot 6 = .ok (.invokestatic 96, 3) := dk_184 0 96 (dk_at dksX0_isSlot_0 6 rfl rfl)
theorem dX0_isSlot_9 : decode cX0_isSlot 9 = .ok (.ireturn, 1) := dk_172 (dk_at dksX0_isSlot_0 9 rfl rfl)
abbrev cX0_need : ByteArray := prog_1_method_6_code
def yX0_need : MethodName := ⟨RX0, "need", "(ZI)V"⟩
def dkwX0_need_0 : List UInt8 := [26, 154, 0, 12, 187, 0, 69, 89, 27, 183, 0, 71, 191, 177]
abbrev dktX0_need_0 : List UInt8 := dkwX0_need_0 ++ []
theorem dksX0_need_0 : cX0_need.data.toList.drop 0 = dktX0_need_0 := by decide +kernel
theorem dX0_need_0 : decode cX0_need 0 = .ok (.iload_n 0, 1) := dk_26 (dk_at dksX0_need_0 0 rfl rfl)
theorem dX0_need_1 : decode cX0_need 1 = .ok (.ifCond .ne 12, 3) := dk_154 0 12 (dk_at dksX0_need_0 1 rfl rfl)
theorem dX0_need_4 : decode cX0_need 4 = .ok (.new 69, 3) := dk_187 0 69 (dk_at dksX0_need_0 4 rfl rfl)
theorem dX0_need_7 : decode cX0_need 7 = .ok (.dup, 1) := dk_89 (dk_at dksX0_need_0 7 rfl rfl)
theorem dX0_need_8 : decode cX0_need 8 = .ok (.iload_n 1, 1) := dk_27 (dk_at dksX0_need_0 8 rfl rfl)
theorem dX0_need_9 : decode cX0_need 9 = .ok (.invokespecial 71, 3) := dk_183 0 71 (dk_at dksX0_need_0 9 rfl rfl)
theorem dX0_need_12 : decode cX0_need 12 = .ok (.athrow, 1) := dk_191 (dk_at dksX0_need_0 12 rfl rfl)
theorem dX0_need_13 : decode cX0_need 13 = .ok (.return_, 1) := dk_177 (dk_at dksX0_need_0 13 rfl rfl)
abbrev cX0_told : ByteArray := prog_1_method_20_code
def yX0_told : MethodName := ⟨RX0, "told", "(II)I"⟩
def dkwX0_told_3 : List UInt8 := [182, 0, 170, 167, 0, 7, 45, 180, 0, 175, 172]
abbrev dktX0_told_3 : List UInt8 := dkwX0_told_3 ++ []
def dkwX0_told_2 : List UInt8 := [28, 4, 160, 0, 13, 45, 180, 0, 157, 182, 0, 129, 167, 0, 22, 28, 5, 160, 0, 13, 45, 180, 0, 166]
abbrev dktX0_told_2 : List UInt8 := dkwX0_told_2 ++ dktX0_told_3
def dkwX0_told_1 : List UInt8 := [180, 0, 50, 27, 50, 78, 45, 199, 0, 6, 16, 254, 172, 28, 154, 0, 10, 45, 180, 0, 163, 167, 0, 37]
abbrev dktX0_told_1 : List UInt8 := dkwX0_told_1 ++ dktX0_told_2
def dkwX0_told_0 : List UInt8 := [27, 184, 0, 145, 153, 0, 15, 28, 133, 9, 20, 0, 137, 184, 0, 96, 154, 0, 5, 2, 172, 42]
abbrev dktX0_told_0 : List UInt8 := dkwX0_told_0 ++ dktX0_told_1
theorem dksX0_told_0 : cX0_told.data.toList.drop 0 = dktX0_told_0 := by decide +kernel
theorem dksX0_told_1 : cX0_told.data.toList.drop 22 = dktX0_told_1 := dk_seg dksX0_told_0 22 rfl rfl
theorem dksX0_told_2 : cX0_told.data.toList.drop 46 = dktX0_told_2 := dk_seg dksX0_told_1 24 rfl rfl
theorem dksX0_told_3 : cX0_told.data.toList.drop 70 = dktX0_told_3 := dk_seg dksX0_told_2 24 rfl rfl
theorem dX0_told_0 : decode cX0_told 0 = .ok (.iload_n 1, 1) := dk_27 (dk_at dksX0_told_0 0 rfl rfl)
theorem dX0_told_1 : decode cX0_told 1 = .ok (.invokestatic 145, 3) := dk_184 0 145 (dk_at dksX0_told_0 1 rfl rfl)
theorem dX0_told_4 : decode cX0_told 4 = .ok (.ifCond .eq 15, 3) := dk_153 0 15 (dk_at dksX0_told_0 4 rfl rfl)
theorem dX0_told_7 : decode cX0_told 7 = .ok (.iload_n 2, 1) := dk_28 (dk_at dksX0_told_0 7 rfl rfl)
theorem dX0_told_8 : decode cX0_told 8 = .ok (.i2l, 1) := dk_133 (dk_at dksX0_told_0 8 rfl rfl)
theorem dX0_told_9 : decode cX0_told 9 = .ok (.lconst 0, 1) := dk_9 (dk_at dksX0_told_0 9 rfl rfl)
theorem dX0_told_10 : decode cX0_told 10 = .ok (.ldc2_w 137, 3) := dk_20 0 137 (dk_at dksX0_told_0 10 rfl rfl)
theorem dX0_told_13 : decode cX0_told 13 = .ok (.invokestatic 96, 3) := dk_184 0 96 (dk_at dksX0_told_0 13 rfl rfl)
theorem dX0_told_16 : decode cX0_told 16 = .ok (.ifCond .ne 5, 3) := dk_154 0 5 (dk_at dksX0_told_0 16 rfl rfl)
theorem dX0_told_19 : decode cX0_told 19 = .ok (.iconst (-1), 1) := dk_2 (dk_at dksX0_told_0 19 rfl rfl)
theorem dX0_told_20 : decode cX0_told 20 = .ok (.ireturn, 1) := dk_172 (dk_at dksX0_told_0 20 rfl rfl)
theorem dX0_told_21 : decode cX0_told 21 = .ok (.aload_n 0, 1) := dk_42 (dk_at dksX0_told_0 21 rfl rfl)
theorem dX0_told_22 : decode cX0_told 22 = .ok (.getfield 50, 3) := dk_180 0 50 (dk_at dksX0_told_1 0 rfl rfl)
theorem dX0_told_25 : decode cX0_told 25 = .ok (.iload_n 1, 1) := dk_27 (dk_at dksX0_told_1 3 rfl rfl)
theorem dX0_told_26 : decode cX0_told 26 = .ok (.aaload, 1) := dk_50 (dk_at dksX0_told_1 4 rfl rfl)
theorem dX0_told_27 : decode cX0_told 27 = .ok (.astore_n 3, 1) := dk_78 (dk_at dksX0_told_1 5 rfl rfl)
theorem dX0_told_28 : decode cX0_told 28 = .ok (.aload_n 3, 1) := dk_45 (dk_at dksX0_told_1 6 rfl rfl)
theorem dX0_told_29 : decode cX0_told 29 = .ok (.ifnonnull 6, 3) := dk_199 0 6 (dk_at dksX0_told_1 7 rfl rfl)
theorem dX0_told_32 : decode cX0_told 32 = .ok (.bipush (-2), 2) := dk_16 254 (dk_at dksX0_told_1 10 rfl rfl)
theorem dX0_told_34 : decode cX0_told 34 = .ok (.ireturn, 1) := dk_172 (dk_at dksX0_told_1 12 rfl rfl)
theorem dX0_told_35 : decode cX0_told 35 = .ok (.iload_n 2, 1) := dk_28 (dk_at dksX0_told_1 13 rfl rfl)
theorem dX0_told_36 : decode cX0_told 36 = .ok (.ifCond .ne 10, 3) := dk_154 0 10 (dk_at dksX0_told_1 14 rfl rfl)
theorem dX0_told_39 : decode cX0_told 39 = .ok (.aload_n 3, 1) := dk_45 (dk_at dksX0_told_1 17 rfl rfl)
theorem dX0_told_40 : decode cX0_told 40 = .ok (.getfield 163, 3) := dk_180 0 163 (dk_at dksX0_told_1 18 rfl rfl)
theorem dX0_told_43 : decode cX0_told 43 = .ok (.goto 37, 3) := dk_167 0 37 (dk_at dksX0_told_1 21 rfl rfl)
theorem dX0_told_46 : decode cX0_told 46 = .ok (.iload_n 2, 1) := dk_28 (dk_at dksX0_told_2 0 rfl rfl)
theorem dX0_told_47 : decode cX0_told 47 = .ok (.iconst 1, 1) := dk_4 (dk_at dksX0_told_2 1 rfl rfl)
theorem dX0_told_48 : decode cX0_told 48 = .ok (.if_icmp .ne 13, 3) := dk_160 0 13 (dk_at dksX0_told_2 2 rfl rfl)
theorem dX0_told_51 : decode cX0_told 51 = .ok (.aload_n 3, 1) := dk_45 (dk_at dksX0_told_2 5 rfl rfl)
theorem dX0_told_52 : decode cX0_told 52 = .ok (.getfield 157, 3) := dk_180 0 157 (dk_at dksX0_told_2 6 rfl rfl)
theorem dX0_told_55 : decode cX0_told 55 = .ok (.invokevirtual 129, 3) := dk_182 0 129 (dk_at dksX0_told_2 9 rfl rfl)
theorem dX0_told_58 : decode cX0_told 58 = .ok (.goto 22, 3) := dk_167 0 22 (dk_at dksX0_told_2 12 rfl rfl)
theorem dX0_told_61 : decode cX0_told 61 = .ok (.iload_n 2, 1) := dk_28 (dk_at dksX0_told_2 15 rfl rfl)
theorem dX0_told_62 : decode cX0_told 62 = .ok (.iconst 2, 1) := dk_5 (dk_at dksX0_told_2 16 rfl rfl)
theorem dX0_told_63 : decode cX0_told 63 = .ok (.if_icmp .ne 13, 3) := dk_160 0 13 (dk_at dksX0_told_2 17 rfl rfl)
theorem dX0_told_66 : decode cX0_told 66 = .ok (.aload_n 3, 1) := dk_45 (dk_at dksX0_told_2 20 rfl rfl)
theorem dX0_told_67 : decode cX0_told 67 = .ok (.getfield 166, 3) := dk_180 0 166 (dk_at dksX0_told_2 21 rfl rfl)
theorem dX0_told_70 : decode cX0_told 70 = .ok (.invokevirtual 170, 3) := dk_182 0 170 (dk_at dksX0_told_3 0 rfl rfl)
theorem dX0_told_73 : decode cX0_told 73 = .ok (.goto 7, 3) := dk_167 0 7 (dk_at dksX0_told_3 3 rfl rfl)
theorem dX0_told_76 : decode cX0_told 76 = .ok (.aload_n 3, 1) := dk_45 (dk_at dksX0_told_3 6 rfl rfl)
theorem dX0_told_77 : decode cX0_told 77 = .ok (.getfield 175, 3) := dk_180 0 175 (dk_at dksX0_told_3 7 rfl rfl)
theorem dX0_told_80 : decode cX0_told 80 = .ok (.ireturn, 1) := dk_172 (dk_at dksX0_told_3 10 rfl rfl)
abbrev cX0_type : ByteArray := prog_1_method_21_code
def yX0_type : MethodName := ⟨RX0, "type", "(II)I"⟩
def dkwX0_type_1 : List UInt8 := [199, 0, 8, 16, 254, 167, 0, 14, 42, 180, 0, 50, 27, 50, 180, 0, 181, 28, 46, 172]
abbrev dktX0_type_1 : List UInt8 := dkwX0_type_1 ++ []
def dkwX0_type_0 : List UInt8 := [27, 184, 0, 145, 153, 0, 10, 28, 184, 0, 178, 154, 0, 5, 2, 172, 42, 180, 0, 50, 27, 50]
abbrev dktX0_type_0 : List UInt8 := dkwX0_type_0 ++ dktX0_type_1
theorem dksX0_type_0 : cX0_type.data.toList.drop 0 = dktX0_type_0 := by decide +kernel
theorem dksX0_type_1 : cX0_type.data.toList.drop 22 = dktX0_type_1 := dk_seg dksX0_type_0 22 rfl rfl
theorem dX0_type_0 : decode cX0_type 0 = .ok (.iload_n 1, 1) := dk_27 (dk_at dksX0_type_0 0 rfl rfl)
theorem dX0_type_1 : decode cX0_type 1 = .ok (.invokestatic 145, 3) := dk_184 0 145 (dk_at dksX0_type_0 1 rfl rfl)
theorem dX0_type_4 : decode cX0_type 4 = .ok (.ifCond .eq 10, 3) := dk_153 0 10 (dk_at dksX0_type_0 4 rfl rfl)
theorem dX0_type_7 : decode cX0_type 7 = .ok (.iload_n 2, 1) := dk_28 (dk_at dksX0_type_0 7 rfl rfl)
theorem dX0_type_8 : decode cX0_type 8 = .ok (.invokestatic 178, 3) := dk_184 0 178 (dk_at dksX0_type_0 8 rfl rfl)
theorem dX0_type_11 : decode cX0_type 11 = .ok (.ifCond .ne 5, 3) := dk_154 0 5 (dk_at dksX0_type_0 11 rfl rfl)
theorem dX0_type_14 : decode cX0_type 14 = .ok (.iconst (-1), 1) := dk_2 (dk_at dksX0_type_0 14 rfl rfl)
theorem dX0_type_15 : decode cX0_type 15 = .ok (.ireturn, 1) := dk_172 (dk_at dksX0_type_0 15 rfl rfl)
theorem dX0_type_16 : decode cX0_type 16 = .ok (.aload_n 0, 1) := dk_42 (dk_at dksX0_type_0 16 rfl rfl)
theorem dX0_type_17 : decode cX0_type 17 = .ok (.getfield 50, 3) := dk_180 0 50 (dk_at dksX0_type_0 17 rfl rfl)
theorem dX0_type_20 : decode cX0_type 20 = .ok (.iload_n 1, 1) := dk_27 (dk_at dksX0_type_0 20 rfl rfl)
theorem dX0_type_21 : decode cX0_type 21 = .ok (.aaload, 1) := dk_50 (dk_at dksX0_type_0 21 rfl rfl)
theorem dX0_type_22 : decode cX0_type 22 = .ok (.ifnonnull 8, 3) := dk_199 0 8 (dk_at dksX0_type_1 0 rfl rfl)
theorem dX0_type_25 : decode cX0_type 25 = .ok (.bipush (-2), 2) := dk_16 254 (dk_at dksX0_type_1 3 rfl rfl)
theorem dX0_type_27 : decode cX0_type 27 = .ok (.goto 14, 3) := dk_167 0 14 (dk_at dksX0_type_1 5 rfl rfl)
theorem dX0_type_30 : decode cX0_type 30 = .ok (.aload_n 0, 1) := dk_42 (dk_at dksX0_type_1 8 rfl rfl)
theorem dX0_type_31 : decode cX0_type 31 = .ok (.getfield 50, 3) := dk_180 0 50 (dk_at dksX0_type_1 9 rfl rfl)
theorem dX0_type_34 : decode cX0_type 34 = .ok (.iload_n 1, 1) := dk_27 (dk_at dksX0_type_1 12 rfl rfl)
theorem dX0_type_35 : decode cX0_type 35 = .ok (.aaload, 1) := dk_50 (dk_at dksX0_type_1 13 rfl rfl)
theorem dX0_type_36 : decode cX0_type 36 = .ok (.getfield 181, 3) := dk_180 0 181 (dk_at dksX0_type_1 14 rfl rfl)
theorem dX0_type_39 : decode cX0_type 39 = .ok (.iload_n 2, 1) := dk_28 (dk_at dksX0_type_1 17 rfl rfl)
theorem dX0_type_40 : decode cX0_type 40 = .ok (.iaload, 1) := dk_46 (dk_at dksX0_type_1 18 rfl rfl)
theorem dX0_type_41 : decode cX0_type 41 = .ok (.ireturn, 1) := dk_172 (dk_at dksX0_type_1 19 rfl rfl)
abbrev cX0_isArgument : ByteArray := prog_1_method_16_code
def yX0_isArgument : MethodName := ⟨RX0, "isArgument", "(I)Z"⟩
def dkwX0_isArgument_0 : List UInt8 := [26, 133, 9, 20, 0, 104, 184, 0, 96, 172]
abbrev dktX0_isArgument_0 : List UInt8 := dkwX0_isArgument_0 ++ []
theorem dksX0_isArgument_0 : cX0_isArgument.data.toList.drop 0 = dktX0_isArgument_0 := by decide +kernel
theorem dX0_isArgument_0 : decode cX0_isArgument 0 = .ok (.iload_n 0, 1) := dk_26 (dk_at dksX0_isArgument_0 0 rfl rfl)
theorem dX0_isArgument_1 : decode cX0_isArgument 1 = .ok (.i2l, 1) := dk_133 (dk_at dksX0_isArgument_0 1 rfl rfl)
theorem dX0_isArgument_2 : decode cX0_isArgument 2 = .ok (.lconst 0, 1) := dk_9 (dk_at dksX0_isArgument_0 2 rfl rfl)
theorem dX0_isArgument_3 : decode cX0_isArgument 3 = .ok (.ldc2_w 104, 3) := dk_20 0 104 (dk_at dksX0_isArgument_0 3 rfl rfl)
theorem dX0_isArgument_6 : decode cX0_isArgument 6 = .ok (.invokestatic 96, 3) := dk_184 0 96 (dk_at dksX0_isArgument_0 6 rfl rfl)
theorem dX0_isArgument_9 : decode cX0_isArgument 9 = .ok (.ireturn, 1) := dk_172 (dk_at dksX0_isArgument_0 9 rfl rfl)
abbrev cX0_choice : ByteArray := prog_1_method_23_code
def yX0_choice : MethodName := ⟨RX0, "choice", "(III)I"⟩
def dkwX0_choice_3 : List UInt8 := [25, 4, 182, 0, 200, 167, 0, 8, 25, 4, 180, 0, 203, 172]
abbrev dktX0_choice_3 : List UInt8 := dkwX0_choice_3 ++ []
def dkwX0_choice_2 : List UInt8 := [167, 0, 37, 29, 4, 160, 0, 14, 25, 4, 180, 0, 197, 182, 0, 129, 167, 0, 21, 29, 5, 160, 0, 11]
abbrev dktX0_choice_2 : List UInt8 := dkwX0_choice_2 ++ dktX0_choice_3
def dkwX0_choice_1 : List UInt8 := [182, 0, 190, 58, 4, 25, 4, 199, 0, 6, 16, 254, 172, 29, 154, 0, 11, 25, 4, 180, 0, 194]
abbrev dktX0_choice_1 : List UInt8 := dkwX0_choice_1 ++ dktX0_choice_2
def dkwX0_choice_0 : List UInt8 := [27, 184, 0, 145, 153, 0, 15, 29, 133, 9, 20, 0, 137, 184, 0, 96, 154, 0, 5, 2, 172, 42, 27, 28]
abbrev dktX0_choice_0 : List UInt8 := dkwX0_choice_0 ++ dktX0_choice_1
theorem dksX0_choice_0 : cX0_choice.data.toList.drop 0 = dktX0_choice_0 := by decide +kernel
theorem dksX0_choice_1 : cX0_choice.data.toList.drop 24 = dktX0_choice_1 := dk_seg dksX0_choice_0 24 rfl rfl
theorem dksX0_choice_2 : cX0_choice.data.toList.drop 46 = dktX0_choice_2 := dk_seg dksX0_choice_1 22 rfl rfl
theorem dksX0_choice_3 : cX0_choice.data.toList.drop 70 = dktX0_choice_3 := dk_seg dksX0_choice_2 24 rfl rfl
theorem dX0_choice_0 : decode cX0_choice 0 = .ok (.iload_n 1, 1) := dk_27 (dk_at dksX0_choice_0 0 rfl rfl)
theorem dX0_choice_1 : decode cX0_choice 1 = .ok (.invokestatic 145, 3) := dk_184 0 145 (dk_at dksX0_choice_0 1 rfl rfl)
theorem dX0_choice_4 : decode cX0_choice 4 = .ok (.ifCond .eq 15, 3) := dk_153 0 15 (dk_at dksX0_choice_0 4 rfl rfl)
theorem dX0_choice_7 : decode cX0_choice 7 = .ok (.iload_n 3, 1) := dk_29 (dk_at dksX0_choice_0 7 rfl rfl)
theorem dX0_choice_8 : decode cX0_choice 8 = .ok (.i2l, 1) := dk_133 (dk_at dksX0_choice_0 8 rfl rfl)
theorem dX0_choice_9 : decode cX0_choice 9 = .ok (.lconst 0, 1) := dk_9 (dk_at dksX0_choice_0 9 rfl rfl)
theorem dX0_choice_10 : decode cX0_choice 10 = .ok (.ldc2_w 137, 3) := dk_20 0 137 (dk_at dksX0_choice_0 10 rfl rfl)
theorem dX0_choice_13 : decode cX0_choice 13 = .ok (.invokestatic 96, 3) := dk_184 0 96 (dk_at dksX0_choice_0 13 rfl rfl)
theorem dX0_choice_16 : decode cX0_choice 16 = .ok (.ifCond .ne 5, 3) := dk_154 0 5 (dk_at dksX0_choice_0 16 rfl rfl)
theorem dX0_choice_19 : decode cX0_choice 19 = .ok (.iconst (-1), 1) := dk_2 (dk_at dksX0_choice_0 19 rfl rfl)
theorem dX0_choice_20 : decode cX0_choice 20 = .ok (.ireturn, 1) := dk_172 (dk_at dksX0_choice_0 20 rfl rfl)
theorem dX0_choice_21 : decode cX0_choice 21 = .ok (.aload_n 0, 1) := dk_42 (dk_at dksX0_choice_0 21 rfl rfl)
theorem dX0_choice_22 : decode cX0_choice 22 = .ok (.iload_n 1, 1) := dk_27 (dk_at dksX0_choice_0 22 rfl rfl)
theorem dX0_choice_23 : decode cX0_choice 23 = .ok (.iload_n 2, 1) := dk_28 (dk_at dksX0_choice_0 23 rfl rfl)
theorem dX0_choice_24 : decode cX0_choice 24 = .ok (.invokevirtual 190, 3) := dk_182 0 190 (dk_at dksX0_choice_1 0 rfl rfl)
theorem dX0_choice_27 : decode cX0_choice 27 = .ok (.astore 4, 2) := dk_58 4 (dk_at dksX0_choice_1 3 rfl rfl)
theorem dX0_choice_29 : decode cX0_choice 29 = .ok (.aload 4, 2) := dk_25 4 (dk_at dksX0_choice_1 5 rfl rfl)
theorem dX0_choice_31 : decode cX0_choice 31 = .ok (.ifnonnull 6, 3) := dk_199 0 6 (dk_at dksX0_choice_1 7 rfl rfl)
theorem dX0_choice_34 : decode cX0_choice 34 = .ok (.bipush (-2), 2) := dk_16 254 (dk_at dksX0_choice_1 10 rfl rfl)
theorem dX0_choice_36 : decode cX0_choice 36 = .ok (.ireturn, 1) := dk_172 (dk_at dksX0_choice_1 12 rfl rfl)
theorem dX0_choice_37 : decode cX0_choice 37 = .ok (.iload_n 3, 1) := dk_29 (dk_at dksX0_choice_1 13 rfl rfl)
theorem dX0_choice_38 : decode cX0_choice 38 = .ok (.ifCond .ne 11, 3) := dk_154 0 11 (dk_at dksX0_choice_1 14 rfl rfl)
theorem dX0_choice_41 : decode cX0_choice 41 = .ok (.aload 4, 2) := dk_25 4 (dk_at dksX0_choice_1 17 rfl rfl)
theorem dX0_choice_43 : decode cX0_choice 43 = .ok (.getfield 194, 3) := dk_180 0 194 (dk_at dksX0_choice_1 19 rfl rfl)
theorem dX0_choice_46 : decode cX0_choice 46 = .ok (.goto 37, 3) := dk_167 0 37 (dk_at dksX0_choice_2 0 rfl rfl)
theorem dX0_choice_49 : decode cX0_choice 49 = .ok (.iload_n 3, 1) := dk_29 (dk_at dksX0_choice_2 3 rfl rfl)
theorem dX0_choice_50 : decode cX0_choice 50 = .ok (.iconst 1, 1) := dk_4 (dk_at dksX0_choice_2 4 rfl rfl)
theorem dX0_choice_51 : decode cX0_choice 51 = .ok (.if_icmp .ne 14, 3) := dk_160 0 14 (dk_at dksX0_choice_2 5 rfl rfl)
theorem dX0_choice_54 : decode cX0_choice 54 = .ok (.aload 4, 2) := dk_25 4 (dk_at dksX0_choice_2 8 rfl rfl)
theorem dX0_choice_56 : decode cX0_choice 56 = .ok (.getfield 197, 3) := dk_180 0 197 (dk_at dksX0_choice_2 10 rfl rfl)
theorem dX0_choice_59 : decode cX0_choice 59 = .ok (.invokevirtual 129, 3) := dk_182 0 129 (dk_at dksX0_choice_2 13 rfl rfl)
theorem dX0_choice_62 : decode cX0_choice 62 = .ok (.goto 21, 3) := dk_167 0 21 (dk_at dksX0_choice_2 16 rfl rfl)
theorem dX0_choice_65 : decode cX0_choice 65 = .ok (.iload_n 3, 1) := dk_29 (dk_at dksX0_choice_2 19 rfl rfl)
theorem dX0_choice_66 : decode cX0_choice 66 = .ok (.iconst 2, 1) := dk_5 (dk_at dksX0_choice_2 20 rfl rfl)
theorem dX0_choice_67 : decode cX0_choice 67 = .ok (.if_icmp .ne 11, 3) := dk_160 0 11 (dk_at dksX0_choice_2 21 rfl rfl)
theorem dX0_choice_70 : decode cX0_choice 70 = .ok (.aload 4, 2) := dk_25 4 (dk_at dksX0_choice_3 0 rfl rfl)
theorem dX0_choice_72 : decode cX0_choice 72 = .ok (.invokevirtual 200, 3) := dk_182 0 200 (dk_at dksX0_choice_3 2 rfl rfl)
theorem dX0_choice_75 : decode cX0_choice 75 = .ok (.goto 8, 3) := dk_167 0 8 (dk_at dksX0_choice_3 5 rfl rfl)
theorem dX0_choice_78 : decode cX0_choice 78 = .ok (.aload 4, 2) := dk_25 4 (dk_at dksX0_choice_3 8 rfl rfl)
theorem dX0_choice_80 : decode cX0_choice 80 = .ok (.getfield 203, 3) := dk_180 0 203 (dk_at dksX0_choice_3 10 rfl rfl)
theorem dX0_choice_83 : decode cX0_choice 83 = .ok (.ireturn, 1) := dk_172 (dk_at dksX0_choice_3 13 rfl rfl)
abbrev cX0_choiceOf : ByteArray := prog_1_method_22_code
def yX0_choiceOf : MethodName := ⟨RX0, "choiceOf", "(II)LPluralBranches$Choice;"⟩
def dkwX0_choiceOf_2 : List UInt8 := [182, 0, 184, 192, 0, 188, 176]
abbrev dktX0_choiceOf_2 : List UInt8 := dkwX0_choiceOf_2 ++ []
def dkwX0_choiceOf_1 : List UInt8 := [4, 100, 133, 184, 0, 96, 154, 0, 7, 1, 167, 0, 19, 42, 180, 0, 50, 27, 50, 180, 0, 157, 28]
abbrev dktX0_choiceOf_1 : List UInt8 := dkwX0_choiceOf_1 ++ dktX0_choiceOf_2
def dkwX0_choiceOf_0 : List UInt8 := [42, 180, 0, 50, 27, 50, 198, 0, 27, 28, 133, 9, 42, 180, 0, 50, 27, 50, 180, 0, 157, 182, 0, 129]
abbrev dktX0_choiceOf_0 : List UInt8 := dkwX0_choiceOf_0 ++ dktX0_choiceOf_1
theorem dksX0_choiceOf_0 : cX0_choiceOf.data.toList.drop 0 = dktX0_choiceOf_0 := by decide +kernel
theorem dksX0_choiceOf_1 : cX0_choiceOf.data.toList.drop 24 = dktX0_choiceOf_1 := dk_seg dksX0_choiceOf_0 24 rfl rfl
theorem dksX0_choiceOf_2 : cX0_choiceOf.data.toList.drop 47 = dktX0_choiceOf_2 := dk_seg dksX0_choiceOf_1 23 rfl rfl
theorem dX0_choiceOf_0 : decode cX0_choiceOf 0 = .ok (.aload_n 0, 1) := dk_42 (dk_at dksX0_choiceOf_0 0 rfl rfl)
theorem dX0_choiceOf_1 : decode cX0_choiceOf 1 = .ok (.getfield 50, 3) := dk_180 0 50 (dk_at dksX0_choiceOf_0 1 rfl rfl)
theorem dX0_choiceOf_4 : decode cX0_choiceOf 4 = .ok (.iload_n 1, 1) := dk_27 (dk_at dksX0_choiceOf_0 4 rfl rfl)
theorem dX0_choiceOf_5 : decode cX0_choiceOf 5 = .ok (.aaload, 1) := dk_50 (dk_at dksX0_choiceOf_0 5 rfl rfl)
theorem dX0_choiceOf_6 : decode cX0_choiceOf 6 = .ok (.ifnull 27, 3) := dk_198 0 27 (dk_at dksX0_choiceOf_0 6 rfl rfl)
theorem dX0_choiceOf_9 : decode cX0_choiceOf 9 = .ok (.iload_n 2, 1) := dk_28 (dk_at dksX0_choiceOf_0 9 rfl rfl)
theorem dX0_choiceOf_10 : decode cX0_choiceOf 10 = .ok (.i2l, 1) := dk_133 (dk_at dksX0_choiceOf_0 10 rfl rfl)
theorem dX0_choiceOf_11 : decode cX0_choiceOf 11 = .ok (.lconst 0, 1) := dk_9 (dk_at dksX0_choiceOf_0 11 rfl rfl)
theorem dX0_choiceOf_12 : decode cX0_choiceOf 12 = .ok (.aload_n 0, 1) := dk_42 (dk_at dksX0_choiceOf_0 12 rfl rfl)
theorem dX0_choiceOf_13 : decode cX0_choiceOf 13 = .ok (.getfield 50, 3) := dk_180 0 50 (dk_at dksX0_choiceOf_0 13 rfl rfl)
theorem dX0_choiceOf_16 : decode cX0_choiceOf 16 = .ok (.iload_n 1, 1) := dk_27 (dk_at dksX0_choiceOf_0 16 rfl rfl)
theorem dX0_choiceOf_17 : decode cX0_choiceOf 17 = .ok (.aaload, 1) := dk_50 (dk_at dksX0_choiceOf_0 17 rfl rfl)
theorem dX0_choiceOf_18 : decode cX0_choiceOf 18 = .ok (.getfield 157, 3) := dk_180 0 157 (dk_at dksX0_choiceOf_0 18 rfl rfl)
theorem dX0_choiceOf_21 : decode cX0_choiceOf 21 = .ok (.invokevirtual 129, 3) := dk_182 0 129 (dk_at dksX0_choiceOf_0 21 rfl rfl)
theorem dX0_choiceOf_24 : decode cX0_choiceOf 24 = .ok (.iconst 1, 1) := dk_4 (dk_at dksX0_choiceOf_1 0 rfl rfl)
theorem dX0_choiceOf_25 : decode cX0_choiceOf 25 = .ok (.isub, 1) := dk_100 (dk_at dksX0_choiceOf_1 1 rfl rfl)
theorem dX0_choiceOf_26 : decode cX0_choiceOf 26 = .ok (.i2l, 1) := dk_133 (dk_at dksX0_choiceOf_1 2 rfl rfl)
theorem dX0_choiceOf_27 : decode cX0_choiceOf 27 = .ok (.invokestatic 96, 3) := dk_184 0 96 (dk_at dksX0_choiceOf_1 3 rfl rfl)
theorem dX0_choiceOf_30 : decode cX0_choiceOf 30 = .ok (.ifCond .ne 7, 3) := dk_154 0 7 (dk_at dksX0_choiceOf_1 6 rfl rfl)
theorem dX0_choiceOf_33 : decode cX0_choiceOf 33 = .ok (.aconst_null, 1) := dk_1 (dk_at dksX0_choiceOf_1 9 rfl rfl)
theorem dX0_choiceOf_34 : decode cX0_choiceOf 34 = .ok (.goto 19, 3) := dk_167 0 19 (dk_at dksX0_choiceOf_1 10 rfl rfl)
theorem dX0_choiceOf_37 : decode cX0_choiceOf 37 = .ok (.aload_n 0, 1) := dk_42 (dk_at dksX0_choiceOf_1 13 rfl rfl)
theorem dX0_choiceOf_38 : decode cX0_choiceOf 38 = .ok (.getfield 50, 3) := dk_180 0 50 (dk_at dksX0_choiceOf_1 14 rfl rfl)
theorem dX0_choiceOf_41 : decode cX0_choiceOf 41 = .ok (.iload_n 1, 1) := dk_27 (dk_at dksX0_choiceOf_1 17 rfl rfl)
theorem dX0_choiceOf_42 : decode cX0_choiceOf 42 = .ok (.aaload, 1) := dk_50 (dk_at dksX0_choiceOf_1 18 rfl rfl)
theorem dX0_choiceOf_43 : decode cX0_choiceOf 43 = .ok (.getfield 157, 3) := dk_180 0 157 (dk_at dksX0_choiceOf_1 19 rfl rfl)
theorem dX0_choiceOf_46 : decode cX0_choiceOf 46 = .ok (.iload_n 2, 1) := dk_28 (dk_at dksX0_choiceOf_1 22 rfl rfl)
theorem dX0_choiceOf_47 : decode cX0_choiceOf 47 = .ok (.invokevirtual 184, 3) := dk_182 0 184 (dk_at dksX0_choiceOf_2 0 rfl rfl)
theorem dX0_choiceOf_50 : decode cX0_choiceOf 50 = .ok (.checkcast 188, 3) := dk_192 0 188 (dk_at dksX0_choiceOf_2 3 rfl rfl)
theorem dX0_choiceOf_53 : decode cX0_choiceOf 53 = .ok (.areturn, 1) := dk_176 (dk_at dksX0_choiceOf_2 6 rfl rfl)
abbrev cX0_key : ByteArray := prog_1_method_24_code
def yX0_key : MethodName := ⟨RX0, "key", "(III)I"⟩
def dkwX0_key_2 : List UInt8 := [25, 4, 180, 0, 197, 29, 182, 0, 184, 192, 0, 206, 180, 0, 208, 172]
abbrev dktX0_key_2 : List UInt8 := dkwX0_key_2 ++ []
def dkwX0_key_1 : List UInt8 := [9, 25, 4, 180, 0, 197, 182, 0, 129, 4, 100, 133, 184, 0, 96, 154, 0, 8, 16, 254, 167, 0, 18]
abbrev dktX0_key_1 : List UInt8 := dkwX0_key_1 ++ dktX0_key_2
def dkwX0_key_0 : List UInt8 := [27, 184, 0, 145, 154, 0, 5, 2, 172, 42, 27, 28, 182, 0, 190, 58, 4, 25, 4, 198, 0, 23, 29, 133]
abbrev dktX0_key_0 : List UInt8 := dkwX0_key_0 ++ dktX0_key_1
theorem dksX0_key_0 : cX0_key.data.toList.drop 0 = dktX0_key_0 := by decide +kernel
theorem dksX0_key_1 : cX0_key.data.toList.drop 24 = dktX0_key_1 := dk_seg dksX0_key_0 24 rfl rfl
theorem dksX0_key_2 : cX0_key.data.toList.drop 47 = dktX0_key_2 := dk_seg dksX0_key_1 23 rfl rfl
theorem dX0_key_0 : decode cX0_key 0 = .ok (.iload_n 1, 1) := dk_27 (dk_at dksX0_key_0 0 rfl rfl)
theorem dX0_key_1 : decode cX0_key 1 = .ok (.invokestatic 145, 3) := dk_184 0 145 (dk_at dksX0_key_0 1 rfl rfl)
theorem dX0_key_4 : decode cX0_key 4 = .ok (.ifCond .ne 5, 3) := dk_154 0 5 (dk_at dksX0_key_0 4 rfl rfl)
theorem dX0_key_7 : decode cX0_key 7 = .ok (.iconst (-1), 1) := dk_2 (dk_at dksX0_key_0 7 rfl rfl)
theorem dX0_key_8 : decode cX0_key 8 = .ok (.ireturn, 1) := dk_172 (dk_at dksX0_key_0 8 rfl rfl)
theorem dX0_key_9 : decode cX0_key 9 = .ok (.aload_n 0, 1) := dk_42 (dk_at dksX0_key_0 9 rfl rfl)
theorem dX0_key_10 : decode cX0_key 10 = .ok (.iload_n 1, 1) := dk_27 (dk_at dksX0_key_0 10 rfl rfl)
theorem dX0_key_11 : decode cX0_key 11 = .ok (.iload_n 2, 1) := dk_28 (dk_at dksX0_key_0 11 rfl rfl)
theorem dX0_key_12 : decode cX0_key 12 = .ok (.invokevirtual 190, 3) := dk_182 0 190 (dk_at dksX0_key_0 12 rfl rfl)
theorem dX0_key_15 : decode cX0_key 15 = .ok (.astore 4, 2) := dk_58 4 (dk_at dksX0_key_0 15 rfl rfl)
theorem dX0_key_17 : decode cX0_key 17 = .ok (.aload 4, 2) := dk_25 4 (dk_at dksX0_key_0 17 rfl rfl)
theorem dX0_key_19 : decode cX0_key 19 = .ok (.ifnull 23, 3) := dk_198 0 23 (dk_at dksX0_key_0 19 rfl rfl)
theorem dX0_key_22 : decode cX0_key 22 = .ok (.iload_n 3, 1) := dk_29 (dk_at dksX0_key_0 22 rfl rfl)
theorem dX0_key_23 : decode cX0_key 23 = .ok (.i2l, 1) := dk_133 (dk_at dksX0_key_0 23 rfl rfl)
theorem dX0_key_24 : decode cX0_key 24 = .ok (.lconst 0, 1) := dk_9 (dk_at dksX0_key_1 0 rfl rfl)
theorem dX0_key_25 : decode cX0_key 25 = .ok (.aload 4, 2) := dk_25 4 (dk_at dksX0_key_1 1 rfl rfl)
theorem dX0_key_27 : decode cX0_key 27 = .ok (.getfield 197, 3) := dk_180 0 197 (dk_at dksX0_key_1 3 rfl rfl)
theorem dX0_key_30 : decode cX0_key 30 = .ok (.invokevirtual 129, 3) := dk_182 0 129 (dk_at dksX0_key_1 6 rfl rfl)
theorem dX0_key_33 : decode cX0_key 33 = .ok (.iconst 1, 1) := dk_4 (dk_at dksX0_key_1 9 rfl rfl)
theorem dX0_key_34 : decode cX0_key 34 = .ok (.isub, 1) := dk_100 (dk_at dksX0_key_1 10 rfl rfl)
theorem dX0_key_35 : decode cX0_key 35 = .ok (.i2l, 1) := dk_133 (dk_at dksX0_key_1 11 rfl rfl)
theorem dX0_key_36 : decode cX0_key 36 = .ok (.invokestatic 96, 3) := dk_184 0 96 (dk_at dksX0_key_1 12 rfl rfl)
theorem dX0_key_39 : decode cX0_key 39 = .ok (.ifCond .ne 8, 3) := dk_154 0 8 (dk_at dksX0_key_1 15 rfl rfl)
theorem dX0_key_42 : decode cX0_key 42 = .ok (.bipush (-2), 2) := dk_16 254 (dk_at dksX0_key_1 18 rfl rfl)
theorem dX0_key_44 : decode cX0_key 44 = .ok (.goto 18, 3) := dk_167 0 18 (dk_at dksX0_key_1 20 rfl rfl)
theorem dX0_key_47 : decode cX0_key 47 = .ok (.aload 4, 2) := dk_25 4 (dk_at dksX0_key_2 0 rfl rfl)
theorem dX0_key_49 : decode cX0_key 49 = .ok (.getfield 197, 3) := dk_180 0 197 (dk_at dksX0_key_2 2 rfl rfl)
theorem dX0_key_52 : decode cX0_key 52 = .ok (.iload_n 3, 1) := dk_29 (dk_at dksX0_key_2 5 rfl rfl)
theorem dX0_key_53 : decode cX0_key 53 = .ok (.invokevirtual 184, 3) := dk_182 0 184 (dk_at dksX0_key_2 6 rfl rfl)
theorem dX0_key_56 : decode cX0_key 56 = .ok (.checkcast 206, 3) := dk_192 0 206 (dk_at dksX0_key_2 9 rfl rfl)
theorem dX0_key_59 : decode cX0_key 59 = .ok (.getfield 208, 3) := dk_180 0 208 (dk_at dksX0_key_2 12 rfl rfl)
theorem dX0_key_62 : decode cX0_key 62 = .ok (.ireturn, 1) := dk_172 (dk_at dksX0_key_2 15 rfl rfl)
abbrev cX0_lacks : ByteArray := prog_1_method_25_code
def yX0_lacks : MethodName := ⟨RX0, "lacks", "(IIII)I"⟩
def dkwX0_lacks_3 : List UInt8 := [50, 182, 0, 215, 172]
abbrev dktX0_lacks_3 : List UInt8 := dkwX0_lacks_3 ++ []
def dkwX0_lacks_2 : List UInt8 := [154, 0, 17, 25, 5, 42, 180, 0, 13, 28, 50, 182, 0, 211, 167, 0, 14, 25, 5, 42, 180, 0, 13, 28]
abbrev dktX0_lacks_2 : List UInt8 := dkwX0_lacks_2 ++ dktX0_lacks_3
def dkwX0_lacks_1 : List UInt8 := [154, 0, 5, 2, 172, 42, 27, 29, 182, 0, 190, 58, 5, 25, 5, 199, 0, 6, 16, 254, 172, 21, 4]
abbrev dktX0_lacks_1 : List UInt8 := dkwX0_lacks_1 ++ dktX0_lacks_2
def dkwX0_lacks_0 : List UInt8 := [27, 184, 0, 145, 153, 0, 21, 28, 184, 0, 112, 153, 0, 14, 21, 4, 133, 9, 10, 184, 0, 96]
abbrev dktX0_lacks_0 : List UInt8 := dkwX0_lacks_0 ++ dktX0_lacks_1
theorem dksX0_lacks_0 : cX0_lacks.data.toList.drop 0 = dktX0_lacks_0 := by decide +kernel
theorem dksX0_lacks_1 : cX0_lacks.data.toList.drop 22 = dktX0_lacks_1 := dk_seg dksX0_lacks_0 22 rfl rfl
theorem dksX0_lacks_2 : cX0_lacks.data.toList.drop 45 = dktX0_lacks_2 := dk_seg dksX0_lacks_1 23 rfl rfl
theorem dksX0_lacks_3 : cX0_lacks.data.toList.drop 69 = dktX0_lacks_3 := dk_seg dksX0_lacks_2 24 rfl rfl
theorem dX0_lacks_0 : decode cX0_lacks 0 = .ok (.iload_n 1, 1) := dk_27 (dk_at dksX0_lacks_0 0 rfl rfl)
theorem dX0_lacks_1 : decode cX0_lacks 1 = .ok (.invokestatic 145, 3) := dk_184 0 145 (dk_at dksX0_lacks_0 1 rfl rfl)
theorem dX0_lacks_4 : decode cX0_lacks 4 = .ok (.ifCond .eq 21, 3) := dk_153 0 21 (dk_at dksX0_lacks_0 4 rfl rfl)
theorem dX0_lacks_7 : decode cX0_lacks 7 = .ok (.iload_n 2, 1) := dk_28 (dk_at dksX0_lacks_0 7 rfl rfl)
theorem dX0_lacks_8 : decode cX0_lacks 8 = .ok (.invokestatic 112, 3) := dk_184 0 112 (dk_at dksX0_lacks_0 8 rfl rfl)
theorem dX0_lacks_11 : decode cX0_lacks 11 = .ok (.ifCond .eq 14, 3) := dk_153 0 14 (dk_at dksX0_lacks_0 11 rfl rfl)
theorem dX0_lacks_14 : decode cX0_lacks 14 = .ok (.iload 4, 2) := dk_21 4 (dk_at dksX0_lacks_0 14 rfl rfl)
theorem dX0_lacks_16 : decode cX0_lacks 16 = .ok (.i2l, 1) := dk_133 (dk_at dksX0_lacks_0 16 rfl rfl)
theorem dX0_lacks_17 : decode cX0_lacks 17 = .ok (.lconst 0, 1) := dk_9 (dk_at dksX0_lacks_0 17 rfl rfl)
theorem dX0_lacks_18 : decode cX0_lacks 18 = .ok (.lconst 1, 1) := dk_10 (dk_at dksX0_lacks_0 18 rfl rfl)
theorem dX0_lacks_19 : decode cX0_lacks 19 = .ok (.invokestatic 96, 3) := dk_184 0 96 (dk_at dksX0_lacks_0 19 rfl rfl)
theorem dX0_lacks_22 : decode cX0_lacks 22 = .ok (.ifCond .ne 5, 3) := dk_154 0 5 (dk_at dksX0_lacks_1 0 rfl rfl)
theorem dX0_lacks_25 : decode cX0_lacks 25 = .ok (.iconst (-1), 1) := dk_2 (dk_at dksX0_lacks_1 3 rfl rfl)
theorem dX0_lacks_26 : decode cX0_lacks 26 = .ok (.ireturn, 1) := dk_172 (dk_at dksX0_lacks_1 4 rfl rfl)
theorem dX0_lacks_27 : decode cX0_lacks 27 = .ok (.aload_n 0, 1) := dk_42 (dk_at dksX0_lacks_1 5 rfl rfl)
theorem dX0_lacks_28 : decode cX0_lacks 28 = .ok (.iload_n 1, 1) := dk_27 (dk_at dksX0_lacks_1 6 rfl rfl)
theorem dX0_lacks_29 : decode cX0_lacks 29 = .ok (.iload_n 3, 1) := dk_29 (dk_at dksX0_lacks_1 7 rfl rfl)
theorem dX0_lacks_30 : decode cX0_lacks 30 = .ok (.invokevirtual 190, 3) := dk_182 0 190 (dk_at dksX0_lacks_1 8 rfl rfl)
theorem dX0_lacks_33 : decode cX0_lacks 33 = .ok (.astore 5, 2) := dk_58 5 (dk_at dksX0_lacks_1 11 rfl rfl)
theorem dX0_lacks_35 : decode cX0_lacks 35 = .ok (.aload 5, 2) := dk_25 5 (dk_at dksX0_lacks_1 13 rfl rfl)
theorem dX0_lacks_37 : decode cX0_lacks 37 = .ok (.ifnonnull 6, 3) := dk_199 0 6 (dk_at dksX0_lacks_1 15 rfl rfl)
theorem dX0_lacks_40 : decode cX0_lacks 40 = .ok (.bipush (-2), 2) := dk_16 254 (dk_at dksX0_lacks_1 18 rfl rfl)
theorem dX0_lacks_42 : decode cX0_lacks 42 = .ok (.ireturn, 1) := dk_172 (dk_at dksX0_lacks_1 20 rfl rfl)
theorem dX0_lacks_43 : decode cX0_lacks 43 = .ok (.iload 4, 2) := dk_21 4 (dk_at dksX0_lacks_1 21 rfl rfl)
theorem dX0_lacks_45 : decode cX0_lacks 45 = .ok (.ifCond .ne 17, 3) := dk_154 0 17 (dk_at dksX0_lacks_2 0 rfl rfl)
theorem dX0_lacks_48 : decode cX0_lacks 48 = .ok (.aload 5, 2) := dk_25 5 (dk_at dksX0_lacks_2 3 rfl rfl)
theorem dX0_lacks_50 : decode cX0_lacks 50 = .ok (.aload_n 0, 1) := dk_42 (dk_at dksX0_lacks_2 5 rfl rfl)
theorem dX0_lacks_51 : decode cX0_lacks 51 = .ok (.getfield 13, 3) := dk_180 0 13 (dk_at dksX0_lacks_2 6 rfl rfl)
theorem dX0_lacks_54 : decode cX0_lacks 54 = .ok (.iload_n 2, 1) := dk_28 (dk_at dksX0_lacks_2 9 rfl rfl)
theorem dX0_lacks_55 : decode cX0_lacks 55 = .ok (.aaload, 1) := dk_50 (dk_at dksX0_lacks_2 10 rfl rfl)
theorem dX0_lacks_56 : decode cX0_lacks 56 = .ok (.invokevirtual 211, 3) := dk_182 0 211 (dk_at dksX0_lacks_2 11 rfl rfl)
theorem dX0_lacks_59 : decode cX0_lacks 59 = .ok (.goto 14, 3) := dk_167 0 14 (dk_at dksX0_lacks_2 14 rfl rfl)
theorem dX0_lacks_62 : decode cX0_lacks 62 = .ok (.aload 5, 2) := dk_25 5 (dk_at dksX0_lacks_2 17 rfl rfl)
theorem dX0_lacks_64 : decode cX0_lacks 64 = .ok (.aload_n 0, 1) := dk_42 (dk_at dksX0_lacks_2 19 rfl rfl)
theorem dX0_lacks_65 : decode cX0_lacks 65 = .ok (.getfield 13, 3) := dk_180 0 13 (dk_at dksX0_lacks_2 20 rfl rfl)
theorem dX0_lacks_68 : decode cX0_lacks 68 = .ok (.iload_n 2, 1) := dk_28 (dk_at dksX0_lacks_2 23 rfl rfl)
theorem dX0_lacks_69 : decode cX0_lacks 69 = .ok (.aaload, 1) := dk_50 (dk_at dksX0_lacks_3 0 rfl rfl)
theorem dX0_lacks_70 : decode cX0_lacks 70 = .ok (.invokevirtual 215, 3) := dk_182 0 215 (dk_at dksX0_lacks_3 1 rfl rfl)
theorem dX0_lacks_73 : decode cX0_lacks 73 = .ok (.ireturn, 1) := dk_172 (dk_at dksX0_lacks_3 4 rfl rfl)
abbrev cX0_has : ByteArray := prog_1_method_4_code
def yX0_has : MethodName := ⟨RX0, "has", "(II)Z"⟩
def dkwX0_has_0 : List UInt8 := [26, 27, 122, 4, 126, 4, 160, 0, 7, 4, 167, 0, 4, 3, 172]
abbrev dktX0_has_0 : List UInt8 := dkwX0_has_0 ++ []
theorem dksX0_has_0 : cX0_has.data.toList.drop 0 = dktX0_has_0 := by decide +kernel
theorem dX0_has_0 : decode cX0_has 0 = .ok (.iload_n 0, 1) := dk_26 (dk_at dksX0_has_0 0 rfl rfl)
theorem dX0_has_1 : decode cX0_has 1 = .ok (.iload_n 1, 1) := dk_27 (dk_at dksX0_has_0 1 rfl rfl)
theorem dX0_has_2 : decode cX0_has 2 = .ok (.ishr, 1) := dk_122 (dk_at dksX0_has_0 2 rfl rfl)
theorem dX0_has_3 : decode cX0_has 3 = .ok (.iconst 1, 1) := dk_4 (dk_at dksX0_has_0 3 rfl rfl)
theorem dX0_has_4 : decode cX0_has 4 = .ok (.iand, 1) := dk_126 (dk_at dksX0_has_0 4 rfl rfl)
theorem dX0_has_5 : decode cX0_has 5 = .ok (.iconst 1, 1) := dk_4 (dk_at dksX0_has_0 5 rfl rfl)
theorem dX0_has_6 : decode cX0_has 6 = .ok (.if_icmp .ne 7, 3) := dk_160 0 7 (dk_at dksX0_has_0 6 rfl rfl)
theorem dX0_has_9 : decode cX0_has 9 = .ok (.iconst 1, 1) := dk_4 (dk_at dksX0_has_0 9 rfl rfl)
theorem dX0_has_10 : decode cX0_has 10 = .ok (.goto 4, 3) := dk_167 0 4 (dk_at dksX0_has_0 10 rfl rfl)
theorem dX0_has_13 : decode cX0_has 13 = .ok (.iconst 0, 1) := dk_3 (dk_at dksX0_has_0 13 rfl rfl)
theorem dX0_has_14 : decode cX0_has 14 = .ok (.ireturn, 1) := dk_172 (dk_at dksX0_has_0 14 rfl rfl)
abbrev cX0_branch : ByteArray := prog_1_method_26_code
def yX0_branch : MethodName := ⟨RX0, "branch", "(IIIII)I"⟩
def dkwX0_branch_3 : List UInt8 := [167, 0, 5, 16, 254, 172]
abbrev dktX0_branch_3 : List UInt8 := dkwX0_branch_3 ++ []
def dkwX0_branch_2 : List UInt8 := [25, 7, 42, 180, 0, 13, 28, 50, 187, 0, 17, 89, 21, 4, 21, 5, 183, 0, 22, 182, 0, 220]
abbrev dktX0_branch_2 : List UInt8 := dkwX0_branch_2 ++ dktX0_branch_3
def dkwX0_branch_1 : List UInt8 := [42, 27, 29, 182, 0, 190, 58, 6, 25, 6, 193, 0, 218, 153, 0, 35, 25, 6, 192, 0, 218, 58, 7]
abbrev dktX0_branch_1 : List UInt8 := dkwX0_branch_1 ++ dktX0_branch_2
def dkwX0_branch_0 : List UInt8 := [27, 184, 0, 145, 153, 0, 18, 28, 184, 0, 112, 153, 0, 11, 21, 5, 184, 0, 100, 154, 0, 5, 2, 172]
abbrev dktX0_branch_0 : List UInt8 := dkwX0_branch_0 ++ dktX0_branch_1
theorem dksX0_branch_0 : cX0_branch.data.toList.drop 0 = dktX0_branch_0 := by decide +kernel
theorem dksX0_branch_1 : cX0_branch.data.toList.drop 24 = dktX0_branch_1 := dk_seg dksX0_branch_0 24 rfl rfl
theorem dksX0_branch_2 : cX0_branch.data.toList.drop 47 = dktX0_branch_2 := dk_seg dksX0_branch_1 23 rfl rfl
theorem dksX0_branch_3 : cX0_branch.data.toList.drop 69 = dktX0_branch_3 := dk_seg dksX0_branch_2 22 rfl rfl
theorem dX0_branch_0 : decode cX0_branch 0 = .ok (.iload_n 1, 1) := dk_27 (dk_at dksX0_branch_0 0 rfl rfl)
theorem dX0_branch_1 : decode cX0_branch 1 = .ok (.invokestatic 145, 3) := dk_184 0 145 (dk_at dksX0_branch_0 1 rfl rfl)
theorem dX0_branch_4 : decode cX0_branch 4 = .ok (.ifCond .eq 18, 3) := dk_153 0 18 (dk_at dksX0_branch_0 4 rfl rfl)
theorem dX0_branch_7 : decode cX0_branch 7 = .ok (.iload_n 2, 1) := dk_28 (dk_at dksX0_branch_0 7 rfl rfl)
theorem dX0_branch_8 : decode cX0_branch 8 = .ok (.invokestatic 112, 3) := dk_184 0 112 (dk_at dksX0_branch_0 8 rfl rfl)
theorem dX0_branch_11 : decode cX0_branch 11 = .ok (.ifCond .eq 11, 3) := dk_153 0 11 (dk_at dksX0_branch_0 11 rfl rfl)
theorem dX0_branch_14 : decode cX0_branch 14 = .ok (.iload 5, 2) := dk_21 5 (dk_at dksX0_branch_0 14 rfl rfl)
theorem dX0_branch_16 : decode cX0_branch 16 = .ok (.invokestatic 100, 3) := dk_184 0 100 (dk_at dksX0_branch_0 16 rfl rfl)
theorem dX0_branch_19 : decode cX0_branch 19 = .ok (.ifCond .ne 5, 3) := dk_154 0 5 (dk_at dksX0_branch_0 19 rfl rfl)
theorem dX0_branch_22 : decode cX0_branch 22 = .ok (.iconst (-1), 1) := dk_2 (dk_at dksX0_branch_0 22 rfl rfl)
theorem dX0_branch_23 : decode cX0_branch 23 = .ok (.ireturn, 1) := dk_172 (dk_at dksX0_branch_0 23 rfl rfl)
theorem dX0_branch_24 : decode cX0_branch 24 = .ok (.aload_n 0, 1) := dk_42 (dk_at dksX0_branch_1 0 rfl rfl)
theorem dX0_branch_25 : decode cX0_branch 25 = .ok (.iload_n 1, 1) := dk_27 (dk_at dksX0_branch_1 1 rfl rfl)
theorem dX0_branch_26 : decode cX0_branch 26 = .ok (.iload_n 3, 1) := dk_29 (dk_at dksX0_branch_1 2 rfl rfl)
theorem dX0_branch_27 : decode cX0_branch 27 = .ok (.invokevirtual 190, 3) := dk_182 0 190 (dk_at dksX0_branch_1 3 rfl rfl)
theorem dX0_branch_30 : decode cX0_branch 30 = .ok (.astore 6, 2) := dk_58 6 (dk_at dksX0_branch_1 6 rfl rfl)
theorem dX0_branch_32 : decode cX0_branch 32 = .ok (.aload 6, 2) := dk_25 6 (dk_at dksX0_branch_1 8 rfl rfl)
theorem dX0_branch_34 : decode cX0_branch 34 = .ok (.instanceof 218, 3) := dk_193 0 218 (dk_at dksX0_branch_1 10 rfl rfl)
theorem dX0_branch_37 : decode cX0_branch 37 = .ok (.ifCond .eq 35, 3) := dk_153 0 35 (dk_at dksX0_branch_1 13 rfl rfl)
theorem dX0_branch_40 : decode cX0_branch 40 = .ok (.aload 6, 2) := dk_25 6 (dk_at dksX0_branch_1 16 rfl rfl)
theorem dX0_branch_42 : decode cX0_branch 42 = .ok (.checkcast 218, 3) := dk_192 0 218 (dk_at dksX0_branch_1 18 rfl rfl)
theorem dX0_branch_45 : decode cX0_branch 45 = .ok (.astore 7, 2) := dk_58 7 (dk_at dksX0_branch_1 21 rfl rfl)
theorem dX0_branch_47 : decode cX0_branch 47 = .ok (.aload 7, 2) := dk_25 7 (dk_at dksX0_branch_2 0 rfl rfl)
theorem dX0_branch_49 : decode cX0_branch 49 = .ok (.aload_n 0, 1) := dk_42 (dk_at dksX0_branch_2 2 rfl rfl)
theorem dX0_branch_50 : decode cX0_branch 50 = .ok (.getfield 13, 3) := dk_180 0 13 (dk_at dksX0_branch_2 3 rfl rfl)
theorem dX0_branch_53 : decode cX0_branch 53 = .ok (.iload_n 2, 1) := dk_28 (dk_at dksX0_branch_2 6 rfl rfl)
theorem dX0_branch_54 : decode cX0_branch 54 = .ok (.aaload, 1) := dk_50 (dk_at dksX0_branch_2 7 rfl rfl)
theorem dX0_branch_55 : decode cX0_branch 55 = .ok (.new 17, 3) := dk_187 0 17 (dk_at dksX0_branch_2 8 rfl rfl)
theorem dX0_branch_58 : decode cX0_branch 58 = .ok (.dup, 1) := dk_89 (dk_at dksX0_branch_2 11 rfl rfl)
theorem dX0_branch_59 : decode cX0_branch 59 = .ok (.iload 4, 2) := dk_21 4 (dk_at dksX0_branch_2 12 rfl rfl)
theorem dX0_branch_61 : decode cX0_branch 61 = .ok (.iload 5, 2) := dk_21 5 (dk_at dksX0_branch_2 14 rfl rfl)
theorem dX0_branch_63 : decode cX0_branch 63 = .ok (.invokespecial 22, 3) := dk_183 0 22 (dk_at dksX0_branch_2 16 rfl rfl)
theorem dX0_branch_66 : decode cX0_branch 66 = .ok (.invokevirtual 220, 3) := dk_182 0 220 (dk_at dksX0_branch_2 19 rfl rfl)
theorem dX0_branch_69 : decode cX0_branch 69 = .ok (.goto 5, 3) := dk_167 0 5 (dk_at dksX0_branch_3 0 rfl rfl)
theorem dX0_branch_72 : decode cX0_branch 72 = .ok (.bipush (-2), 2) := dk_16 254 (dk_at dksX0_branch_3 3 rfl rfl)
theorem dX0_branch_74 : decode cX0_branch 74 = .ok (.ireturn, 1) := dk_172 (dk_at dksX0_branch_3 5 rfl rfl)
abbrev cX0_same : ByteArray := prog_1_method_27_code
def yX0_same : MethodName := ⟨RX0, "same", "(II)I"⟩
def dkwX0_same_4 : List UInt8 := [3, 126, 54, 5, 132, 6, 1, 167, 255, 219, 21, 5, 153, 0, 7, 4, 167, 0, 4, 3, 172]
abbrev dktX0_same_4 : List UInt8 := dkwX0_same_4 ++ []
def dkwX0_same_3 : List UInt8 := [21, 5, 45, 180, 0, 181, 21, 6, 46, 25, 4, 180, 0, 181, 21, 6, 46, 160, 0, 7, 4, 167, 0, 4]
abbrev dktX0_same_3 : List UInt8 := dkwX0_same_3 ++ dktX0_same_4
def dkwX0_same_2 : List UInt8 := [25, 4, 180, 0, 175, 160, 0, 7, 4, 167, 0, 4, 3, 54, 5, 3, 54, 6, 21, 6, 8, 162, 0, 37]
abbrev dktX0_same_2 : List UInt8 := dkwX0_same_2 ++ dktX0_same_3
def dkwX0_same_1 : List UInt8 := [180, 0, 50, 28, 50, 58, 4, 45, 198, 0, 8, 25, 4, 199, 0, 6, 16, 254, 172, 45, 180, 0, 175]
abbrev dktX0_same_1 : List UInt8 := dkwX0_same_1 ++ dktX0_same_2
def dkwX0_same_0 : List UInt8 := [27, 184, 0, 145, 153, 0, 10, 28, 184, 0, 145, 154, 0, 5, 2, 172, 42, 180, 0, 50, 27, 50, 78, 42]
abbrev dktX0_same_0 : List UInt8 := dkwX0_same_0 ++ dktX0_same_1
theorem dksX0_same_0 : cX0_same.data.toList.drop 0 = dktX0_same_0 := by decide +kernel
theorem dksX0_same_1 : cX0_same.data.toList.drop 24 = dktX0_same_1 := dk_seg dksX0_same_0 24 rfl rfl
theorem dksX0_same_2 : cX0_same.data.toList.drop 47 = dktX0_same_2 := dk_seg dksX0_same_1 23 rfl rfl
theorem dksX0_same_3 : cX0_same.data.toList.drop 71 = dktX0_same_3 := dk_seg dksX0_same_2 24 rfl rfl
theorem dksX0_same_4 : cX0_same.data.toList.drop 95 = dktX0_same_4 := dk_seg dksX0_same_3 24 rfl rfl
theorem dX0_same_0 : decode cX0_same 0 = .ok (.iload_n 1, 1) := dk_27 (dk_at dksX0_same_0 0 rfl rfl)
theorem dX0_same_1 : decode cX0_same 1 = .ok (.invokestatic 145, 3) := dk_184 0 145 (dk_at dksX0_same_0 1 rfl rfl)
theorem dX0_same_4 : decode cX0_same 4 = .ok (.ifCond .eq 10, 3) := dk_153 0 10 (dk_at dksX0_same_0 4 rfl rfl)
theorem dX0_same_7 : decode cX0_same 7 = .ok (.iload_n 2, 1) := dk_28 (dk_at dksX0_same_0 7 rfl rfl)
theorem dX0_same_8 : decode cX0_same 8 = .ok (.invokestatic 145, 3) := dk_184 0 145 (dk_at dksX0_same_0 8 rfl rfl)
theorem dX0_same_11 : decode cX0_same 11 = .ok (.ifCond .ne 5, 3) := dk_154 0 5 (dk_at dksX0_same_0 11 rfl rfl)
theorem dX0_same_14 : decode cX0_same 14 = .ok (.iconst (-1), 1) := dk_2 (dk_at dksX0_same_0 14 rfl rfl)
theorem dX0_same_15 : decode cX0_same 15 = .ok (.ireturn, 1) := dk_172 (dk_at dksX0_same_0 15 rfl rfl)
theorem dX0_same_16 : decode cX0_same 16 = .ok (.aload_n 0, 1) := dk_42 (dk_at dksX0_same_0 16 rfl rfl)
theorem dX0_same_17 : decode cX0_same 17 = .ok (.getfield 50, 3) := dk_180 0 50 (dk_at dksX0_same_0 17 rfl rfl)
theorem dX0_same_20 : decode cX0_same 20 = .ok (.iload_n 1, 1) := dk_27 (dk_at dksX0_same_0 20 rfl rfl)
theorem dX0_same_21 : decode cX0_same 21 = .ok (.aaload, 1) := dk_50 (dk_at dksX0_same_0 21 rfl rfl)
theorem dX0_same_22 : decode cX0_same 22 = .ok (.astore_n 3, 1) := dk_78 (dk_at dksX0_same_0 22 rfl rfl)
theorem dX0_same_23 : decode cX0_same 23 = .ok (.aload_n 0, 1) := dk_42 (dk_at dksX0_same_0 23 rfl rfl)
theorem dX0_same_24 : decode cX0_same 24 = .ok (.getfield 50, 3) := dk_180 0 50 (dk_at dksX0_same_1 0 rfl rfl)
theorem dX0_same_27 : decode cX0_same 27 = .ok (.iload_n 2, 1) := dk_28 (dk_at dksX0_same_1 3 rfl rfl)
theorem dX0_same_28 : decode cX0_same 28 = .ok (.aaload, 1) := dk_50 (dk_at dksX0_same_1 4 rfl rfl)
theorem dX0_same_29 : decode cX0_same 29 = .ok (.astore 4, 2) := dk_58 4 (dk_at dksX0_same_1 5 rfl rfl)
theorem dX0_same_31 : decode cX0_same 31 = .ok (.aload_n 3, 1) := dk_45 (dk_at dksX0_same_1 7 rfl rfl)
theorem dX0_same_32 : decode cX0_same 32 = .ok (.ifnull 8, 3) := dk_198 0 8 (dk_at dksX0_same_1 8 rfl rfl)
theorem dX0_same_35 : decode cX0_same 35 = .ok (.aload 4, 2) := dk_25 4 (dk_at dksX0_same_1 11 rfl rfl)
theorem dX0_same_37 : decode cX0_same 37 = .ok (.ifnonnull 6, 3) := dk_199 0 6 (dk_at dksX0_same_1 13 rfl rfl)
theorem dX0_same_40 : decode cX0_same 40 = .ok (.bipush (-2), 2) := dk_16 254 (dk_at dksX0_same_1 16 rfl rfl)
theorem dX0_same_42 : decode cX0_same 42 = .ok (.ireturn, 1) := dk_172 (dk_at dksX0_same_1 18 rfl rfl)
theorem dX0_same_43 : decode cX0_same 43 = .ok (.aload_n 3, 1) := dk_45 (dk_at dksX0_same_1 19 rfl rfl)
theorem dX0_same_44 : decode cX0_same 44 = .ok (.getfield 175, 3) := dk_180 0 175 (dk_at dksX0_same_1 20 rfl rfl)
theorem dX0_same_47 : decode cX0_same 47 = .ok (.aload 4, 2) := dk_25 4 (dk_at dksX0_same_2 0 rfl rfl)
theorem dX0_same_49 : decode cX0_same 49 = .ok (.getfield 175, 3) := dk_180 0 175 (dk_at dksX0_same_2 2 rfl rfl)
theorem dX0_same_52 : decode cX0_same 52 = .ok (.if_icmp .ne 7, 3) := dk_160 0 7 (dk_at dksX0_same_2 5 rfl rfl)
theorem dX0_same_55 : decode cX0_same 55 = .ok (.iconst 1, 1) := dk_4 (dk_at dksX0_same_2 8 rfl rfl)
theorem dX0_same_56 : decode cX0_same 56 = .ok (.goto 4, 3) := dk_167 0 4 (dk_at dksX0_same_2 9 rfl rfl)
theorem dX0_same_59 : decode cX0_same 59 = .ok (.iconst 0, 1) := dk_3 (dk_at dksX0_same_2 12 rfl rfl)
theorem dX0_same_60 : decode cX0_same 60 = .ok (.istore 5, 2) := dk_54 5 (dk_at dksX0_same_2 13 rfl rfl)
theorem dX0_same_62 : decode cX0_same 62 = .ok (.iconst 0, 1) := dk_3 (dk_at dksX0_same_2 15 rfl rfl)
theorem dX0_same_63 : decode cX0_same 63 = .ok (.istore 6, 2) := dk_54 6 (dk_at dksX0_same_2 16 rfl rfl)
theorem dX0_same_65 : decode cX0_same 65 = .ok (.iload 6, 2) := dk_21 6 (dk_at dksX0_same_2 18 rfl rfl)
theorem dX0_same_67 : decode cX0_same 67 = .ok (.iconst 5, 1) := dk_8 (dk_at dksX0_same_2 20 rfl rfl)
theorem dX0_same_68 : decode cX0_same 68 = .ok (.if_icmp .ge 37, 3) := dk_162 0 37 (dk_at dksX0_same_2 21 rfl rfl)
theorem dX0_same_71 : decode cX0_same 71 = .ok (.iload 5, 2) := dk_21 5 (dk_at dksX0_same_3 0 rfl rfl)
theorem dX0_same_73 : decode cX0_same 73 = .ok (.aload_n 3, 1) := dk_45 (dk_at dksX0_same_3 2 rfl rfl)
theorem dX0_same_74 : decode cX0_same 74 = .ok (.getfield 181, 3) := dk_180 0 181 (dk_at dksX0_same_3 3 rfl rfl)
theorem dX0_same_77 : decode cX0_same 77 = .ok (.iload 6, 2) := dk_21 6 (dk_at dksX0_same_3 6 rfl rfl)
theorem dX0_same_79 : decode cX0_same 79 = .ok (.iaload, 1) := dk_46 (dk_at dksX0_same_3 8 rfl rfl)
theorem dX0_same_80 : decode cX0_same 80 = .ok (.aload 4, 2) := dk_25 4 (dk_at dksX0_same_3 9 rfl rfl)
theorem dX0_same_82 : decode cX0_same 82 = .ok (.getfield 181, 3) := dk_180 0 181 (dk_at dksX0_same_3 11 rfl rfl)
theorem dX0_same_85 : decode cX0_same 85 = .ok (.iload 6, 2) := dk_21 6 (dk_at dksX0_same_3 14 rfl rfl)
theorem dX0_same_87 : decode cX0_same 87 = .ok (.iaload, 1) := dk_46 (dk_at dksX0_same_3 16 rfl rfl)
theorem dX0_same_88 : decode cX0_same 88 = .ok (.if_icmp .ne 7, 3) := dk_160 0 7 (dk_at dksX0_same_3 17 rfl rfl)
theorem dX0_same_91 : decode cX0_same 91 = .ok (.iconst 1, 1) := dk_4 (dk_at dksX0_same_3 20 rfl rfl)
theorem dX0_same_92 : decode cX0_same 92 = .ok (.goto 4, 3) := dk_167 0 4 (dk_at dksX0_same_3 21 rfl rfl)
theorem dX0_same_95 : decode cX0_same 95 = .ok (.iconst 0, 1) := dk_3 (dk_at dksX0_same_4 0 rfl rfl)
theorem dX0_same_96 : decode cX0_same 96 = .ok (.iand, 1) := dk_126 (dk_at dksX0_same_4 1 rfl rfl)
theorem dX0_same_97 : decode cX0_same 97 = .ok (.istore 5, 2) := dk_54 5 (dk_at dksX0_same_4 2 rfl rfl)
theorem dX0_same_99 : decode cX0_same 99 = .ok (.iinc 6 1, 3) := dk_132 6 1 (dk_at dksX0_same_4 4 rfl rfl)
theorem dX0_same_102 : decode cX0_same 102 = .ok (.goto (-37), 3) := dk_167 255 219 (dk_at dksX0_same_4 7 rfl rfl)
theorem dX0_same_105 : decode cX0_same 105 = .ok (.iload 5, 2) := dk_21 5 (dk_at dksX0_same_4 10 rfl rfl)
theorem dX0_same_107 : decode cX0_same 107 = .ok (.ifCond .eq 7, 3) := dk_153 0 7 (dk_at dksX0_same_4 12 rfl rfl)
theorem dX0_same_110 : decode cX0_same 110 = .ok (.iconst 1, 1) := dk_4 (dk_at dksX0_same_4 15 rfl rfl)
theorem dX0_same_111 : decode cX0_same 111 = .ok (.goto 4, 3) := dk_167 0 4 (dk_at dksX0_same_4 16 rfl rfl)
theorem dX0_same_114 : decode cX0_same 114 = .ok (.iconst 0, 1) := dk_3 (dk_at dksX0_same_4 19 rfl rfl)
theorem dX0_same_115 : decode cX0_same 115 = .ok (.ireturn, 1) := dk_172 (dk_at dksX0_same_4 20 rfl rfl)
abbrev cX0_copy : ByteArray := prog_1_method_28_code
def yX0_copy : MethodName := ⟨RX0, "copy", "(II)I"⟩
def dkwX0_copy_2 : List UInt8 := [180, 0, 163, 172]
abbrev dktX0_copy_2 : List UInt8 := dkwX0_copy_2 ++ []
def dkwX0_copy_1 : List UInt8 := [199, 0, 6, 16, 254, 172, 42, 180, 0, 50, 27, 42, 180, 0, 50, 28, 50, 83, 42, 180, 0, 50, 27, 50]
abbrev dktX0_copy_1 : List UInt8 := dkwX0_copy_1 ++ dktX0_copy_2
def dkwX0_copy_0 : List UInt8 := [27, 184, 0, 145, 153, 0, 10, 28, 184, 0, 145, 154, 0, 5, 2, 172, 42, 180, 0, 50, 28, 50]
abbrev dktX0_copy_0 : List UInt8 := dkwX0_copy_0 ++ dktX0_copy_1
theorem dksX0_copy_0 : cX0_copy.data.toList.drop 0 = dktX0_copy_0 := by decide +kernel
theorem dksX0_copy_1 : cX0_copy.data.toList.drop 22 = dktX0_copy_1 := dk_seg dksX0_copy_0 22 rfl rfl
theorem dksX0_copy_2 : cX0_copy.data.toList.drop 46 = dktX0_copy_2 := dk_seg dksX0_copy_1 24 rfl rfl
theorem dX0_copy_0 : decode cX0_copy 0 = .ok (.iload_n 1, 1) := dk_27 (dk_at dksX0_copy_0 0 rfl rfl)
theorem dX0_copy_1 : decode cX0_copy 1 = .ok (.invokestatic 145, 3) := dk_184 0 145 (dk_at dksX0_copy_0 1 rfl rfl)
theorem dX0_copy_4 : decode cX0_copy 4 = .ok (.ifCond .eq 10, 3) := dk_153 0 10 (dk_at dksX0_copy_0 4 rfl rfl)
theorem dX0_copy_7 : decode cX0_copy 7 = .ok (.iload_n 2, 1) := dk_28 (dk_at dksX0_copy_0 7 rfl rfl)
theorem dX0_copy_8 : decode cX0_copy 8 = .ok (.invokestatic 145, 3) := dk_184 0 145 (dk_at dksX0_copy_0 8 rfl rfl)
theorem dX0_copy_11 : decode cX0_copy 11 = .ok (.ifCond .ne 5, 3) := dk_154 0 5 (dk_at dksX0_copy_0 11 rfl rfl)
theorem dX0_copy_14 : decode cX0_copy 14 = .ok (.iconst (-1), 1) := dk_2 (dk_at dksX0_copy_0 14 rfl rfl)
theorem dX0_copy_15 : decode cX0_copy 15 = .ok (.ireturn, 1) := dk_172 (dk_at dksX0_copy_0 15 rfl rfl)
theorem dX0_copy_16 : decode cX0_copy 16 = .ok (.aload_n 0, 1) := dk_42 (dk_at dksX0_copy_0 16 rfl rfl)
theorem dX0_copy_17 : decode cX0_copy 17 = .ok (.getfield 50, 3) := dk_180 0 50 (dk_at dksX0_copy_0 17 rfl rfl)
theorem dX0_copy_20 : decode cX0_copy 20 = .ok (.iload_n 2, 1) := dk_28 (dk_at dksX0_copy_0 20 rfl rfl)
theorem dX0_copy_21 : decode cX0_copy 21 = .ok (.aaload, 1) := dk_50 (dk_at dksX0_copy_0 21 rfl rfl)
theorem dX0_copy_22 : decode cX0_copy 22 = .ok (.ifnonnull 6, 3) := dk_199 0 6 (dk_at dksX0_copy_1 0 rfl rfl)
theorem dX0_copy_25 : decode cX0_copy 25 = .ok (.bipush (-2), 2) := dk_16 254 (dk_at dksX0_copy_1 3 rfl rfl)
theorem dX0_copy_27 : decode cX0_copy 27 = .ok (.ireturn, 1) := dk_172 (dk_at dksX0_copy_1 5 rfl rfl)
theorem dX0_copy_28 : decode cX0_copy 28 = .ok (.aload_n 0, 1) := dk_42 (dk_at dksX0_copy_1 6 rfl rfl)
theorem dX0_copy_29 : decode cX0_copy 29 = .ok (.getfield 50, 3) := dk_180 0 50 (dk_at dksX0_copy_1 7 rfl rfl)
theorem dX0_copy_32 : decode cX0_copy 32 = .ok (.iload_n 1, 1) := dk_27 (dk_at dksX0_copy_1 10 rfl rfl)
theorem dX0_copy_33 : decode cX0_copy 33 = .ok (.aload_n 0, 1) := dk_42 (dk_at dksX0_copy_1 11 rfl rfl)
theorem dX0_copy_34 : decode cX0_copy 34 = .ok (.getfield 50, 3) := dk_180 0 50 (dk_at dksX0_copy_1 12 rfl rfl)
theorem dX0_copy_37 : decode cX0_copy 37 = .ok (.iload_n 2, 1) := dk_28 (dk_at dksX0_copy_1 15 rfl rfl)
theorem dX0_copy_38 : decode cX0_copy 38 = .ok (.aaload, 1) := dk_50 (dk_at dksX0_copy_1 16 rfl rfl)
theorem dX0_copy_39 : decode cX0_copy 39 = .ok (.aastore, 1) := dk_83 (dk_at dksX0_copy_1 17 rfl rfl)
theorem dX0_copy_40 : decode cX0_copy 40 = .ok (.aload_n 0, 1) := dk_42 (dk_at dksX0_copy_1 18 rfl rfl)
theorem dX0_copy_41 : decode cX0_copy 41 = .ok (.getfield 50, 3) := dk_180 0 50 (dk_at dksX0_copy_1 19 rfl rfl)
theorem dX0_copy_44 : decode cX0_copy 44 = .ok (.iload_n 1, 1) := dk_27 (dk_at dksX0_copy_1 22 rfl rfl)
theorem dX0_copy_45 : decode cX0_copy 45 = .ok (.aaload, 1) := dk_50 (dk_at dksX0_copy_1 23 rfl rfl)
theorem dX0_copy_46 : decode cX0_copy 46 = .ok (.getfield 163, 3) := dk_180 0 163 (dk_at dksX0_copy_2 0 rfl rfl)
theorem dX0_copy_49 : decode cX0_copy 49 = .ok (.ireturn, 1) := dk_172 (dk_at dksX0_copy_2 3 rfl rfl)
abbrev cX0_decimal : ByteArray := prog_1_method_29_code
def yX0_decimal : MethodName := ⟨RX0, "decimal", "(III)I"⟩
def dkwX0_decimal_1 : List UInt8 := [89, 187, 0, 17, 89, 28, 29, 183, 0, 22, 183, 0, 226, 83, 4, 172]
abbrev dktX0_decimal_1 : List UInt8 := dkwX0_decimal_1 ++ []
def dkwX0_decimal_0 : List UInt8 := [27, 184, 0, 178, 153, 0, 10, 29, 184, 0, 100, 154, 0, 5, 2, 172, 42, 180, 0, 56, 27, 187, 0, 224]
abbrev dktX0_decimal_0 : List UInt8 := dkwX0_decimal_0 ++ dktX0_decimal_1
theorem dksX0_decimal_0 : cX0_decimal.data.toList.drop 0 = dktX0_decimal_0 := by decide +kernel
theorem dksX0_decimal_1 : cX0_decimal.data.toList.drop 24 = dktX0_decimal_1 := dk_seg dksX0_decimal_0 24 rfl rfl
theorem dX0_decimal_0 : decode cX0_decimal 0 = .ok (.iload_n 1, 1) := dk_27 (dk_at dksX0_decimal_0 0 rfl rfl)
theorem dX0_decimal_1 : decode cX0_decimal 1 = .ok (.invokestatic 178, 3) := dk_184 0 178 (dk_at dksX0_decimal_0 1 rfl rfl)
theorem dX0_decimal_4 : decode cX0_decimal 4 = .ok (.ifCond .eq 10, 3) := dk_153 0 10 (dk_at dksX0_decimal_0 4 rfl rfl)
theorem dX0_decimal_7 : decode cX0_decimal 7 = .ok (.iload_n 3, 1) := dk_29 (dk_at dksX0_decimal_0 7 rfl rfl)
theorem dX0_decimal_8 : decode cX0_decimal 8 = .ok (.invokestatic 100, 3) := dk_184 0 100 (dk_at dksX0_decimal_0 8 rfl rfl)
theorem dX0_decimal_11 : decode cX0_decimal 11 = .ok (.ifCond .ne 5, 3) := dk_154 0 5 (dk_at dksX0_decimal_0 11 rfl rfl)
theorem dX0_decimal_14 : decode cX0_decimal 14 = .ok (.iconst (-1), 1) := dk_2 (dk_at dksX0_decimal_0 14 rfl rfl)
theorem dX0_decimal_15 : decode cX0_decimal 15 = .ok (.ireturn, 1) := dk_172 (dk_at dksX0_decimal_0 15 rfl rfl)
theorem dX0_decimal_16 : decode cX0_decimal 16 = .ok (.aload_n 0, 1) := dk_42 (dk_at dksX0_decimal_0 16 rfl rfl)
theorem dX0_decimal_17 : decode cX0_decimal 17 = .ok (.getfield 56, 3) := dk_180 0 56 (dk_at dksX0_decimal_0 17 rfl rfl)
theorem dX0_decimal_20 : decode cX0_decimal 20 = .ok (.iload_n 1, 1) := dk_27 (dk_at dksX0_decimal_0 20 rfl rfl)
theorem dX0_decimal_21 : decode cX0_decimal 21 = .ok (.new 224, 3) := dk_187 0 224 (dk_at dksX0_decimal_0 21 rfl rfl)
theorem dX0_decimal_24 : decode cX0_decimal 24 = .ok (.dup, 1) := dk_89 (dk_at dksX0_decimal_1 0 rfl rfl)
theorem dX0_decimal_25 : decode cX0_decimal 25 = .ok (.new 17, 3) := dk_187 0 17 (dk_at dksX0_decimal_1 1 rfl rfl)
theorem dX0_decimal_28 : decode cX0_decimal 28 = .ok (.dup, 1) := dk_89 (dk_at dksX0_decimal_1 4 rfl rfl)
theorem dX0_decimal_29 : decode cX0_decimal 29 = .ok (.iload_n 2, 1) := dk_28 (dk_at dksX0_decimal_1 5 rfl rfl)
theorem dX0_decimal_30 : decode cX0_decimal 30 = .ok (.iload_n 3, 1) := dk_29 (dk_at dksX0_decimal_1 6 rfl rfl)
theorem dX0_decimal_31 : decode cX0_decimal 31 = .ok (.invokespecial 22, 3) := dk_183 0 22 (dk_at dksX0_decimal_1 7 rfl rfl)
theorem dX0_decimal_34 : decode cX0_decimal 34 = .ok (.invokespecial 226, 3) := dk_183 0 226 (dk_at dksX0_decimal_1 10 rfl rfl)
theorem dX0_decimal_37 : decode cX0_decimal 37 = .ok (.aastore, 1) := dk_83 (dk_at dksX0_decimal_1 13 rfl rfl)
theorem dX0_decimal_38 : decode cX0_decimal 38 = .ok (.iconst 1, 1) := dk_4 (dk_at dksX0_decimal_1 14 rfl rfl)
theorem dX0_decimal_39 : decode cX0_decimal 39 = .ok (.ireturn, 1) := dk_172 (dk_at dksX0_decimal_1 15 rfl rfl)
abbrev cX0_gender : ByteArray := prog_1_method_30_code
def yX0_gender : MethodName := ⟨RX0, "gender", "(II)I"⟩
def dkwX0_gender_1 : List UInt8 := [180, 0, 56, 27, 187, 0, 231, 89, 28, 183, 0, 233, 83, 4, 172]
abbrev dktX0_gender_1 : List UInt8 := dkwX0_gender_1 ++ []
def dkwX0_gender_0 : List UInt8 := [27, 184, 0, 178, 153, 0, 15, 28, 133, 9, 20, 0, 229, 184, 0, 96, 154, 0, 5, 2, 172, 42]
abbrev dktX0_gender_0 : List UInt8 := dkwX0_gender_0 ++ dktX0_gender_1
theorem dksX0_gender_0 : cX0_gender.data.toList.drop 0 = dktX0_gender_0 := by decide +kernel
theorem dksX0_gender_1 : cX0_gender.data.toList.drop 22 = dktX0_gender_1 := dk_seg dksX0_gender_0 22 rfl rfl
theorem dX0_gender_0 : decode cX0_gender 0 = .ok (.iload_n 1, 1) := dk_27 (dk_at dksX0_gender_0 0 rfl rfl)
theorem dX0_gender_1 : decode cX0_gender 1 = .ok (.invokestatic 178, 3) := dk_184 0 178 (dk_at dksX0_gender_0 1 rfl rfl)
theorem dX0_gender_4 : decode cX0_gender 4 = .ok (.ifCond .eq 15, 3) := dk_153 0 15 (dk_at dksX0_gender_0 4 rfl rfl)
theorem dX0_gender_7 : decode cX0_gender 7 = .ok (.iload_n 2, 1) := dk_28 (dk_at dksX0_gender_0 7 rfl rfl)
theorem dX0_gender_8 : decode cX0_gender 8 = .ok (.i2l, 1) := dk_133 (dk_at dksX0_gender_0 8 rfl rfl)
theorem dX0_gender_9 : decode cX0_gender 9 = .ok (.lconst 0, 1) := dk_9 (dk_at dksX0_gender_0 9 rfl rfl)
theorem dX0_gender_10 : decode cX0_gender 10 = .ok (.ldc2_w 229, 3) := dk_20 0 229 (dk_at dksX0_gender_0 10 rfl rfl)
theorem dX0_gender_13 : decode cX0_gender 13 = .ok (.invokestatic 96, 3) := dk_184 0 96 (dk_at dksX0_gender_0 13 rfl rfl)
theorem dX0_gender_16 : decode cX0_gender 16 = .ok (.ifCond .ne 5, 3) := dk_154 0 5 (dk_at dksX0_gender_0 16 rfl rfl)
theorem dX0_gender_19 : decode cX0_gender 19 = .ok (.iconst (-1), 1) := dk_2 (dk_at dksX0_gender_0 19 rfl rfl)
theorem dX0_gender_20 : decode cX0_gender 20 = .ok (.ireturn, 1) := dk_172 (dk_at dksX0_gender_0 20 rfl rfl)
theorem dX0_gender_21 : decode cX0_gender 21 = .ok (.aload_n 0, 1) := dk_42 (dk_at dksX0_gender_0 21 rfl rfl)
theorem dX0_gender_22 : decode cX0_gender 22 = .ok (.getfield 56, 3) := dk_180 0 56 (dk_at dksX0_gender_1 0 rfl rfl)
theorem dX0_gender_25 : decode cX0_gender 25 = .ok (.iload_n 1, 1) := dk_27 (dk_at dksX0_gender_1 3 rfl rfl)
theorem dX0_gender_26 : decode cX0_gender 26 = .ok (.new 231, 3) := dk_187 0 231 (dk_at dksX0_gender_1 4 rfl rfl)
theorem dX0_gender_29 : decode cX0_gender 29 = .ok (.dup, 1) := dk_89 (dk_at dksX0_gender_1 7 rfl rfl)
theorem dX0_gender_30 : decode cX0_gender 30 = .ok (.iload_n 2, 1) := dk_28 (dk_at dksX0_gender_1 8 rfl rfl)
theorem dX0_gender_31 : decode cX0_gender 31 = .ok (.invokespecial 233, 3) := dk_183 0 233 (dk_at dksX0_gender_1 9 rfl rfl)
theorem dX0_gender_34 : decode cX0_gender 34 = .ok (.aastore, 1) := dk_83 (dk_at dksX0_gender_1 12 rfl rfl)
theorem dX0_gender_35 : decode cX0_gender 35 = .ok (.iconst 1, 1) := dk_4 (dk_at dksX0_gender_1 13 rfl rfl)
theorem dX0_gender_36 : decode cX0_gender 36 = .ok (.ireturn, 1) := dk_172 (dk_at dksX0_gender_1 14 rfl rfl)
abbrev cX0_list : ByteArray := prog_1_method_32_code
def yX0_list : MethodName := ⟨RX0, "list", "(IIIII)I"⟩
def dkwX0_list_2 : List UInt8 := [184, 0, 242, 83, 28, 172]
abbrev dktX0_list_2 : List UInt8 := dkwX0_list_2 ++ []
def dkwX0_list_1 : List UInt8 := [180, 0, 56, 27, 28, 6, 188, 10, 89, 3, 29, 79, 89, 4, 21, 4, 79, 89, 5, 21, 5, 79]
abbrev dktX0_list_1 : List UInt8 := dkwX0_list_1 ++ dktX0_list_2
def dkwX0_list_0 : List UInt8 := [27, 184, 0, 178, 153, 0, 15, 28, 133, 9, 20, 0, 137, 184, 0, 96, 154, 0, 5, 2, 172, 42]
abbrev dktX0_list_0 : List UInt8 := dkwX0_list_0 ++ dktX0_list_1
theorem dksX0_list_0 : cX0_list.data.toList.drop 0 = dktX0_list_0 := by decide +kernel
theorem dksX0_list_1 : cX0_list.data.toList.drop 22 = dktX0_list_1 := dk_seg dksX0_list_0 22 rfl rfl
theorem dksX0_list_2 : cX0_list.data.toList.drop 44 = dktX0_list_2 := dk_seg dksX0_list_1 22 rfl rfl
theorem dX0_list_0 : decode cX0_list 0 = .ok (.iload_n 1, 1) := dk_27 (dk_at dksX0_list_0 0 rfl rfl)
theorem dX0_list_1 : decode cX0_list 1 = .ok (.invokestatic 178, 3) := dk_184 0 178 (dk_at dksX0_list_0 1 rfl rfl)
theorem dX0_list_4 : decode cX0_list 4 = .ok (.ifCond .eq 15, 3) := dk_153 0 15 (dk_at dksX0_list_0 4 rfl rfl)
theorem dX0_list_7 : decode cX0_list 7 = .ok (.iload_n 2, 1) := dk_28 (dk_at dksX0_list_0 7 rfl rfl)
theorem dX0_list_8 : decode cX0_list 8 = .ok (.i2l, 1) := dk_133 (dk_at dksX0_list_0 8 rfl rfl)
theorem dX0_list_9 : decode cX0_list 9 = .ok (.lconst 0, 1) := dk_9 (dk_at dksX0_list_0 9 rfl rfl)
theorem dX0_list_10 : decode cX0_list 10 = .ok (.ldc2_w 137, 3) := dk_20 0 137 (dk_at dksX0_list_0 10 rfl rfl)
theorem dX0_list_13 : decode cX0_list 13 = .ok (.invokestatic 96, 3) := dk_184 0 96 (dk_at dksX0_list_0 13 rfl rfl)
theorem dX0_list_16 : decode cX0_list 16 = .ok (.ifCond .ne 5, 3) := dk_154 0 5 (dk_at dksX0_list_0 16 rfl rfl)
theorem dX0_list_19 : decode cX0_list 19 = .ok (.iconst (-1), 1) := dk_2 (dk_at dksX0_list_0 19 rfl rfl)
theorem dX0_list_20 : decode cX0_list 20 = .ok (.ireturn, 1) := dk_172 (dk_at dksX0_list_0 20 rfl rfl)
theorem dX0_list_21 : decode cX0_list 21 = .ok (.aload_n 0, 1) := dk_42 (dk_at dksX0_list_0 21 rfl rfl)
theorem dX0_list_22 : decode cX0_list 22 = .ok (.getfield 56, 3) := dk_180 0 56 (dk_at dksX0_list_1 0 rfl rfl)
theorem dX0_list_25 : decode cX0_list 25 = .ok (.iload_n 1, 1) := dk_27 (dk_at dksX0_list_1 3 rfl rfl)
theorem dX0_list_26 : decode cX0_list 26 = .ok (.iload_n 2, 1) := dk_28 (dk_at dksX0_list_1 4 rfl rfl)
theorem dX0_list_27 : decode cX0_list 27 = .ok (.iconst 3, 1) := dk_6 (dk_at dksX0_list_1 5 rfl rfl)
theorem dX0_list_28 : decode cX0_list 28 = .ok (.newarray .int, 2) := dk_188_10 (dk_at dksX0_list_1 6 rfl rfl)
theorem dX0_list_30 : decode cX0_list 30 = .ok (.dup, 1) := dk_89 (dk_at dksX0_list_1 8 rfl rfl)
theorem dX0_list_31 : decode cX0_list 31 = .ok (.iconst 0, 1) := dk_3 (dk_at dksX0_list_1 9 rfl rfl)
theorem dX0_list_32 : decode cX0_list 32 = .ok (.iload_n 3, 1) := dk_29 (dk_at dksX0_list_1 10 rfl rfl)
theorem dX0_list_33 : decode cX0_list 33 = .ok (.iastore, 1) := dk_79 (dk_at dksX0_list_1 11 rfl rfl)
theorem dX0_list_34 : decode cX0_list 34 = .ok (.dup, 1) := dk_89 (dk_at dksX0_list_1 12 rfl rfl)
theorem dX0_list_35 : decode cX0_list 35 = .ok (.iconst 1, 1) := dk_4 (dk_at dksX0_list_1 13 rfl rfl)
theorem dX0_list_36 : decode cX0_list 36 = .ok (.iload 4, 2) := dk_21 4 (dk_at dksX0_list_1 14 rfl rfl)
theorem dX0_list_38 : decode cX0_list 38 = .ok (.iastore, 1) := dk_79 (dk_at dksX0_list_1 16 rfl rfl)
theorem dX0_list_39 : decode cX0_list 39 = .ok (.dup, 1) := dk_89 (dk_at dksX0_list_1 17 rfl rfl)
theorem dX0_list_40 : decode cX0_list 40 = .ok (.iconst 2, 1) := dk_5 (dk_at dksX0_list_1 18 rfl rfl)
theorem dX0_list_41 : decode cX0_list 41 = .ok (.iload 5, 2) := dk_21 5 (dk_at dksX0_list_1 19 rfl rfl)
theorem dX0_list_43 : decode cX0_list 43 = .ok (.iastore, 1) := dk_79 (dk_at dksX0_list_1 21 rfl rfl)
theorem dX0_list_44 : decode cX0_list 44 = .ok (.invokestatic 242, 3) := dk_184 0 242 (dk_at dksX0_list_2 0 rfl rfl)
theorem dX0_list_47 : decode cX0_list 47 = .ok (.aastore, 1) := dk_83 (dk_at dksX0_list_2 3 rfl rfl)
theorem dX0_list_48 : decode cX0_list 48 = .ok (.iload_n 2, 1) := dk_28 (dk_at dksX0_list_2 4 rfl rfl)
theorem dX0_list_49 : decode cX0_list 49 = .ok (.ireturn, 1) := dk_172 (dk_at dksX0_list_2 5 rfl rfl)
abbrev cX0_listed : ByteArray := prog_1_method_31_code
def yX0_listed : MethodName := ⟨RX0, "listed", "(I[I)LPluralBranches$Listed;"⟩
def dkwX0_listed_1 : List UInt8 := [182, 0, 239, 77, 132, 3, 1, 167, 255, 240, 44, 176]
abbrev dktX0_listed_1 : List UInt8 := dkwX0_listed_1 ++ []
def dkwX0_listed_0 : List UInt8 := [187, 0, 234, 89, 3, 188, 10, 183, 0, 236, 77, 3, 62, 29, 26, 162, 0, 17, 44, 43, 29, 46]
abbrev dktX0_listed_0 : List UInt8 := dkwX0_listed_0 ++ dktX0_listed_1
theorem dksX0_listed_0 : cX0_listed.data.toList.drop 0 = dktX0_listed_0 := by decide +kernel
theorem dksX0_listed_1 : cX0_listed.data.toList.drop 22 = dktX0_listed_1 := dk_seg dksX0_listed_0 22 rfl rfl
theorem dX0_listed_0 : decode cX0_listed 0 = .ok (.new 234, 3) := dk_187 0 234 (dk_at dksX0_listed_0 0 rfl rfl)
theorem dX0_listed_3 : decode cX0_listed 3 = .ok (.dup, 1) := dk_89 (dk_at dksX0_listed_0 3 rfl rfl)
theorem dX0_listed_4 : decode cX0_listed 4 = .ok (.iconst 0, 1) := dk_3 (dk_at dksX0_listed_0 4 rfl rfl)
theorem dX0_listed_5 : decode cX0_listed 5 = .ok (.newarray .int, 2) := dk_188_10 (dk_at dksX0_listed_0 5 rfl rfl)
theorem dX0_listed_7 : decode cX0_listed 7 = .ok (.invokespecial 236, 3) := dk_183 0 236 (dk_at dksX0_listed_0 7 rfl rfl)
theorem dX0_listed_10 : decode cX0_listed 10 = .ok (.astore_n 2, 1) := dk_77 (dk_at dksX0_listed_0 10 rfl rfl)
theorem dX0_listed_11 : decode cX0_listed 11 = .ok (.iconst 0, 1) := dk_3 (dk_at dksX0_listed_0 11 rfl rfl)
theorem dX0_listed_12 : decode cX0_listed 12 = .ok (.istore_n 3, 1) := dk_62 (dk_at dksX0_listed_0 12 rfl rfl)
theorem dX0_listed_13 : decode cX0_listed 13 = .ok (.iload_n 3, 1) := dk_29 (dk_at dksX0_listed_0 13 rfl rfl)
theorem dX0_listed_14 : decode cX0_listed 14 = .ok (.iload_n 0, 1) := dk_26 (dk_at dksX0_listed_0 14 rfl rfl)
theorem dX0_listed_15 : decode cX0_listed 15 = .ok (.if_icmp .ge 17, 3) := dk_162 0 17 (dk_at dksX0_listed_0 15 rfl rfl)
theorem dX0_listed_18 : decode cX0_listed 18 = .ok (.aload_n 2, 1) := dk_44 (dk_at dksX0_listed_0 18 rfl rfl)
theorem dX0_listed_19 : decode cX0_listed 19 = .ok (.aload_n 1, 1) := dk_43 (dk_at dksX0_listed_0 19 rfl rfl)
theorem dX0_listed_20 : decode cX0_listed 20 = .ok (.iload_n 3, 1) := dk_29 (dk_at dksX0_listed_0 20 rfl rfl)
theorem dX0_listed_21 : decode cX0_listed 21 = .ok (.iaload, 1) := dk_46 (dk_at dksX0_listed_0 21 rfl rfl)
theorem dX0_listed_22 : decode cX0_listed 22 = .ok (.invokevirtual 239, 3) := dk_182 0 239 (dk_at dksX0_listed_1 0 rfl rfl)
theorem dX0_listed_25 : decode cX0_listed 25 = .ok (.astore_n 2, 1) := dk_77 (dk_at dksX0_listed_1 3 rfl rfl)
theorem dX0_listed_26 : decode cX0_listed 26 = .ok (.iinc 3 1, 3) := dk_132 3 1 (dk_at dksX0_listed_1 4 rfl rfl)
theorem dX0_listed_29 : decode cX0_listed 29 = .ok (.goto (-16), 3) := dk_167 255 240 (dk_at dksX0_listed_1 7 rfl rfl)
theorem dX0_listed_32 : decode cX0_listed 32 = .ok (.aload_n 2, 1) := dk_44 (dk_at dksX0_listed_1 10 rfl rfl)
theorem dX0_listed_33 : decode cX0_listed 33 = .ok (.areturn, 1) := dk_176 (dk_at dksX0_listed_1 11 rfl rfl)
abbrev cX0_more : ByteArray := prog_1_method_33_code
def yX0_more : MethodName := ⟨RX0, "more", "(II)I"⟩
def dkwX0_more_3 : List UInt8 := [172]
abbrev dktX0_more_3 : List UInt8 := dkwX0_more_3 ++ []
def dkwX0_more_2 : List UInt8 := [160, 0, 6, 16, 253, 172, 42, 180, 0, 56, 27, 45, 28, 182, 0, 239, 83, 45, 180, 0, 246, 190, 4, 96]
abbrev dktX0_more_2 : List UInt8 := dkwX0_more_2 ++ dktX0_more_3
def dkwX0_more_1 : List UInt8 := [153, 0, 12, 25, 4, 192, 0, 234, 78, 167, 0, 6, 16, 254, 172, 45, 180, 0, 246, 190, 16, 6]
abbrev dktX0_more_1 : List UInt8 := dkwX0_more_1 ++ dktX0_more_2
def dkwX0_more_0 : List UInt8 := [27, 184, 0, 178, 154, 0, 5, 2, 172, 42, 180, 0, 56, 27, 50, 58, 4, 25, 4, 193, 0, 234]
abbrev dktX0_more_0 : List UInt8 := dkwX0_more_0 ++ dktX0_more_1
theorem dksX0_more_0 : cX0_more.data.toList.drop 0 = dktX0_more_0 := by decide +kernel
theorem dksX0_more_1 : cX0_more.data.toList.drop 22 = dktX0_more_1 := dk_seg dksX0_more_0 22 rfl rfl
theorem dksX0_more_2 : cX0_more.data.toList.drop 44 = dktX0_more_2 := dk_seg dksX0_more_1 22 rfl rfl
theorem dksX0_more_3 : cX0_more.data.toList.drop 68 = dktX0_more_3 := dk_seg dksX0_more_2 24 rfl rfl
theorem dX0_more_0 : decode cX0_more 0 = .ok (.iload_n 1, 1) := dk_27 (dk_at dksX0_more_0 0 rfl rfl)
theorem dX0_more_1 : decode cX0_more 1 = .ok (.invokestatic 178, 3) := dk_184 0 178 (dk_at dksX0_more_0 1 rfl rfl)
theorem dX0_more_4 : decode cX0_more 4 = .ok (.ifCond .ne 5, 3) := dk_154 0 5 (dk_at dksX0_more_0 4 rfl rfl)
theorem dX0_more_7 : decode cX0_more 7 = .ok (.iconst (-1), 1) := dk_2 (dk_at dksX0_more_0 7 rfl rfl)
theorem dX0_more_8 : decode cX0_more 8 = .ok (.ireturn, 1) := dk_172 (dk_at dksX0_more_0 8 rfl rfl)
theorem dX0_more_9 : decode cX0_more 9 = .ok (.aload_n 0, 1) := dk_42 (dk_at dksX0_more_0 9 rfl rfl)
theorem dX0_more_10 : decode cX0_more 10 = .ok (.getfield 56, 3) := dk_180 0 56 (dk_at dksX0_more_0 10 rfl rfl)
theorem dX0_more_13 : decode cX0_more 13 = .ok (.iload_n 1, 1) := dk_27 (dk_at dksX0_more_0 13 rfl rfl)
theorem dX0_more_14 : decode cX0_more 14 = .ok (.aaload, 1) := dk_50 (dk_at dksX0_more_0 14 rfl rfl)
theorem dX0_more_15 : decode cX0_more 15 = .ok (.astore 4, 2) := dk_58 4 (dk_at dksX0_more_0 15 rfl rfl)
theorem dX0_more_17 : decode cX0_more 17 = .ok (.aload 4, 2) := dk_25 4 (dk_at dksX0_more_0 17 rfl rfl)
theorem dX0_more_19 : decode cX0_more 19 = .ok (.instanceof 234, 3) := dk_193 0 234 (dk_at dksX0_more_0 19 rfl rfl)
theorem dX0_more_22 : decode cX0_more 22 = .ok (.ifCond .eq 12, 3) := dk_153 0 12 (dk_at dksX0_more_1 0 rfl rfl)
theorem dX0_more_25 : decode cX0_more 25 = .ok (.aload 4, 2) := dk_25 4 (dk_at dksX0_more_1 3 rfl rfl)
theorem dX0_more_27 : decode cX0_more 27 = .ok (.checkcast 234, 3) := dk_192 0 234 (dk_at dksX0_more_1 5 rfl rfl)
theorem dX0_more_30 : decode cX0_more 30 = .ok (.astore_n 3, 1) := dk_78 (dk_at dksX0_more_1 8 rfl rfl)
theorem dX0_more_31 : decode cX0_more 31 = .ok (.goto 6, 3) := dk_167 0 6 (dk_at dksX0_more_1 9 rfl rfl)
theorem dX0_more_34 : decode cX0_more 34 = .ok (.bipush (-2), 2) := dk_16 254 (dk_at dksX0_more_1 12 rfl rfl)
theorem dX0_more_36 : decode cX0_more 36 = .ok (.ireturn, 1) := dk_172 (dk_at dksX0_more_1 14 rfl rfl)
theorem dX0_more_37 : decode cX0_more 37 = .ok (.aload_n 3, 1) := dk_45 (dk_at dksX0_more_1 15 rfl rfl)
theorem dX0_more_38 : decode cX0_more 38 = .ok (.getfield 246, 3) := dk_180 0 246 (dk_at dksX0_more_1 16 rfl rfl)
theorem dX0_more_41 : decode cX0_more 41 = .ok (.arraylength, 1) := dk_190 (dk_at dksX0_more_1 19 rfl rfl)
theorem dX0_more_42 : decode cX0_more 42 = .ok (.bipush 6, 2) := dk_16 6 (dk_at dksX0_more_1 20 rfl rfl)
theorem dX0_more_44 : decode cX0_more 44 = .ok (.if_icmp .ne 6, 3) := dk_160 0 6 (dk_at dksX0_more_2 0 rfl rfl)
theorem dX0_more_47 : decode cX0_more 47 = .ok (.bipush (-3), 2) := dk_16 253 (dk_at dksX0_more_2 3 rfl rfl)
theorem dX0_more_49 : decode cX0_more 49 = .ok (.ireturn, 1) := dk_172 (dk_at dksX0_more_2 5 rfl rfl)
theorem dX0_more_50 : decode cX0_more 50 = .ok (.aload_n 0, 1) := dk_42 (dk_at dksX0_more_2 6 rfl rfl)
theorem dX0_more_51 : decode cX0_more 51 = .ok (.getfield 56, 3) := dk_180 0 56 (dk_at dksX0_more_2 7 rfl rfl)
theorem dX0_more_54 : decode cX0_more 54 = .ok (.iload_n 1, 1) := dk_27 (dk_at dksX0_more_2 10 rfl rfl)
theorem dX0_more_55 : decode cX0_more 55 = .ok (.aload_n 3, 1) := dk_45 (dk_at dksX0_more_2 11 rfl rfl)
theorem dX0_more_56 : decode cX0_more 56 = .ok (.iload_n 2, 1) := dk_28 (dk_at dksX0_more_2 12 rfl rfl)
theorem dX0_more_57 : decode cX0_more 57 = .ok (.invokevirtual 239, 3) := dk_182 0 239 (dk_at dksX0_more_2 13 rfl rfl)
theorem dX0_more_60 : decode cX0_more 60 = .ok (.aastore, 1) := dk_83 (dk_at dksX0_more_2 16 rfl rfl)
theorem dX0_more_61 : decode cX0_more 61 = .ok (.aload_n 3, 1) := dk_45 (dk_at dksX0_more_2 17 rfl rfl)
theorem dX0_more_62 : decode cX0_more 62 = .ok (.getfield 246, 3) := dk_180 0 246 (dk_at dksX0_more_2 18 rfl rfl)
theorem dX0_more_65 : decode cX0_more 65 = .ok (.arraylength, 1) := dk_190 (dk_at dksX0_more_2 21 rfl rfl)
theorem dX0_more_66 : decode cX0_more 66 = .ok (.iconst 1, 1) := dk_4 (dk_at dksX0_more_2 22 rfl rfl)
theorem dX0_more_67 : decode cX0_more 67 = .ok (.iadd, 1) := dk_96 (dk_at dksX0_more_2 23 rfl rfl)
theorem dX0_more_68 : decode cX0_more 68 = .ok (.ireturn, 1) := dk_172 (dk_at dksX0_more_3 0 rfl rfl)
abbrev cX0_forget : ByteArray := prog_1_method_35_code
def yX0_forget : MethodName := ⟨RX0, "forget", "(I)I"⟩
def dkwX0_forget_0 : List UInt8 := [27, 184, 0, 178, 154, 0, 5, 2, 172, 42, 27, 182, 0, 252, 61, 42, 180, 0, 56, 27, 1, 83, 28, 172]
abbrev dktX0_forget_0 : List UInt8 := dkwX0_forget_0 ++ []
theorem dksX0_forget_0 : cX0_forget.data.toList.drop 0 = dktX0_forget_0 := by decide +kernel
theorem dX0_forget_0 : decode cX0_forget 0 = .ok (.iload_n 1, 1) := dk_27 (dk_at dksX0_forget_0 0 rfl rfl)
theorem dX0_forget_1 : decode cX0_forget 1 = .ok (.invokestatic 178, 3) := dk_184 0 178 (dk_at dksX0_forget_0 1 rfl rfl)
theorem dX0_forget_4 : decode cX0_forget 4 = .ok (.ifCond .ne 5, 3) := dk_154 0 5 (dk_at dksX0_forget_0 4 rfl rfl)
theorem dX0_forget_7 : decode cX0_forget 7 = .ok (.iconst (-1), 1) := dk_2 (dk_at dksX0_forget_0 7 rfl rfl)
theorem dX0_forget_8 : decode cX0_forget 8 = .ok (.ireturn, 1) := dk_172 (dk_at dksX0_forget_0 8 rfl rfl)
theorem dX0_forget_9 : decode cX0_forget 9 = .ok (.aload_n 0, 1) := dk_42 (dk_at dksX0_forget_0 9 rfl rfl)
theorem dX0_forget_10 : decode cX0_forget 10 = .ok (.iload_n 1, 1) := dk_27 (dk_at dksX0_forget_0 10 rfl rfl)
theorem dX0_forget_11 : decode cX0_forget 11 = .ok (.invokevirtual 252, 3) := dk_182 0 252 (dk_at dksX0_forget_0 11 rfl rfl)
theorem dX0_forget_14 : decode cX0_forget 14 = .ok (.istore_n 2, 1) := dk_61 (dk_at dksX0_forget_0 14 rfl rfl)
theorem dX0_forget_15 : decode cX0_forget 15 = .ok (.aload_n 0, 1) := dk_42 (dk_at dksX0_forget_0 15 rfl rfl)
theorem dX0_forget_16 : decode cX0_forget 16 = .ok (.getfield 56, 3) := dk_180 0 56 (dk_at dksX0_forget_0 16 rfl rfl)
theorem dX0_forget_19 : decode cX0_forget 19 = .ok (.iload_n 1, 1) := dk_27 (dk_at dksX0_forget_0 19 rfl rfl)
theorem dX0_forget_20 : decode cX0_forget 20 = .ok (.aconst_null, 1) := dk_1 (dk_at dksX0_forget_0 20 rfl rfl)
theorem dX0_forget_21 : decode cX0_forget 21 = .ok (.aastore, 1) := dk_83 (dk_at dksX0_forget_0 21 rfl rfl)
theorem dX0_forget_22 : decode cX0_forget 22 = .ok (.iload_n 2, 1) := dk_28 (dk_at dksX0_forget_0 22 rfl rfl)
theorem dX0_forget_23 : decode cX0_forget 23 = .ok (.ireturn, 1) := dk_172 (dk_at dksX0_forget_0 23 rfl rfl)
abbrev cX0_typeOf : ByteArray := prog_1_method_34_code
def yX0_typeOf : MethodName := ⟨RX0, "typeOf", "(I)I"⟩
def dkwX0_typeOf_1 : List UInt8 := [172]
abbrev dktX0_typeOf_1 : List UInt8 := dkwX0_typeOf_1 ++ []
def dkwX0_typeOf_0 : List UInt8 := [42, 180, 0, 56, 27, 50, 199, 0, 7, 3, 167, 0, 14, 42, 180, 0, 56, 27, 50, 185, 0, 249, 1, 0]
abbrev dktX0_typeOf_0 : List UInt8 := dkwX0_typeOf_0 ++ dktX0_typeOf_1
theorem dksX0_typeOf_0 : cX0_typeOf.data.toList.drop 0 = dktX0_typeOf_0 := by decide +kernel
theorem dksX0_typeOf_1 : cX0_typeOf.data.toList.drop 24 = dktX0_typeOf_1 := dk_seg dksX0_typeOf_0 24 rfl rfl
theorem dX0_typeOf_0 : decode cX0_typeOf 0 = .ok (.aload_n 0, 1) := dk_42 (dk_at dksX0_typeOf_0 0 rfl rfl)
theorem dX0_typeOf_1 : decode cX0_typeOf 1 = .ok (.getfield 56, 3) := dk_180 0 56 (dk_at dksX0_typeOf_0 1 rfl rfl)
theorem dX0_typeOf_4 : decode cX0_typeOf 4 = .ok (.iload_n 1, 1) := dk_27 (dk_at dksX0_typeOf_0 4 rfl rfl)
theorem dX0_typeOf_5 : decode cX0_typeOf 5 = .ok (.aaload, 1) := dk_50 (dk_at dksX0_typeOf_0 5 rfl rfl)
theorem dX0_typeOf_6 : decode cX0_typeOf 6 = .ok (.ifnonnull 7, 3) := dk_199 0 7 (dk_at dksX0_typeOf_0 6 rfl rfl)
theorem dX0_typeOf_9 : decode cX0_typeOf 9 = .ok (.iconst 0, 1) := dk_3 (dk_at dksX0_typeOf_0 9 rfl rfl)
theorem dX0_typeOf_10 : decode cX0_typeOf 10 = .ok (.goto 14, 3) := dk_167 0 14 (dk_at dksX0_typeOf_0 10 rfl rfl)
theorem dX0_typeOf_13 : decode cX0_typeOf 13 = .ok (.aload_n 0, 1) := dk_42 (dk_at dksX0_typeOf_0 13 rfl rfl)
theorem dX0_typeOf_14 : decode cX0_typeOf 14 = .ok (.getfield 56, 3) := dk_180 0 56 (dk_at dksX0_typeOf_0 14 rfl rfl)
theorem dX0_typeOf_17 : decode cX0_typeOf 17 = .ok (.iload_n 1, 1) := dk_27 (dk_at dksX0_typeOf_0 17 rfl rfl)
theorem dX0_typeOf_18 : decode cX0_typeOf 18 = .ok (.aaload, 1) := dk_50 (dk_at dksX0_typeOf_0 18 rfl rfl)
theorem dX0_typeOf_19 : decode cX0_typeOf 19 = .ok (.invokeinterface 249 1, 5) := by decide +kernel
theorem dX0_typeOf_24 : decode cX0_typeOf 24 = .ok (.ireturn, 1) := dk_172 (dk_at dksX0_typeOf_1 0 rfl rfl)
abbrev cX0_held : ByteArray := prog_1_method_36_code
def yX0_held : MethodName := ⟨RX0, "held", "(II)J"⟩
def dkwX0_held_2 : List UInt8 := [167, 0, 15, 42, 180, 0, 56, 27, 50, 28, 185, 1, 2, 2, 0, 173]
abbrev dktX0_held_2 : List UInt8 := dkwX0_held_2 ++ []
def dkwX0_held_1 : List UInt8 := [154, 0, 10, 42, 27, 182, 0, 252, 133, 173, 42, 180, 0, 56, 27, 50, 199, 0, 9, 20, 0, 110]
abbrev dktX0_held_1 : List UInt8 := dkwX0_held_1 ++ dktX0_held_2
def dkwX0_held_0 : List UInt8 := [27, 184, 0, 178, 153, 0, 15, 28, 133, 9, 20, 1, 0, 184, 0, 96, 154, 0, 7, 20, 0, 110, 173, 28]
abbrev dktX0_held_0 : List UInt8 := dkwX0_held_0 ++ dktX0_held_1
theorem dksX0_held_0 : cX0_held.data.toList.drop 0 = dktX0_held_0 := by decide +kernel
theorem dksX0_held_1 : cX0_held.data.toList.drop 24 = dktX0_held_1 := dk_seg dksX0_held_0 24 rfl rfl
theorem dksX0_held_2 : cX0_held.data.toList.drop 46 = dktX0_held_2 := dk_seg dksX0_held_1 22 rfl rfl
theorem dX0_held_0 : decode cX0_held 0 = .ok (.iload_n 1, 1) := dk_27 (dk_at dksX0_held_0 0 rfl rfl)
theorem dX0_held_1 : decode cX0_held 1 = .ok (.invokestatic 178, 3) := dk_184 0 178 (dk_at dksX0_held_0 1 rfl rfl)
theorem dX0_held_4 : decode cX0_held 4 = .ok (.ifCond .eq 15, 3) := dk_153 0 15 (dk_at dksX0_held_0 4 rfl rfl)
theorem dX0_held_7 : decode cX0_held 7 = .ok (.iload_n 2, 1) := dk_28 (dk_at dksX0_held_0 7 rfl rfl)
theorem dX0_held_8 : decode cX0_held 8 = .ok (.i2l, 1) := dk_133 (dk_at dksX0_held_0 8 rfl rfl)
theorem dX0_held_9 : decode cX0_held 9 = .ok (.lconst 0, 1) := dk_9 (dk_at dksX0_held_0 9 rfl rfl)
theorem dX0_held_10 : decode cX0_held 10 = .ok (.ldc2_w 256, 3) := dk_20 1 0 (dk_at dksX0_held_0 10 rfl rfl)
theorem dX0_held_13 : decode cX0_held 13 = .ok (.invokestatic 96, 3) := dk_184 0 96 (dk_at dksX0_held_0 13 rfl rfl)
theorem dX0_held_16 : decode cX0_held 16 = .ok (.ifCond .ne 7, 3) := dk_154 0 7 (dk_at dksX0_held_0 16 rfl rfl)
theorem dX0_held_19 : decode cX0_held 19 = .ok (.ldc2_w 110, 3) := dk_20 0 110 (dk_at dksX0_held_0 19 rfl rfl)
theorem dX0_held_22 : decode cX0_held 22 = .ok (.lreturn, 1) := dk_173 (dk_at dksX0_held_0 22 rfl rfl)
theorem dX0_held_23 : decode cX0_held 23 = .ok (.iload_n 2, 1) := dk_28 (dk_at dksX0_held_0 23 rfl rfl)
theorem dX0_held_24 : decode cX0_held 24 = .ok (.ifCond .ne 10, 3) := dk_154 0 10 (dk_at dksX0_held_1 0 rfl rfl)
theorem dX0_held_27 : decode cX0_held 27 = .ok (.aload_n 0, 1) := dk_42 (dk_at dksX0_held_1 3 rfl rfl)
theorem dX0_held_28 : decode cX0_held 28 = .ok (.iload_n 1, 1) := dk_27 (dk_at dksX0_held_1 4 rfl rfl)
theorem dX0_held_29 : decode cX0_held 29 = .ok (.invokevirtual 252, 3) := dk_182 0 252 (dk_at dksX0_held_1 5 rfl rfl)
theorem dX0_held_32 : decode cX0_held 32 = .ok (.i2l, 1) := dk_133 (dk_at dksX0_held_1 8 rfl rfl)
theorem dX0_held_33 : decode cX0_held 33 = .ok (.lreturn, 1) := dk_173 (dk_at dksX0_held_1 9 rfl rfl)
theorem dX0_held_34 : decode cX0_held 34 = .ok (.aload_n 0, 1) := dk_42 (dk_at dksX0_held_1 10 rfl rfl)
theorem dX0_held_35 : decode cX0_held 35 = .ok (.getfield 56, 3) := dk_180 0 56 (dk_at dksX0_held_1 11 rfl rfl)
theorem dX0_held_38 : decode cX0_held 38 = .ok (.iload_n 1, 1) := dk_27 (dk_at dksX0_held_1 14 rfl rfl)
theorem dX0_held_39 : decode cX0_held 39 = .ok (.aaload, 1) := dk_50 (dk_at dksX0_held_1 15 rfl rfl)
theorem dX0_held_40 : decode cX0_held 40 = .ok (.ifnonnull 9, 3) := dk_199 0 9 (dk_at dksX0_held_1 16 rfl rfl)
theorem dX0_held_43 : decode cX0_held 43 = .ok (.ldc2_w 110, 3) := dk_20 0 110 (dk_at dksX0_held_1 19 rfl rfl)
theorem dX0_held_46 : decode cX0_held 46 = .ok (.goto 15, 3) := dk_167 0 15 (dk_at dksX0_held_2 0 rfl rfl)
theorem dX0_held_49 : decode cX0_held 49 = .ok (.aload_n 0, 1) := dk_42 (dk_at dksX0_held_2 3 rfl rfl)
theorem dX0_held_50 : decode cX0_held 50 = .ok (.getfield 56, 3) := dk_180 0 56 (dk_at dksX0_held_2 4 rfl rfl)
theorem dX0_held_53 : decode cX0_held 53 = .ok (.iload_n 1, 1) := dk_27 (dk_at dksX0_held_2 7 rfl rfl)
theorem dX0_held_54 : decode cX0_held 54 = .ok (.aaload, 1) := dk_50 (dk_at dksX0_held_2 8 rfl rfl)
theorem dX0_held_55 : decode cX0_held 55 = .ok (.iload_n 2, 1) := dk_28 (dk_at dksX0_held_2 9 rfl rfl)
theorem dX0_held_56 : decode cX0_held 56 = .ok (.invokeinterface 258 2, 5) := by decide +kernel
theorem dX0_held_61 : decode cX0_held 61 = .ok (.lreturn, 1) := dk_173 (dk_at dksX0_held_2 15 rfl rfl)
abbrev cX0_add : ByteArray := prog_1_method_38_code
def yX0_add : MethodName := ⟨RX0, "add", "(III)J"⟩
def dkwX0_add_5 : List UInt8 := [183, 0, 22, 183, 0, 226, 83, 21, 5, 133, 173, 58, 5, 20, 0, 110, 173]
abbrev dktX0_add_5 : List UInt8 := dkwX0_add_5 ++ []
def dkwX0_add_4 : List UInt8 := [184, 1, 35, 54, 5, 42, 180, 0, 56, 29, 187, 0, 224, 89, 187, 0, 17, 89, 21, 5, 21, 4]
abbrev dktX0_add_4 : List UInt8 := dkwX0_add_4 ++ dktX0_add_5
def dkwX0_add_3 : List UInt8 := [180, 1, 12, 184, 1, 28, 54, 4, 42, 27, 21, 4, 182, 1, 32, 42, 28, 21, 4, 182, 1, 32]
abbrev dktX0_add_3 : List UInt8 := dkwX0_add_3 ++ dktX0_add_4
def dkwX0_add_2 : List UInt8 := [27, 50, 27, 185, 1, 5, 2, 0, 180, 1, 12, 42, 180, 0, 56, 28, 50, 28, 185, 1, 5, 2, 0]
abbrev dktX0_add_2 : List UInt8 := dkwX0_add_2 ++ dktX0_add_3
def dkwX0_add_1 : List UInt8 := [182, 0, 252, 4, 160, 0, 12, 42, 28, 182, 0, 252, 4, 159, 0, 7, 20, 0, 110, 173, 42, 180, 0, 56]
abbrev dktX0_add_1 : List UInt8 := dkwX0_add_1 ++ dktX0_add_2
def dkwX0_add_0 : List UInt8 := [27, 184, 0, 178, 153, 0, 35, 28, 184, 0, 178, 153, 0, 28, 29, 184, 0, 178, 153, 0, 21, 42, 27]
abbrev dktX0_add_0 : List UInt8 := dkwX0_add_0 ++ dktX0_add_1
theorem dksX0_add_0 : cX0_add.data.toList.drop 0 = dktX0_add_0 := by decide +kernel
theorem dksX0_add_1 : cX0_add.data.toList.drop 23 = dktX0_add_1 := dk_seg dksX0_add_0 23 rfl rfl
theorem dksX0_add_2 : cX0_add.data.toList.drop 47 = dktX0_add_2 := dk_seg dksX0_add_1 24 rfl rfl
theorem dksX0_add_3 : cX0_add.data.toList.drop 70 = dktX0_add_3 := dk_seg dksX0_add_2 23 rfl rfl
theorem dksX0_add_4 : cX0_add.data.toList.drop 92 = dktX0_add_4 := dk_seg dksX0_add_3 22 rfl rfl
theorem dksX0_add_5 : cX0_add.data.toList.drop 114 = dktX0_add_5 := dk_seg dksX0_add_4 22 rfl rfl
theorem dX0_add_0 : decode cX0_add 0 = .ok (.iload_n 1, 1) := dk_27 (dk_at dksX0_add_0 0 rfl rfl)
theorem dX0_add_1 : decode cX0_add 1 = .ok (.invokestatic 178, 3) := dk_184 0 178 (dk_at dksX0_add_0 1 rfl rfl)
theorem dX0_add_4 : decode cX0_add 4 = .ok (.ifCond .eq 35, 3) := dk_153 0 35 (dk_at dksX0_add_0 4 rfl rfl)
theorem dX0_add_7 : decode cX0_add 7 = .ok (.iload_n 2, 1) := dk_28 (dk_at dksX0_add_0 7 rfl rfl)
theorem dX0_add_8 : decode cX0_add 8 = .ok (.invokestatic 178, 3) := dk_184 0 178 (dk_at dksX0_add_0 8 rfl rfl)
theorem dX0_add_11 : decode cX0_add 11 = .ok (.ifCond .eq 28, 3) := dk_153 0 28 (dk_at dksX0_add_0 11 rfl rfl)
theorem dX0_add_14 : decode cX0_add 14 = .ok (.iload_n 3, 1) := dk_29 (dk_at dksX0_add_0 14 rfl rfl)
theorem dX0_add_15 : decode cX0_add 15 = .ok (.invokestatic 178, 3) := dk_184 0 178 (dk_at dksX0_add_0 15 rfl rfl)
theorem dX0_add_18 : decode cX0_add 18 = .ok (.ifCond .eq 21, 3) := dk_153 0 21 (dk_at dksX0_add_0 18 rfl rfl)
theorem dX0_add_21 : decode cX0_add 21 = .ok (.aload_n 0, 1) := dk_42 (dk_at dksX0_add_0 21 rfl rfl)
theorem dX0_add_22 : decode cX0_add 22 = .ok (.iload_n 1, 1) := dk_27 (dk_at dksX0_add_0 22 rfl rfl)
theorem dX0_add_23 : decode cX0_add 23 = .ok (.invokevirtual 252, 3) := dk_182 0 252 (dk_at dksX0_add_1 0 rfl rfl)
theorem dX0_add_26 : decode cX0_add 26 = .ok (.iconst 1, 1) := dk_4 (dk_at dksX0_add_1 3 rfl rfl)
theorem dX0_add_27 : decode cX0_add 27 = .ok (.if_icmp .ne 12, 3) := dk_160 0 12 (dk_at dksX0_add_1 4 rfl rfl)
theorem dX0_add_30 : decode cX0_add 30 = .ok (.aload_n 0, 1) := dk_42 (dk_at dksX0_add_1 7 rfl rfl)
theorem dX0_add_31 : decode cX0_add 31 = .ok (.iload_n 2, 1) := dk_28 (dk_at dksX0_add_1 8 rfl rfl)
theorem dX0_add_32 : decode cX0_add 32 = .ok (.invokevirtual 252, 3) := dk_182 0 252 (dk_at dksX0_add_1 9 rfl rfl)
theorem dX0_add_35 : decode cX0_add 35 = .ok (.iconst 1, 1) := dk_4 (dk_at dksX0_add_1 12 rfl rfl)
theorem dX0_add_36 : decode cX0_add 36 = .ok (.if_icmp .eq 7, 3) := dk_159 0 7 (dk_at dksX0_add_1 13 rfl rfl)
theorem dX0_add_39 : decode cX0_add 39 = .ok (.ldc2_w 110, 3) := dk_20 0 110 (dk_at dksX0_add_1 16 rfl rfl)
theorem dX0_add_42 : decode cX0_add 42 = .ok (.lreturn, 1) := dk_173 (dk_at dksX0_add_1 19 rfl rfl)
theorem dX0_add_43 : decode cX0_add 43 = .ok (.aload_n 0, 1) := dk_42 (dk_at dksX0_add_1 20 rfl rfl)
theorem dX0_add_44 : decode cX0_add 44 = .ok (.getfield 56, 3) := dk_180 0 56 (dk_at dksX0_add_1 21 rfl rfl)
theorem dX0_add_47 : decode cX0_add 47 = .ok (.iload_n 1, 1) := dk_27 (dk_at dksX0_add_2 0 rfl rfl)
theorem dX0_add_48 : decode cX0_add 48 = .ok (.aaload, 1) := dk_50 (dk_at dksX0_add_2 1 rfl rfl)
theorem dX0_add_49 : decode cX0_add 49 = .ok (.iload_n 1, 1) := dk_27 (dk_at dksX0_add_2 2 rfl rfl)
theorem dX0_add_50 : decode cX0_add 50 = .ok (.invokeinterface 261 2, 5) := by decide +kernel
theorem dX0_add_55 : decode cX0_add 55 = .ok (.getfield 268, 3) := dk_180 1 12 (dk_at dksX0_add_2 8 rfl rfl)
theorem dX0_add_58 : decode cX0_add 58 = .ok (.aload_n 0, 1) := dk_42 (dk_at dksX0_add_2 11 rfl rfl)
theorem dX0_add_59 : decode cX0_add 59 = .ok (.getfield 56, 3) := dk_180 0 56 (dk_at dksX0_add_2 12 rfl rfl)
theorem dX0_add_62 : decode cX0_add 62 = .ok (.iload_n 2, 1) := dk_28 (dk_at dksX0_add_2 15 rfl rfl)
theorem dX0_add_63 : decode cX0_add 63 = .ok (.aaload, 1) := dk_50 (dk_at dksX0_add_2 16 rfl rfl)
theorem dX0_add_64 : decode cX0_add 64 = .ok (.iload_n 2, 1) := dk_28 (dk_at dksX0_add_2 17 rfl rfl)
theorem dX0_add_65 : decode cX0_add 65 = .ok (.invokeinterface 261 2, 5) := by decide +kernel
theorem dX0_add_70 : decode cX0_add 70 = .ok (.getfield 268, 3) := dk_180 1 12 (dk_at dksX0_add_3 0 rfl rfl)
theorem dX0_add_73 : decode cX0_add 73 = .ok (.invokestatic 284, 3) := dk_184 1 28 (dk_at dksX0_add_3 3 rfl rfl)
theorem dX0_add_76 : decode cX0_add 76 = .ok (.istore 4, 2) := dk_54 4 (dk_at dksX0_add_3 6 rfl rfl)
theorem dX0_add_78 : decode cX0_add 78 = .ok (.aload_n 0, 1) := dk_42 (dk_at dksX0_add_3 8 rfl rfl)
theorem dX0_add_79 : decode cX0_add 79 = .ok (.iload_n 1, 1) := dk_27 (dk_at dksX0_add_3 9 rfl rfl)
theorem dX0_add_80 : decode cX0_add 80 = .ok (.iload 4, 2) := dk_21 4 (dk_at dksX0_add_3 10 rfl rfl)
theorem dX0_add_82 : decode cX0_add 82 = .ok (.invokevirtual 288, 3) := dk_182 1 32 (dk_at dksX0_add_3 12 rfl rfl)
theorem dX0_add_85 : decode cX0_add 85 = .ok (.aload_n 0, 1) := dk_42 (dk_at dksX0_add_3 15 rfl rfl)
theorem dX0_add_86 : decode cX0_add 86 = .ok (.iload_n 2, 1) := dk_28 (dk_at dksX0_add_3 16 rfl rfl)
theorem dX0_add_87 : decode cX0_add 87 = .ok (.iload 4, 2) := dk_21 4 (dk_at dksX0_add_3 17 rfl rfl)
theorem dX0_add_89 : decode cX0_add 89 = .ok (.invokevirtual 288, 3) := dk_182 1 32 (dk_at dksX0_add_3 19 rfl rfl)
theorem dX0_add_92 : decode cX0_add 92 = .ok (.invokestatic 291, 3) := dk_184 1 35 (dk_at dksX0_add_4 0 rfl rfl)
theorem dX0_add_95 : decode cX0_add 95 = .ok (.istore 5, 2) := dk_54 5 (dk_at dksX0_add_4 3 rfl rfl)
theorem dX0_add_97 : decode cX0_add 97 = .ok (.aload_n 0, 1) := dk_42 (dk_at dksX0_add_4 5 rfl rfl)
theorem dX0_add_98 : decode cX0_add 98 = .ok (.getfield 56, 3) := dk_180 0 56 (dk_at dksX0_add_4 6 rfl rfl)
theorem dX0_add_101 : decode cX0_add 101 = .ok (.iload_n 3, 1) := dk_29 (dk_at dksX0_add_4 9 rfl rfl)
theorem dX0_add_102 : decode cX0_add 102 = .ok (.new 224, 3) := dk_187 0 224 (dk_at dksX0_add_4 10 rfl rfl)
theorem dX0_add_105 : decode cX0_add 105 = .ok (.dup, 1) := dk_89 (dk_at dksX0_add_4 13 rfl rfl)
theorem dX0_add_106 : decode cX0_add 106 = .ok (.new 17, 3) := dk_187 0 17 (dk_at dksX0_add_4 14 rfl rfl)
theorem dX0_add_109 : decode cX0_add 109 = .ok (.dup, 1) := dk_89 (dk_at dksX0_add_4 17 rfl rfl)
theorem dX0_add_110 : decode cX0_add 110 = .ok (.iload 5, 2) := dk_21 5 (dk_at dksX0_add_4 18 rfl rfl)
theorem dX0_add_112 : decode cX0_add 112 = .ok (.iload 4, 2) := dk_21 4 (dk_at dksX0_add_4 20 rfl rfl)
theorem dX0_add_114 : decode cX0_add 114 = .ok (.invokespecial 22, 3) := dk_183 0 22 (dk_at dksX0_add_5 0 rfl rfl)
theorem dX0_add_117 : decode cX0_add 117 = .ok (.invokespecial 226, 3) := dk_183 0 226 (dk_at dksX0_add_5 3 rfl rfl)
theorem dX0_add_120 : decode cX0_add 120 = .ok (.aastore, 1) := dk_83 (dk_at dksX0_add_5 6 rfl rfl)
theorem dX0_add_121 : decode cX0_add 121 = .ok (.iload 5, 2) := dk_21 5 (dk_at dksX0_add_5 7 rfl rfl)
theorem dX0_add_123 : decode cX0_add 123 = .ok (.i2l, 1) := dk_133 (dk_at dksX0_add_5 9 rfl rfl)
theorem dX0_add_124 : decode cX0_add 124 = .ok (.lreturn, 1) := dk_173 (dk_at dksX0_add_5 10 rfl rfl)
theorem dX0_add_125 : decode cX0_add 125 = .ok (.astore 5, 2) := dk_58 5 (dk_at dksX0_add_5 11 rfl rfl)
theorem dX0_add_127 : decode cX0_add 127 = .ok (.ldc2_w 110, 3) := dk_20 0 110 (dk_at dksX0_add_5 13 rfl rfl)
theorem dX0_add_130 : decode cX0_add 130 = .ok (.lreturn, 1) := dk_173 (dk_at dksX0_add_5 16 rfl rfl)
abbrev cX0_at : ByteArray := prog_1_method_37_code
def yX0_at : MethodName := ⟨RX0, "at", "(II)I"⟩
def dkwX0_at_1 : List UInt8 := [184, 1, 15, 184, 1, 18, 184, 1, 24, 172]
abbrev dktX0_at_1 : List UInt8 := dkwX0_at_1 ++ []
def dkwX0_at_0 : List UInt8 := [42, 180, 0, 56, 27, 50, 27, 185, 1, 5, 2, 0, 78, 45, 180, 1, 9, 133, 28, 45, 180, 1, 12, 100]
abbrev dktX0_at_0 : List UInt8 := dkwX0_at_0 ++ dktX0_at_1
theorem dksX0_at_0 : cX0_at.data.toList.drop 0 = dktX0_at_0 := by decide +kernel
theorem dksX0_at_1 : cX0_at.data.toList.drop 24 = dktX0_at_1 := dk_seg dksX0_at_0 24 rfl rfl
theorem dX0_at_0 : decode cX0_at 0 = .ok (.aload_n 0, 1) := dk_42 (dk_at dksX0_at_0 0 rfl rfl)
theorem dX0_at_1 : decode cX0_at 1 = .ok (.getfield 56, 3) := dk_180 0 56 (dk_at dksX0_at_0 1 rfl rfl)
theorem dX0_at_4 : decode cX0_at 4 = .ok (.iload_n 1, 1) := dk_27 (dk_at dksX0_at_0 4 rfl rfl)
theorem dX0_at_5 : decode cX0_at 5 = .ok (.aaload, 1) := dk_50 (dk_at dksX0_at_0 5 rfl rfl)
theorem dX0_at_6 : decode cX0_at 6 = .ok (.iload_n 1, 1) := dk_27 (dk_at dksX0_at_0 6 rfl rfl)
theorem dX0_at_7 : decode cX0_at 7 = .ok (.invokeinterface 261 2, 5) := by decide +kernel
theorem dX0_at_12 : decode cX0_at 12 = .ok (.astore_n 3, 1) := dk_78 (dk_at dksX0_at_0 12 rfl rfl)
theorem dX0_at_13 : decode cX0_at 13 = .ok (.aload_n 3, 1) := dk_45 (dk_at dksX0_at_0 13 rfl rfl)
theorem dX0_at_14 : decode cX0_at 14 = .ok (.getfield 265, 3) := dk_180 1 9 (dk_at dksX0_at_0 14 rfl rfl)
theorem dX0_at_17 : decode cX0_at 17 = .ok (.i2l, 1) := dk_133 (dk_at dksX0_at_0 17 rfl rfl)
theorem dX0_at_18 : decode cX0_at 18 = .ok (.iload_n 2, 1) := dk_28 (dk_at dksX0_at_0 18 rfl rfl)
theorem dX0_at_19 : decode cX0_at 19 = .ok (.aload_n 3, 1) := dk_45 (dk_at dksX0_at_0 19 rfl rfl)
theorem dX0_at_20 : decode cX0_at 20 = .ok (.getfield 268, 3) := dk_180 1 12 (dk_at dksX0_at_0 20 rfl rfl)
theorem dX0_at_23 : decode cX0_at 23 = .ok (.isub, 1) := dk_100 (dk_at dksX0_at_0 23 rfl rfl)
theorem dX0_at_24 : decode cX0_at 24 = .ok (.invokestatic 271, 3) := dk_184 1 15 (dk_at dksX0_at_1 0 rfl rfl)
theorem dX0_at_27 : decode cX0_at 27 = .ok (.invokestatic 274, 3) := dk_184 1 18 (dk_at dksX0_at_1 3 rfl rfl)
theorem dX0_at_30 : decode cX0_at 30 = .ok (.invokestatic 280, 3) := dk_184 1 24 (dk_at dksX0_at_1 6 rfl rfl)
theorem dX0_at_33 : decode cX0_at 33 = .ok (.ireturn, 1) := dk_172 (dk_at dksX0_at_1 9 rfl rfl)
abbrev cX0_grow : ByteArray := prog_1_method_39_code
def yX0_grow : MethodName := ⟨RX0, "grow", "(II)J"⟩
def dkwX0_grow_3 : List UInt8 := [173, 58, 4, 20, 0, 110, 173]
abbrev dktX0_grow_3 : List UInt8 := dkwX0_grow_3 ++ []
def dkwX0_grow_2 : List UInt8 := [187, 0, 224, 89, 187, 0, 17, 89, 21, 4, 45, 180, 1, 12, 183, 0, 22, 183, 0, 226, 83, 21, 4, 133]
abbrev dktX0_grow_2 : List UInt8 := dkwX0_grow_2 ++ dktX0_grow_3
def dkwX0_grow_1 : List UInt8 := [27, 50, 27, 185, 1, 5, 2, 0, 78, 45, 180, 1, 9, 28, 184, 1, 40, 54, 4, 42, 180, 0, 56, 27]
abbrev dktX0_grow_1 : List UInt8 := dkwX0_grow_1 ++ dktX0_grow_2
def dkwX0_grow_0 : List UInt8 := [27, 184, 0, 178, 153, 0, 12, 42, 27, 182, 0, 252, 4, 159, 0, 7, 20, 0, 110, 173, 42, 180, 0, 56]
abbrev dktX0_grow_0 : List UInt8 := dkwX0_grow_0 ++ dktX0_grow_1
theorem dksX0_grow_0 : cX0_grow.data.toList.drop 0 = dktX0_grow_0 := by decide +kernel
theorem dksX0_grow_1 : cX0_grow.data.toList.drop 24 = dktX0_grow_1 := dk_seg dksX0_grow_0 24 rfl rfl
theorem dksX0_grow_2 : cX0_grow.data.toList.drop 48 = dktX0_grow_2 := dk_seg dksX0_grow_1 24 rfl rfl
theorem dksX0_grow_3 : cX0_grow.data.toList.drop 72 = dktX0_grow_3 := dk_seg dksX0_grow_2 24 rfl rfl
theorem dX0_grow_0 : decode cX0_grow 0 = .ok (.iload_n 1, 1) := dk_27 (dk_at dksX0_grow_0 0 rfl rfl)
theorem dX0_grow_1 : decode cX0_grow 1 = .ok (.invokestatic 178, 3) := dk_184 0 178 (dk_at dksX0_grow_0 1 rfl rfl)
theorem dX0_grow_4 : decode cX0_grow 4 = .ok (.ifCond .eq 12, 3) := dk_153 0 12 (dk_at dksX0_grow_0 4 rfl rfl)
theorem dX0_grow_7 : decode cX0_grow 7 = .ok (.aload_n 0, 1) := dk_42 (dk_at dksX0_grow_0 7 rfl rfl)
theorem dX0_grow_8 : decode cX0_grow 8 = .ok (.iload_n 1, 1) := dk_27 (dk_at dksX0_grow_0 8 rfl rfl)
theorem dX0_grow_9 : decode cX0_grow 9 = .ok (.invokevirtual 252, 3) := dk_182 0 252 (dk_at dksX0_grow_0 9 rfl rfl)
theorem dX0_grow_12 : decode cX0_grow 12 = .ok (.iconst 1, 1) := dk_4 (dk_at dksX0_grow_0 12 rfl rfl)
theorem dX0_grow_13 : decode cX0_grow 13 = .ok (.if_icmp .eq 7, 3) := dk_159 0 7 (dk_at dksX0_grow_0 13 rfl rfl)
theorem dX0_grow_16 : decode cX0_grow 16 = .ok (.ldc2_w 110, 3) := dk_20 0 110 (dk_at dksX0_grow_0 16 rfl rfl)
theorem dX0_grow_19 : decode cX0_grow 19 = .ok (.lreturn, 1) := dk_173 (dk_at dksX0_grow_0 19 rfl rfl)
theorem dX0_grow_20 : decode cX0_grow 20 = .ok (.aload_n 0, 1) := dk_42 (dk_at dksX0_grow_0 20 rfl rfl)
theorem dX0_grow_21 : decode cX0_grow 21 = .ok (.getfield 56, 3) := dk_180 0 56 (dk_at dksX0_grow_0 21 rfl rfl)
theorem dX0_grow_24 : decode cX0_grow 24 = .ok (.iload_n 1, 1) := dk_27 (dk_at dksX0_grow_1 0 rfl rfl)
theorem dX0_grow_25 : decode cX0_grow 25 = .ok (.aaload, 1) := dk_50 (dk_at dksX0_grow_1 1 rfl rfl)
theorem dX0_grow_26 : decode cX0_grow 26 = .ok (.iload_n 1, 1) := dk_27 (dk_at dksX0_grow_1 2 rfl rfl)
theorem dX0_grow_27 : decode cX0_grow 27 = .ok (.invokeinterface 261 2, 5) := by decide +kernel
theorem dX0_grow_32 : decode cX0_grow 32 = .ok (.astore_n 3, 1) := dk_78 (dk_at dksX0_grow_1 8 rfl rfl)
theorem dX0_grow_33 : decode cX0_grow 33 = .ok (.aload_n 3, 1) := dk_45 (dk_at dksX0_grow_1 9 rfl rfl)
theorem dX0_grow_34 : decode cX0_grow 34 = .ok (.getfield 265, 3) := dk_180 1 9 (dk_at dksX0_grow_1 10 rfl rfl)
theorem dX0_grow_37 : decode cX0_grow 37 = .ok (.iload_n 2, 1) := dk_28 (dk_at dksX0_grow_1 13 rfl rfl)
theorem dX0_grow_38 : decode cX0_grow 38 = .ok (.invokestatic 296, 3) := dk_184 1 40 (dk_at dksX0_grow_1 14 rfl rfl)
theorem dX0_grow_41 : decode cX0_grow 41 = .ok (.istore 4, 2) := dk_54 4 (dk_at dksX0_grow_1 17 rfl rfl)
theorem dX0_grow_43 : decode cX0_grow 43 = .ok (.aload_n 0, 1) := dk_42 (dk_at dksX0_grow_1 19 rfl rfl)
theorem dX0_grow_44 : decode cX0_grow 44 = .ok (.getfield 56, 3) := dk_180 0 56 (dk_at dksX0_grow_1 20 rfl rfl)
theorem dX0_grow_47 : decode cX0_grow 47 = .ok (.iload_n 1, 1) := dk_27 (dk_at dksX0_grow_1 23 rfl rfl)
theorem dX0_grow_48 : decode cX0_grow 48 = .ok (.new 224, 3) := dk_187 0 224 (dk_at dksX0_grow_2 0 rfl rfl)
theorem dX0_grow_51 : decode cX0_grow 51 = .ok (.dup, 1) := dk_89 (dk_at dksX0_grow_2 3 rfl rfl)
theorem dX0_grow_52 : decode cX0_grow 52 = .ok (.new 17, 3) := dk_187 0 17 (dk_at dksX0_grow_2 4 rfl rfl)
theorem dX0_grow_55 : decode cX0_grow 55 = .ok (.dup, 1) := dk_89 (dk_at dksX0_grow_2 7 rfl rfl)
theorem dX0_grow_56 : decode cX0_grow 56 = .ok (.iload 4, 2) := dk_21 4 (dk_at dksX0_grow_2 8 rfl rfl)
theorem dX0_grow_58 : decode cX0_grow 58 = .ok (.aload_n 3, 1) := dk_45 (dk_at dksX0_grow_2 10 rfl rfl)
theorem dX0_grow_59 : decode cX0_grow 59 = .ok (.getfield 268, 3) := dk_180 1 12 (dk_at dksX0_grow_2 11 rfl rfl)
theorem dX0_grow_62 : decode cX0_grow 62 = .ok (.invokespecial 22, 3) := dk_183 0 22 (dk_at dksX0_grow_2 14 rfl rfl)
theorem dX0_grow_65 : decode cX0_grow 65 = .ok (.invokespecial 226, 3) := dk_183 0 226 (dk_at dksX0_grow_2 17 rfl rfl)
theorem dX0_grow_68 : decode cX0_grow 68 = .ok (.aastore, 1) := dk_83 (dk_at dksX0_grow_2 20 rfl rfl)
theorem dX0_grow_69 : decode cX0_grow 69 = .ok (.iload 4, 2) := dk_21 4 (dk_at dksX0_grow_2 21 rfl rfl)
theorem dX0_grow_71 : decode cX0_grow 71 = .ok (.i2l, 1) := dk_133 (dk_at dksX0_grow_2 23 rfl rfl)
theorem dX0_grow_72 : decode cX0_grow 72 = .ok (.lreturn, 1) := dk_173 (dk_at dksX0_grow_3 0 rfl rfl)
theorem dX0_grow_73 : decode cX0_grow 73 = .ok (.astore 4, 2) := dk_58 4 (dk_at dksX0_grow_3 1 rfl rfl)
theorem dX0_grow_75 : decode cX0_grow 75 = .ok (.ldc2_w 110, 3) := dk_20 0 110 (dk_at dksX0_grow_3 3 rfl rfl)
theorem dX0_grow_78 : decode cX0_grow 78 = .ok (.lreturn, 1) := dk_173 (dk_at dksX0_grow_3 6 rfl rfl)
abbrev cX0_write : ByteArray := prog_1_method_41_code
def yX0_write : MethodName := ⟨RX0, "write", "(II)I"⟩
def dkwX0_write_3 : List UInt8 := [180, 0, 160, 172]
abbrev dktX0_write_3 : List UInt8 := dkwX0_write_3 ++ []
def dkwX0_write_2 : List UInt8 := [42, 180, 0, 50, 27, 50, 180, 0, 166, 45, 182, 1, 61, 42, 45, 182, 1, 65, 172, 58, 4, 25, 4]
abbrev dktX0_write_2 : List UInt8 := dkwX0_write_2 ++ dktX0_write_3
def dkwX0_write_1 : List UInt8 := [199, 0, 6, 16, 254, 172, 187, 1, 43, 89, 42, 180, 0, 13, 28, 50, 42, 180, 0, 56, 183, 1, 58, 78]
abbrev dktX0_write_1 : List UInt8 := dkwX0_write_1 ++ dktX0_write_2
def dkwX0_write_0 : List UInt8 := [27, 184, 0, 145, 153, 0, 10, 28, 184, 0, 112, 154, 0, 5, 2, 172, 42, 180, 0, 50, 27, 50]
abbrev dktX0_write_0 : List UInt8 := dkwX0_write_0 ++ dktX0_write_1
theorem dksX0_write_0 : cX0_write.data.toList.drop 0 = dktX0_write_0 := by decide +kernel
theorem dksX0_write_1 : cX0_write.data.toList.drop 22 = dktX0_write_1 := dk_seg dksX0_write_0 22 rfl rfl
theorem dksX0_write_2 : cX0_write.data.toList.drop 46 = dktX0_write_2 := dk_seg dksX0_write_1 24 rfl rfl
theorem dksX0_write_3 : cX0_write.data.toList.drop 69 = dktX0_write_3 := dk_seg dksX0_write_2 23 rfl rfl
theorem dX0_write_0 : decode cX0_write 0 = .ok (.iload_n 1, 1) := dk_27 (dk_at dksX0_write_0 0 rfl rfl)
theorem dX0_write_1 : decode cX0_write 1 = .ok (.invokestatic 145, 3) := dk_184 0 145 (dk_at dksX0_write_0 1 rfl rfl)
theorem dX0_write_4 : decode cX0_write 4 = .ok (.ifCond .eq 10, 3) := dk_153 0 10 (dk_at dksX0_write_0 4 rfl rfl)
theorem dX0_write_7 : decode cX0_write 7 = .ok (.iload_n 2, 1) := dk_28 (dk_at dksX0_write_0 7 rfl rfl)
theorem dX0_write_8 : decode cX0_write 8 = .ok (.invokestatic 112, 3) := dk_184 0 112 (dk_at dksX0_write_0 8 rfl rfl)
theorem dX0_write_11 : decode cX0_write 11 = .ok (.ifCond .ne 5, 3) := dk_154 0 5 (dk_at dksX0_write_0 11 rfl rfl)
theorem dX0_write_14 : decode cX0_write 14 = .ok (.iconst (-1), 1) := dk_2 (dk_at dksX0_write_0 14 rfl rfl)
theorem dX0_write_15 : decode cX0_write 15 = .ok (.ireturn, 1) := dk_172 (dk_at dksX0_write_0 15 rfl rfl)
theorem dX0_write_16 : decode cX0_write 16 = .ok (.aload_n 0, 1) := dk_42 (dk_at dksX0_write_0 16 rfl rfl)
theorem dX0_write_17 : decode cX0_write 17 = .ok (.getfield 50, 3) := dk_180 0 50 (dk_at dksX0_write_0 17 rfl rfl)
theorem dX0_write_20 : decode cX0_write 20 = .ok (.iload_n 1, 1) := dk_27 (dk_at dksX0_write_0 20 rfl rfl)
theorem dX0_write_21 : decode cX0_write 21 = .ok (.aaload, 1) := dk_50 (dk_at dksX0_write_0 21 rfl rfl)
theorem dX0_write_22 : decode cX0_write 22 = .ok (.ifnonnull 6, 3) := dk_199 0 6 (dk_at dksX0_write_1 0 rfl rfl)
theorem dX0_write_25 : decode cX0_write 25 = .ok (.bipush (-2), 2) := dk_16 254 (dk_at dksX0_write_1 3 rfl rfl)
theorem dX0_write_27 : decode cX0_write 27 = .ok (.ireturn, 1) := dk_172 (dk_at dksX0_write_1 5 rfl rfl)
theorem dX0_write_28 : decode cX0_write 28 = .ok (.new 299, 3) := dk_187 1 43 (dk_at dksX0_write_1 6 rfl rfl)
theorem dX0_write_31 : decode cX0_write 31 = .ok (.dup, 1) := dk_89 (dk_at dksX0_write_1 9 rfl rfl)
theorem dX0_write_32 : decode cX0_write 32 = .ok (.aload_n 0, 1) := dk_42 (dk_at dksX0_write_1 10 rfl rfl)
theorem dX0_write_33 : decode cX0_write 33 = .ok (.getfield 13, 3) := dk_180 0 13 (dk_at dksX0_write_1 11 rfl rfl)
theorem dX0_write_36 : decode cX0_write 36 = .ok (.iload_n 2, 1) := dk_28 (dk_at dksX0_write_1 14 rfl rfl)
theorem dX0_write_37 : decode cX0_write 37 = .ok (.aaload, 1) := dk_50 (dk_at dksX0_write_1 15 rfl rfl)
theorem dX0_write_38 : decode cX0_write 38 = .ok (.aload_n 0, 1) := dk_42 (dk_at dksX0_write_1 16 rfl rfl)
theorem dX0_write_39 : decode cX0_write 39 = .ok (.getfield 56, 3) := dk_180 0 56 (dk_at dksX0_write_1 17 rfl rfl)
theorem dX0_write_42 : decode cX0_write 42 = .ok (.invokespecial 314, 3) := dk_183 1 58 (dk_at dksX0_write_1 20 rfl rfl)
theorem dX0_write_45 : decode cX0_write 45 = .ok (.astore_n 3, 1) := dk_78 (dk_at dksX0_write_1 23 rfl rfl)
theorem dX0_write_46 : decode cX0_write 46 = .ok (.aload_n 0, 1) := dk_42 (dk_at dksX0_write_2 0 rfl rfl)
theorem dX0_write_47 : decode cX0_write 47 = .ok (.getfield 50, 3) := dk_180 0 50 (dk_at dksX0_write_2 1 rfl rfl)
theorem dX0_write_50 : decode cX0_write 50 = .ok (.iload_n 1, 1) := dk_27 (dk_at dksX0_write_2 4 rfl rfl)
theorem dX0_write_51 : decode cX0_write 51 = .ok (.aaload, 1) := dk_50 (dk_at dksX0_write_2 5 rfl rfl)
theorem dX0_write_52 : decode cX0_write 52 = .ok (.getfield 166, 3) := dk_180 0 166 (dk_at dksX0_write_2 6 rfl rfl)
theorem dX0_write_55 : decode cX0_write 55 = .ok (.aload_n 3, 1) := dk_45 (dk_at dksX0_write_2 9 rfl rfl)
theorem dX0_write_56 : decode cX0_write 56 = .ok (.invokevirtual 317, 3) := dk_182 1 61 (dk_at dksX0_write_2 10 rfl rfl)
theorem dX0_write_59 : decode cX0_write 59 = .ok (.aload_n 0, 1) := dk_42 (dk_at dksX0_write_2 13 rfl rfl)
theorem dX0_write_60 : decode cX0_write 60 = .ok (.aload_n 3, 1) := dk_45 (dk_at dksX0_write_2 14 rfl rfl)
theorem dX0_write_61 : decode cX0_write 61 = .ok (.invokevirtual 321, 3) := dk_182 1 65 (dk_at dksX0_write_2 15 rfl rfl)
theorem dX0_write_64 : decode cX0_write 64 = .ok (.ireturn, 1) := dk_172 (dk_at dksX0_write_2 18 rfl rfl)
theorem dX0_write_65 : decode cX0_write 65 = .ok (.astore 4, 2) := dk_58 4 (dk_at dksX0_write_2 19 rfl rfl)
theorem dX0_write_67 : decode cX0_write 67 = .ok (.aload 4, 2) := dk_25 4 (dk_at dksX0_write_2 21 rfl rfl)
theorem dX0_write_69 : decode cX0_write 69 = .ok (.getfield 160, 3) := dk_180 0 160 (dk_at dksX0_write_3 0 rfl rfl)
theorem dX0_write_72 : decode cX0_write 72 = .ok (.ireturn, 1) := dk_172 (dk_at dksX0_write_3 3 rfl rfl)
abbrev cX0_takes : ByteArray := prog_1_method_40_code
def yX0_takes : MethodName := ⟨RX0, "takes", "(LPluralBranches$Sheet;)I"⟩
def dkwX0_takes_1 : List UInt8 := [181, 1, 55, 42, 180, 1, 55, 172]
abbrev dktX0_takes_1 : List UInt8 := dkwX0_takes_1 ++ []
def dkwX0_takes_0 : List UInt8 := [43, 180, 1, 42, 3, 42, 180, 0, 41, 3, 43, 180, 1, 47, 184, 1, 49, 42, 43, 180, 1, 47]
abbrev dktX0_takes_0 : List UInt8 := dkwX0_takes_0 ++ dktX0_takes_1
theorem dksX0_takes_0 : cX0_takes.data.toList.drop 0 = dktX0_takes_0 := by decide +kernel
theorem dksX0_takes_1 : cX0_takes.data.toList.drop 22 = dktX0_takes_1 := dk_seg dksX0_takes_0 22 rfl rfl
theorem dX0_takes_0 : decode cX0_takes 0 = .ok (.aload_n 1, 1) := dk_43 (dk_at dksX0_takes_0 0 rfl rfl)
theorem dX0_takes_1 : decode cX0_takes 1 = .ok (.getfield 298, 3) := dk_180 1 42 (dk_at dksX0_takes_0 1 rfl rfl)
theorem dX0_takes_4 : decode cX0_takes 4 = .ok (.iconst 0, 1) := dk_3 (dk_at dksX0_takes_0 4 rfl rfl)
theorem dX0_takes_5 : decode cX0_takes 5 = .ok (.aload_n 0, 1) := dk_42 (dk_at dksX0_takes_0 5 rfl rfl)
theorem dX0_takes_6 : decode cX0_takes 6 = .ok (.getfield 41, 3) := dk_180 0 41 (dk_at dksX0_takes_0 6 rfl rfl)
theorem dX0_takes_9 : decode cX0_takes 9 = .ok (.iconst 0, 1) := dk_3 (dk_at dksX0_takes_0 9 rfl rfl)
theorem dX0_takes_10 : decode cX0_takes 10 = .ok (.aload_n 1, 1) := dk_43 (dk_at dksX0_takes_0 10 rfl rfl)
theorem dX0_takes_11 : decode cX0_takes 11 = .ok (.getfield 303, 3) := dk_180 1 47 (dk_at dksX0_takes_0 11 rfl rfl)
theorem dX0_takes_14 : decode cX0_takes 14 = .ok (.invokestatic 305, 3) := dk_184 1 49 (dk_at dksX0_takes_0 14 rfl rfl)
theorem dX0_takes_17 : decode cX0_takes 17 = .ok (.aload_n 0, 1) := dk_42 (dk_at dksX0_takes_0 17 rfl rfl)
theorem dX0_takes_18 : decode cX0_takes 18 = .ok (.aload_n 1, 1) := dk_43 (dk_at dksX0_takes_0 18 rfl rfl)
theorem dX0_takes_19 : decode cX0_takes 19 = .ok (.getfield 303, 3) := dk_180 1 47 (dk_at dksX0_takes_0 19 rfl rfl)
theorem dX0_takes_22 : decode cX0_takes 22 = .ok (.putfield 311, 3) := dk_181 1 55 (dk_at dksX0_takes_1 0 rfl rfl)
theorem dX0_takes_25 : decode cX0_takes 25 = .ok (.aload_n 0, 1) := dk_42 (dk_at dksX0_takes_1 3 rfl rfl)
theorem dX0_takes_26 : decode cX0_takes 26 = .ok (.getfield 311, 3) := dk_180 1 55 (dk_at dksX0_takes_1 4 rfl rfl)
theorem dX0_takes_29 : decode cX0_takes 29 = .ok (.ireturn, 1) := dk_172 (dk_at dksX0_takes_1 7 rfl rfl)
abbrev cX0_out : ByteArray := prog_1_method_42_code
def yX0_out : MethodName := ⟨RX0, "out", "(I)I"⟩
def dkwX0_out_1 : List UInt8 := [167, 0, 5, 16, 254, 172]
abbrev dktX0_out_1 : List UInt8 := dkwX0_out_1 ++ []
def dkwX0_out_0 : List UInt8 := [27, 133, 9, 42, 180, 1, 55, 4, 100, 133, 184, 0, 96, 153, 0, 12, 42, 180, 0, 41, 27, 51]
abbrev dktX0_out_0 : List UInt8 := dkwX0_out_0 ++ dktX0_out_1
theorem dksX0_out_0 : cX0_out.data.toList.drop 0 = dktX0_out_0 := by decide +kernel
theorem dksX0_out_1 : cX0_out.data.toList.drop 22 = dktX0_out_1 := dk_seg dksX0_out_0 22 rfl rfl
theorem dX0_out_0 : decode cX0_out 0 = .ok (.iload_n 1, 1) := dk_27 (dk_at dksX0_out_0 0 rfl rfl)
theorem dX0_out_1 : decode cX0_out 1 = .ok (.i2l, 1) := dk_133 (dk_at dksX0_out_0 1 rfl rfl)
theorem dX0_out_2 : decode cX0_out 2 = .ok (.lconst 0, 1) := dk_9 (dk_at dksX0_out_0 2 rfl rfl)
theorem dX0_out_3 : decode cX0_out 3 = .ok (.aload_n 0, 1) := dk_42 (dk_at dksX0_out_0 3 rfl rfl)
theorem dX0_out_4 : decode cX0_out 4 = .ok (.getfield 311, 3) := dk_180 1 55 (dk_at dksX0_out_0 4 rfl rfl)
theorem dX0_out_7 : decode cX0_out 7 = .ok (.iconst 1, 1) := dk_4 (dk_at dksX0_out_0 7 rfl rfl)
theorem dX0_out_8 : decode cX0_out 8 = .ok (.isub, 1) := dk_100 (dk_at dksX0_out_0 8 rfl rfl)
theorem dX0_out_9 : decode cX0_out 9 = .ok (.i2l, 1) := dk_133 (dk_at dksX0_out_0 9 rfl rfl)
theorem dX0_out_10 : decode cX0_out 10 = .ok (.invokestatic 96, 3) := dk_184 0 96 (dk_at dksX0_out_0 10 rfl rfl)
theorem dX0_out_13 : decode cX0_out 13 = .ok (.ifCond .eq 12, 3) := dk_153 0 12 (dk_at dksX0_out_0 13 rfl rfl)
theorem dX0_out_16 : decode cX0_out 16 = .ok (.aload_n 0, 1) := dk_42 (dk_at dksX0_out_0 16 rfl rfl)
theorem dX0_out_17 : decode cX0_out 17 = .ok (.getfield 41, 3) := dk_180 0 41 (dk_at dksX0_out_0 17 rfl rfl)
theorem dX0_out_20 : decode cX0_out 20 = .ok (.iload_n 1, 1) := dk_27 (dk_at dksX0_out_0 20 rfl rfl)
theorem dX0_out_21 : decode cX0_out 21 = .ok (.baload, 1) := dk_51 (dk_at dksX0_out_0 21 rfl rfl)
theorem dX0_out_22 : decode cX0_out 22 = .ok (.goto 5, 3) := dk_167 0 5 (dk_at dksX0_out_1 0 rfl rfl)
theorem dX0_out_25 : decode cX0_out 25 = .ok (.bipush (-2), 2) := dk_16 254 (dk_at dksX0_out_1 3 rfl rfl)
theorem dX0_out_27 : decode cX0_out 27 = .ok (.ireturn, 1) := dk_172 (dk_at dksX0_out_1 5 rfl rfl)
abbrev cX0_shape : ByteArray := prog_1_method_43_code
def yX0_shape : MethodName := ⟨RX0, "shape", "(IIIIIII)I"⟩
def dkwX0_shape_5 : List UInt8 := [25, 8, 182, 1, 74, 42, 25, 8, 182, 1, 65, 172]
abbrev dktX0_shape_5 : List UInt8 := dkwX0_shape_5 ++ []
def dkwX0_shape_4 : List UInt8 := [4, 167, 0, 4, 3, 21, 4, 21, 5, 21, 6, 183, 1, 71, 187, 0, 17, 89, 28, 29, 183, 0, 22]
abbrev dktX0_shape_4 : List UInt8 := dkwX0_shape_4 ++ dktX0_shape_5
def dkwX0_shape_3 : List UInt8 := [180, 0, 13, 27, 50, 3, 189, 0, 54, 183, 1, 58, 58, 8, 187, 1, 69, 89, 21, 7, 4, 160, 0, 7]
abbrev dktX0_shape_3 : List UInt8 := dkwX0_shape_3 ++ dktX0_shape_4
def dkwX0_shape_2 : List UInt8 := [184, 0, 96, 153, 0, 14, 21, 7, 133, 9, 10, 184, 0, 96, 154, 0, 5, 2, 172, 187, 1, 43, 89, 42]
abbrev dktX0_shape_2 : List UInt8 := dkwX0_shape_2 ++ dktX0_shape_3
def dkwX0_shape_1 : List UInt8 := [153, 0, 40, 21, 5, 133, 9, 20, 0, 137, 184, 0, 96, 153, 0, 27, 21, 6, 133, 9, 20, 0, 137]
abbrev dktX0_shape_1 : List UInt8 := dkwX0_shape_1 ++ dktX0_shape_2
def dkwX0_shape_0 : List UInt8 := [27, 184, 0, 112, 153, 0, 60, 29, 184, 0, 100, 153, 0, 53, 21, 4, 133, 10, 20, 0, 104, 184, 0, 96]
abbrev dktX0_shape_0 : List UInt8 := dkwX0_shape_0 ++ dktX0_shape_1
theorem dksX0_shape_0 : cX0_shape.data.toList.drop 0 = dktX0_shape_0 := by decide +kernel
theorem dksX0_shape_1 : cX0_shape.data.toList.drop 24 = dktX0_shape_1 := dk_seg dksX0_shape_0 24 rfl rfl
theorem dksX0_shape_2 : cX0_shape.data.toList.drop 47 = dktX0_shape_2 := dk_seg dksX0_shape_1 23 rfl rfl
theorem dksX0_shape_3 : cX0_shape.data.toList.drop 71 = dktX0_shape_3 := dk_seg dksX0_shape_2 24 rfl rfl
theorem dksX0_shape_4 : cX0_shape.data.toList.drop 95 = dktX0_shape_4 := dk_seg dksX0_shape_3 24 rfl rfl
theorem dksX0_shape_5 : cX0_shape.data.toList.drop 118 = dktX0_shape_5 := dk_seg dksX0_shape_4 23 rfl rfl
theorem dX0_shape_0 : decode cX0_shape 0 = .ok (.iload_n 1, 1) := dk_27 (dk_at dksX0_shape_0 0 rfl rfl)
theorem dX0_shape_1 : decode cX0_shape 1 = .ok (.invokestatic 112, 3) := dk_184 0 112 (dk_at dksX0_shape_0 1 rfl rfl)
theorem dX0_shape_4 : decode cX0_shape 4 = .ok (.ifCond .eq 60, 3) := dk_153 0 60 (dk_at dksX0_shape_0 4 rfl rfl)
theorem dX0_shape_7 : decode cX0_shape 7 = .ok (.iload_n 3, 1) := dk_29 (dk_at dksX0_shape_0 7 rfl rfl)
theorem dX0_shape_8 : decode cX0_shape 8 = .ok (.invokestatic 100, 3) := dk_184 0 100 (dk_at dksX0_shape_0 8 rfl rfl)
theorem dX0_shape_11 : decode cX0_shape 11 = .ok (.ifCond .eq 53, 3) := dk_153 0 53 (dk_at dksX0_shape_0 11 rfl rfl)
theorem dX0_shape_14 : decode cX0_shape 14 = .ok (.iload 4, 2) := dk_21 4 (dk_at dksX0_shape_0 14 rfl rfl)
theorem dX0_shape_16 : decode cX0_shape 16 = .ok (.i2l, 1) := dk_133 (dk_at dksX0_shape_0 16 rfl rfl)
theorem dX0_shape_17 : decode cX0_shape 17 = .ok (.lconst 1, 1) := dk_10 (dk_at dksX0_shape_0 17 rfl rfl)
theorem dX0_shape_18 : decode cX0_shape 18 = .ok (.ldc2_w 104, 3) := dk_20 0 104 (dk_at dksX0_shape_0 18 rfl rfl)
theorem dX0_shape_21 : decode cX0_shape 21 = .ok (.invokestatic 96, 3) := dk_184 0 96 (dk_at dksX0_shape_0 21 rfl rfl)
theorem dX0_shape_24 : decode cX0_shape 24 = .ok (.ifCond .eq 40, 3) := dk_153 0 40 (dk_at dksX0_shape_1 0 rfl rfl)
theorem dX0_shape_27 : decode cX0_shape 27 = .ok (.iload 5, 2) := dk_21 5 (dk_at dksX0_shape_1 3 rfl rfl)
theorem dX0_shape_29 : decode cX0_shape 29 = .ok (.i2l, 1) := dk_133 (dk_at dksX0_shape_1 5 rfl rfl)
theorem dX0_shape_30 : decode cX0_shape 30 = .ok (.lconst 0, 1) := dk_9 (dk_at dksX0_shape_1 6 rfl rfl)
theorem dX0_shape_31 : decode cX0_shape 31 = .ok (.ldc2_w 137, 3) := dk_20 0 137 (dk_at dksX0_shape_1 7 rfl rfl)
theorem dX0_shape_34 : decode cX0_shape 34 = .ok (.invokestatic 96, 3) := dk_184 0 96 (dk_at dksX0_shape_1 10 rfl rfl)
theorem dX0_shape_37 : decode cX0_shape 37 = .ok (.ifCond .eq 27, 3) := dk_153 0 27 (dk_at dksX0_shape_1 13 rfl rfl)
theorem dX0_shape_40 : decode cX0_shape 40 = .ok (.iload 6, 2) := dk_21 6 (dk_at dksX0_shape_1 16 rfl rfl)
theorem dX0_shape_42 : decode cX0_shape 42 = .ok (.i2l, 1) := dk_133 (dk_at dksX0_shape_1 18 rfl rfl)
theorem dX0_shape_43 : decode cX0_shape 43 = .ok (.lconst 0, 1) := dk_9 (dk_at dksX0_shape_1 19 rfl rfl)
theorem dX0_shape_44 : decode cX0_shape 44 = .ok (.ldc2_w 137, 3) := dk_20 0 137 (dk_at dksX0_shape_1 20 rfl rfl)
theorem dX0_shape_47 : decode cX0_shape 47 = .ok (.invokestatic 96, 3) := dk_184 0 96 (dk_at dksX0_shape_2 0 rfl rfl)
theorem dX0_shape_50 : decode cX0_shape 50 = .ok (.ifCond .eq 14, 3) := dk_153 0 14 (dk_at dksX0_shape_2 3 rfl rfl)
theorem dX0_shape_53 : decode cX0_shape 53 = .ok (.iload 7, 2) := dk_21 7 (dk_at dksX0_shape_2 6 rfl rfl)
theorem dX0_shape_55 : decode cX0_shape 55 = .ok (.i2l, 1) := dk_133 (dk_at dksX0_shape_2 8 rfl rfl)
theorem dX0_shape_56 : decode cX0_shape 56 = .ok (.lconst 0, 1) := dk_9 (dk_at dksX0_shape_2 9 rfl rfl)
theorem dX0_shape_57 : decode cX0_shape 57 = .ok (.lconst 1, 1) := dk_10 (dk_at dksX0_shape_2 10 rfl rfl)
theorem dX0_shape_58 : decode cX0_shape 58 = .ok (.invokestatic 96, 3) := dk_184 0 96 (dk_at dksX0_shape_2 11 rfl rfl)
theorem dX0_shape_61 : decode cX0_shape 61 = .ok (.ifCond .ne 5, 3) := dk_154 0 5 (dk_at dksX0_shape_2 14 rfl rfl)
theorem dX0_shape_64 : decode cX0_shape 64 = .ok (.iconst (-1), 1) := dk_2 (dk_at dksX0_shape_2 17 rfl rfl)
theorem dX0_shape_65 : decode cX0_shape 65 = .ok (.ireturn, 1) := dk_172 (dk_at dksX0_shape_2 18 rfl rfl)
theorem dX0_shape_66 : decode cX0_shape 66 = .ok (.new 299, 3) := dk_187 1 43 (dk_at dksX0_shape_2 19 rfl rfl)
theorem dX0_shape_69 : decode cX0_shape 69 = .ok (.dup, 1) := dk_89 (dk_at dksX0_shape_2 22 rfl rfl)
theorem dX0_shape_70 : decode cX0_shape 70 = .ok (.aload_n 0, 1) := dk_42 (dk_at dksX0_shape_2 23 rfl rfl)
theorem dX0_shape_71 : decode cX0_shape 71 = .ok (.getfield 13, 3) := dk_180 0 13 (dk_at dksX0_shape_3 0 rfl rfl)
theorem dX0_shape_74 : decode cX0_shape 74 = .ok (.iload_n 1, 1) := dk_27 (dk_at dksX0_shape_3 3 rfl rfl)
theorem dX0_shape_75 : decode cX0_shape 75 = .ok (.aaload, 1) := dk_50 (dk_at dksX0_shape_3 4 rfl rfl)
theorem dX0_shape_76 : decode cX0_shape 76 = .ok (.iconst 0, 1) := dk_3 (dk_at dksX0_shape_3 5 rfl rfl)
theorem dX0_shape_77 : decode cX0_shape 77 = .ok (.anewarray 54, 3) := dk_189 0 54 (dk_at dksX0_shape_3 6 rfl rfl)
theorem dX0_shape_80 : decode cX0_shape 80 = .ok (.invokespecial 314, 3) := dk_183 1 58 (dk_at dksX0_shape_3 9 rfl rfl)
theorem dX0_shape_83 : decode cX0_shape 83 = .ok (.astore 8, 2) := dk_58 8 (dk_at dksX0_shape_3 12 rfl rfl)
theorem dX0_shape_85 : decode cX0_shape 85 = .ok (.new 325, 3) := dk_187 1 69 (dk_at dksX0_shape_3 14 rfl rfl)
theorem dX0_shape_88 : decode cX0_shape 88 = .ok (.dup, 1) := dk_89 (dk_at dksX0_shape_3 17 rfl rfl)
theorem dX0_shape_89 : decode cX0_shape 89 = .ok (.iload 7, 2) := dk_21 7 (dk_at dksX0_shape_3 18 rfl rfl)
theorem dX0_shape_91 : decode cX0_shape 91 = .ok (.iconst 1, 1) := dk_4 (dk_at dksX0_shape_3 20 rfl rfl)
theorem dX0_shape_92 : decode cX0_shape 92 = .ok (.if_icmp .ne 7, 3) := dk_160 0 7 (dk_at dksX0_shape_3 21 rfl rfl)
theorem dX0_shape_95 : decode cX0_shape 95 = .ok (.iconst 1, 1) := dk_4 (dk_at dksX0_shape_4 0 rfl rfl)
theorem dX0_shape_96 : decode cX0_shape 96 = .ok (.goto 4, 3) := dk_167 0 4 (dk_at dksX0_shape_4 1 rfl rfl)
theorem dX0_shape_99 : decode cX0_shape 99 = .ok (.iconst 0, 1) := dk_3 (dk_at dksX0_shape_4 4 rfl rfl)
theorem dX0_shape_100 : decode cX0_shape 100 = .ok (.iload 4, 2) := dk_21 4 (dk_at dksX0_shape_4 5 rfl rfl)
theorem dX0_shape_102 : decode cX0_shape 102 = .ok (.iload 5, 2) := dk_21 5 (dk_at dksX0_shape_4 7 rfl rfl)
theorem dX0_shape_104 : decode cX0_shape 104 = .ok (.iload 6, 2) := dk_21 6 (dk_at dksX0_shape_4 9 rfl rfl)
theorem dX0_shape_106 : decode cX0_shape 106 = .ok (.invokespecial 327, 3) := dk_183 1 71 (dk_at dksX0_shape_4 11 rfl rfl)
theorem dX0_shape_109 : decode cX0_shape 109 = .ok (.new 17, 3) := dk_187 0 17 (dk_at dksX0_shape_4 14 rfl rfl)
theorem dX0_shape_112 : decode cX0_shape 112 = .ok (.dup, 1) := dk_89 (dk_at dksX0_shape_4 17 rfl rfl)
theorem dX0_shape_113 : decode cX0_shape 113 = .ok (.iload_n 2, 1) := dk_28 (dk_at dksX0_shape_4 18 rfl rfl)
theorem dX0_shape_114 : decode cX0_shape 114 = .ok (.iload_n 3, 1) := dk_29 (dk_at dksX0_shape_4 19 rfl rfl)
theorem dX0_shape_115 : decode cX0_shape 115 = .ok (.invokespecial 22, 3) := dk_183 0 22 (dk_at dksX0_shape_4 20 rfl rfl)
theorem dX0_shape_118 : decode cX0_shape 118 = .ok (.aload 8, 2) := dk_25 8 (dk_at dksX0_shape_5 0 rfl rfl)
theorem dX0_shape_120 : decode cX0_shape 120 = .ok (.invokevirtual 330, 3) := dk_182 1 74 (dk_at dksX0_shape_5 2 rfl rfl)
theorem dX0_shape_123 : decode cX0_shape 123 = .ok (.aload_n 0, 1) := dk_42 (dk_at dksX0_shape_5 5 rfl rfl)
theorem dX0_shape_124 : decode cX0_shape 124 = .ok (.aload 8, 2) := dk_25 8 (dk_at dksX0_shape_5 6 rfl rfl)
theorem dX0_shape_126 : decode cX0_shape 126 = .ok (.invokevirtual 321, 3) := dk_182 1 65 (dk_at dksX0_shape_5 8 rfl rfl)
theorem dX0_shape_129 : decode cX0_shape 129 = .ok (.ireturn, 1) := dk_172 (dk_at dksX0_shape_5 11 rfl rfl)
abbrev cX0_row : ByteArray := prog_1_method_46_code
def yX0_row : MethodName := ⟨RX0, "row", "(III)I"⟩
def dkwX0_row_2 : List UInt8 := [181, 1, 86, 4, 172, 58, 4, 16, 242, 172]
abbrev dktX0_row_2 : List UInt8 := dkwX0_row_2 ++ []
def dkwX0_row_1 : List UInt8 := [155, 0, 11, 29, 16, 30, 164, 0, 5, 2, 172, 42, 180, 0, 63, 27, 50, 28, 29, 184, 1, 82]
abbrev dktX0_row_1 : List UInt8 := dkwX0_row_1 ++ dktX0_row_2
def dkwX0_row_0 : List UInt8 := [27, 184, 1, 77, 153, 0, 27, 28, 133, 20, 1, 80, 20, 0, 229, 184, 0, 96, 153, 0, 13, 28]
abbrev dktX0_row_0 : List UInt8 := dkwX0_row_0 ++ dktX0_row_1
theorem dksX0_row_0 : cX0_row.data.toList.drop 0 = dktX0_row_0 := by decide +kernel
theorem dksX0_row_1 : cX0_row.data.toList.drop 22 = dktX0_row_1 := dk_seg dksX0_row_0 22 rfl rfl
theorem dksX0_row_2 : cX0_row.data.toList.drop 44 = dktX0_row_2 := dk_seg dksX0_row_1 22 rfl rfl
theorem dX0_row_0 : decode cX0_row 0 = .ok (.iload_n 1, 1) := dk_27 (dk_at dksX0_row_0 0 rfl rfl)
theorem dX0_row_1 : decode cX0_row 1 = .ok (.invokestatic 333, 3) := dk_184 1 77 (dk_at dksX0_row_0 1 rfl rfl)
theorem dX0_row_4 : decode cX0_row 4 = .ok (.ifCond .eq 27, 3) := dk_153 0 27 (dk_at dksX0_row_0 4 rfl rfl)
theorem dX0_row_7 : decode cX0_row 7 = .ok (.iload_n 2, 1) := dk_28 (dk_at dksX0_row_0 7 rfl rfl)
theorem dX0_row_8 : decode cX0_row 8 = .ok (.i2l, 1) := dk_133 (dk_at dksX0_row_0 8 rfl rfl)
theorem dX0_row_9 : decode cX0_row 9 = .ok (.ldc2_w 336, 3) := dk_20 1 80 (dk_at dksX0_row_0 9 rfl rfl)
theorem dX0_row_12 : decode cX0_row 12 = .ok (.ldc2_w 229, 3) := dk_20 0 229 (dk_at dksX0_row_0 12 rfl rfl)
theorem dX0_row_15 : decode cX0_row 15 = .ok (.invokestatic 96, 3) := dk_184 0 96 (dk_at dksX0_row_0 15 rfl rfl)
theorem dX0_row_18 : decode cX0_row 18 = .ok (.ifCond .eq 13, 3) := dk_153 0 13 (dk_at dksX0_row_0 18 rfl rfl)
theorem dX0_row_21 : decode cX0_row 21 = .ok (.iload_n 2, 1) := dk_28 (dk_at dksX0_row_0 21 rfl rfl)
theorem dX0_row_22 : decode cX0_row 22 = .ok (.ifCond .lt 11, 3) := dk_155 0 11 (dk_at dksX0_row_1 0 rfl rfl)
theorem dX0_row_25 : decode cX0_row 25 = .ok (.iload_n 3, 1) := dk_29 (dk_at dksX0_row_1 3 rfl rfl)
theorem dX0_row_26 : decode cX0_row 26 = .ok (.bipush 30, 2) := dk_16 30 (dk_at dksX0_row_1 4 rfl rfl)
theorem dX0_row_28 : decode cX0_row 28 = .ok (.if_icmp .le 5, 3) := dk_164 0 5 (dk_at dksX0_row_1 6 rfl rfl)
theorem dX0_row_31 : decode cX0_row 31 = .ok (.iconst (-1), 1) := dk_2 (dk_at dksX0_row_1 9 rfl rfl)
theorem dX0_row_32 : decode cX0_row 32 = .ok (.ireturn, 1) := dk_172 (dk_at dksX0_row_1 10 rfl rfl)
theorem dX0_row_33 : decode cX0_row 33 = .ok (.aload_n 0, 1) := dk_42 (dk_at dksX0_row_1 11 rfl rfl)
theorem dX0_row_34 : decode cX0_row 34 = .ok (.getfield 63, 3) := dk_180 0 63 (dk_at dksX0_row_1 12 rfl rfl)
theorem dX0_row_37 : decode cX0_row 37 = .ok (.iload_n 1, 1) := dk_27 (dk_at dksX0_row_1 15 rfl rfl)
theorem dX0_row_38 : decode cX0_row 38 = .ok (.aaload, 1) := dk_50 (dk_at dksX0_row_1 16 rfl rfl)
theorem dX0_row_39 : decode cX0_row 39 = .ok (.iload_n 2, 1) := dk_28 (dk_at dksX0_row_1 17 rfl rfl)
theorem dX0_row_40 : decode cX0_row 40 = .ok (.iload_n 3, 1) := dk_29 (dk_at dksX0_row_1 18 rfl rfl)
theorem dX0_row_41 : decode cX0_row 41 = .ok (.invokestatic 338, 3) := dk_184 1 82 (dk_at dksX0_row_1 19 rfl rfl)
theorem dX0_row_44 : decode cX0_row 44 = .ok (.putfield 342, 3) := dk_181 1 86 (dk_at dksX0_row_2 0 rfl rfl)
theorem dX0_row_47 : decode cX0_row 47 = .ok (.iconst 1, 1) := dk_4 (dk_at dksX0_row_2 3 rfl rfl)
theorem dX0_row_48 : decode cX0_row 48 = .ok (.ireturn, 1) := dk_172 (dk_at dksX0_row_2 4 rfl rfl)
theorem dX0_row_49 : decode cX0_row 49 = .ok (.astore 4, 2) := dk_58 4 (dk_at dksX0_row_2 5 rfl rfl)
theorem dX0_row_51 : decode cX0_row 51 = .ok (.bipush (-14), 2) := dk_16 242 (dk_at dksX0_row_2 7 rfl rfl)
theorem dX0_row_53 : decode cX0_row 53 = .ok (.ireturn, 1) := dk_172 (dk_at dksX0_row_2 9 rfl rfl)
abbrev cX0_isRow : ByteArray := prog_1_method_44_code
def yX0_isRow : MethodName := ⟨RX0, "isRow", "(I)Z"⟩
def dkwX0_isRow_0 : List UInt8 := [26, 133, 9, 20, 0, 229, 184, 0, 96, 172]
abbrev dktX0_isRow_0 : List UInt8 := dkwX0_isRow_0 ++ []
theorem dksX0_isRow_0 : cX0_isRow.data.toList.drop 0 = dktX0_isRow_0 := by decide +kernel
theorem dX0_isRow_0 : decode cX0_isRow 0 = .ok (.iload_n 0, 1) := dk_26 (dk_at dksX0_isRow_0 0 rfl rfl)
theorem dX0_isRow_1 : decode cX0_isRow 1 = .ok (.i2l, 1) := dk_133 (dk_at dksX0_isRow_0 1 rfl rfl)
theorem dX0_isRow_2 : decode cX0_isRow 2 = .ok (.lconst 0, 1) := dk_9 (dk_at dksX0_isRow_0 2 rfl rfl)
theorem dX0_isRow_3 : decode cX0_isRow 3 = .ok (.ldc2_w 229, 3) := dk_20 0 229 (dk_at dksX0_isRow_0 3 rfl rfl)
theorem dX0_isRow_6 : decode cX0_isRow 6 = .ok (.invokestatic 96, 3) := dk_184 0 96 (dk_at dksX0_isRow_0 6 rfl rfl)
theorem dX0_isRow_9 : decode cX0_isRow 9 = .ok (.ireturn, 1) := dk_172 (dk_at dksX0_isRow_0 9 rfl rfl)
abbrev cX0_rowOf : ByteArray := prog_1_method_45_code
def yX0_rowOf : MethodName := ⟨RX0, "rowOf", "(II)Ljava/lang/Object;"⟩
def dkwX0_rowOf_2 : List UInt8 := [27, 188, 6, 176, 27, 188, 7, 176, 27, 188, 11, 176, 1, 176]
abbrev dktX0_rowOf_2 : List UInt8 := dkwX0_rowOf_2 ++ []
def dkwX0_rowOf_1 : List UInt8 := [170, 0, 0, 0, 0, 0, 39, 0, 0, 0, 0, 0, 0, 0, 2, 0, 0, 0, 27, 0, 0, 0, 31, 0, 0, 0, 35]
abbrev dktX0_rowOf_1 : List UInt8 := dkwX0_rowOf_1 ++ dktX0_rowOf_2
def dkwX0_rowOf_0 : List UInt8 := [26]
abbrev dktX0_rowOf_0 : List UInt8 := dkwX0_rowOf_0 ++ dktX0_rowOf_1
theorem dksX0_rowOf_0 : cX0_rowOf.data.toList.drop 0 = dktX0_rowOf_0 := by decide +kernel
theorem dksX0_rowOf_1 : cX0_rowOf.data.toList.drop 1 = dktX0_rowOf_1 := dk_seg dksX0_rowOf_0 1 rfl rfl
theorem dksX0_rowOf_2 : cX0_rowOf.data.toList.drop 28 = dktX0_rowOf_2 := dk_seg dksX0_rowOf_1 27 rfl rfl
theorem dX0_rowOf_0 : decode cX0_rowOf 0 = .ok (.iload_n 0, 1) := dk_26 (dk_at dksX0_rowOf_0 0 rfl rfl)
theorem dX0_rowOf_1 : decode cX0_rowOf 1 = .ok (.tableswitch 39 0 2 #[27, 31, 35], 27) := by decide +kernel
theorem dX0_rowOf_28 : decode cX0_rowOf 28 = .ok (.iload_n 1, 1) := dk_27 (dk_at dksX0_rowOf_2 0 rfl rfl)
theorem dX0_rowOf_29 : decode cX0_rowOf 29 = .ok (.newarray .float, 2) := dk_188_6 (dk_at dksX0_rowOf_2 1 rfl rfl)
theorem dX0_rowOf_31 : decode cX0_rowOf 31 = .ok (.areturn, 1) := dk_176 (dk_at dksX0_rowOf_2 3 rfl rfl)
theorem dX0_rowOf_32 : decode cX0_rowOf 32 = .ok (.iload_n 1, 1) := dk_27 (dk_at dksX0_rowOf_2 4 rfl rfl)
theorem dX0_rowOf_33 : decode cX0_rowOf 33 = .ok (.newarray .double, 2) := dk_188_7 (dk_at dksX0_rowOf_2 5 rfl rfl)
theorem dX0_rowOf_35 : decode cX0_rowOf 35 = .ok (.areturn, 1) := dk_176 (dk_at dksX0_rowOf_2 7 rfl rfl)
theorem dX0_rowOf_36 : decode cX0_rowOf 36 = .ok (.iload_n 1, 1) := dk_27 (dk_at dksX0_rowOf_2 8 rfl rfl)
theorem dX0_rowOf_37 : decode cX0_rowOf 37 = .ok (.newarray .long, 2) := dk_188_11 (dk_at dksX0_rowOf_2 9 rfl rfl)
theorem dX0_rowOf_39 : decode cX0_rowOf 39 = .ok (.areturn, 1) := dk_176 (dk_at dksX0_rowOf_2 11 rfl rfl)
theorem dX0_rowOf_40 : decode cX0_rowOf 40 = .ok (.aconst_null, 1) := dk_1 (dk_at dksX0_rowOf_2 12 rfl rfl)
theorem dX0_rowOf_41 : decode cX0_rowOf 41 = .ok (.areturn, 1) := dk_176 (dk_at dksX0_rowOf_2 13 rfl rfl)
abbrev cX0_ratio : ByteArray := prog_1_method_48_code
def yX0_ratio : MethodName := ⟨RX0, "ratio", "(IIII)I"⟩
def dkwX0_ratio_4 : List UInt8 := [81, 167, 0, 16, 25, 6, 192, 1, 99, 28, 29, 135, 21, 4, 135, 111, 82, 4, 172]
abbrev dktX0_ratio_4 : List UInt8 := dkwX0_ratio_4 ++ []
def dkwX0_ratio_3 : List UInt8 := [25, 6, 193, 1, 97, 153, 0, 23, 25, 6, 192, 1, 97, 58, 7, 25, 7, 28, 29, 134, 21, 4, 134, 110]
abbrev dktX0_ratio_3 : List UInt8 := dkwX0_ratio_3 ++ dktX0_ratio_4
def dkwX0_ratio_2 : List UInt8 := [133, 21, 4, 133, 109, 80, 167, 0, 8, 58, 8, 16, 241, 172, 4, 172, 21, 4, 154, 0, 6, 16, 241, 172]
abbrev dktX0_ratio_2 : List UInt8 := dkwX0_ratio_2 ++ dktX0_ratio_3
def dkwX0_ratio_1 : List UInt8 := [180, 1, 86, 58, 6, 25, 6, 193, 1, 95, 153, 0, 30, 25, 6, 192, 1, 95, 58, 7, 25, 7, 28, 29]
abbrev dktX0_ratio_1 : List UInt8 := dkwX0_ratio_1 ++ dktX0_ratio_2
def dkwX0_ratio_0 : List UInt8 := [42, 27, 28, 182, 1, 92, 54, 5, 21, 5, 153, 0, 6, 21, 5, 172, 42, 180, 0, 63, 27, 50]
abbrev dktX0_ratio_0 : List UInt8 := dkwX0_ratio_0 ++ dktX0_ratio_1
theorem dksX0_ratio_0 : cX0_ratio.data.toList.drop 0 = dktX0_ratio_0 := by decide +kernel
theorem dksX0_ratio_1 : cX0_ratio.data.toList.drop 22 = dktX0_ratio_1 := dk_seg dksX0_ratio_0 22 rfl rfl
theorem dksX0_ratio_2 : cX0_ratio.data.toList.drop 46 = dktX0_ratio_2 := dk_seg dksX0_ratio_1 24 rfl rfl
theorem dksX0_ratio_3 : cX0_ratio.data.toList.drop 70 = dktX0_ratio_3 := dk_seg dksX0_ratio_2 24 rfl rfl
theorem dksX0_ratio_4 : cX0_ratio.data.toList.drop 94 = dktX0_ratio_4 := dk_seg dksX0_ratio_3 24 rfl rfl
theorem dX0_ratio_0 : decode cX0_ratio 0 = .ok (.aload_n 0, 1) := dk_42 (dk_at dksX0_ratio_0 0 rfl rfl)
theorem dX0_ratio_1 : decode cX0_ratio 1 = .ok (.iload_n 1, 1) := dk_27 (dk_at dksX0_ratio_0 1 rfl rfl)
theorem dX0_ratio_2 : decode cX0_ratio 2 = .ok (.iload_n 2, 1) := dk_28 (dk_at dksX0_ratio_0 2 rfl rfl)
theorem dX0_ratio_3 : decode cX0_ratio 3 = .ok (.invokevirtual 348, 3) := dk_182 1 92 (dk_at dksX0_ratio_0 3 rfl rfl)
theorem dX0_ratio_6 : decode cX0_ratio 6 = .ok (.istore 5, 2) := dk_54 5 (dk_at dksX0_ratio_0 6 rfl rfl)
theorem dX0_ratio_8 : decode cX0_ratio 8 = .ok (.iload 5, 2) := dk_21 5 (dk_at dksX0_ratio_0 8 rfl rfl)
theorem dX0_ratio_10 : decode cX0_ratio 10 = .ok (.ifCond .eq 6, 3) := dk_153 0 6 (dk_at dksX0_ratio_0 10 rfl rfl)
theorem dX0_ratio_13 : decode cX0_ratio 13 = .ok (.iload 5, 2) := dk_21 5 (dk_at dksX0_ratio_0 13 rfl rfl)
theorem dX0_ratio_15 : decode cX0_ratio 15 = .ok (.ireturn, 1) := dk_172 (dk_at dksX0_ratio_0 15 rfl rfl)
theorem dX0_ratio_16 : decode cX0_ratio 16 = .ok (.aload_n 0, 1) := dk_42 (dk_at dksX0_ratio_0 16 rfl rfl)
theorem dX0_ratio_17 : decode cX0_ratio 17 = .ok (.getfield 63, 3) := dk_180 0 63 (dk_at dksX0_ratio_0 17 rfl rfl)
theorem dX0_ratio_20 : decode cX0_ratio 20 = .ok (.iload_n 1, 1) := dk_27 (dk_at dksX0_ratio_0 20 rfl rfl)
theorem dX0_ratio_21 : decode cX0_ratio 21 = .ok (.aaload, 1) := dk_50 (dk_at dksX0_ratio_0 21 rfl rfl)
theorem dX0_ratio_22 : decode cX0_ratio 22 = .ok (.getfield 342, 3) := dk_180 1 86 (dk_at dksX0_ratio_1 0 rfl rfl)
theorem dX0_ratio_25 : decode cX0_ratio 25 = .ok (.astore 6, 2) := dk_58 6 (dk_at dksX0_ratio_1 3 rfl rfl)
theorem dX0_ratio_27 : decode cX0_ratio 27 = .ok (.aload 6, 2) := dk_25 6 (dk_at dksX0_ratio_1 5 rfl rfl)
theorem dX0_ratio_29 : decode cX0_ratio 29 = .ok (.instanceof 351, 3) := dk_193 1 95 (dk_at dksX0_ratio_1 7 rfl rfl)
theorem dX0_ratio_32 : decode cX0_ratio 32 = .ok (.ifCond .eq 30, 3) := dk_153 0 30 (dk_at dksX0_ratio_1 10 rfl rfl)
theorem dX0_ratio_35 : decode cX0_ratio 35 = .ok (.aload 6, 2) := dk_25 6 (dk_at dksX0_ratio_1 13 rfl rfl)
theorem dX0_ratio_37 : decode cX0_ratio 37 = .ok (.checkcast 351, 3) := dk_192 1 95 (dk_at dksX0_ratio_1 15 rfl rfl)
theorem dX0_ratio_40 : decode cX0_ratio 40 = .ok (.astore 7, 2) := dk_58 7 (dk_at dksX0_ratio_1 18 rfl rfl)
theorem dX0_ratio_42 : decode cX0_ratio 42 = .ok (.aload 7, 2) := dk_25 7 (dk_at dksX0_ratio_1 20 rfl rfl)
theorem dX0_ratio_44 : decode cX0_ratio 44 = .ok (.iload_n 2, 1) := dk_28 (dk_at dksX0_ratio_1 22 rfl rfl)
theorem dX0_ratio_45 : decode cX0_ratio 45 = .ok (.iload_n 3, 1) := dk_29 (dk_at dksX0_ratio_1 23 rfl rfl)
theorem dX0_ratio_46 : decode cX0_ratio 46 = .ok (.i2l, 1) := dk_133 (dk_at dksX0_ratio_2 0 rfl rfl)
theorem dX0_ratio_47 : decode cX0_ratio 47 = .ok (.iload 4, 2) := dk_21 4 (dk_at dksX0_ratio_2 1 rfl rfl)
theorem dX0_ratio_49 : decode cX0_ratio 49 = .ok (.i2l, 1) := dk_133 (dk_at dksX0_ratio_2 3 rfl rfl)
theorem dX0_ratio_50 : decode cX0_ratio 50 = .ok (.ldiv, 1) := dk_109 (dk_at dksX0_ratio_2 4 rfl rfl)
theorem dX0_ratio_51 : decode cX0_ratio 51 = .ok (.lastore, 1) := dk_80 (dk_at dksX0_ratio_2 5 rfl rfl)
theorem dX0_ratio_52 : decode cX0_ratio 52 = .ok (.goto 8, 3) := dk_167 0 8 (dk_at dksX0_ratio_2 6 rfl rfl)
theorem dX0_ratio_55 : decode cX0_ratio 55 = .ok (.astore 8, 2) := dk_58 8 (dk_at dksX0_ratio_2 9 rfl rfl)
theorem dX0_ratio_57 : decode cX0_ratio 57 = .ok (.bipush (-15), 2) := dk_16 241 (dk_at dksX0_ratio_2 11 rfl rfl)
theorem dX0_ratio_59 : decode cX0_ratio 59 = .ok (.ireturn, 1) := dk_172 (dk_at dksX0_ratio_2 13 rfl rfl)
theorem dX0_ratio_60 : decode cX0_ratio 60 = .ok (.iconst 1, 1) := dk_4 (dk_at dksX0_ratio_2 14 rfl rfl)
theorem dX0_ratio_61 : decode cX0_ratio 61 = .ok (.ireturn, 1) := dk_172 (dk_at dksX0_ratio_2 15 rfl rfl)
theorem dX0_ratio_62 : decode cX0_ratio 62 = .ok (.iload 4, 2) := dk_21 4 (dk_at dksX0_ratio_2 16 rfl rfl)
theorem dX0_ratio_64 : decode cX0_ratio 64 = .ok (.ifCond .ne 6, 3) := dk_154 0 6 (dk_at dksX0_ratio_2 18 rfl rfl)
theorem dX0_ratio_67 : decode cX0_ratio 67 = .ok (.bipush (-15), 2) := dk_16 241 (dk_at dksX0_ratio_2 21 rfl rfl)
theorem dX0_ratio_69 : decode cX0_ratio 69 = .ok (.ireturn, 1) := dk_172 (dk_at dksX0_ratio_2 23 rfl rfl)
theorem dX0_ratio_70 : decode cX0_ratio 70 = .ok (.aload 6, 2) := dk_25 6 (dk_at dksX0_ratio_3 0 rfl rfl)
theorem dX0_ratio_72 : decode cX0_ratio 72 = .ok (.instanceof 353, 3) := dk_193 1 97 (dk_at dksX0_ratio_3 2 rfl rfl)
theorem dX0_ratio_75 : decode cX0_ratio 75 = .ok (.ifCond .eq 23, 3) := dk_153 0 23 (dk_at dksX0_ratio_3 5 rfl rfl)
theorem dX0_ratio_78 : decode cX0_ratio 78 = .ok (.aload 6, 2) := dk_25 6 (dk_at dksX0_ratio_3 8 rfl rfl)
theorem dX0_ratio_80 : decode cX0_ratio 80 = .ok (.checkcast 353, 3) := dk_192 1 97 (dk_at dksX0_ratio_3 10 rfl rfl)
theorem dX0_ratio_83 : decode cX0_ratio 83 = .ok (.astore 7, 2) := dk_58 7 (dk_at dksX0_ratio_3 13 rfl rfl)
theorem dX0_ratio_85 : decode cX0_ratio 85 = .ok (.aload 7, 2) := dk_25 7 (dk_at dksX0_ratio_3 15 rfl rfl)
theorem dX0_ratio_87 : decode cX0_ratio 87 = .ok (.iload_n 2, 1) := dk_28 (dk_at dksX0_ratio_3 17 rfl rfl)
theorem dX0_ratio_88 : decode cX0_ratio 88 = .ok (.iload_n 3, 1) := dk_29 (dk_at dksX0_ratio_3 18 rfl rfl)
theorem dX0_ratio_89 : decode cX0_ratio 89 = .ok (.i2f, 1) := dk_134 (dk_at dksX0_ratio_3 19 rfl rfl)
theorem dX0_ratio_90 : decode cX0_ratio 90 = .ok (.iload 4, 2) := dk_21 4 (dk_at dksX0_ratio_3 20 rfl rfl)
theorem dX0_ratio_92 : decode cX0_ratio 92 = .ok (.i2f, 1) := dk_134 (dk_at dksX0_ratio_3 22 rfl rfl)
theorem dX0_ratio_93 : decode cX0_ratio 93 = .ok (.fdiv, 1) := dk_110 (dk_at dksX0_ratio_3 23 rfl rfl)
theorem dX0_ratio_94 : decode cX0_ratio 94 = .ok (.fastore, 1) := dk_81 (dk_at dksX0_ratio_4 0 rfl rfl)
theorem dX0_ratio_95 : decode cX0_ratio 95 = .ok (.goto 16, 3) := dk_167 0 16 (dk_at dksX0_ratio_4 1 rfl rfl)
theorem dX0_ratio_98 : decode cX0_ratio 98 = .ok (.aload 6, 2) := dk_25 6 (dk_at dksX0_ratio_4 4 rfl rfl)
theorem dX0_ratio_100 : decode cX0_ratio 100 = .ok (.checkcast 355, 3) := dk_192 1 99 (dk_at dksX0_ratio_4 6 rfl rfl)
theorem dX0_ratio_103 : decode cX0_ratio 103 = .ok (.iload_n 2, 1) := dk_28 (dk_at dksX0_ratio_4 9 rfl rfl)
theorem dX0_ratio_104 : decode cX0_ratio 104 = .ok (.iload_n 3, 1) := dk_29 (dk_at dksX0_ratio_4 10 rfl rfl)
theorem dX0_ratio_105 : decode cX0_ratio 105 = .ok (.i2d, 1) := dk_135 (dk_at dksX0_ratio_4 11 rfl rfl)
theorem dX0_ratio_106 : decode cX0_ratio 106 = .ok (.iload 4, 2) := dk_21 4 (dk_at dksX0_ratio_4 12 rfl rfl)
theorem dX0_ratio_108 : decode cX0_ratio 108 = .ok (.i2d, 1) := dk_135 (dk_at dksX0_ratio_4 14 rfl rfl)
theorem dX0_ratio_109 : decode cX0_ratio 109 = .ok (.ddiv, 1) := dk_111 (dk_at dksX0_ratio_4 15 rfl rfl)
theorem dX0_ratio_110 : decode cX0_ratio 110 = .ok (.dastore, 1) := dk_82 (dk_at dksX0_ratio_4 16 rfl rfl)
theorem dX0_ratio_111 : decode cX0_ratio 111 = .ok (.iconst 1, 1) := dk_4 (dk_at dksX0_ratio_4 17 rfl rfl)
theorem dX0_ratio_112 : decode cX0_ratio 112 = .ok (.ireturn, 1) := dk_172 (dk_at dksX0_ratio_4 18 rfl rfl)
abbrev cX0_unlike : ByteArray := prog_1_method_47_code
def yX0_unlike : MethodName := ⟨RX0, "unlike", "(II)I"⟩
def dkwX0_unlike_2 : List UInt8 := [3, 167, 0, 5, 16, 244, 172]
abbrev dktX0_unlike_2 : List UInt8 := dkwX0_unlike_2 ++ []
def dkwX0_unlike_1 : List UInt8 := [167, 0, 30, 28, 133, 9, 42, 180, 0, 63, 27, 50, 182, 1, 91, 4, 100, 133, 184, 0, 96, 153, 0, 7]
abbrev dktX0_unlike_1 : List UInt8 := dkwX0_unlike_1 ++ dktX0_unlike_2
def dkwX0_unlike_0 : List UInt8 := [27, 184, 1, 77, 154, 0, 5, 2, 172, 42, 180, 0, 63, 27, 50, 180, 1, 86, 199, 0, 8, 16, 245]
abbrev dktX0_unlike_0 : List UInt8 := dkwX0_unlike_0 ++ dktX0_unlike_1
theorem dksX0_unlike_0 : cX0_unlike.data.toList.drop 0 = dktX0_unlike_0 := by decide +kernel
theorem dksX0_unlike_1 : cX0_unlike.data.toList.drop 23 = dktX0_unlike_1 := dk_seg dksX0_unlike_0 23 rfl rfl
theorem dksX0_unlike_2 : cX0_unlike.data.toList.drop 47 = dktX0_unlike_2 := dk_seg dksX0_unlike_1 24 rfl rfl
theorem dX0_unlike_0 : decode cX0_unlike 0 = .ok (.iload_n 1, 1) := dk_27 (dk_at dksX0_unlike_0 0 rfl rfl)
theorem dX0_unlike_1 : decode cX0_unlike 1 = .ok (.invokestatic 333, 3) := dk_184 1 77 (dk_at dksX0_unlike_0 1 rfl rfl)
theorem dX0_unlike_4 : decode cX0_unlike 4 = .ok (.ifCond .ne 5, 3) := dk_154 0 5 (dk_at dksX0_unlike_0 4 rfl rfl)
theorem dX0_unlike_7 : decode cX0_unlike 7 = .ok (.iconst (-1), 1) := dk_2 (dk_at dksX0_unlike_0 7 rfl rfl)
theorem dX0_unlike_8 : decode cX0_unlike 8 = .ok (.ireturn, 1) := dk_172 (dk_at dksX0_unlike_0 8 rfl rfl)
theorem dX0_unlike_9 : decode cX0_unlike 9 = .ok (.aload_n 0, 1) := dk_42 (dk_at dksX0_unlike_0 9 rfl rfl)
theorem dX0_unlike_10 : decode cX0_unlike 10 = .ok (.getfield 63, 3) := dk_180 0 63 (dk_at dksX0_unlike_0 10 rfl rfl)
theorem dX0_unlike_13 : decode cX0_unlike 13 = .ok (.iload_n 1, 1) := dk_27 (dk_at dksX0_unlike_0 13 rfl rfl)
theorem dX0_unlike_14 : decode cX0_unlike 14 = .ok (.aaload, 1) := dk_50 (dk_at dksX0_unlike_0 14 rfl rfl)
theorem dX0_unlike_15 : decode cX0_unlike 15 = .ok (.getfield 342, 3) := dk_180 1 86 (dk_at dksX0_unlike_0 15 rfl rfl)
theorem dX0_unlike_18 : decode cX0_unlike 18 = .ok (.ifnonnull 8, 3) := dk_199 0 8 (dk_at dksX0_unlike_0 18 rfl rfl)
theorem dX0_unlike_21 : decode cX0_unlike 21 = .ok (.bipush (-11), 2) := dk_16 245 (dk_at dksX0_unlike_0 21 rfl rfl)
theorem dX0_unlike_23 : decode cX0_unlike 23 = .ok (.goto 30, 3) := dk_167 0 30 (dk_at dksX0_unlike_1 0 rfl rfl)
theorem dX0_unlike_26 : decode cX0_unlike 26 = .ok (.iload_n 2, 1) := dk_28 (dk_at dksX0_unlike_1 3 rfl rfl)
theorem dX0_unlike_27 : decode cX0_unlike 27 = .ok (.i2l, 1) := dk_133 (dk_at dksX0_unlike_1 4 rfl rfl)
theorem dX0_unlike_28 : decode cX0_unlike 28 = .ok (.lconst 0, 1) := dk_9 (dk_at dksX0_unlike_1 5 rfl rfl)
theorem dX0_unlike_29 : decode cX0_unlike 29 = .ok (.aload_n 0, 1) := dk_42 (dk_at dksX0_unlike_1 6 rfl rfl)
theorem dX0_unlike_30 : decode cX0_unlike 30 = .ok (.getfield 63, 3) := dk_180 0 63 (dk_at dksX0_unlike_1 7 rfl rfl)
theorem dX0_unlike_33 : decode cX0_unlike 33 = .ok (.iload_n 1, 1) := dk_27 (dk_at dksX0_unlike_1 10 rfl rfl)
theorem dX0_unlike_34 : decode cX0_unlike 34 = .ok (.aaload, 1) := dk_50 (dk_at dksX0_unlike_1 11 rfl rfl)
theorem dX0_unlike_35 : decode cX0_unlike 35 = .ok (.invokevirtual 347, 3) := dk_182 1 91 (dk_at dksX0_unlike_1 12 rfl rfl)
theorem dX0_unlike_38 : decode cX0_unlike 38 = .ok (.iconst 1, 1) := dk_4 (dk_at dksX0_unlike_1 15 rfl rfl)
theorem dX0_unlike_39 : decode cX0_unlike 39 = .ok (.isub, 1) := dk_100 (dk_at dksX0_unlike_1 16 rfl rfl)
theorem dX0_unlike_40 : decode cX0_unlike 40 = .ok (.i2l, 1) := dk_133 (dk_at dksX0_unlike_1 17 rfl rfl)
theorem dX0_unlike_41 : decode cX0_unlike 41 = .ok (.invokestatic 96, 3) := dk_184 0 96 (dk_at dksX0_unlike_1 18 rfl rfl)
theorem dX0_unlike_44 : decode cX0_unlike 44 = .ok (.ifCond .eq 7, 3) := dk_153 0 7 (dk_at dksX0_unlike_1 21 rfl rfl)
theorem dX0_unlike_47 : decode cX0_unlike 47 = .ok (.iconst 0, 1) := dk_3 (dk_at dksX0_unlike_2 0 rfl rfl)
theorem dX0_unlike_48 : decode cX0_unlike 48 = .ok (.goto 5, 3) := dk_167 0 5 (dk_at dksX0_unlike_2 1 rfl rfl)
theorem dX0_unlike_51 : decode cX0_unlike 51 = .ok (.bipush (-12), 2) := dk_16 244 (dk_at dksX0_unlike_2 4 rfl rfl)
theorem dX0_unlike_53 : decode cX0_unlike 53 = .ok (.ireturn, 1) := dk_172 (dk_at dksX0_unlike_2 6 rfl rfl)
abbrev cX0_cut : ByteArray := prog_1_method_49_code
def yX0_cut : MethodName := ⟨RX0, "cut", "(III)J"⟩
def dkwX0_cut_5 : List UInt8 := [142, 133, 167, 0, 6, 24, 5, 143, 173]
abbrev dktX0_cut_5 : List UInt8 := dkwX0_cut_5 ++ []
def dkwX0_cut_4 : List UInt8 := [167, 0, 8, 25, 5, 28, 48, 140, 173, 25, 4, 192, 1, 99, 28, 49, 57, 5, 29, 154, 0, 10, 24, 5]
abbrev dktX0_cut_4 : List UInt8 := dkwX0_cut_4 ++ dktX0_cut_5
def dkwX0_cut_3 : List UInt8 := [193, 1, 97, 153, 0, 29, 25, 4, 192, 1, 97, 58, 5, 29, 154, 0, 12, 25, 5, 28, 48, 139, 133]
abbrev dktX0_cut_3 : List UInt8 := dkwX0_cut_3 ++ dktX0_cut_4
def dkwX0_cut_2 : List UInt8 := [58, 5, 29, 154, 0, 12, 25, 5, 28, 47, 136, 133, 167, 0, 7, 25, 5, 28, 47, 173, 25, 4]
abbrev dktX0_cut_2 : List UInt8 := dkwX0_cut_2 ++ dktX0_cut_3
def dkwX0_cut_1 : List UInt8 := [180, 0, 63, 27, 50, 180, 1, 86, 58, 4, 25, 4, 193, 1, 95, 153, 0, 28, 25, 4, 192, 1, 95]
abbrev dktX0_cut_1 : List UInt8 := dkwX0_cut_1 ++ dktX0_cut_2
def dkwX0_cut_0 : List UInt8 := [42, 27, 28, 182, 1, 92, 154, 0, 13, 29, 133, 9, 10, 184, 0, 96, 154, 0, 7, 20, 0, 110, 173, 42]
abbrev dktX0_cut_0 : List UInt8 := dkwX0_cut_0 ++ dktX0_cut_1
theorem dksX0_cut_0 : cX0_cut.data.toList.drop 0 = dktX0_cut_0 := by decide +kernel
theorem dksX0_cut_1 : cX0_cut.data.toList.drop 24 = dktX0_cut_1 := dk_seg dksX0_cut_0 24 rfl rfl
theorem dksX0_cut_2 : cX0_cut.data.toList.drop 47 = dktX0_cut_2 := dk_seg dksX0_cut_1 23 rfl rfl
theorem dksX0_cut_3 : cX0_cut.data.toList.drop 69 = dktX0_cut_3 := dk_seg dksX0_cut_2 22 rfl rfl
theorem dksX0_cut_4 : cX0_cut.data.toList.drop 92 = dktX0_cut_4 := dk_seg dksX0_cut_3 23 rfl rfl
theorem dksX0_cut_5 : cX0_cut.data.toList.drop 116 = dktX0_cut_5 := dk_seg dksX0_cut_4 24 rfl rfl
theorem dX0_cut_0 : decode cX0_cut 0 = .ok (.aload_n 0, 1) := dk_42 (dk_at dksX0_cut_0 0 rfl rfl)
theorem dX0_cut_1 : decode cX0_cut 1 = .ok (.iload_n 1, 1) := dk_27 (dk_at dksX0_cut_0 1 rfl rfl)
theorem dX0_cut_2 : decode cX0_cut 2 = .ok (.iload_n 2, 1) := dk_28 (dk_at dksX0_cut_0 2 rfl rfl)
theorem dX0_cut_3 : decode cX0_cut 3 = .ok (.invokevirtual 348, 3) := dk_182 1 92 (dk_at dksX0_cut_0 3 rfl rfl)
theorem dX0_cut_6 : decode cX0_cut 6 = .ok (.ifCond .ne 13, 3) := dk_154 0 13 (dk_at dksX0_cut_0 6 rfl rfl)
theorem dX0_cut_9 : decode cX0_cut 9 = .ok (.iload_n 3, 1) := dk_29 (dk_at dksX0_cut_0 9 rfl rfl)
theorem dX0_cut_10 : decode cX0_cut 10 = .ok (.i2l, 1) := dk_133 (dk_at dksX0_cut_0 10 rfl rfl)
theorem dX0_cut_11 : decode cX0_cut 11 = .ok (.lconst 0, 1) := dk_9 (dk_at dksX0_cut_0 11 rfl rfl)
theorem dX0_cut_12 : decode cX0_cut 12 = .ok (.lconst 1, 1) := dk_10 (dk_at dksX0_cut_0 12 rfl rfl)
theorem dX0_cut_13 : decode cX0_cut 13 = .ok (.invokestatic 96, 3) := dk_184 0 96 (dk_at dksX0_cut_0 13 rfl rfl)
theorem dX0_cut_16 : decode cX0_cut 16 = .ok (.ifCond .ne 7, 3) := dk_154 0 7 (dk_at dksX0_cut_0 16 rfl rfl)
theorem dX0_cut_19 : decode cX0_cut 19 = .ok (.ldc2_w 110, 3) := dk_20 0 110 (dk_at dksX0_cut_0 19 rfl rfl)
theorem dX0_cut_22 : decode cX0_cut 22 = .ok (.lreturn, 1) := dk_173 (dk_at dksX0_cut_0 22 rfl rfl)
theorem dX0_cut_23 : decode cX0_cut 23 = .ok (.aload_n 0, 1) := dk_42 (dk_at dksX0_cut_0 23 rfl rfl)
theorem dX0_cut_24 : decode cX0_cut 24 = .ok (.getfield 63, 3) := dk_180 0 63 (dk_at dksX0_cut_1 0 rfl rfl)
theorem dX0_cut_27 : decode cX0_cut 27 = .ok (.iload_n 1, 1) := dk_27 (dk_at dksX0_cut_1 3 rfl rfl)
theorem dX0_cut_28 : decode cX0_cut 28 = .ok (.aaload, 1) := dk_50 (dk_at dksX0_cut_1 4 rfl rfl)
theorem dX0_cut_29 : decode cX0_cut 29 = .ok (.getfield 342, 3) := dk_180 1 86 (dk_at dksX0_cut_1 5 rfl rfl)
theorem dX0_cut_32 : decode cX0_cut 32 = .ok (.astore 4, 2) := dk_58 4 (dk_at dksX0_cut_1 8 rfl rfl)
theorem dX0_cut_34 : decode cX0_cut 34 = .ok (.aload 4, 2) := dk_25 4 (dk_at dksX0_cut_1 10 rfl rfl)
theorem dX0_cut_36 : decode cX0_cut 36 = .ok (.instanceof 351, 3) := dk_193 1 95 (dk_at dksX0_cut_1 12 rfl rfl)
theorem dX0_cut_39 : decode cX0_cut 39 = .ok (.ifCond .eq 28, 3) := dk_153 0 28 (dk_at dksX0_cut_1 15 rfl rfl)
theorem dX0_cut_42 : decode cX0_cut 42 = .ok (.aload 4, 2) := dk_25 4 (dk_at dksX0_cut_1 18 rfl rfl)
theorem dX0_cut_44 : decode cX0_cut 44 = .ok (.checkcast 351, 3) := dk_192 1 95 (dk_at dksX0_cut_1 20 rfl rfl)
theorem dX0_cut_47 : decode cX0_cut 47 = .ok (.astore 5, 2) := dk_58 5 (dk_at dksX0_cut_2 0 rfl rfl)
theorem dX0_cut_49 : decode cX0_cut 49 = .ok (.iload_n 3, 1) := dk_29 (dk_at dksX0_cut_2 2 rfl rfl)
theorem dX0_cut_50 : decode cX0_cut 50 = .ok (.ifCond .ne 12, 3) := dk_154 0 12 (dk_at dksX0_cut_2 3 rfl rfl)
theorem dX0_cut_53 : decode cX0_cut 53 = .ok (.aload 5, 2) := dk_25 5 (dk_at dksX0_cut_2 6 rfl rfl)
theorem dX0_cut_55 : decode cX0_cut 55 = .ok (.iload_n 2, 1) := dk_28 (dk_at dksX0_cut_2 8 rfl rfl)
theorem dX0_cut_56 : decode cX0_cut 56 = .ok (.laload, 1) := dk_47 (dk_at dksX0_cut_2 9 rfl rfl)
theorem dX0_cut_57 : decode cX0_cut 57 = .ok (.l2i, 1) := dk_136 (dk_at dksX0_cut_2 10 rfl rfl)
theorem dX0_cut_58 : decode cX0_cut 58 = .ok (.i2l, 1) := dk_133 (dk_at dksX0_cut_2 11 rfl rfl)
theorem dX0_cut_59 : decode cX0_cut 59 = .ok (.goto 7, 3) := dk_167 0 7 (dk_at dksX0_cut_2 12 rfl rfl)
theorem dX0_cut_62 : decode cX0_cut 62 = .ok (.aload 5, 2) := dk_25 5 (dk_at dksX0_cut_2 15 rfl rfl)
theorem dX0_cut_64 : decode cX0_cut 64 = .ok (.iload_n 2, 1) := dk_28 (dk_at dksX0_cut_2 17 rfl rfl)
theorem dX0_cut_65 : decode cX0_cut 65 = .ok (.laload, 1) := dk_47 (dk_at dksX0_cut_2 18 rfl rfl)
theorem dX0_cut_66 : decode cX0_cut 66 = .ok (.lreturn, 1) := dk_173 (dk_at dksX0_cut_2 19 rfl rfl)
theorem dX0_cut_67 : decode cX0_cut 67 = .ok (.aload 4, 2) := dk_25 4 (dk_at dksX0_cut_2 20 rfl rfl)
theorem dX0_cut_69 : decode cX0_cut 69 = .ok (.instanceof 353, 3) := dk_193 1 97 (dk_at dksX0_cut_3 0 rfl rfl)
theorem dX0_cut_72 : decode cX0_cut 72 = .ok (.ifCond .eq 29, 3) := dk_153 0 29 (dk_at dksX0_cut_3 3 rfl rfl)
theorem dX0_cut_75 : decode cX0_cut 75 = .ok (.aload 4, 2) := dk_25 4 (dk_at dksX0_cut_3 6 rfl rfl)
theorem dX0_cut_77 : decode cX0_cut 77 = .ok (.checkcast 353, 3) := dk_192 1 97 (dk_at dksX0_cut_3 8 rfl rfl)
theorem dX0_cut_80 : decode cX0_cut 80 = .ok (.astore 5, 2) := dk_58 5 (dk_at dksX0_cut_3 11 rfl rfl)
theorem dX0_cut_82 : decode cX0_cut 82 = .ok (.iload_n 3, 1) := dk_29 (dk_at dksX0_cut_3 13 rfl rfl)
theorem dX0_cut_83 : decode cX0_cut 83 = .ok (.ifCond .ne 12, 3) := dk_154 0 12 (dk_at dksX0_cut_3 14 rfl rfl)
theorem dX0_cut_86 : decode cX0_cut 86 = .ok (.aload 5, 2) := dk_25 5 (dk_at dksX0_cut_3 17 rfl rfl)
theorem dX0_cut_88 : decode cX0_cut 88 = .ok (.iload_n 2, 1) := dk_28 (dk_at dksX0_cut_3 19 rfl rfl)
theorem dX0_cut_89 : decode cX0_cut 89 = .ok (.faload, 1) := dk_48 (dk_at dksX0_cut_3 20 rfl rfl)
theorem dX0_cut_90 : decode cX0_cut 90 = .ok (.f2i, 1) := dk_139 (dk_at dksX0_cut_3 21 rfl rfl)
theorem dX0_cut_91 : decode cX0_cut 91 = .ok (.i2l, 1) := dk_133 (dk_at dksX0_cut_3 22 rfl rfl)
theorem dX0_cut_92 : decode cX0_cut 92 = .ok (.goto 8, 3) := dk_167 0 8 (dk_at dksX0_cut_4 0 rfl rfl)
theorem dX0_cut_95 : decode cX0_cut 95 = .ok (.aload 5, 2) := dk_25 5 (dk_at dksX0_cut_4 3 rfl rfl)
theorem dX0_cut_97 : decode cX0_cut 97 = .ok (.iload_n 2, 1) := dk_28 (dk_at dksX0_cut_4 5 rfl rfl)
theorem dX0_cut_98 : decode cX0_cut 98 = .ok (.faload, 1) := dk_48 (dk_at dksX0_cut_4 6 rfl rfl)
theorem dX0_cut_99 : decode cX0_cut 99 = .ok (.f2l, 1) := dk_140 (dk_at dksX0_cut_4 7 rfl rfl)
theorem dX0_cut_100 : decode cX0_cut 100 = .ok (.lreturn, 1) := dk_173 (dk_at dksX0_cut_4 8 rfl rfl)
theorem dX0_cut_101 : decode cX0_cut 101 = .ok (.aload 4, 2) := dk_25 4 (dk_at dksX0_cut_4 9 rfl rfl)
theorem dX0_cut_103 : decode cX0_cut 103 = .ok (.checkcast 355, 3) := dk_192 1 99 (dk_at dksX0_cut_4 11 rfl rfl)
theorem dX0_cut_106 : decode cX0_cut 106 = .ok (.iload_n 2, 1) := dk_28 (dk_at dksX0_cut_4 14 rfl rfl)
theorem dX0_cut_107 : decode cX0_cut 107 = .ok (.daload, 1) := dk_49 (dk_at dksX0_cut_4 15 rfl rfl)
theorem dX0_cut_108 : decode cX0_cut 108 = .ok (.dstore 5, 2) := dk_57 5 (dk_at dksX0_cut_4 16 rfl rfl)
theorem dX0_cut_110 : decode cX0_cut 110 = .ok (.iload_n 3, 1) := dk_29 (dk_at dksX0_cut_4 18 rfl rfl)
theorem dX0_cut_111 : decode cX0_cut 111 = .ok (.ifCond .ne 10, 3) := dk_154 0 10 (dk_at dksX0_cut_4 19 rfl rfl)
theorem dX0_cut_114 : decode cX0_cut 114 = .ok (.dload 5, 2) := dk_24 5 (dk_at dksX0_cut_4 22 rfl rfl)
theorem dX0_cut_116 : decode cX0_cut 116 = .ok (.d2i, 1) := dk_142 (dk_at dksX0_cut_5 0 rfl rfl)
theorem dX0_cut_117 : decode cX0_cut 117 = .ok (.i2l, 1) := dk_133 (dk_at dksX0_cut_5 1 rfl rfl)
theorem dX0_cut_118 : decode cX0_cut 118 = .ok (.goto 6, 3) := dk_167 0 6 (dk_at dksX0_cut_5 2 rfl rfl)
theorem dX0_cut_121 : decode cX0_cut 121 = .ok (.dload 5, 2) := dk_24 5 (dk_at dksX0_cut_5 5 rfl rfl)
theorem dX0_cut_123 : decode cX0_cut 123 = .ok (.d2l, 1) := dk_143 (dk_at dksX0_cut_5 7 rfl rfl)
theorem dX0_cut_124 : decode cX0_cut 124 = .ok (.lreturn, 1) := dk_173 (dk_at dksX0_cut_5 8 rfl rfl)
abbrev cX0_remains : ByteArray := prog_1_method_50_code
def yX0_remains : MethodName := ⟨RX0, "remains", "(III)J"⟩
def dkwX0_remains_5 : List UInt8 := [20, 1, 106, 107, 143, 173]
abbrev dktX0_remains_5 : List UInt8 := dkwX0_remains_5 ++ []
def dkwX0_remains_4 : List UInt8 := [114, 19, 1, 105, 106, 140, 173, 25, 4, 192, 1, 99, 58, 5, 25, 5, 28, 49, 25, 5, 29, 49, 115]
abbrev dktX0_remains_4 : List UInt8 := dkwX0_remains_4 ++ dktX0_remains_5
def dkwX0_remains_3 : List UInt8 := [173, 25, 4, 193, 1, 97, 153, 0, 25, 25, 4, 192, 1, 97, 58, 5, 25, 5, 28, 48, 25, 5, 29, 48]
abbrev dktX0_remains_3 : List UInt8 := dkwX0_remains_3 ++ dktX0_remains_4
def dkwX0_remains_2 : List UInt8 := [25, 4, 193, 1, 95, 153, 0, 20, 25, 4, 192, 1, 95, 58, 5, 25, 5, 28, 47, 25, 5, 29, 47, 113]
abbrev dktX0_remains_2 : List UInt8 := dkwX0_remains_2 ++ dktX0_remains_3
def dkwX0_remains_1 : List UInt8 := [29, 182, 1, 101, 14, 151, 154, 0, 7, 20, 0, 110, 173, 42, 180, 0, 63, 27, 50, 180, 1, 86, 58, 4]
abbrev dktX0_remains_1 : List UInt8 := dkwX0_remains_1 ++ dktX0_remains_2
def dkwX0_remains_0 : List UInt8 := [42, 27, 28, 182, 1, 92, 154, 0, 27, 42, 27, 29, 182, 1, 92, 154, 0, 18, 42, 180, 0, 63, 27, 50]
abbrev dktX0_remains_0 : List UInt8 := dkwX0_remains_0 ++ dktX0_remains_1
theorem dksX0_remains_0 : cX0_remains.data.toList.drop 0 = dktX0_remains_0 := by decide +kernel
theorem dksX0_remains_1 : cX0_remains.data.toList.drop 24 = dktX0_remains_1 := dk_seg dksX0_remains_0 24 rfl rfl
theorem dksX0_remains_2 : cX0_remains.data.toList.drop 48 = dktX0_remains_2 := dk_seg dksX0_remains_1 24 rfl rfl
theorem dksX0_remains_3 : cX0_remains.data.toList.drop 72 = dktX0_remains_3 := dk_seg dksX0_remains_2 24 rfl rfl
theorem dksX0_remains_4 : cX0_remains.data.toList.drop 96 = dktX0_remains_4 := dk_seg dksX0_remains_3 24 rfl rfl
theorem dksX0_remains_5 : cX0_remains.data.toList.drop 119 = dktX0_remains_5 := dk_seg dksX0_remains_4 23 rfl rfl
theorem dX0_remains_0 : decode cX0_remains 0 = .ok (.aload_n 0, 1) := dk_42 (dk_at dksX0_remains_0 0 rfl rfl)
theorem dX0_remains_1 : decode cX0_remains 1 = .ok (.iload_n 1, 1) := dk_27 (dk_at dksX0_remains_0 1 rfl rfl)
theorem dX0_remains_2 : decode cX0_remains 2 = .ok (.iload_n 2, 1) := dk_28 (dk_at dksX0_remains_0 2 rfl rfl)
theorem dX0_remains_3 : decode cX0_remains 3 = .ok (.invokevirtual 348, 3) := dk_182 1 92 (dk_at dksX0_remains_0 3 rfl rfl)
theorem dX0_remains_6 : decode cX0_remains 6 = .ok (.ifCond .ne 27, 3) := dk_154 0 27 (dk_at dksX0_remains_0 6 rfl rfl)
theorem dX0_remains_9 : decode cX0_remains 9 = .ok (.aload_n 0, 1) := dk_42 (dk_at dksX0_remains_0 9 rfl rfl)
theorem dX0_remains_10 : decode cX0_remains 10 = .ok (.iload_n 1, 1) := dk_27 (dk_at dksX0_remains_0 10 rfl rfl)
theorem dX0_remains_11 : decode cX0_remains 11 = .ok (.iload_n 3, 1) := dk_29 (dk_at dksX0_remains_0 11 rfl rfl)
theorem dX0_remains_12 : decode cX0_remains 12 = .ok (.invokevirtual 348, 3) := dk_182 1 92 (dk_at dksX0_remains_0 12 rfl rfl)
theorem dX0_remains_15 : decode cX0_remains 15 = .ok (.ifCond .ne 18, 3) := dk_154 0 18 (dk_at dksX0_remains_0 15 rfl rfl)
theorem dX0_remains_18 : decode cX0_remains 18 = .ok (.aload_n 0, 1) := dk_42 (dk_at dksX0_remains_0 18 rfl rfl)
theorem dX0_remains_19 : decode cX0_remains 19 = .ok (.getfield 63, 3) := dk_180 0 63 (dk_at dksX0_remains_0 19 rfl rfl)
theorem dX0_remains_22 : decode cX0_remains 22 = .ok (.iload_n 1, 1) := dk_27 (dk_at dksX0_remains_0 22 rfl rfl)
theorem dX0_remains_23 : decode cX0_remains 23 = .ok (.aaload, 1) := dk_50 (dk_at dksX0_remains_0 23 rfl rfl)
theorem dX0_remains_24 : decode cX0_remains 24 = .ok (.iload_n 3, 1) := dk_29 (dk_at dksX0_remains_1 0 rfl rfl)
theorem dX0_remains_25 : decode cX0_remains 25 = .ok (.invokevirtual 357, 3) := dk_182 1 101 (dk_at dksX0_remains_1 1 rfl rfl)
theorem dX0_remains_28 : decode cX0_remains 28 = .ok (.dconst 0, 1) := dk_14 (dk_at dksX0_remains_1 4 rfl rfl)
theorem dX0_remains_29 : decode cX0_remains 29 = .ok (.dcmp .l, 1) := dk_151 (dk_at dksX0_remains_1 5 rfl rfl)
theorem dX0_remains_30 : decode cX0_remains 30 = .ok (.ifCond .ne 7, 3) := dk_154 0 7 (dk_at dksX0_remains_1 6 rfl rfl)
theorem dX0_remains_33 : decode cX0_remains 33 = .ok (.ldc2_w 110, 3) := dk_20 0 110 (dk_at dksX0_remains_1 9 rfl rfl)
theorem dX0_remains_36 : decode cX0_remains 36 = .ok (.lreturn, 1) := dk_173 (dk_at dksX0_remains_1 12 rfl rfl)
theorem dX0_remains_37 : decode cX0_remains 37 = .ok (.aload_n 0, 1) := dk_42 (dk_at dksX0_remains_1 13 rfl rfl)
theorem dX0_remains_38 : decode cX0_remains 38 = .ok (.getfield 63, 3) := dk_180 0 63 (dk_at dksX0_remains_1 14 rfl rfl)
theorem dX0_remains_41 : decode cX0_remains 41 = .ok (.iload_n 1, 1) := dk_27 (dk_at dksX0_remains_1 17 rfl rfl)
theorem dX0_remains_42 : decode cX0_remains 42 = .ok (.aaload, 1) := dk_50 (dk_at dksX0_remains_1 18 rfl rfl)
theorem dX0_remains_43 : decode cX0_remains 43 = .ok (.getfield 342, 3) := dk_180 1 86 (dk_at dksX0_remains_1 19 rfl rfl)
theorem dX0_remains_46 : decode cX0_remains 46 = .ok (.astore 4, 2) := dk_58 4 (dk_at dksX0_remains_1 22 rfl rfl)
theorem dX0_remains_48 : decode cX0_remains 48 = .ok (.aload 4, 2) := dk_25 4 (dk_at dksX0_remains_2 0 rfl rfl)
theorem dX0_remains_50 : decode cX0_remains 50 = .ok (.instanceof 351, 3) := dk_193 1 95 (dk_at dksX0_remains_2 2 rfl rfl)
theorem dX0_remains_53 : decode cX0_remains 53 = .ok (.ifCond .eq 20, 3) := dk_153 0 20 (dk_at dksX0_remains_2 5 rfl rfl)
theorem dX0_remains_56 : decode cX0_remains 56 = .ok (.aload 4, 2) := dk_25 4 (dk_at dksX0_remains_2 8 rfl rfl)
theorem dX0_remains_58 : decode cX0_remains 58 = .ok (.checkcast 351, 3) := dk_192 1 95 (dk_at dksX0_remains_2 10 rfl rfl)
theorem dX0_remains_61 : decode cX0_remains 61 = .ok (.astore 5, 2) := dk_58 5 (dk_at dksX0_remains_2 13 rfl rfl)
theorem dX0_remains_63 : decode cX0_remains 63 = .ok (.aload 5, 2) := dk_25 5 (dk_at dksX0_remains_2 15 rfl rfl)
theorem dX0_remains_65 : decode cX0_remains 65 = .ok (.iload_n 2, 1) := dk_28 (dk_at dksX0_remains_2 17 rfl rfl)
theorem dX0_remains_66 : decode cX0_remains 66 = .ok (.laload, 1) := dk_47 (dk_at dksX0_remains_2 18 rfl rfl)
theorem dX0_remains_67 : decode cX0_remains 67 = .ok (.aload 5, 2) := dk_25 5 (dk_at dksX0_remains_2 19 rfl rfl)
theorem dX0_remains_69 : decode cX0_remains 69 = .ok (.iload_n 3, 1) := dk_29 (dk_at dksX0_remains_2 21 rfl rfl)
theorem dX0_remains_70 : decode cX0_remains 70 = .ok (.laload, 1) := dk_47 (dk_at dksX0_remains_2 22 rfl rfl)
theorem dX0_remains_71 : decode cX0_remains 71 = .ok (.lrem, 1) := dk_113 (dk_at dksX0_remains_2 23 rfl rfl)
theorem dX0_remains_72 : decode cX0_remains 72 = .ok (.lreturn, 1) := dk_173 (dk_at dksX0_remains_3 0 rfl rfl)
theorem dX0_remains_73 : decode cX0_remains 73 = .ok (.aload 4, 2) := dk_25 4 (dk_at dksX0_remains_3 1 rfl rfl)
theorem dX0_remains_75 : decode cX0_remains 75 = .ok (.instanceof 353, 3) := dk_193 1 97 (dk_at dksX0_remains_3 3 rfl rfl)
theorem dX0_remains_78 : decode cX0_remains 78 = .ok (.ifCond .eq 25, 3) := dk_153 0 25 (dk_at dksX0_remains_3 6 rfl rfl)
theorem dX0_remains_81 : decode cX0_remains 81 = .ok (.aload 4, 2) := dk_25 4 (dk_at dksX0_remains_3 9 rfl rfl)
theorem dX0_remains_83 : decode cX0_remains 83 = .ok (.checkcast 353, 3) := dk_192 1 97 (dk_at dksX0_remains_3 11 rfl rfl)
theorem dX0_remains_86 : decode cX0_remains 86 = .ok (.astore 5, 2) := dk_58 5 (dk_at dksX0_remains_3 14 rfl rfl)
theorem dX0_remains_88 : decode cX0_remains 88 = .ok (.aload 5, 2) := dk_25 5 (dk_at dksX0_remains_3 16 rfl rfl)
theorem dX0_remains_90 : decode cX0_remains 90 = .ok (.iload_n 2, 1) := dk_28 (dk_at dksX0_remains_3 18 rfl rfl)
theorem dX0_remains_91 : decode cX0_remains 91 = .ok (.faload, 1) := dk_48 (dk_at dksX0_remains_3 19 rfl rfl)
theorem dX0_remains_92 : decode cX0_remains 92 = .ok (.aload 5, 2) := dk_25 5 (dk_at dksX0_remains_3 20 rfl rfl)
theorem dX0_remains_94 : decode cX0_remains 94 = .ok (.iload_n 3, 1) := dk_29 (dk_at dksX0_remains_3 22 rfl rfl)
theorem dX0_remains_95 : decode cX0_remains 95 = .ok (.faload, 1) := dk_48 (dk_at dksX0_remains_3 23 rfl rfl)
theorem dX0_remains_96 : decode cX0_remains 96 = .ok (.frem, 1) := dk_114 (dk_at dksX0_remains_4 0 rfl rfl)
theorem dX0_remains_97 : decode cX0_remains 97 = .ok (.ldc_w 361, 3) := dk_19 1 105 (dk_at dksX0_remains_4 1 rfl rfl)
theorem dX0_remains_100 : decode cX0_remains 100 = .ok (.fmul, 1) := dk_106 (dk_at dksX0_remains_4 4 rfl rfl)
theorem dX0_remains_101 : decode cX0_remains 101 = .ok (.f2l, 1) := dk_140 (dk_at dksX0_remains_4 5 rfl rfl)
theorem dX0_remains_102 : decode cX0_remains 102 = .ok (.lreturn, 1) := dk_173 (dk_at dksX0_remains_4 6 rfl rfl)
theorem dX0_remains_103 : decode cX0_remains 103 = .ok (.aload 4, 2) := dk_25 4 (dk_at dksX0_remains_4 7 rfl rfl)
theorem dX0_remains_105 : decode cX0_remains 105 = .ok (.checkcast 355, 3) := dk_192 1 99 (dk_at dksX0_remains_4 9 rfl rfl)
theorem dX0_remains_108 : decode cX0_remains 108 = .ok (.astore 5, 2) := dk_58 5 (dk_at dksX0_remains_4 12 rfl rfl)
theorem dX0_remains_110 : decode cX0_remains 110 = .ok (.aload 5, 2) := dk_25 5 (dk_at dksX0_remains_4 14 rfl rfl)
theorem dX0_remains_112 : decode cX0_remains 112 = .ok (.iload_n 2, 1) := dk_28 (dk_at dksX0_remains_4 16 rfl rfl)
theorem dX0_remains_113 : decode cX0_remains 113 = .ok (.daload, 1) := dk_49 (dk_at dksX0_remains_4 17 rfl rfl)
theorem dX0_remains_114 : decode cX0_remains 114 = .ok (.aload 5, 2) := dk_25 5 (dk_at dksX0_remains_4 18 rfl rfl)
theorem dX0_remains_116 : decode cX0_remains 116 = .ok (.iload_n 3, 1) := dk_29 (dk_at dksX0_remains_4 20 rfl rfl)
theorem dX0_remains_117 : decode cX0_remains 117 = .ok (.daload, 1) := dk_49 (dk_at dksX0_remains_4 21 rfl rfl)
theorem dX0_remains_118 : decode cX0_remains 118 = .ok (.drem, 1) := dk_115 (dk_at dksX0_remains_4 22 rfl rfl)
theorem dX0_remains_119 : decode cX0_remains 119 = .ok (.ldc2_w 362, 3) := dk_20 1 106 (dk_at dksX0_remains_5 0 rfl rfl)
theorem dX0_remains_122 : decode cX0_remains 122 = .ok (.dmul, 1) := dk_107 (dk_at dksX0_remains_5 3 rfl rfl)
theorem dX0_remains_123 : decode cX0_remains 123 = .ok (.d2l, 1) := dk_143 (dk_at dksX0_remains_5 4 rfl rfl)
theorem dX0_remains_124 : decode cX0_remains 124 = .ok (.lreturn, 1) := dk_173 (dk_at dksX0_remains_5 5 rfl rfl)
abbrev cX0_take : ByteArray := prog_1_method_51_code
def yX0_take : MethodName := ⟨RX0, "take", "(IIII)I"⟩
def dkwX0_take_6 : List UInt8 := [27, 24, 6, 142, 21, 4, 182, 1, 114, 167, 0, 5, 16, 252, 172]
abbrev dktX0_take_6 : List UInt8 := dkwX0_take_6 ++ []
def dkwX0_take_5 : List UInt8 := [184, 1, 117, 57, 6, 24, 6, 20, 1, 121, 151, 158, 0, 25, 24, 6, 20, 1, 123, 152, 156, 0, 16, 42]
abbrev dktX0_take_5 : List UInt8 := dkwX0_take_5 ++ dktX0_take_6
def dkwX0_take_4 : List UInt8 := [21, 4, 182, 1, 114, 172, 42, 180, 0, 63, 28, 50, 29, 182, 1, 101, 21, 4, 184, 1, 15, 138, 107]
abbrev dktX0_take_4 : List UInt8 := dkwX0_take_4 ++ dktX0_take_5
def dkwX0_take_3 : List UInt8 := [55, 7, 22, 7, 20, 1, 110, 20, 1, 112, 184, 0, 96, 154, 0, 6, 16, 252, 172, 42, 27, 22, 7, 136]
abbrev dktX0_take_3 : List UInt8 := dkwX0_take_3 ++ dktX0_take_4
def dkwX0_take_2 : List UInt8 := [193, 1, 95, 153, 0, 50, 25, 7, 192, 1, 95, 58, 6, 25, 6, 29, 47, 21, 4, 184, 1, 15, 105]
abbrev dktX0_take_2 : List UInt8 := dkwX0_take_2 ++ dktX0_take_3
def dkwX0_take_1 : List UInt8 := [54, 5, 21, 5, 153, 0, 6, 21, 5, 172, 42, 180, 0, 63, 28, 50, 180, 1, 86, 58, 7, 25, 7]
abbrev dktX0_take_1 : List UInt8 := dkwX0_take_1 ++ dktX0_take_2
def dkwX0_take_0 : List UInt8 := [27, 184, 0, 178, 153, 0, 11, 21, 4, 184, 0, 100, 154, 0, 5, 2, 172, 42, 28, 29, 182, 1, 92]
abbrev dktX0_take_0 : List UInt8 := dkwX0_take_0 ++ dktX0_take_1
theorem dksX0_take_0 : cX0_take.data.toList.drop 0 = dktX0_take_0 := by decide +kernel
theorem dksX0_take_1 : cX0_take.data.toList.drop 23 = dktX0_take_1 := dk_seg dksX0_take_0 23 rfl rfl
theorem dksX0_take_2 : cX0_take.data.toList.drop 46 = dktX0_take_2 := dk_seg dksX0_take_1 23 rfl rfl
theorem dksX0_take_3 : cX0_take.data.toList.drop 69 = dktX0_take_3 := dk_seg dksX0_take_2 23 rfl rfl
theorem dksX0_take_4 : cX0_take.data.toList.drop 93 = dktX0_take_4 := dk_seg dksX0_take_3 24 rfl rfl
theorem dksX0_take_5 : cX0_take.data.toList.drop 116 = dktX0_take_5 := dk_seg dksX0_take_4 23 rfl rfl
theorem dksX0_take_6 : cX0_take.data.toList.drop 140 = dktX0_take_6 := dk_seg dksX0_take_5 24 rfl rfl
theorem dX0_take_0 : decode cX0_take 0 = .ok (.iload_n 1, 1) := dk_27 (dk_at dksX0_take_0 0 rfl rfl)
theorem dX0_take_1 : decode cX0_take 1 = .ok (.invokestatic 178, 3) := dk_184 0 178 (dk_at dksX0_take_0 1 rfl rfl)
theorem dX0_take_4 : decode cX0_take 4 = .ok (.ifCond .eq 11, 3) := dk_153 0 11 (dk_at dksX0_take_0 4 rfl rfl)
theorem dX0_take_7 : decode cX0_take 7 = .ok (.iload 4, 2) := dk_21 4 (dk_at dksX0_take_0 7 rfl rfl)
theorem dX0_take_9 : decode cX0_take 9 = .ok (.invokestatic 100, 3) := dk_184 0 100 (dk_at dksX0_take_0 9 rfl rfl)
theorem dX0_take_12 : decode cX0_take 12 = .ok (.ifCond .ne 5, 3) := dk_154 0 5 (dk_at dksX0_take_0 12 rfl rfl)
theorem dX0_take_15 : decode cX0_take 15 = .ok (.iconst (-1), 1) := dk_2 (dk_at dksX0_take_0 15 rfl rfl)
theorem dX0_take_16 : decode cX0_take 16 = .ok (.ireturn, 1) := dk_172 (dk_at dksX0_take_0 16 rfl rfl)
theorem dX0_take_17 : decode cX0_take 17 = .ok (.aload_n 0, 1) := dk_42 (dk_at dksX0_take_0 17 rfl rfl)
theorem dX0_take_18 : decode cX0_take 18 = .ok (.iload_n 2, 1) := dk_28 (dk_at dksX0_take_0 18 rfl rfl)
theorem dX0_take_19 : decode cX0_take 19 = .ok (.iload_n 3, 1) := dk_29 (dk_at dksX0_take_0 19 rfl rfl)
theorem dX0_take_20 : decode cX0_take 20 = .ok (.invokevirtual 348, 3) := dk_182 1 92 (dk_at dksX0_take_0 20 rfl rfl)
theorem dX0_take_23 : decode cX0_take 23 = .ok (.istore 5, 2) := dk_54 5 (dk_at dksX0_take_1 0 rfl rfl)
theorem dX0_take_25 : decode cX0_take 25 = .ok (.iload 5, 2) := dk_21 5 (dk_at dksX0_take_1 2 rfl rfl)
theorem dX0_take_27 : decode cX0_take 27 = .ok (.ifCond .eq 6, 3) := dk_153 0 6 (dk_at dksX0_take_1 4 rfl rfl)
theorem dX0_take_30 : decode cX0_take 30 = .ok (.iload 5, 2) := dk_21 5 (dk_at dksX0_take_1 7 rfl rfl)
theorem dX0_take_32 : decode cX0_take 32 = .ok (.ireturn, 1) := dk_172 (dk_at dksX0_take_1 9 rfl rfl)
theorem dX0_take_33 : decode cX0_take 33 = .ok (.aload_n 0, 1) := dk_42 (dk_at dksX0_take_1 10 rfl rfl)
theorem dX0_take_34 : decode cX0_take 34 = .ok (.getfield 63, 3) := dk_180 0 63 (dk_at dksX0_take_1 11 rfl rfl)
theorem dX0_take_37 : decode cX0_take 37 = .ok (.iload_n 2, 1) := dk_28 (dk_at dksX0_take_1 14 rfl rfl)
theorem dX0_take_38 : decode cX0_take 38 = .ok (.aaload, 1) := dk_50 (dk_at dksX0_take_1 15 rfl rfl)
theorem dX0_take_39 : decode cX0_take 39 = .ok (.getfield 342, 3) := dk_180 1 86 (dk_at dksX0_take_1 16 rfl rfl)
theorem dX0_take_42 : decode cX0_take 42 = .ok (.astore 7, 2) := dk_58 7 (dk_at dksX0_take_1 19 rfl rfl)
theorem dX0_take_44 : decode cX0_take 44 = .ok (.aload 7, 2) := dk_25 7 (dk_at dksX0_take_1 21 rfl rfl)
theorem dX0_take_46 : decode cX0_take 46 = .ok (.instanceof 351, 3) := dk_193 1 95 (dk_at dksX0_take_2 0 rfl rfl)
theorem dX0_take_49 : decode cX0_take 49 = .ok (.ifCond .eq 50, 3) := dk_153 0 50 (dk_at dksX0_take_2 3 rfl rfl)
theorem dX0_take_52 : decode cX0_take 52 = .ok (.aload 7, 2) := dk_25 7 (dk_at dksX0_take_2 6 rfl rfl)
theorem dX0_take_54 : decode cX0_take 54 = .ok (.checkcast 351, 3) := dk_192 1 95 (dk_at dksX0_take_2 8 rfl rfl)
theorem dX0_take_57 : decode cX0_take 57 = .ok (.astore 6, 2) := dk_58 6 (dk_at dksX0_take_2 11 rfl rfl)
theorem dX0_take_59 : decode cX0_take 59 = .ok (.aload 6, 2) := dk_25 6 (dk_at dksX0_take_2 13 rfl rfl)
theorem dX0_take_61 : decode cX0_take 61 = .ok (.iload_n 3, 1) := dk_29 (dk_at dksX0_take_2 15 rfl rfl)
theorem dX0_take_62 : decode cX0_take 62 = .ok (.laload, 1) := dk_47 (dk_at dksX0_take_2 16 rfl rfl)
theorem dX0_take_63 : decode cX0_take 63 = .ok (.iload 4, 2) := dk_21 4 (dk_at dksX0_take_2 17 rfl rfl)
theorem dX0_take_65 : decode cX0_take 65 = .ok (.invokestatic 271, 3) := dk_184 1 15 (dk_at dksX0_take_2 19 rfl rfl)
theorem dX0_take_68 : decode cX0_take 68 = .ok (.lmul, 1) := dk_105 (dk_at dksX0_take_2 22 rfl rfl)
theorem dX0_take_69 : decode cX0_take 69 = .ok (.lstore 7, 2) := dk_55 7 (dk_at dksX0_take_3 0 rfl rfl)
theorem dX0_take_71 : decode cX0_take 71 = .ok (.lload 7, 2) := dk_22 7 (dk_at dksX0_take_3 2 rfl rfl)
theorem dX0_take_73 : decode cX0_take 73 = .ok (.ldc2_w 366, 3) := dk_20 1 110 (dk_at dksX0_take_3 4 rfl rfl)
theorem dX0_take_76 : decode cX0_take 76 = .ok (.ldc2_w 368, 3) := dk_20 1 112 (dk_at dksX0_take_3 7 rfl rfl)
theorem dX0_take_79 : decode cX0_take 79 = .ok (.invokestatic 96, 3) := dk_184 0 96 (dk_at dksX0_take_3 10 rfl rfl)
theorem dX0_take_82 : decode cX0_take 82 = .ok (.ifCond .ne 6, 3) := dk_154 0 6 (dk_at dksX0_take_3 13 rfl rfl)
theorem dX0_take_85 : decode cX0_take 85 = .ok (.bipush (-4), 2) := dk_16 252 (dk_at dksX0_take_3 16 rfl rfl)
theorem dX0_take_87 : decode cX0_take 87 = .ok (.ireturn, 1) := dk_172 (dk_at dksX0_take_3 18 rfl rfl)
theorem dX0_take_88 : decode cX0_take 88 = .ok (.aload_n 0, 1) := dk_42 (dk_at dksX0_take_3 19 rfl rfl)
theorem dX0_take_89 : decode cX0_take 89 = .ok (.iload_n 1, 1) := dk_27 (dk_at dksX0_take_3 20 rfl rfl)
theorem dX0_take_90 : decode cX0_take 90 = .ok (.lload 7, 2) := dk_22 7 (dk_at dksX0_take_3 21 rfl rfl)
theorem dX0_take_92 : decode cX0_take 92 = .ok (.l2i, 1) := dk_136 (dk_at dksX0_take_3 23 rfl rfl)
theorem dX0_take_93 : decode cX0_take 93 = .ok (.iload 4, 2) := dk_21 4 (dk_at dksX0_take_4 0 rfl rfl)
theorem dX0_take_95 : decode cX0_take 95 = .ok (.invokevirtual 370, 3) := dk_182 1 114 (dk_at dksX0_take_4 2 rfl rfl)
theorem dX0_take_98 : decode cX0_take 98 = .ok (.ireturn, 1) := dk_172 (dk_at dksX0_take_4 5 rfl rfl)
theorem dX0_take_99 : decode cX0_take 99 = .ok (.aload_n 0, 1) := dk_42 (dk_at dksX0_take_4 6 rfl rfl)
theorem dX0_take_100 : decode cX0_take 100 = .ok (.getfield 63, 3) := dk_180 0 63 (dk_at dksX0_take_4 7 rfl rfl)
theorem dX0_take_103 : decode cX0_take 103 = .ok (.iload_n 2, 1) := dk_28 (dk_at dksX0_take_4 10 rfl rfl)
theorem dX0_take_104 : decode cX0_take 104 = .ok (.aaload, 1) := dk_50 (dk_at dksX0_take_4 11 rfl rfl)
theorem dX0_take_105 : decode cX0_take 105 = .ok (.iload_n 3, 1) := dk_29 (dk_at dksX0_take_4 12 rfl rfl)
theorem dX0_take_106 : decode cX0_take 106 = .ok (.invokevirtual 357, 3) := dk_182 1 101 (dk_at dksX0_take_4 13 rfl rfl)
theorem dX0_take_109 : decode cX0_take 109 = .ok (.iload 4, 2) := dk_21 4 (dk_at dksX0_take_4 16 rfl rfl)
theorem dX0_take_111 : decode cX0_take 111 = .ok (.invokestatic 271, 3) := dk_184 1 15 (dk_at dksX0_take_4 18 rfl rfl)
theorem dX0_take_114 : decode cX0_take 114 = .ok (.l2d, 1) := dk_138 (dk_at dksX0_take_4 21 rfl rfl)
theorem dX0_take_115 : decode cX0_take 115 = .ok (.dmul, 1) := dk_107 (dk_at dksX0_take_4 22 rfl rfl)
theorem dX0_take_116 : decode cX0_take 116 = .ok (.invokestatic 373, 3) := dk_184 1 117 (dk_at dksX0_take_5 0 rfl rfl)
theorem dX0_take_119 : decode cX0_take 119 = .ok (.dstore 6, 2) := dk_57 6 (dk_at dksX0_take_5 3 rfl rfl)
theorem dX0_take_121 : decode cX0_take 121 = .ok (.dload 6, 2) := dk_24 6 (dk_at dksX0_take_5 5 rfl rfl)
theorem dX0_take_123 : decode cX0_take 123 = .ok (.ldc2_w 377, 3) := dk_20 1 121 (dk_at dksX0_take_5 7 rfl rfl)
theorem dX0_take_126 : decode cX0_take 126 = .ok (.dcmp .l, 1) := dk_151 (dk_at dksX0_take_5 10 rfl rfl)
theorem dX0_take_127 : decode cX0_take 127 = .ok (.ifCond .le 25, 3) := dk_158 0 25 (dk_at dksX0_take_5 11 rfl rfl)
theorem dX0_take_130 : decode cX0_take 130 = .ok (.dload 6, 2) := dk_24 6 (dk_at dksX0_take_5 14 rfl rfl)
theorem dX0_take_132 : decode cX0_take 132 = .ok (.ldc2_w 379, 3) := dk_20 1 123 (dk_at dksX0_take_5 16 rfl rfl)
theorem dX0_take_135 : decode cX0_take 135 = .ok (.dcmp .g, 1) := dk_152 (dk_at dksX0_take_5 19 rfl rfl)
theorem dX0_take_136 : decode cX0_take 136 = .ok (.ifCond .ge 16, 3) := dk_156 0 16 (dk_at dksX0_take_5 20 rfl rfl)
theorem dX0_take_139 : decode cX0_take 139 = .ok (.aload_n 0, 1) := dk_42 (dk_at dksX0_take_5 23 rfl rfl)
theorem dX0_take_140 : decode cX0_take 140 = .ok (.iload_n 1, 1) := dk_27 (dk_at dksX0_take_6 0 rfl rfl)
theorem dX0_take_141 : decode cX0_take 141 = .ok (.dload 6, 2) := dk_24 6 (dk_at dksX0_take_6 1 rfl rfl)
theorem dX0_take_143 : decode cX0_take 143 = .ok (.d2i, 1) := dk_142 (dk_at dksX0_take_6 3 rfl rfl)
theorem dX0_take_144 : decode cX0_take 144 = .ok (.iload 4, 2) := dk_21 4 (dk_at dksX0_take_6 4 rfl rfl)
theorem dX0_take_146 : decode cX0_take 146 = .ok (.invokevirtual 370, 3) := dk_182 1 114 (dk_at dksX0_take_6 6 rfl rfl)
theorem dX0_take_149 : decode cX0_take 149 = .ok (.goto 5, 3) := dk_167 0 5 (dk_at dksX0_take_6 9 rfl rfl)
theorem dX0_take_152 : decode cX0_take 152 = .ok (.bipush (-4), 2) := dk_16 252 (dk_at dksX0_take_6 12 rfl rfl)
theorem dX0_take_154 : decode cX0_take 154 = .ok (.ireturn, 1) := dk_172 (dk_at dksX0_take_6 14 rfl rfl)
abbrev cX0_move : ByteArray := prog_1_method_52_code
def yX0_move : MethodName := ⟨RX0, "move", "(IIIII)I"⟩
def dkwX0_move_5 : List UInt8 := [180, 1, 86, 21, 4, 21, 5, 184, 1, 49, 21, 5, 172]
abbrev dktX0_move_5 : List UInt8 := dkwX0_move_5 ++ []
def dkwX0_move_4 : List UInt8 := [25, 7, 182, 1, 91, 21, 4, 100, 164, 0, 6, 16, 244, 172, 25, 6, 180, 1, 86, 28, 25, 7]
abbrev dktX0_move_4 : List UInt8 := dkwX0_move_4 ++ dktX0_move_5
def dkwX0_move_3 : List UInt8 := [28, 155, 0, 33, 21, 4, 155, 0, 28, 21, 5, 25, 6, 182, 1, 91, 28, 100, 163, 0, 16, 21, 5]
abbrev dktX0_move_3 : List UInt8 := dkwX0_move_3 ++ dktX0_move_4
def dkwX0_move_2 : List UInt8 := [16, 245, 172, 25, 6, 182, 1, 125, 25, 7, 182, 1, 125, 159, 0, 6, 16, 243, 172, 21, 5, 155, 0, 37]
abbrev dktX0_move_2 : List UInt8 := dkwX0_move_2 ++ dktX0_move_3
def dkwX0_move_1 : List UInt8 := [42, 180, 0, 63, 29, 50, 58, 7, 25, 6, 180, 1, 86, 198, 0, 11, 25, 7, 180, 1, 86, 199, 0, 6]
abbrev dktX0_move_1 : List UInt8 := dkwX0_move_1 ++ dktX0_move_2
def dkwX0_move_0 : List UInt8 := [27, 184, 1, 77, 153, 0, 10, 29, 184, 1, 77, 154, 0, 5, 2, 172, 42, 180, 0, 63, 27, 50, 58, 6]
abbrev dktX0_move_0 : List UInt8 := dkwX0_move_0 ++ dktX0_move_1
theorem dksX0_move_0 : cX0_move.data.toList.drop 0 = dktX0_move_0 := by decide +kernel
theorem dksX0_move_1 : cX0_move.data.toList.drop 24 = dktX0_move_1 := dk_seg dksX0_move_0 24 rfl rfl
theorem dksX0_move_2 : cX0_move.data.toList.drop 48 = dktX0_move_2 := dk_seg dksX0_move_1 24 rfl rfl
theorem dksX0_move_3 : cX0_move.data.toList.drop 72 = dktX0_move_3 := dk_seg dksX0_move_2 24 rfl rfl
theorem dksX0_move_4 : cX0_move.data.toList.drop 95 = dktX0_move_4 := dk_seg dksX0_move_3 23 rfl rfl
theorem dksX0_move_5 : cX0_move.data.toList.drop 117 = dktX0_move_5 := dk_seg dksX0_move_4 22 rfl rfl
theorem dX0_move_0 : decode cX0_move 0 = .ok (.iload_n 1, 1) := dk_27 (dk_at dksX0_move_0 0 rfl rfl)
theorem dX0_move_1 : decode cX0_move 1 = .ok (.invokestatic 333, 3) := dk_184 1 77 (dk_at dksX0_move_0 1 rfl rfl)
theorem dX0_move_4 : decode cX0_move 4 = .ok (.ifCond .eq 10, 3) := dk_153 0 10 (dk_at dksX0_move_0 4 rfl rfl)
theorem dX0_move_7 : decode cX0_move 7 = .ok (.iload_n 3, 1) := dk_29 (dk_at dksX0_move_0 7 rfl rfl)
theorem dX0_move_8 : decode cX0_move 8 = .ok (.invokestatic 333, 3) := dk_184 1 77 (dk_at dksX0_move_0 8 rfl rfl)
theorem dX0_move_11 : decode cX0_move 11 = .ok (.ifCond .ne 5, 3) := dk_154 0 5 (dk_at dksX0_move_0 11 rfl rfl)
theorem dX0_move_14 : decode cX0_move 14 = .ok (.iconst (-1), 1) := dk_2 (dk_at dksX0_move_0 14 rfl rfl)
theorem dX0_move_15 : decode cX0_move 15 = .ok (.ireturn, 1) := dk_172 (dk_at dksX0_move_0 15 rfl rfl)
theorem dX0_move_16 : decode cX0_move 16 = .ok (.aload_n 0, 1) := dk_42 (dk_at dksX0_move_0 16 rfl rfl)
theorem dX0_move_17 : decode cX0_move 17 = .ok (.getfield 63, 3) := dk_180 0 63 (dk_at dksX0_move_0 17 rfl rfl)
theorem dX0_move_20 : decode cX0_move 20 = .ok (.iload_n 1, 1) := dk_27 (dk_at dksX0_move_0 20 rfl rfl)
theorem dX0_move_21 : decode cX0_move 21 = .ok (.aaload, 1) := dk_50 (dk_at dksX0_move_0 21 rfl rfl)
theorem dX0_move_22 : decode cX0_move 22 = .ok (.astore 6, 2) := dk_58 6 (dk_at dksX0_move_0 22 rfl rfl)
theorem dX0_move_24 : decode cX0_move 24 = .ok (.aload_n 0, 1) := dk_42 (dk_at dksX0_move_1 0 rfl rfl)
theorem dX0_move_25 : decode cX0_move 25 = .ok (.getfield 63, 3) := dk_180 0 63 (dk_at dksX0_move_1 1 rfl rfl)
theorem dX0_move_28 : decode cX0_move 28 = .ok (.iload_n 3, 1) := dk_29 (dk_at dksX0_move_1 4 rfl rfl)
theorem dX0_move_29 : decode cX0_move 29 = .ok (.aaload, 1) := dk_50 (dk_at dksX0_move_1 5 rfl rfl)
theorem dX0_move_30 : decode cX0_move 30 = .ok (.astore 7, 2) := dk_58 7 (dk_at dksX0_move_1 6 rfl rfl)
theorem dX0_move_32 : decode cX0_move 32 = .ok (.aload 6, 2) := dk_25 6 (dk_at dksX0_move_1 8 rfl rfl)
theorem dX0_move_34 : decode cX0_move 34 = .ok (.getfield 342, 3) := dk_180 1 86 (dk_at dksX0_move_1 10 rfl rfl)
theorem dX0_move_37 : decode cX0_move 37 = .ok (.ifnull 11, 3) := dk_198 0 11 (dk_at dksX0_move_1 13 rfl rfl)
theorem dX0_move_40 : decode cX0_move 40 = .ok (.aload 7, 2) := dk_25 7 (dk_at dksX0_move_1 16 rfl rfl)
theorem dX0_move_42 : decode cX0_move 42 = .ok (.getfield 342, 3) := dk_180 1 86 (dk_at dksX0_move_1 18 rfl rfl)
theorem dX0_move_45 : decode cX0_move 45 = .ok (.ifnonnull 6, 3) := dk_199 0 6 (dk_at dksX0_move_1 21 rfl rfl)
theorem dX0_move_48 : decode cX0_move 48 = .ok (.bipush (-11), 2) := dk_16 245 (dk_at dksX0_move_2 0 rfl rfl)
theorem dX0_move_50 : decode cX0_move 50 = .ok (.ireturn, 1) := dk_172 (dk_at dksX0_move_2 2 rfl rfl)
theorem dX0_move_51 : decode cX0_move 51 = .ok (.aload 6, 2) := dk_25 6 (dk_at dksX0_move_2 3 rfl rfl)
theorem dX0_move_53 : decode cX0_move 53 = .ok (.invokevirtual 381, 3) := dk_182 1 125 (dk_at dksX0_move_2 5 rfl rfl)
theorem dX0_move_56 : decode cX0_move 56 = .ok (.aload 7, 2) := dk_25 7 (dk_at dksX0_move_2 8 rfl rfl)
theorem dX0_move_58 : decode cX0_move 58 = .ok (.invokevirtual 381, 3) := dk_182 1 125 (dk_at dksX0_move_2 10 rfl rfl)
theorem dX0_move_61 : decode cX0_move 61 = .ok (.if_icmp .eq 6, 3) := dk_159 0 6 (dk_at dksX0_move_2 13 rfl rfl)
theorem dX0_move_64 : decode cX0_move 64 = .ok (.bipush (-13), 2) := dk_16 243 (dk_at dksX0_move_2 16 rfl rfl)
theorem dX0_move_66 : decode cX0_move 66 = .ok (.ireturn, 1) := dk_172 (dk_at dksX0_move_2 18 rfl rfl)
theorem dX0_move_67 : decode cX0_move 67 = .ok (.iload 5, 2) := dk_21 5 (dk_at dksX0_move_2 19 rfl rfl)
theorem dX0_move_69 : decode cX0_move 69 = .ok (.ifCond .lt 37, 3) := dk_155 0 37 (dk_at dksX0_move_2 21 rfl rfl)
theorem dX0_move_72 : decode cX0_move 72 = .ok (.iload_n 2, 1) := dk_28 (dk_at dksX0_move_3 0 rfl rfl)
theorem dX0_move_73 : decode cX0_move 73 = .ok (.ifCond .lt 33, 3) := dk_155 0 33 (dk_at dksX0_move_3 1 rfl rfl)
theorem dX0_move_76 : decode cX0_move 76 = .ok (.iload 4, 2) := dk_21 4 (dk_at dksX0_move_3 4 rfl rfl)
theorem dX0_move_78 : decode cX0_move 78 = .ok (.ifCond .lt 28, 3) := dk_155 0 28 (dk_at dksX0_move_3 6 rfl rfl)
theorem dX0_move_81 : decode cX0_move 81 = .ok (.iload 5, 2) := dk_21 5 (dk_at dksX0_move_3 9 rfl rfl)
theorem dX0_move_83 : decode cX0_move 83 = .ok (.aload 6, 2) := dk_25 6 (dk_at dksX0_move_3 11 rfl rfl)
theorem dX0_move_85 : decode cX0_move 85 = .ok (.invokevirtual 347, 3) := dk_182 1 91 (dk_at dksX0_move_3 13 rfl rfl)
theorem dX0_move_88 : decode cX0_move 88 = .ok (.iload_n 2, 1) := dk_28 (dk_at dksX0_move_3 16 rfl rfl)
theorem dX0_move_89 : decode cX0_move 89 = .ok (.isub, 1) := dk_100 (dk_at dksX0_move_3 17 rfl rfl)
theorem dX0_move_90 : decode cX0_move 90 = .ok (.if_icmp .gt 16, 3) := dk_163 0 16 (dk_at dksX0_move_3 18 rfl rfl)
theorem dX0_move_93 : decode cX0_move 93 = .ok (.iload 5, 2) := dk_21 5 (dk_at dksX0_move_3 21 rfl rfl)
theorem dX0_move_95 : decode cX0_move 95 = .ok (.aload 7, 2) := dk_25 7 (dk_at dksX0_move_4 0 rfl rfl)
theorem dX0_move_97 : decode cX0_move 97 = .ok (.invokevirtual 347, 3) := dk_182 1 91 (dk_at dksX0_move_4 2 rfl rfl)
theorem dX0_move_100 : decode cX0_move 100 = .ok (.iload 4, 2) := dk_21 4 (dk_at dksX0_move_4 5 rfl rfl)
theorem dX0_move_102 : decode cX0_move 102 = .ok (.isub, 1) := dk_100 (dk_at dksX0_move_4 7 rfl rfl)
theorem dX0_move_103 : decode cX0_move 103 = .ok (.if_icmp .le 6, 3) := dk_164 0 6 (dk_at dksX0_move_4 8 rfl rfl)
theorem dX0_move_106 : decode cX0_move 106 = .ok (.bipush (-12), 2) := dk_16 244 (dk_at dksX0_move_4 11 rfl rfl)
theorem dX0_move_108 : decode cX0_move 108 = .ok (.ireturn, 1) := dk_172 (dk_at dksX0_move_4 13 rfl rfl)
theorem dX0_move_109 : decode cX0_move 109 = .ok (.aload 6, 2) := dk_25 6 (dk_at dksX0_move_4 14 rfl rfl)
theorem dX0_move_111 : decode cX0_move 111 = .ok (.getfield 342, 3) := dk_180 1 86 (dk_at dksX0_move_4 16 rfl rfl)
theorem dX0_move_114 : decode cX0_move 114 = .ok (.iload_n 2, 1) := dk_28 (dk_at dksX0_move_4 19 rfl rfl)
theorem dX0_move_115 : decode cX0_move 115 = .ok (.aload 7, 2) := dk_25 7 (dk_at dksX0_move_4 20 rfl rfl)
theorem dX0_move_117 : decode cX0_move 117 = .ok (.getfield 342, 3) := dk_180 1 86 (dk_at dksX0_move_5 0 rfl rfl)
theorem dX0_move_120 : decode cX0_move 120 = .ok (.iload 4, 2) := dk_21 4 (dk_at dksX0_move_5 3 rfl rfl)
theorem dX0_move_122 : decode cX0_move 122 = .ok (.iload 5, 2) := dk_21 5 (dk_at dksX0_move_5 5 rfl rfl)
theorem dX0_move_124 : decode cX0_move 124 = .ok (.invokestatic 305, 3) := dk_184 1 49 (dk_at dksX0_move_5 7 rfl rfl)
theorem dX0_move_127 : decode cX0_move 127 = .ok (.iload 5, 2) := dk_21 5 (dk_at dksX0_move_5 10 rfl rfl)
theorem dX0_move_129 : decode cX0_move 129 = .ok (.ireturn, 1) := dk_172 (dk_at dksX0_move_5 12 rfl rfl)
abbrev cX0_count : ByteArray := prog_1_method_53_code
def yX0_count : MethodName := ⟨RX0, "count", "(I)I"⟩
def dkwX0_count_7 : List UInt8 := [132, 3, 1, 167, 255, 228, 28, 172, 2, 172]
abbrev dktX0_count_7 : List UInt8 := dkwX0_count_7 ++ []
def dkwX0_count_6 : List UInt8 := [162, 0, 29, 28, 42, 180, 0, 63, 29, 50, 180, 1, 86, 199, 0, 7, 3, 167, 0, 4, 4, 96, 61]
abbrev dktX0_count_6 : List UInt8 := dkwX0_count_6 ++ dktX0_count_7
def dkwX0_count_5 : List UInt8 := [172, 42, 180, 0, 13, 16, 6, 50, 180, 0, 125, 182, 0, 129, 172, 42, 180, 1, 55, 172, 3, 62, 29, 6]
abbrev dktX0_count_5 : List UInt8 := dkwX0_count_5 ++ dktX0_count_6
def dkwX0_count_4 : List UInt8 := [199, 0, 7, 3, 167, 0, 6, 4, 29, 120, 128, 61, 132, 3, 1, 167, 255, 229, 28, 172, 42, 180, 0, 141]
abbrev dktX0_count_4 : List UInt8 := dkwX0_count_4 ++ dktX0_count_5
def dkwX0_count_3 : List UInt8 := [128, 61, 132, 3, 1, 167, 255, 229, 28, 172, 3, 62, 29, 8, 162, 0, 28, 28, 42, 180, 0, 56, 29, 50]
abbrev dktX0_count_3 : List UInt8 := dkwX0_count_3 ++ dktX0_count_4
def dkwX0_count_2 : List UInt8 := [3, 62, 29, 7, 162, 0, 28, 28, 42, 180, 0, 50, 29, 50, 199, 0, 7, 3, 167, 0, 6, 4, 29, 120]
abbrev dktX0_count_2 : List UInt8 := dkwX0_count_2 ++ dktX0_count_3
def dkwX0_count_1 : List UInt8 := [170, 0, 0, 0, 164, 0, 0, 0, 0, 0, 0, 0, 5, 0, 0, 0, 37, 0, 0, 0, 71, 0, 0, 0, 105, 0, 0, 0, 110, 0, 0, 0, 124, 0, 0, 0, 129]
abbrev dktX0_count_1 : List UInt8 := dkwX0_count_1 ++ dktX0_count_2
def dkwX0_count_0 : List UInt8 := [3, 61, 27]
abbrev dktX0_count_0 : List UInt8 := dkwX0_count_0 ++ dktX0_count_1
theorem dksX0_count_0 : cX0_count.data.toList.drop 0 = dktX0_count_0 := by decide +kernel
theorem dksX0_count_1 : cX0_count.data.toList.drop 3 = dktX0_count_1 := dk_seg dksX0_count_0 3 rfl rfl
theorem dksX0_count_2 : cX0_count.data.toList.drop 40 = dktX0_count_2 := dk_seg dksX0_count_1 37 rfl rfl
theorem dksX0_count_3 : cX0_count.data.toList.drop 64 = dktX0_count_3 := dk_seg dksX0_count_2 24 rfl rfl
theorem dksX0_count_4 : cX0_count.data.toList.drop 88 = dktX0_count_4 := dk_seg dksX0_count_3 24 rfl rfl
theorem dksX0_count_5 : cX0_count.data.toList.drop 112 = dktX0_count_5 := dk_seg dksX0_count_4 24 rfl rfl
theorem dksX0_count_6 : cX0_count.data.toList.drop 136 = dktX0_count_6 := dk_seg dksX0_count_5 24 rfl rfl
theorem dksX0_count_7 : cX0_count.data.toList.drop 159 = dktX0_count_7 := dk_seg dksX0_count_6 23 rfl rfl
theorem dX0_count_0 : decode cX0_count 0 = .ok (.iconst 0, 1) := dk_3 (dk_at dksX0_count_0 0 rfl rfl)
theorem dX0_count_1 : decode cX0_count 1 = .ok (.istore_n 2, 1) := dk_61 (dk_at dksX0_count_0 1 rfl rfl)
theorem dX0_count_2 : decode cX0_count 2 = .ok (.iload_n 1, 1) := dk_27 (dk_at dksX0_count_0 2 rfl rfl)
theorem dX0_count_3 : decode cX0_count 3 = .ok (.tableswitch 164 0 5 #[37, 71, 105, 110, 124, 129], 37) := by decide +kernel
theorem dX0_count_40 : decode cX0_count 40 = .ok (.iconst 0, 1) := dk_3 (dk_at dksX0_count_2 0 rfl rfl)
theorem dX0_count_41 : decode cX0_count 41 = .ok (.istore_n 3, 1) := dk_62 (dk_at dksX0_count_2 1 rfl rfl)
theorem dX0_count_42 : decode cX0_count 42 = .ok (.iload_n 3, 1) := dk_29 (dk_at dksX0_count_2 2 rfl rfl)
theorem dX0_count_43 : decode cX0_count 43 = .ok (.iconst 4, 1) := dk_7 (dk_at dksX0_count_2 3 rfl rfl)
theorem dX0_count_44 : decode cX0_count 44 = .ok (.if_icmp .ge 28, 3) := dk_162 0 28 (dk_at dksX0_count_2 4 rfl rfl)
theorem dX0_count_47 : decode cX0_count 47 = .ok (.iload_n 2, 1) := dk_28 (dk_at dksX0_count_2 7 rfl rfl)
theorem dX0_count_48 : decode cX0_count 48 = .ok (.aload_n 0, 1) := dk_42 (dk_at dksX0_count_2 8 rfl rfl)
theorem dX0_count_49 : decode cX0_count 49 = .ok (.getfield 50, 3) := dk_180 0 50 (dk_at dksX0_count_2 9 rfl rfl)
theorem dX0_count_52 : decode cX0_count 52 = .ok (.iload_n 3, 1) := dk_29 (dk_at dksX0_count_2 12 rfl rfl)
theorem dX0_count_53 : decode cX0_count 53 = .ok (.aaload, 1) := dk_50 (dk_at dksX0_count_2 13 rfl rfl)
theorem dX0_count_54 : decode cX0_count 54 = .ok (.ifnonnull 7, 3) := dk_199 0 7 (dk_at dksX0_count_2 14 rfl rfl)
theorem dX0_count_57 : decode cX0_count 57 = .ok (.iconst 0, 1) := dk_3 (dk_at dksX0_count_2 17 rfl rfl)
theorem dX0_count_58 : decode cX0_count 58 = .ok (.goto 6, 3) := dk_167 0 6 (dk_at dksX0_count_2 18 rfl rfl)
theorem dX0_count_61 : decode cX0_count 61 = .ok (.iconst 1, 1) := dk_4 (dk_at dksX0_count_2 21 rfl rfl)
theorem dX0_count_62 : decode cX0_count 62 = .ok (.iload_n 3, 1) := dk_29 (dk_at dksX0_count_2 22 rfl rfl)
theorem dX0_count_63 : decode cX0_count 63 = .ok (.ishl, 1) := dk_120 (dk_at dksX0_count_2 23 rfl rfl)
theorem dX0_count_64 : decode cX0_count 64 = .ok (.ior, 1) := dk_128 (dk_at dksX0_count_3 0 rfl rfl)
theorem dX0_count_65 : decode cX0_count 65 = .ok (.istore_n 2, 1) := dk_61 (dk_at dksX0_count_3 1 rfl rfl)
theorem dX0_count_66 : decode cX0_count 66 = .ok (.iinc 3 1, 3) := dk_132 3 1 (dk_at dksX0_count_3 2 rfl rfl)
theorem dX0_count_69 : decode cX0_count 69 = .ok (.goto (-27), 3) := dk_167 255 229 (dk_at dksX0_count_3 5 rfl rfl)
theorem dX0_count_72 : decode cX0_count 72 = .ok (.iload_n 2, 1) := dk_28 (dk_at dksX0_count_3 8 rfl rfl)
theorem dX0_count_73 : decode cX0_count 73 = .ok (.ireturn, 1) := dk_172 (dk_at dksX0_count_3 9 rfl rfl)
theorem dX0_count_74 : decode cX0_count 74 = .ok (.iconst 0, 1) := dk_3 (dk_at dksX0_count_3 10 rfl rfl)
theorem dX0_count_75 : decode cX0_count 75 = .ok (.istore_n 3, 1) := dk_62 (dk_at dksX0_count_3 11 rfl rfl)
theorem dX0_count_76 : decode cX0_count 76 = .ok (.iload_n 3, 1) := dk_29 (dk_at dksX0_count_3 12 rfl rfl)
theorem dX0_count_77 : decode cX0_count 77 = .ok (.iconst 5, 1) := dk_8 (dk_at dksX0_count_3 13 rfl rfl)
theorem dX0_count_78 : decode cX0_count 78 = .ok (.if_icmp .ge 28, 3) := dk_162 0 28 (dk_at dksX0_count_3 14 rfl rfl)
theorem dX0_count_81 : decode cX0_count 81 = .ok (.iload_n 2, 1) := dk_28 (dk_at dksX0_count_3 17 rfl rfl)
theorem dX0_count_82 : decode cX0_count 82 = .ok (.aload_n 0, 1) := dk_42 (dk_at dksX0_count_3 18 rfl rfl)
theorem dX0_count_83 : decode cX0_count 83 = .ok (.getfield 56, 3) := dk_180 0 56 (dk_at dksX0_count_3 19 rfl rfl)
theorem dX0_count_86 : decode cX0_count 86 = .ok (.iload_n 3, 1) := dk_29 (dk_at dksX0_count_3 22 rfl rfl)
theorem dX0_count_87 : decode cX0_count 87 = .ok (.aaload, 1) := dk_50 (dk_at dksX0_count_3 23 rfl rfl)
theorem dX0_count_88 : decode cX0_count 88 = .ok (.ifnonnull 7, 3) := dk_199 0 7 (dk_at dksX0_count_4 0 rfl rfl)
theorem dX0_count_91 : decode cX0_count 91 = .ok (.iconst 0, 1) := dk_3 (dk_at dksX0_count_4 3 rfl rfl)
theorem dX0_count_92 : decode cX0_count 92 = .ok (.goto 6, 3) := dk_167 0 6 (dk_at dksX0_count_4 4 rfl rfl)
theorem dX0_count_95 : decode cX0_count 95 = .ok (.iconst 1, 1) := dk_4 (dk_at dksX0_count_4 7 rfl rfl)
theorem dX0_count_96 : decode cX0_count 96 = .ok (.iload_n 3, 1) := dk_29 (dk_at dksX0_count_4 8 rfl rfl)
theorem dX0_count_97 : decode cX0_count 97 = .ok (.ishl, 1) := dk_120 (dk_at dksX0_count_4 9 rfl rfl)
theorem dX0_count_98 : decode cX0_count 98 = .ok (.ior, 1) := dk_128 (dk_at dksX0_count_4 10 rfl rfl)
theorem dX0_count_99 : decode cX0_count 99 = .ok (.istore_n 2, 1) := dk_61 (dk_at dksX0_count_4 11 rfl rfl)
theorem dX0_count_100 : decode cX0_count 100 = .ok (.iinc 3 1, 3) := dk_132 3 1 (dk_at dksX0_count_4 12 rfl rfl)
theorem dX0_count_103 : decode cX0_count 103 = .ok (.goto (-27), 3) := dk_167 255 229 (dk_at dksX0_count_4 15 rfl rfl)
theorem dX0_count_106 : decode cX0_count 106 = .ok (.iload_n 2, 1) := dk_28 (dk_at dksX0_count_4 18 rfl rfl)
theorem dX0_count_107 : decode cX0_count 107 = .ok (.ireturn, 1) := dk_172 (dk_at dksX0_count_4 19 rfl rfl)
theorem dX0_count_108 : decode cX0_count 108 = .ok (.aload_n 0, 1) := dk_42 (dk_at dksX0_count_4 20 rfl rfl)
theorem dX0_count_109 : decode cX0_count 109 = .ok (.getfield 141, 3) := dk_180 0 141 (dk_at dksX0_count_4 21 rfl rfl)
theorem dX0_count_112 : decode cX0_count 112 = .ok (.ireturn, 1) := dk_172 (dk_at dksX0_count_5 0 rfl rfl)
theorem dX0_count_113 : decode cX0_count 113 = .ok (.aload_n 0, 1) := dk_42 (dk_at dksX0_count_5 1 rfl rfl)
theorem dX0_count_114 : decode cX0_count 114 = .ok (.getfield 13, 3) := dk_180 0 13 (dk_at dksX0_count_5 2 rfl rfl)
theorem dX0_count_117 : decode cX0_count 117 = .ok (.bipush 6, 2) := dk_16 6 (dk_at dksX0_count_5 5 rfl rfl)
theorem dX0_count_119 : decode cX0_count 119 = .ok (.aaload, 1) := dk_50 (dk_at dksX0_count_5 7 rfl rfl)
theorem dX0_count_120 : decode cX0_count 120 = .ok (.getfield 125, 3) := dk_180 0 125 (dk_at dksX0_count_5 8 rfl rfl)
theorem dX0_count_123 : decode cX0_count 123 = .ok (.invokevirtual 129, 3) := dk_182 0 129 (dk_at dksX0_count_5 11 rfl rfl)
theorem dX0_count_126 : decode cX0_count 126 = .ok (.ireturn, 1) := dk_172 (dk_at dksX0_count_5 14 rfl rfl)
theorem dX0_count_127 : decode cX0_count 127 = .ok (.aload_n 0, 1) := dk_42 (dk_at dksX0_count_5 15 rfl rfl)
theorem dX0_count_128 : decode cX0_count 128 = .ok (.getfield 311, 3) := dk_180 1 55 (dk_at dksX0_count_5 16 rfl rfl)
theorem dX0_count_131 : decode cX0_count 131 = .ok (.ireturn, 1) := dk_172 (dk_at dksX0_count_5 19 rfl rfl)
theorem dX0_count_132 : decode cX0_count 132 = .ok (.iconst 0, 1) := dk_3 (dk_at dksX0_count_5 20 rfl rfl)
theorem dX0_count_133 : decode cX0_count 133 = .ok (.istore_n 3, 1) := dk_62 (dk_at dksX0_count_5 21 rfl rfl)
theorem dX0_count_134 : decode cX0_count 134 = .ok (.iload_n 3, 1) := dk_29 (dk_at dksX0_count_5 22 rfl rfl)
theorem dX0_count_135 : decode cX0_count 135 = .ok (.iconst 3, 1) := dk_6 (dk_at dksX0_count_5 23 rfl rfl)
theorem dX0_count_136 : decode cX0_count 136 = .ok (.if_icmp .ge 29, 3) := dk_162 0 29 (dk_at dksX0_count_6 0 rfl rfl)
theorem dX0_count_139 : decode cX0_count 139 = .ok (.iload_n 2, 1) := dk_28 (dk_at dksX0_count_6 3 rfl rfl)
theorem dX0_count_140 : decode cX0_count 140 = .ok (.aload_n 0, 1) := dk_42 (dk_at dksX0_count_6 4 rfl rfl)
theorem dX0_count_141 : decode cX0_count 141 = .ok (.getfield 63, 3) := dk_180 0 63 (dk_at dksX0_count_6 5 rfl rfl)
theorem dX0_count_144 : decode cX0_count 144 = .ok (.iload_n 3, 1) := dk_29 (dk_at dksX0_count_6 8 rfl rfl)
theorem dX0_count_145 : decode cX0_count 145 = .ok (.aaload, 1) := dk_50 (dk_at dksX0_count_6 9 rfl rfl)
theorem dX0_count_146 : decode cX0_count 146 = .ok (.getfield 342, 3) := dk_180 1 86 (dk_at dksX0_count_6 10 rfl rfl)
theorem dX0_count_149 : decode cX0_count 149 = .ok (.ifnonnull 7, 3) := dk_199 0 7 (dk_at dksX0_count_6 13 rfl rfl)
theorem dX0_count_152 : decode cX0_count 152 = .ok (.iconst 0, 1) := dk_3 (dk_at dksX0_count_6 16 rfl rfl)
theorem dX0_count_153 : decode cX0_count 153 = .ok (.goto 4, 3) := dk_167 0 4 (dk_at dksX0_count_6 17 rfl rfl)
theorem dX0_count_156 : decode cX0_count 156 = .ok (.iconst 1, 1) := dk_4 (dk_at dksX0_count_6 20 rfl rfl)
theorem dX0_count_157 : decode cX0_count 157 = .ok (.iadd, 1) := dk_96 (dk_at dksX0_count_6 21 rfl rfl)
theorem dX0_count_158 : decode cX0_count 158 = .ok (.istore_n 2, 1) := dk_61 (dk_at dksX0_count_6 22 rfl rfl)
theorem dX0_count_159 : decode cX0_count 159 = .ok (.iinc 3 1, 3) := dk_132 3 1 (dk_at dksX0_count_7 0 rfl rfl)
theorem dX0_count_162 : decode cX0_count 162 = .ok (.goto (-28), 3) := dk_167 255 228 (dk_at dksX0_count_7 3 rfl rfl)
theorem dX0_count_165 : decode cX0_count 165 = .ok (.iload_n 2, 1) := dk_28 (dk_at dksX0_count_7 6 rfl rfl)
theorem dX0_count_166 : decode cX0_count 166 = .ok (.ireturn, 1) := dk_172 (dk_at dksX0_count_7 7 rfl rfl)
theorem dX0_count_167 : decode cX0_count 167 = .ok (.iconst (-1), 1) := dk_2 (dk_at dksX0_count_7 8 rfl rfl)
theorem dX0_count_168 : decode cX0_count 168 = .ok (.ireturn, 1) := dk_172 (dk_at dksX0_count_7 9 rfl rfl)
theorem q67 : (Jvm.Cond.initialized "PluralBranches") ∈ lw_all := lw_g (lw_at lw_m1 1 rfl) rfl
theorem q119 : (Jvm.Cond.instantiable "PluralBranches" (8 : Nat)) ∈ lw_all := lw_g (lw_at lw_m1 53 rfl) rfl
theorem q121 : (Jvm.Cond.instanceMethod ({ cls := "PluralBranches", name := "<init>", desc := "()V" } : Jvm.MethodName)) ∈ lw_all := lw_g (lw_at lw_m1 55 rfl) rfl
theorem q122 : (Jvm.Cond.code ({ cls := "PluralBranches", name := "<init>", desc := "()V" } : Jvm.MethodName) prog_1_method_1_code (3 : Nat) (Option.none : Option Jvm.ClassFile.FieldType)) ∈ lw_all := lw_g (lw_at lw_m1 56 rfl) rfl
theorem q123 : (Jvm.Cond.methodLink "PluralBranches" (3 : Nat) ({ cls := "java/lang/Object", name := "<init>", desc := "()V" } : Jvm.MethodName)) ∈ lw_all := lw_g (lw_at lw_m1 57 rfl) rfl
theorem q126 : (Jvm.Cond.classLink "PluralBranches" (11 : Nat) "PluralBranches$Language") ∈ lw_all := lw_g (lw_at lw_m1 60 rfl) rfl
theorem q128 : (Jvm.Cond.classLink "PluralBranches" (17 : Nat) "PluralBranches$Decimal") ∈ lw_all := lw_g (lw_at lw_m1 62 rfl) rfl
theorem q131 : (Jvm.Cond.methodLink "PluralBranches" (19 : Nat) ({ cls := "PluralBranches$Decimal", name := "<init>", desc := "(I)V" } : Jvm.MethodName)) ∈ lw_all := lw_g (lw_at lw_m1 65 rfl) rfl
theorem q142 : (Jvm.Cond.static ({ cls := "PluralBranches", name := "tens", desc := "(I)J" } : Jvm.MethodName)) ∈ lw_all := lw_g (lw_at lw_m1 76 rfl) rfl
theorem q143 : (Jvm.Cond.code ({ cls := "PluralBranches", name := "tens", desc := "(I)J" } : Jvm.MethodName) prog_1_method_5_code (4 : Nat) (Option.some Jvm.ClassFile.FieldType.long)) ∈ lw_all := lw_g (lw_at lw_m1 77 rfl) rfl
theorem q144 : (Jvm.Cond.constantLong "PluralBranches" (67 : Nat) (10 : Int64)) ∈ lw_all := lw_g (lw_at lw_m1 78 rfl) rfl
theorem q152 : (Jvm.Cond.fieldLinkNest "PluralBranches" (265 : Nat) "PluralBranches$Decimal" "digits" "I" "PluralBranches") ∈ lw_tbl := lw_at lw_m1 86 rfl
theorem q156 : (Jvm.Cond.fieldLinkNest "PluralBranches" (268 : Nat) "PluralBranches$Decimal" "scale" "I" "PluralBranches") ∈ lw_tbl := lw_at lw_m1 90 rfl
theorem q176 : (Jvm.Cond.methodLink "PluralBranches" (22 : Nat) ({ cls := "PluralBranches$Decimal", name := "<init>", desc := "(II)V" } : Jvm.MethodName)) ∈ lw_all := lw_g (lw_at lw_m1 110 rfl) rfl
theorem q177 : (Jvm.Cond.methodLink "PluralBranches" (25 : Nat) ({ cls := "PluralBranches", name := "languageOf", desc := "(I)LPluralBranches$Language;" } : Jvm.MethodName)) ∈ lw_all := lw_g (lw_at lw_m1 111 rfl) rfl
theorem q178 : (Jvm.Cond.static ({ cls := "PluralBranches", name := "languageOf", desc := "(I)LPluralBranches$Language;" } : Jvm.MethodName)) ∈ lw_all := lw_g (lw_at lw_m1 112 rfl) rfl
theorem q179 : (Jvm.Cond.code ({ cls := "PluralBranches", name := "languageOf", desc := "(I)LPluralBranches$Language;" } : Jvm.MethodName) prog_1_method_7_code (1 : Nat) (Option.some (Jvm.ClassFile.FieldType.object "PluralBranches$Language"))) ∈ lw_all := lw_g (lw_at lw_m1 113 rfl) rfl
theorem q180 : (Jvm.Cond.classLink "PluralBranches" (72 : Nat) "PluralBranches$Linked") ∈ lw_all := lw_g (lw_at lw_m1 114 rfl) rfl
theorem q182 : (Jvm.Cond.stringRef "PluralBranches" (74 : Nat) " e ") ∈ lw_tbl := lw_at lw_m1 116 rfl
theorem q183 : (Jvm.Cond.methodLink "PluralBranches" (76 : Nat) ({ cls := "PluralBranches$Linked", name := "<init>", desc := "(Ljava/lang/String;)V" } : Jvm.MethodName)) ∈ lw_all := lw_g (lw_at lw_m1 117 rfl) rfl
theorem q244 : (Jvm.Cond.selects "PluralBranches" ({ cls := "java/lang/Object", name := "getClass", desc := "()Ljava/lang/Class;" } : Jvm.MethodName) ({ cls := "java/lang/Object", name := "getClass", desc := "()Ljava/lang/Class;" } : Jvm.MethodName)) ∈ lw_all := lw_g (lw_at lw_m1 178 rfl) rfl
theorem q289 : (Jvm.Cond.fieldLink "PluralBranches" (125 : Nat) "PluralBranches$Language" "all" "Ljava/util/ArrayList;") ∈ lw_all := lw_g (lw_at lw_m1 223 rfl) rfl
theorem q290 : (Jvm.Cond.fieldLinkNest "PluralBranches" (29 : Nat) "PluralBranches$Language" "tried" "[LPluralBranches$Decimal;" "PluralBranches") ∈ lw_tbl := lw_at lw_m1 224 rfl
theorem q299 : (Jvm.Cond.stringRef "PluralBranches" (79 : Nat) " i ") ∈ lw_tbl := lw_at lw_m1 233 rfl
theorem q300 : (Jvm.Cond.methodLink "PluralBranches" (81 : Nat) ({ cls := "PluralBranches$Linked", name := "with", desc := "(Z[I)LPluralBranches$Language;" } : Jvm.MethodName)) ∈ lw_all := lw_g (lw_at lw_m1 234 rfl) rfl
theorem q349 : (Jvm.Cond.methodLink "PluralBranches" (37 : Nat) ({ cls := "PluralBranches$Language", name := "with", desc := "(Z[I)LPluralBranches$Language;" } : Jvm.MethodName)) ∈ lw_all := lw_g (lw_at lw_m2 43 rfl) rfl
theorem q350 : (Jvm.Cond.stringRef "PluralBranches" (82 : Nat) " un ") ∈ lw_tbl := lw_at lw_m2 44 rfl
theorem q351 : (Jvm.Cond.classLink "PluralBranches" (84 : Nat) "PluralBranches$Everywhere") ∈ lw_all := lw_g (lw_at lw_m2 45 rfl) rfl
theorem q353 : (Jvm.Cond.methodLinkNest "PluralBranches" (86 : Nat) ({ cls := "PluralBranches$Everywhere", name := "<init>", desc := "()V" } : Jvm.MethodName) "PluralBranches") ∈ lw_tbl := lw_at lw_m2 47 rfl
theorem q360 : (Jvm.Cond.methodLink "PluralBranches" (87 : Nat) ({ cls := "PluralBranches$Everywhere", name := "with", desc := "(Z[I)LPluralBranches$Language;" } : Jvm.MethodName)) ∈ lw_all := lw_g (lw_at lw_m2 54 rfl) rfl
theorem q363 : (Jvm.Cond.classLink "PluralBranches" (88 : Nat) "PluralBranches$Bare") ∈ lw_all := lw_g (lw_at lw_m2 57 rfl) rfl
theorem q365 : (Jvm.Cond.methodLinkNest "PluralBranches" (90 : Nat) ({ cls := "PluralBranches$Bare", name := "<init>", desc := "()V" } : Jvm.MethodName) "PluralBranches") ∈ lw_tbl := lw_at lw_m2 59 rfl
theorem q372 : (Jvm.Cond.classLink "PluralBranches" (91 : Nat) "PluralBranches$Stopped") ∈ lw_all := lw_g (lw_at lw_m2 66 rfl) rfl
theorem q374 : (Jvm.Cond.methodLinkNest "PluralBranches" (93 : Nat) ({ cls := "PluralBranches$Stopped", name := "<init>", desc := "()V" } : Jvm.MethodName) "PluralBranches") ∈ lw_tbl := lw_at lw_m2 68 rfl
theorem q381 : (Jvm.Cond.fieldLink "PluralBranches" (33 : Nat) "PluralBranches" "TOLD" "[I") ∈ lw_all := lw_g (lw_at lw_m2 75 rfl) rfl
theorem q382 : (Jvm.Cond.laysStatic "PluralBranches" "TOLD" "[I") ∈ lw_tbl := lw_at lw_m2 76 rfl
theorem q383 : (Jvm.Cond.classLink "PluralBranches" (48 : Nat) "PluralBranches$Message") ∈ lw_all := lw_g (lw_at lw_m2 77 rfl) rfl
theorem q385 : (Jvm.Cond.classLink "PluralBranches" (54 : Nat) "PluralBranches$Thing") ∈ lw_all := lw_g (lw_at lw_m2 79 rfl) rfl
theorem q387 : (Jvm.Cond.classLink "PluralBranches" (60 : Nat) "PluralBranches$Row") ∈ lw_all := lw_g (lw_at lw_m2 81 rfl) rfl
theorem q390 : (Jvm.Cond.methodLinkNest "PluralBranches" (62 : Nat) ({ cls := "PluralBranches$Row", name := "<init>", desc := "()V" } : Jvm.MethodName) "PluralBranches") ∈ lw_tbl := lw_at lw_m2 84 rfl
theorem q395 : (Jvm.Cond.fieldLinkNest "PluralBranches" (342 : Nat) "PluralBranches$Row" "held" "Ljava/lang/Object;" "PluralBranches") ∈ lw_tbl := lw_at lw_m2 89 rfl
theorem q399 : (Jvm.Cond.fieldLink "PluralBranches" (13 : Nat) "PluralBranches" "languages" "[LPluralBranches$Language;") ∈ lw_all := lw_g (lw_at lw_m2 93 rfl) rfl
theorem q400 : (Jvm.Cond.fieldLink "PluralBranches" (41 : Nat) "PluralBranches" "output" "[B") ∈ lw_all := lw_g (lw_at lw_m2 94 rfl) rfl
theorem q401 : (Jvm.Cond.fieldLink "PluralBranches" (311 : Nat) "PluralBranches" "written" "I") ∈ lw_all := lw_g (lw_at lw_m2 95 rfl) rfl
theorem q402 : (Jvm.Cond.fieldLink "PluralBranches" (45 : Nat) "PluralBranches" "tape" "[B") ∈ lw_all := lw_g (lw_at lw_m2 96 rfl) rfl
theorem q405 : (Jvm.Cond.fieldLink "PluralBranches" (141 : Nat) "PluralBranches" "taped" "I") ∈ lw_all := lw_g (lw_at lw_m2 99 rfl) rfl
theorem q406 : (Jvm.Cond.fieldLink "PluralBranches" (50 : Nat) "PluralBranches" "slots" "[LPluralBranches$Message;") ∈ lw_all := lw_g (lw_at lw_m2 100 rfl) rfl
theorem q407 : (Jvm.Cond.fieldLink "PluralBranches" (56 : Nat) "PluralBranches" "things" "[LPluralBranches$Thing;") ∈ lw_all := lw_g (lw_at lw_m2 101 rfl) rfl
theorem q408 : (Jvm.Cond.fieldLink "PluralBranches" (63 : Nat) "PluralBranches" "rows" "[LPluralBranches$Row;") ∈ lw_all := lw_g (lw_at lw_m2 102 rfl) rfl
theorem q409 : (Jvm.Cond.laysFinal "PluralBranches" "PluralBranches" "languages" "[LPluralBranches$Language;") ∈ lw_all := lw_g (lw_at lw_m2 103 rfl) rfl
theorem q410 : (Jvm.Cond.soleField "PluralBranches" "languages") ∈ lw_all := lw_g (lw_at lw_m2 104 rfl) rfl
theorem q411 : (Jvm.Cond.laysFinal "PluralBranches" "PluralBranches" "output" "[B") ∈ lw_all := lw_g (lw_at lw_m2 105 rfl) rfl
theorem q412 : (Jvm.Cond.soleField "PluralBranches" "output") ∈ lw_all := lw_g (lw_at lw_m2 106 rfl) rfl
theorem q413 : (Jvm.Cond.lays "PluralBranches" "PluralBranches" "written" "I") ∈ lw_all := lw_g (lw_at lw_m2 107 rfl) rfl
theorem q414 : (Jvm.Cond.soleField "PluralBranches" "written") ∈ lw_all := lw_g (lw_at lw_m2 108 rfl) rfl
theorem q415 : (Jvm.Cond.laysFinal "PluralBranches" "PluralBranches" "tape" "[B") ∈ lw_all := lw_g (lw_at lw_m2 109 rfl) rfl
theorem q416 : (Jvm.Cond.soleField "PluralBranches" "tape") ∈ lw_all := lw_g (lw_at lw_m2 110 rfl) rfl
theorem q417 : (Jvm.Cond.lays "PluralBranches" "PluralBranches" "taped" "I") ∈ lw_all := lw_g (lw_at lw_m2 111 rfl) rfl
theorem q418 : (Jvm.Cond.soleField "PluralBranches" "taped") ∈ lw_all := lw_g (lw_at lw_m2 112 rfl) rfl
theorem q419 : (Jvm.Cond.laysFinal "PluralBranches" "PluralBranches" "slots" "[LPluralBranches$Message;") ∈ lw_all := lw_g (lw_at lw_m2 113 rfl) rfl
theorem q420 : (Jvm.Cond.soleField "PluralBranches" "slots") ∈ lw_all := lw_g (lw_at lw_m2 114 rfl) rfl
theorem q421 : (Jvm.Cond.laysFinal "PluralBranches" "PluralBranches" "things" "[LPluralBranches$Thing;") ∈ lw_all := lw_g (lw_at lw_m2 115 rfl) rfl
theorem q422 : (Jvm.Cond.soleField "PluralBranches" "things") ∈ lw_all := lw_g (lw_at lw_m2 116 rfl) rfl
theorem q423 : (Jvm.Cond.laysFinal "PluralBranches" "PluralBranches" "rows" "[LPluralBranches$Row;") ∈ lw_all := lw_g (lw_at lw_m2 117 rfl) rfl
theorem q424 : (Jvm.Cond.soleField "PluralBranches" "rows") ∈ lw_all := lw_g (lw_at lw_m2 118 rfl) rfl
theorem q425 : (Jvm.Cond.superclass "PluralBranches" "java/lang/Object") ∈ lw_all := lw_g (lw_at lw_m2 119 rfl) rfl
theorem q427 : (Jvm.Cond.instanceMethod ({ cls := "PluralBranches", name := "operand", desc := "(III)J" } : Jvm.MethodName)) ∈ lw_all := lw_g (lw_at lw_m2 121 rfl) rfl
theorem q428 : (Jvm.Cond.selects "PluralBranches" ({ cls := "PluralBranches", name := "operand", desc := "(III)J" } : Jvm.MethodName) ({ cls := "PluralBranches", name := "operand", desc := "(III)J" } : Jvm.MethodName)) ∈ lw_all := lw_g (lw_at lw_m2 122 rfl) rfl
theorem q429 : (Jvm.Cond.code ({ cls := "PluralBranches", name := "operand", desc := "(III)J" } : Jvm.MethodName) prog_1_method_10_code (4 : Nat) (Option.some Jvm.ClassFile.FieldType.long)) ∈ lw_all := lw_g (lw_at lw_m2 123 rfl) rfl
theorem q430 : (Jvm.Cond.methodLink "PluralBranches" (100 : Nat) ({ cls := "PluralBranches", name := "isScale", desc := "(I)Z" } : Jvm.MethodName)) ∈ lw_all := lw_g (lw_at lw_m2 124 rfl) rfl
theorem q431 : (Jvm.Cond.static ({ cls := "PluralBranches", name := "isScale", desc := "(I)Z" } : Jvm.MethodName)) ∈ lw_all := lw_g (lw_at lw_m2 125 rfl) rfl
theorem q432 : (Jvm.Cond.code ({ cls := "PluralBranches", name := "isScale", desc := "(I)Z" } : Jvm.MethodName) prog_1_method_9_code (1 : Nat) (Option.some Jvm.ClassFile.FieldType.boolean)) ∈ lw_all := lw_g (lw_at lw_m2 126 rfl) rfl
theorem q433 : (Jvm.Cond.constantLong "PluralBranches" (94 : Nat) (6 : Int64)) ∈ lw_all := lw_g (lw_at lw_m2 127 rfl) rfl
theorem q434 : (Jvm.Cond.methodLink "PluralBranches" (96 : Nat) ({ cls := "PluralBranches", name := "in", desc := "(JJJ)Z" } : Jvm.MethodName)) ∈ lw_all := lw_g (lw_at lw_m2 128 rfl) rfl
theorem q435 : (Jvm.Cond.static ({ cls := "PluralBranches", name := "in", desc := "(JJJ)Z" } : Jvm.MethodName)) ∈ lw_all := lw_g (lw_at lw_m2 129 rfl) rfl
theorem q436 : (Jvm.Cond.code ({ cls := "PluralBranches", name := "in", desc := "(JJJ)Z" } : Jvm.MethodName) prog_1_method_3_code (6 : Nat) (Option.some Jvm.ClassFile.FieldType.boolean)) ∈ lw_all := lw_g (lw_at lw_m2 130 rfl) rfl
theorem q437 : (Jvm.Cond.constantLong "PluralBranches" (104 : Nat) (4 : Int64)) ∈ lw_all := lw_g (lw_at lw_m2 131 rfl) rfl
theorem q438 : (Jvm.Cond.methodLink "PluralBranches" (106 : Nat) ({ cls := "PluralBranches$Decimal", name := "operand", desc := "(I)J" } : Jvm.MethodName)) ∈ lw_all := lw_g (lw_at lw_m2 132 rfl) rfl
theorem q442 : (Jvm.Cond.constantLong "PluralBranches" (110 : Nat) (-9223372036854775808 : Int64)) ∈ lw_all := lw_g (lw_at lw_m2 136 rfl) rfl
theorem q444 : (Jvm.Cond.instanceMethod ({ cls := "PluralBranches", name := "category", desc := "(III)I" } : Jvm.MethodName)) ∈ lw_all := lw_g (lw_at lw_m2 138 rfl) rfl
theorem q445 : (Jvm.Cond.selects "PluralBranches" ({ cls := "PluralBranches", name := "category", desc := "(III)I" } : Jvm.MethodName) ({ cls := "PluralBranches", name := "category", desc := "(III)I" } : Jvm.MethodName)) ∈ lw_all := lw_g (lw_at lw_m2 139 rfl) rfl
theorem q446 : (Jvm.Cond.code ({ cls := "PluralBranches", name := "category", desc := "(III)I" } : Jvm.MethodName) prog_1_method_11_code (4 : Nat) (Option.some Jvm.ClassFile.FieldType.int)) ∈ lw_all := lw_g (lw_at lw_m2 140 rfl) rfl
theorem q447 : (Jvm.Cond.methodLink "PluralBranches" (112 : Nat) ({ cls := "PluralBranches", name := "isLanguage", desc := "(I)Z" } : Jvm.MethodName)) ∈ lw_all := lw_g (lw_at lw_m2 141 rfl) rfl
theorem q448 : (Jvm.Cond.static ({ cls := "PluralBranches", name := "isLanguage", desc := "(I)Z" } : Jvm.MethodName)) ∈ lw_all := lw_g (lw_at lw_m2 142 rfl) rfl
theorem q449 : (Jvm.Cond.code ({ cls := "PluralBranches", name := "isLanguage", desc := "(I)Z" } : Jvm.MethodName) prog_1_method_8_code (1 : Nat) (Option.some Jvm.ClassFile.FieldType.boolean)) ∈ lw_all := lw_g (lw_at lw_m2 143 rfl) rfl
theorem q450 : (Jvm.Cond.methodLink "PluralBranches" (115 : Nat) ({ cls := "PluralBranches$Language", name := "category", desc := "(LPluralBranches$Decimal;)I" } : Jvm.MethodName)) ∈ lw_all := lw_g (lw_at lw_m2 144 rfl) rfl
theorem q488 : (Jvm.Cond.instanceMethod ({ cls := "PluralBranches", name := "used", desc := "(I)I" } : Jvm.MethodName)) ∈ lw_all := lw_g (lw_at lw_m2 182 rfl) rfl
theorem q489 : (Jvm.Cond.selects "PluralBranches" ({ cls := "PluralBranches", name := "used", desc := "(I)I" } : Jvm.MethodName) ({ cls := "PluralBranches", name := "used", desc := "(I)I" } : Jvm.MethodName)) ∈ lw_all := lw_g (lw_at lw_m2 183 rfl) rfl
theorem q490 : (Jvm.Cond.code ({ cls := "PluralBranches", name := "used", desc := "(I)I" } : Jvm.MethodName) prog_1_method_12_code (2 : Nat) (Option.some Jvm.ClassFile.FieldType.int)) ∈ lw_all := lw_g (lw_at lw_m2 184 rfl) rfl
theorem q491 : (Jvm.Cond.methodLink "PluralBranches" (119 : Nat) ({ cls := "PluralBranches$Language", name := "used", desc := "()I" } : Jvm.MethodName)) ∈ lw_all := lw_g (lw_at lw_m2 185 rfl) rfl
theorem q501 : (Jvm.Cond.instanceMethod ({ cls := "PluralBranches", name := "condition", desc := "(IIIIII)I" } : Jvm.MethodName)) ∈ lw_all := lw_g (lw_at lw_m2 195 rfl) rfl
theorem q502 : (Jvm.Cond.selects "PluralBranches" ({ cls := "PluralBranches", name := "condition", desc := "(IIIIII)I" } : Jvm.MethodName) ({ cls := "PluralBranches", name := "condition", desc := "(IIIIII)I" } : Jvm.MethodName)) ∈ lw_all := lw_g (lw_at lw_m2 196 rfl) rfl
theorem q503 : (Jvm.Cond.code ({ cls := "PluralBranches", name := "condition", desc := "(IIIIII)I" } : Jvm.MethodName) prog_1_method_13_code (8 : Nat) (Option.some Jvm.ClassFile.FieldType.int)) ∈ lw_all := lw_g (lw_at lw_m2 197 rfl) rfl
theorem q504 : (Jvm.Cond.constantLong "PluralBranches" (123 : Nat) (1000 : Int64)) ∈ lw_all := lw_g (lw_at lw_m2 198 rfl) rfl
theorem q505 : (Jvm.Cond.methodLink "PluralBranches" (129 : Nat) ({ cls := "java/util/ArrayList", name := "size", desc := "()I" } : Jvm.MethodName)) ∈ lw_all := lw_g (lw_at lw_m2 199 rfl) rfl
theorem q507 : (Jvm.Cond.instanceMethod ({ cls := "PluralBranches", name := "plain", desc := "()I" } : Jvm.MethodName)) ∈ lw_all := lw_g (lw_at lw_m2 201 rfl) rfl
theorem q508 : (Jvm.Cond.selects "PluralBranches" ({ cls := "PluralBranches", name := "plain", desc := "()I" } : Jvm.MethodName) ({ cls := "PluralBranches", name := "plain", desc := "()I" } : Jvm.MethodName)) ∈ lw_all := lw_g (lw_at lw_m2 202 rfl) rfl
theorem q509 : (Jvm.Cond.code ({ cls := "PluralBranches", name := "plain", desc := "()I" } : Jvm.MethodName) prog_1_method_14_code (2 : Nat) (Option.some Jvm.ClassFile.FieldType.int)) ∈ lw_all := lw_g (lw_at lw_m2 203 rfl) rfl
theorem q510 : (Jvm.Cond.methodLink "PluralBranches" (134 : Nat) ({ cls := "java/util/ArrayList", name := "clear", desc := "()V" } : Jvm.MethodName)) ∈ lw_all := lw_g (lw_at lw_m2 204 rfl) rfl
theorem q515 : (Jvm.Cond.instanceMethod ({ cls := "PluralBranches", name := "feed", desc := "(I)I" } : Jvm.MethodName)) ∈ lw_all := lw_g (lw_at lw_m2 209 rfl) rfl
theorem q516 : (Jvm.Cond.selects "PluralBranches" ({ cls := "PluralBranches", name := "feed", desc := "(I)I" } : Jvm.MethodName) ({ cls := "PluralBranches", name := "feed", desc := "(I)I" } : Jvm.MethodName)) ∈ lw_all := lw_g (lw_at lw_m2 210 rfl) rfl
theorem q517 : (Jvm.Cond.code ({ cls := "PluralBranches", name := "feed", desc := "(I)I" } : Jvm.MethodName) prog_1_method_17_code (2 : Nat) (Option.some Jvm.ClassFile.FieldType.int)) ∈ lw_all := lw_g (lw_at lw_m2 211 rfl) rfl
theorem q518 : (Jvm.Cond.constantLong "PluralBranches" (139 : Nat) (255 : Int64)) ∈ lw_all := lw_g (lw_at lw_m2 212 rfl) rfl
theorem q520 : (Jvm.Cond.instanceMethod ({ cls := "PluralBranches", name := "wipe", desc := "()I" } : Jvm.MethodName)) ∈ lw_all := lw_g (lw_at lw_m2 214 rfl) rfl
theorem q521 : (Jvm.Cond.selects "PluralBranches" ({ cls := "PluralBranches", name := "wipe", desc := "()I" } : Jvm.MethodName) ({ cls := "PluralBranches", name := "wipe", desc := "()I" } : Jvm.MethodName)) ∈ lw_all := lw_g (lw_at lw_m2 215 rfl) rfl
theorem q522 : (Jvm.Cond.code ({ cls := "PluralBranches", name := "wipe", desc := "()I" } : Jvm.MethodName) prog_1_method_18_code (2 : Nat) (Option.some Jvm.ClassFile.FieldType.int)) ∈ lw_all := lw_g (lw_at lw_m2 216 rfl) rfl
theorem q524 : (Jvm.Cond.instanceMethod ({ cls := "PluralBranches", name := "read", desc := "(I)I" } : Jvm.MethodName)) ∈ lw_all := lw_g (lw_at lw_m2 218 rfl) rfl
theorem q525 : (Jvm.Cond.selects "PluralBranches" ({ cls := "PluralBranches", name := "read", desc := "(I)I" } : Jvm.MethodName) ({ cls := "PluralBranches", name := "read", desc := "(I)I" } : Jvm.MethodName)) ∈ lw_all := lw_g (lw_at lw_m2 219 rfl) rfl
theorem q526 : (Jvm.Cond.codeWith ({ cls := "PluralBranches", name := "read", desc := "(I)I" } : Jvm.MethodName) prog_1_method_19_code (5 : Nat) (Option.some Jvm.ClassFile.FieldType.int) [((9 : Nat), (36 : Nat), (43 : Nat), (69 : Nat)), ((9 : Nat), (36 : Nat), (56 : Nat), (0 : Nat)), ((43 : Nat), (49 : Nat), (56 : Nat), (0 : Nat)), ((56 : Nat), (58 : Nat), (56 : Nat), (0 : Nat))]) ∈ lw_all := lw_g (lw_at lw_m2 220 rfl) rfl
theorem q527 : (Jvm.Cond.classLink "PluralBranches" (69 : Nat) "PluralBranches$Ends") ∈ lw_all := lw_g (lw_at lw_m2 221 rfl) rfl
theorem q528 : (Jvm.Cond.methodLink "PluralBranches" (145 : Nat) ({ cls := "PluralBranches", name := "isSlot", desc := "(I)Z" } : Jvm.MethodName)) ∈ lw_all := lw_g (lw_at lw_m2 222 rfl) rfl
theorem q529 : (Jvm.Cond.static ({ cls := "PluralBranches", name := "isSlot", desc := "(I)Z" } : Jvm.MethodName)) ∈ lw_all := lw_g (lw_at lw_m2 223 rfl) rfl
theorem q530 : (Jvm.Cond.code ({ cls := "PluralBranches", name := "isSlot", desc := "(I)Z" } : Jvm.MethodName) prog_1_method_15_code (1 : Nat) (Option.some Jvm.ClassFile.FieldType.boolean)) ∈ lw_all := lw_g (lw_at lw_m2 224 rfl) rfl
theorem q531 : (Jvm.Cond.constantLong "PluralBranches" (137 : Nat) (3 : Int64)) ∈ lw_all := lw_g (lw_at lw_m2 225 rfl) rfl
theorem q532 : (Jvm.Cond.classLink "PluralBranches" (148 : Nat) "PluralBranches$Reader") ∈ lw_all := lw_g (lw_at lw_m2 226 rfl) rfl
theorem q534 : (Jvm.Cond.methodLinkNest "PluralBranches" (150 : Nat) ({ cls := "PluralBranches$Reader", name := "<init>", desc := "(LPluralBranches;)V" } : Jvm.MethodName) "PluralBranches") ∈ lw_tbl := lw_at lw_m2 228 rfl
theorem q547 : (Jvm.Cond.fieldLinkNest "PluralBranches" (166 : Nat) "PluralBranches$Message" "parts" "LPluralBranches$Parts;" "PluralBranches") ∈ lw_tbl := lw_at lw_m3 1 rfl
theorem q549 : (Jvm.Cond.fieldLinkNest "PluralBranches" (163 : Nat) "PluralBranches$Message" "many" "I" "PluralBranches") ∈ lw_tbl := lw_at lw_m3 3 rfl
theorem q552 : (Jvm.Cond.fieldLinkNest "PluralBranches" (157 : Nat) "PluralBranches$Message" "choices" "Ljava/util/ArrayList;" "PluralBranches") ∈ lw_tbl := lw_at lw_m3 6 rfl
theorem q555 : (Jvm.Cond.fieldLinkNest "PluralBranches" (181 : Nat) "PluralBranches$Message" "types" "[I" "PluralBranches") ∈ lw_tbl := lw_at lw_m3 9 rfl
theorem q557 : (Jvm.Cond.fieldLinkNest "PluralBranches" (175 : Nat) "PluralBranches$Message" "met" "I" "PluralBranches") ∈ lw_tbl := lw_at lw_m3 11 rfl
theorem q588 : (Jvm.Cond.methodLink "PluralBranches" (153 : Nat) ({ cls := "PluralBranches$Reader", name := "whole", desc := "()LPluralBranches$Message;" } : Jvm.MethodName)) ∈ lw_all := lw_g (lw_at lw_m3 42 rfl) rfl
theorem q702 : (Jvm.Cond.fieldLinkNest "PluralBranches" (160 : Nat) "PluralBranches$Ends" "code" "I" "PluralBranches") ∈ lw_tbl := lw_at lw_m3 156 rfl
theorem q742 : (Jvm.Cond.fieldLink "PluralBranches" (194 : Nat) "PluralBranches$Choice" "argument" "I") ∈ lw_all := lw_g (lw_at lw_m3 196 rfl) rfl
theorem q827 : (Jvm.Cond.fieldLink "PluralBranches" (197 : Nat) "PluralBranches$Choice" "branches" "Ljava/util/ArrayList;") ∈ lw_all := lw_g (lw_at lw_m4 41 rfl) rfl
theorem q829 : (Jvm.Cond.fieldLinkNest "PluralBranches" (203 : Nat) "PluralBranches$Choice" "around" "I" "PluralBranches") ∈ lw_tbl := lw_at lw_m4 43 rfl
theorem q972 : (Jvm.Cond.fieldLinkNest "PluralBranches" (208 : Nat) "PluralBranches$Branch" "key" "I" "PluralBranches") ∈ lw_tbl := lw_at lw_m4 186 rfl
theorem q1002 : (Jvm.Cond.static ({ cls := "PluralBranches", name := "need", desc := "(ZI)V" } : Jvm.MethodName)) ∈ lw_all := lw_g (lw_at lw_m4 216 rfl) rfl
theorem q1003 : (Jvm.Cond.code ({ cls := "PluralBranches", name := "need", desc := "(ZI)V" } : Jvm.MethodName) prog_1_method_6_code (2 : Nat) (Option.none : Option Jvm.ClassFile.FieldType)) ∈ lw_all := lw_g (lw_at lw_m4 217 rfl) rfl
theorem q1004 : (Jvm.Cond.methodLink "PluralBranches" (71 : Nat) ({ cls := "PluralBranches$Ends", name := "<init>", desc := "(I)V" } : Jvm.MethodName)) ∈ lw_all := lw_g (lw_at lw_m4 218 rfl) rfl
theorem q1006 : (Jvm.Cond.instanceMethod ({ cls := "PluralBranches", name := "told", desc := "(II)I" } : Jvm.MethodName)) ∈ lw_all := lw_g (lw_at lw_m4 220 rfl) rfl
theorem q1007 : (Jvm.Cond.selects "PluralBranches" ({ cls := "PluralBranches", name := "told", desc := "(II)I" } : Jvm.MethodName) ({ cls := "PluralBranches", name := "told", desc := "(II)I" } : Jvm.MethodName)) ∈ lw_all := lw_g (lw_at lw_m4 221 rfl) rfl
theorem q1008 : (Jvm.Cond.code ({ cls := "PluralBranches", name := "told", desc := "(II)I" } : Jvm.MethodName) prog_1_method_20_code (4 : Nat) (Option.some Jvm.ClassFile.FieldType.int)) ∈ lw_all := lw_g (lw_at lw_m4 222 rfl) rfl
theorem q1009 : (Jvm.Cond.methodLink "PluralBranches" (170 : Nat) ({ cls := "PluralBranches$Parts", name := "depth", desc := "()I" } : Jvm.MethodName)) ∈ lw_all := lw_g (lw_at lw_m4 223 rfl) rfl
theorem q1082 : (Jvm.Cond.instanceMethod ({ cls := "PluralBranches", name := "type", desc := "(II)I" } : Jvm.MethodName)) ∈ lw_all := lw_g (lw_at lw_m5 56 rfl) rfl
theorem q1083 : (Jvm.Cond.selects "PluralBranches" ({ cls := "PluralBranches", name := "type", desc := "(II)I" } : Jvm.MethodName) ({ cls := "PluralBranches", name := "type", desc := "(II)I" } : Jvm.MethodName)) ∈ lw_all := lw_g (lw_at lw_m5 57 rfl) rfl
theorem q1084 : (Jvm.Cond.code ({ cls := "PluralBranches", name := "type", desc := "(II)I" } : Jvm.MethodName) prog_1_method_21_code (3 : Nat) (Option.some Jvm.ClassFile.FieldType.int)) ∈ lw_all := lw_g (lw_at lw_m5 58 rfl) rfl
theorem q1085 : (Jvm.Cond.methodLink "PluralBranches" (178 : Nat) ({ cls := "PluralBranches", name := "isArgument", desc := "(I)Z" } : Jvm.MethodName)) ∈ lw_all := lw_g (lw_at lw_m5 59 rfl) rfl
theorem q1086 : (Jvm.Cond.static ({ cls := "PluralBranches", name := "isArgument", desc := "(I)Z" } : Jvm.MethodName)) ∈ lw_all := lw_g (lw_at lw_m5 60 rfl) rfl
theorem q1087 : (Jvm.Cond.code ({ cls := "PluralBranches", name := "isArgument", desc := "(I)Z" } : Jvm.MethodName) prog_1_method_16_code (1 : Nat) (Option.some Jvm.ClassFile.FieldType.boolean)) ∈ lw_all := lw_g (lw_at lw_m5 61 rfl) rfl
theorem q1089 : (Jvm.Cond.instanceMethod ({ cls := "PluralBranches", name := "choice", desc := "(III)I" } : Jvm.MethodName)) ∈ lw_all := lw_g (lw_at lw_m5 63 rfl) rfl
theorem q1090 : (Jvm.Cond.selects "PluralBranches" ({ cls := "PluralBranches", name := "choice", desc := "(III)I" } : Jvm.MethodName) ({ cls := "PluralBranches", name := "choice", desc := "(III)I" } : Jvm.MethodName)) ∈ lw_all := lw_g (lw_at lw_m5 64 rfl) rfl
theorem q1091 : (Jvm.Cond.code ({ cls := "PluralBranches", name := "choice", desc := "(III)I" } : Jvm.MethodName) prog_1_method_23_code (5 : Nat) (Option.some Jvm.ClassFile.FieldType.int)) ∈ lw_all := lw_g (lw_at lw_m5 65 rfl) rfl
theorem q1092 : (Jvm.Cond.methodLink "PluralBranches" (190 : Nat) ({ cls := "PluralBranches", name := "choiceOf", desc := "(II)LPluralBranches$Choice;" } : Jvm.MethodName)) ∈ lw_all := lw_g (lw_at lw_m5 66 rfl) rfl
theorem q1093 : (Jvm.Cond.privateMethod ({ cls := "PluralBranches", name := "choiceOf", desc := "(II)LPluralBranches$Choice;" } : Jvm.MethodName)) ∈ lw_tbl := lw_at lw_m5 67 rfl
theorem q1094 : (Jvm.Cond.instanceMethod ({ cls := "PluralBranches", name := "choiceOf", desc := "(II)LPluralBranches$Choice;" } : Jvm.MethodName)) ∈ lw_all := lw_g (lw_at lw_m5 68 rfl) rfl
theorem q1095 : (Jvm.Cond.code ({ cls := "PluralBranches", name := "choiceOf", desc := "(II)LPluralBranches$Choice;" } : Jvm.MethodName) prog_1_method_22_code (3 : Nat) (Option.some (Jvm.ClassFile.FieldType.object "PluralBranches$Choice"))) ∈ lw_all := lw_g (lw_at lw_m5 69 rfl) rfl
theorem q1096 : (Jvm.Cond.methodLink "PluralBranches" (184 : Nat) ({ cls := "java/util/ArrayList", name := "get", desc := "(I)Ljava/lang/Object;" } : Jvm.MethodName)) ∈ lw_all := lw_g (lw_at lw_m5 70 rfl) rfl
theorem q1097 : (Jvm.Cond.classLink "PluralBranches" (188 : Nat) "PluralBranches$Choice") ∈ lw_all := lw_g (lw_at lw_m5 71 rfl) rfl
theorem q1098 : (Jvm.Cond.methodLink "PluralBranches" (200 : Nat) ({ cls := "PluralBranches$Choice", name := "kind", desc := "()I" } : Jvm.MethodName)) ∈ lw_all := lw_g (lw_at lw_m5 72 rfl) rfl
theorem q1100 : (Jvm.Cond.instanceMethod ({ cls := "PluralBranches", name := "key", desc := "(III)I" } : Jvm.MethodName)) ∈ lw_all := lw_g (lw_at lw_m5 74 rfl) rfl
theorem q1101 : (Jvm.Cond.selects "PluralBranches" ({ cls := "PluralBranches", name := "key", desc := "(III)I" } : Jvm.MethodName) ({ cls := "PluralBranches", name := "key", desc := "(III)I" } : Jvm.MethodName)) ∈ lw_all := lw_g (lw_at lw_m5 75 rfl) rfl
theorem q1102 : (Jvm.Cond.code ({ cls := "PluralBranches", name := "key", desc := "(III)I" } : Jvm.MethodName) prog_1_method_24_code (5 : Nat) (Option.some Jvm.ClassFile.FieldType.int)) ∈ lw_all := lw_g (lw_at lw_m5 76 rfl) rfl
theorem q1103 : (Jvm.Cond.classLink "PluralBranches" (206 : Nat) "PluralBranches$Branch") ∈ lw_all := lw_g (lw_at lw_m5 77 rfl) rfl
theorem q1105 : (Jvm.Cond.instanceMethod ({ cls := "PluralBranches", name := "lacks", desc := "(IIII)I" } : Jvm.MethodName)) ∈ lw_all := lw_g (lw_at lw_m5 79 rfl) rfl
theorem q1106 : (Jvm.Cond.selects "PluralBranches" ({ cls := "PluralBranches", name := "lacks", desc := "(IIII)I" } : Jvm.MethodName) ({ cls := "PluralBranches", name := "lacks", desc := "(IIII)I" } : Jvm.MethodName)) ∈ lw_all := lw_g (lw_at lw_m5 80 rfl) rfl
theorem q1107 : (Jvm.Cond.code ({ cls := "PluralBranches", name := "lacks", desc := "(IIII)I" } : Jvm.MethodName) prog_1_method_25_code (6 : Nat) (Option.some Jvm.ClassFile.FieldType.int)) ∈ lw_all := lw_g (lw_at lw_m5 81 rfl) rfl
theorem q1108 : (Jvm.Cond.methodLink "PluralBranches" (211 : Nat) ({ cls := "PluralBranches$Choice", name := "lacks", desc := "(LPluralBranches$Language;)I" } : Jvm.MethodName)) ∈ lw_all := lw_g (lw_at lw_m5 82 rfl) rfl
theorem q1125 : (Jvm.Cond.methodLink "PluralBranches" (215 : Nat) ({ cls := "PluralBranches$Choice", name := "dead", desc := "(LPluralBranches$Language;)I" } : Jvm.MethodName)) ∈ lw_all := lw_g (lw_at lw_m5 99 rfl) rfl
theorem q1133 : (Jvm.Cond.static ({ cls := "PluralBranches", name := "has", desc := "(II)Z" } : Jvm.MethodName)) ∈ lw_all := lw_g (lw_at lw_m5 107 rfl) rfl
theorem q1134 : (Jvm.Cond.code ({ cls := "PluralBranches", name := "has", desc := "(II)Z" } : Jvm.MethodName) prog_1_method_4_code (2 : Nat) (Option.some Jvm.ClassFile.FieldType.boolean)) ∈ lw_all := lw_g (lw_at lw_m5 108 rfl) rfl
theorem q1143 : (Jvm.Cond.instanceMethod ({ cls := "PluralBranches", name := "branch", desc := "(IIIII)I" } : Jvm.MethodName)) ∈ lw_all := lw_g (lw_at lw_m5 117 rfl) rfl
theorem q1144 : (Jvm.Cond.selects "PluralBranches" ({ cls := "PluralBranches", name := "branch", desc := "(IIIII)I" } : Jvm.MethodName) ({ cls := "PluralBranches", name := "branch", desc := "(IIIII)I" } : Jvm.MethodName)) ∈ lw_all := lw_g (lw_at lw_m5 118 rfl) rfl
theorem q1145 : (Jvm.Cond.code ({ cls := "PluralBranches", name := "branch", desc := "(IIIII)I" } : Jvm.MethodName) prog_1_method_26_code (8 : Nat) (Option.some Jvm.ClassFile.FieldType.int)) ∈ lw_all := lw_g (lw_at lw_m5 119 rfl) rfl
theorem q1146 : (Jvm.Cond.classLink "PluralBranches" (218 : Nat) "PluralBranches$Plural") ∈ lw_all := lw_g (lw_at lw_m5 120 rfl) rfl
theorem q1147 : (Jvm.Cond.methodLink "PluralBranches" (220 : Nat) ({ cls := "PluralBranches$Plural", name := "comesTo", desc := "(LPluralBranches$Language;LPluralBranches$Decimal;)I" } : Jvm.MethodName)) ∈ lw_all := lw_g (lw_at lw_m5 121 rfl) rfl
theorem q1163 : (Jvm.Cond.instanceMethod ({ cls := "PluralBranches", name := "same", desc := "(II)I" } : Jvm.MethodName)) ∈ lw_all := lw_g (lw_at lw_m5 137 rfl) rfl
theorem q1164 : (Jvm.Cond.selects "PluralBranches" ({ cls := "PluralBranches", name := "same", desc := "(II)I" } : Jvm.MethodName) ({ cls := "PluralBranches", name := "same", desc := "(II)I" } : Jvm.MethodName)) ∈ lw_all := lw_g (lw_at lw_m5 138 rfl) rfl
theorem q1165 : (Jvm.Cond.code ({ cls := "PluralBranches", name := "same", desc := "(II)I" } : Jvm.MethodName) prog_1_method_27_code (7 : Nat) (Option.some Jvm.ClassFile.FieldType.int)) ∈ lw_all := lw_g (lw_at lw_m5 139 rfl) rfl
theorem q1167 : (Jvm.Cond.instanceMethod ({ cls := "PluralBranches", name := "copy", desc := "(II)I" } : Jvm.MethodName)) ∈ lw_all := lw_g (lw_at lw_m5 141 rfl) rfl
theorem q1168 : (Jvm.Cond.selects "PluralBranches" ({ cls := "PluralBranches", name := "copy", desc := "(II)I" } : Jvm.MethodName) ({ cls := "PluralBranches", name := "copy", desc := "(II)I" } : Jvm.MethodName)) ∈ lw_all := lw_g (lw_at lw_m5 142 rfl) rfl
theorem q1169 : (Jvm.Cond.code ({ cls := "PluralBranches", name := "copy", desc := "(II)I" } : Jvm.MethodName) prog_1_method_28_code (3 : Nat) (Option.some Jvm.ClassFile.FieldType.int)) ∈ lw_all := lw_g (lw_at lw_m5 143 rfl) rfl
theorem q1171 : (Jvm.Cond.instanceMethod ({ cls := "PluralBranches", name := "decimal", desc := "(III)I" } : Jvm.MethodName)) ∈ lw_all := lw_g (lw_at lw_m5 145 rfl) rfl
theorem q1172 : (Jvm.Cond.selects "PluralBranches" ({ cls := "PluralBranches", name := "decimal", desc := "(III)I" } : Jvm.MethodName) ({ cls := "PluralBranches", name := "decimal", desc := "(III)I" } : Jvm.MethodName)) ∈ lw_all := lw_g (lw_at lw_m5 146 rfl) rfl
theorem q1173 : (Jvm.Cond.code ({ cls := "PluralBranches", name := "decimal", desc := "(III)I" } : Jvm.MethodName) prog_1_method_29_code (4 : Nat) (Option.some Jvm.ClassFile.FieldType.int)) ∈ lw_all := lw_g (lw_at lw_m5 147 rfl) rfl
theorem q1174 : (Jvm.Cond.classLink "PluralBranches" (224 : Nat) "PluralBranches$Numbered") ∈ lw_all := lw_g (lw_at lw_m5 148 rfl) rfl
theorem q1176 : (Jvm.Cond.methodLink "PluralBranches" (226 : Nat) ({ cls := "PluralBranches$Numbered", name := "<init>", desc := "(LPluralBranches$Decimal;)V" } : Jvm.MethodName)) ∈ lw_all := lw_g (lw_at lw_m5 150 rfl) rfl
theorem q1185 : (Jvm.Cond.instanceMethod ({ cls := "PluralBranches", name := "gender", desc := "(II)I" } : Jvm.MethodName)) ∈ lw_all := lw_g (lw_at lw_m5 159 rfl) rfl
theorem q1186 : (Jvm.Cond.selects "PluralBranches" ({ cls := "PluralBranches", name := "gender", desc := "(II)I" } : Jvm.MethodName) ({ cls := "PluralBranches", name := "gender", desc := "(II)I" } : Jvm.MethodName)) ∈ lw_all := lw_g (lw_at lw_m5 160 rfl) rfl
theorem q1187 : (Jvm.Cond.code ({ cls := "PluralBranches", name := "gender", desc := "(II)I" } : Jvm.MethodName) prog_1_method_30_code (3 : Nat) (Option.some Jvm.ClassFile.FieldType.int)) ∈ lw_all := lw_g (lw_at lw_m5 161 rfl) rfl
theorem q1188 : (Jvm.Cond.constantLong "PluralBranches" (229 : Nat) (2 : Int64)) ∈ lw_all := lw_g (lw_at lw_m5 162 rfl) rfl
theorem q1189 : (Jvm.Cond.classLink "PluralBranches" (231 : Nat) "PluralBranches$Gendered") ∈ lw_all := lw_g (lw_at lw_m5 163 rfl) rfl
theorem q1191 : (Jvm.Cond.methodLink "PluralBranches" (233 : Nat) ({ cls := "PluralBranches$Gendered", name := "<init>", desc := "(I)V" } : Jvm.MethodName)) ∈ lw_all := lw_g (lw_at lw_m5 165 rfl) rfl
theorem q1200 : (Jvm.Cond.instanceMethod ({ cls := "PluralBranches", name := "list", desc := "(IIIII)I" } : Jvm.MethodName)) ∈ lw_all := lw_g (lw_at lw_m5 174 rfl) rfl
theorem q1201 : (Jvm.Cond.selects "PluralBranches" ({ cls := "PluralBranches", name := "list", desc := "(IIIII)I" } : Jvm.MethodName) ({ cls := "PluralBranches", name := "list", desc := "(IIIII)I" } : Jvm.MethodName)) ∈ lw_all := lw_g (lw_at lw_m5 175 rfl) rfl
theorem q1202 : (Jvm.Cond.code ({ cls := "PluralBranches", name := "list", desc := "(IIIII)I" } : Jvm.MethodName) prog_1_method_32_code (6 : Nat) (Option.some Jvm.ClassFile.FieldType.int)) ∈ lw_all := lw_g (lw_at lw_m5 176 rfl) rfl
theorem q1203 : (Jvm.Cond.methodLink "PluralBranches" (242 : Nat) ({ cls := "PluralBranches", name := "listed", desc := "(I[I)LPluralBranches$Listed;" } : Jvm.MethodName)) ∈ lw_all := lw_g (lw_at lw_m5 177 rfl) rfl
theorem q1204 : (Jvm.Cond.static ({ cls := "PluralBranches", name := "listed", desc := "(I[I)LPluralBranches$Listed;" } : Jvm.MethodName)) ∈ lw_all := lw_g (lw_at lw_m5 178 rfl) rfl
theorem q1205 : (Jvm.Cond.code ({ cls := "PluralBranches", name := "listed", desc := "(I[I)LPluralBranches$Listed;" } : Jvm.MethodName) prog_1_method_31_code (4 : Nat) (Option.some (Jvm.ClassFile.FieldType.object "PluralBranches$Listed"))) ∈ lw_all := lw_g (lw_at lw_m5 179 rfl) rfl
theorem q1206 : (Jvm.Cond.classLink "PluralBranches" (234 : Nat) "PluralBranches$Listed") ∈ lw_all := lw_g (lw_at lw_m5 180 rfl) rfl
theorem q1208 : (Jvm.Cond.methodLink "PluralBranches" (236 : Nat) ({ cls := "PluralBranches$Listed", name := "<init>", desc := "([I)V" } : Jvm.MethodName)) ∈ lw_all := lw_g (lw_at lw_m5 182 rfl) rfl
theorem q1213 : (Jvm.Cond.fieldLinkNest "PluralBranches" (246 : Nat) "PluralBranches$Listed" "its" "[I" "PluralBranches") ∈ lw_tbl := lw_at lw_m5 187 rfl
theorem q1217 : (Jvm.Cond.methodLink "PluralBranches" (239 : Nat) ({ cls := "PluralBranches$Listed", name := "with", desc := "(I)LPluralBranches$Listed;" } : Jvm.MethodName)) ∈ lw_all := lw_g (lw_at lw_m5 191 rfl) rfl
theorem q1225 : (Jvm.Cond.instanceMethod ({ cls := "PluralBranches", name := "more", desc := "(II)I" } : Jvm.MethodName)) ∈ lw_all := lw_g (lw_at lw_m5 199 rfl) rfl
theorem q1226 : (Jvm.Cond.selects "PluralBranches" ({ cls := "PluralBranches", name := "more", desc := "(II)I" } : Jvm.MethodName) ({ cls := "PluralBranches", name := "more", desc := "(II)I" } : Jvm.MethodName)) ∈ lw_all := lw_g (lw_at lw_m5 200 rfl) rfl
theorem q1227 : (Jvm.Cond.code ({ cls := "PluralBranches", name := "more", desc := "(II)I" } : Jvm.MethodName) prog_1_method_33_code (5 : Nat) (Option.some Jvm.ClassFile.FieldType.int)) ∈ lw_all := lw_g (lw_at lw_m5 201 rfl) rfl
theorem q1229 : (Jvm.Cond.instanceMethod ({ cls := "PluralBranches", name := "forget", desc := "(I)I" } : Jvm.MethodName)) ∈ lw_all := lw_g (lw_at lw_m5 203 rfl) rfl
theorem q1230 : (Jvm.Cond.selects "PluralBranches" ({ cls := "PluralBranches", name := "forget", desc := "(I)I" } : Jvm.MethodName) ({ cls := "PluralBranches", name := "forget", desc := "(I)I" } : Jvm.MethodName)) ∈ lw_all := lw_g (lw_at lw_m5 204 rfl) rfl
theorem q1231 : (Jvm.Cond.code ({ cls := "PluralBranches", name := "forget", desc := "(I)I" } : Jvm.MethodName) prog_1_method_35_code (3 : Nat) (Option.some Jvm.ClassFile.FieldType.int)) ∈ lw_all := lw_g (lw_at lw_m5 205 rfl) rfl
theorem q1232 : (Jvm.Cond.methodLink "PluralBranches" (252 : Nat) ({ cls := "PluralBranches", name := "typeOf", desc := "(I)I" } : Jvm.MethodName)) ∈ lw_all := lw_g (lw_at lw_m5 206 rfl) rfl
theorem q1233 : (Jvm.Cond.privateMethod ({ cls := "PluralBranches", name := "typeOf", desc := "(I)I" } : Jvm.MethodName)) ∈ lw_tbl := lw_at lw_m5 207 rfl
theorem q1234 : (Jvm.Cond.instanceMethod ({ cls := "PluralBranches", name := "typeOf", desc := "(I)I" } : Jvm.MethodName)) ∈ lw_all := lw_g (lw_at lw_m5 208 rfl) rfl
theorem q1235 : (Jvm.Cond.code ({ cls := "PluralBranches", name := "typeOf", desc := "(I)I" } : Jvm.MethodName) prog_1_method_34_code (2 : Nat) (Option.some Jvm.ClassFile.FieldType.int)) ∈ lw_all := lw_g (lw_at lw_m5 209 rfl) rfl
theorem q1236 : (Jvm.Cond.interfaceEntry "PluralBranches" (249 : Nat)) ∈ lw_tbl := lw_at lw_m5 210 rfl
theorem q1237 : (Jvm.Cond.methodLink "PluralBranches" (249 : Nat) ({ cls := "PluralBranches$Thing", name := "type", desc := "()I" } : Jvm.MethodName)) ∈ lw_all := lw_g (lw_at lw_m5 211 rfl) rfl
theorem q1259 : (Jvm.Cond.instanceMethod ({ cls := "PluralBranches", name := "held", desc := "(II)J" } : Jvm.MethodName)) ∈ lw_all := lw_g (lw_at lw_m5 233 rfl) rfl
theorem q1260 : (Jvm.Cond.selects "PluralBranches" ({ cls := "PluralBranches", name := "held", desc := "(II)J" } : Jvm.MethodName) ({ cls := "PluralBranches", name := "held", desc := "(II)J" } : Jvm.MethodName)) ∈ lw_all := lw_g (lw_at lw_m5 234 rfl) rfl
theorem q1261 : (Jvm.Cond.code ({ cls := "PluralBranches", name := "held", desc := "(II)J" } : Jvm.MethodName) prog_1_method_36_code (3 : Nat) (Option.some Jvm.ClassFile.FieldType.long)) ∈ lw_all := lw_g (lw_at lw_m5 235 rfl) rfl
theorem q1262 : (Jvm.Cond.constantLong "PluralBranches" (256 : Nat) (8 : Int64)) ∈ lw_all := lw_g (lw_at lw_m5 236 rfl) rfl
theorem q1263 : (Jvm.Cond.interfaceEntry "PluralBranches" (258 : Nat)) ∈ lw_tbl := lw_at lw_m5 237 rfl
theorem q1264 : (Jvm.Cond.methodLink "PluralBranches" (258 : Nat) ({ cls := "PluralBranches$Thing", name := "held", desc := "(I)J" } : Jvm.MethodName)) ∈ lw_all := lw_g (lw_at lw_m5 238 rfl) rfl
theorem q1286 : (Jvm.Cond.instanceMethod ({ cls := "PluralBranches", name := "add", desc := "(III)J" } : Jvm.MethodName)) ∈ lw_all := lw_g (lw_at lw_m6 20 rfl) rfl
theorem q1287 : (Jvm.Cond.selects "PluralBranches" ({ cls := "PluralBranches", name := "add", desc := "(III)J" } : Jvm.MethodName) ({ cls := "PluralBranches", name := "add", desc := "(III)J" } : Jvm.MethodName)) ∈ lw_all := lw_g (lw_at lw_m6 21 rfl) rfl
theorem q1288 : (Jvm.Cond.codeWith ({ cls := "PluralBranches", name := "add", desc := "(III)J" } : Jvm.MethodName) prog_1_method_38_code (6 : Nat) (Option.some Jvm.ClassFile.FieldType.long) [((78 : Nat), (124 : Nat), (125 : Nat), (294 : Nat))]) ∈ lw_all := lw_g (lw_at lw_m6 22 rfl) rfl
theorem q1289 : (Jvm.Cond.classLink "PluralBranches" (294 : Nat) "java/lang/ArithmeticException") ∈ lw_all := lw_g (lw_at lw_m6 23 rfl) rfl
theorem q1316 : (Jvm.Cond.interfaceEntry "PluralBranches" (261 : Nat)) ∈ lw_tbl := lw_at lw_m6 50 rfl
theorem q1317 : (Jvm.Cond.methodLink "PluralBranches" (261 : Nat) ({ cls := "PluralBranches$Thing", name := "decimal", desc := "(I)LPluralBranches$Decimal;" } : Jvm.MethodName)) ∈ lw_all := lw_g (lw_at lw_m6 51 rfl) rfl
theorem q1332 : (Jvm.Cond.methodLink "PluralBranches" (284 : Nat) ({ cls := "java/lang/Math", name := "max", desc := "(II)I" } : Jvm.MethodName)) ∈ lw_all := lw_g (lw_at lw_m6 66 rfl) rfl
theorem q1333 : (Jvm.Cond.methodLink "PluralBranches" (288 : Nat) ({ cls := "PluralBranches", name := "at", desc := "(II)I" } : Jvm.MethodName)) ∈ lw_all := lw_g (lw_at lw_m6 67 rfl) rfl
theorem q1334 : (Jvm.Cond.privateMethod ({ cls := "PluralBranches", name := "at", desc := "(II)I" } : Jvm.MethodName)) ∈ lw_tbl := lw_at lw_m6 68 rfl
theorem q1335 : (Jvm.Cond.instanceMethod ({ cls := "PluralBranches", name := "at", desc := "(II)I" } : Jvm.MethodName)) ∈ lw_all := lw_g (lw_at lw_m6 69 rfl) rfl
theorem q1336 : (Jvm.Cond.code ({ cls := "PluralBranches", name := "at", desc := "(II)I" } : Jvm.MethodName) prog_1_method_37_code (4 : Nat) (Option.some Jvm.ClassFile.FieldType.int)) ∈ lw_all := lw_g (lw_at lw_m6 70 rfl) rfl
theorem q1337 : (Jvm.Cond.methodLink "PluralBranches" (271 : Nat) ({ cls := "PluralBranches", name := "tens", desc := "(I)J" } : Jvm.MethodName)) ∈ lw_all := lw_g (lw_at lw_m6 71 rfl) rfl
theorem q1338 : (Jvm.Cond.methodLink "PluralBranches" (274 : Nat) ({ cls := "java/lang/Math", name := "multiplyExact", desc := "(JJ)J" } : Jvm.MethodName)) ∈ lw_all := lw_g (lw_at lw_m6 72 rfl) rfl
theorem q1347 : (Jvm.Cond.methodLink "PluralBranches" (280 : Nat) ({ cls := "java/lang/Math", name := "toIntExact", desc := "(J)I" } : Jvm.MethodName)) ∈ lw_all := lw_g (lw_at lw_m6 81 rfl) rfl
theorem q1351 : (Jvm.Cond.methodLink "PluralBranches" (291 : Nat) ({ cls := "java/lang/Math", name := "addExact", desc := "(II)I" } : Jvm.MethodName)) ∈ lw_all := lw_g (lw_at lw_m6 85 rfl) rfl
theorem q1355 : (Jvm.Cond.instanceMethod ({ cls := "PluralBranches", name := "grow", desc := "(II)J" } : Jvm.MethodName)) ∈ lw_all := lw_g (lw_at lw_m6 89 rfl) rfl
theorem q1356 : (Jvm.Cond.selects "PluralBranches" ({ cls := "PluralBranches", name := "grow", desc := "(II)J" } : Jvm.MethodName) ({ cls := "PluralBranches", name := "grow", desc := "(II)J" } : Jvm.MethodName)) ∈ lw_all := lw_g (lw_at lw_m6 90 rfl) rfl
theorem q1357 : (Jvm.Cond.codeWith ({ cls := "PluralBranches", name := "grow", desc := "(II)J" } : Jvm.MethodName) prog_1_method_39_code (5 : Nat) (Option.some Jvm.ClassFile.FieldType.long) [((33 : Nat), (72 : Nat), (73 : Nat), (294 : Nat))]) ∈ lw_all := lw_g (lw_at lw_m6 91 rfl) rfl
theorem q1358 : (Jvm.Cond.methodLink "PluralBranches" (296 : Nat) ({ cls := "java/lang/Math", name := "multiplyExact", desc := "(II)I" } : Jvm.MethodName)) ∈ lw_all := lw_g (lw_at lw_m6 92 rfl) rfl
theorem q1362 : (Jvm.Cond.instanceMethod ({ cls := "PluralBranches", name := "write", desc := "(II)I" } : Jvm.MethodName)) ∈ lw_all := lw_g (lw_at lw_m6 96 rfl) rfl
theorem q1363 : (Jvm.Cond.selects "PluralBranches" ({ cls := "PluralBranches", name := "write", desc := "(II)I" } : Jvm.MethodName) ({ cls := "PluralBranches", name := "write", desc := "(II)I" } : Jvm.MethodName)) ∈ lw_all := lw_g (lw_at lw_m6 97 rfl) rfl
theorem q1364 : (Jvm.Cond.codeWith ({ cls := "PluralBranches", name := "write", desc := "(II)I" } : Jvm.MethodName) prog_1_method_41_code (5 : Nat) (Option.some Jvm.ClassFile.FieldType.int) [((46 : Nat), (64 : Nat), (65 : Nat), (69 : Nat))]) ∈ lw_all := lw_g (lw_at lw_m6 98 rfl) rfl
theorem q1365 : (Jvm.Cond.classLink "PluralBranches" (299 : Nat) "PluralBranches$Sheet") ∈ lw_all := lw_g (lw_at lw_m6 99 rfl) rfl
theorem q1367 : (Jvm.Cond.methodLink "PluralBranches" (314 : Nat) ({ cls := "PluralBranches$Sheet", name := "<init>", desc := "(LPluralBranches$Language;[LPluralBranches$Thing;)V" } : Jvm.MethodName)) ∈ lw_all := lw_g (lw_at lw_m6 101 rfl) rfl
theorem q1372 : (Jvm.Cond.fieldLinkNest "PluralBranches" (298 : Nat) "PluralBranches$Sheet" "bytes" "[B" "PluralBranches") ∈ lw_tbl := lw_at lw_m6 106 rfl
theorem q1374 : (Jvm.Cond.fieldLinkNest "PluralBranches" (303 : Nat) "PluralBranches$Sheet" "size" "I" "PluralBranches") ∈ lw_tbl := lw_at lw_m6 108 rfl
theorem q1394 : (Jvm.Cond.methodLink "PluralBranches" (317 : Nat) ({ cls := "PluralBranches$Parts", name := "write", desc := "(LPluralBranches$Sheet;)V" } : Jvm.MethodName)) ∈ lw_all := lw_g (lw_at lw_m6 128 rfl) rfl
theorem q1597 : (Jvm.Cond.methodLink "PluralBranches" (321 : Nat) ({ cls := "PluralBranches", name := "takes", desc := "(LPluralBranches$Sheet;)I" } : Jvm.MethodName)) ∈ lw_all := lw_g (lw_at lw_m7 91 rfl) rfl
theorem q1598 : (Jvm.Cond.privateMethod ({ cls := "PluralBranches", name := "takes", desc := "(LPluralBranches$Sheet;)I" } : Jvm.MethodName)) ∈ lw_tbl := lw_at lw_m7 92 rfl
theorem q1599 : (Jvm.Cond.instanceMethod ({ cls := "PluralBranches", name := "takes", desc := "(LPluralBranches$Sheet;)I" } : Jvm.MethodName)) ∈ lw_all := lw_g (lw_at lw_m7 93 rfl) rfl
theorem q1600 : (Jvm.Cond.code ({ cls := "PluralBranches", name := "takes", desc := "(LPluralBranches$Sheet;)I" } : Jvm.MethodName) prog_1_method_40_code (2 : Nat) (Option.some Jvm.ClassFile.FieldType.int)) ∈ lw_all := lw_g (lw_at lw_m7 94 rfl) rfl
theorem q1601 : (Jvm.Cond.methodLink "PluralBranches" (305 : Nat) ({ cls := "java/lang/System", name := "arraycopy", desc := "(Ljava/lang/Object;ILjava/lang/Object;II)V" } : Jvm.MethodName)) ∈ lw_all := lw_g (lw_at lw_m7 95 rfl) rfl
theorem q1603 : (Jvm.Cond.instanceMethod ({ cls := "PluralBranches", name := "out", desc := "(I)I" } : Jvm.MethodName)) ∈ lw_all := lw_g (lw_at lw_m7 97 rfl) rfl
theorem q1604 : (Jvm.Cond.selects "PluralBranches" ({ cls := "PluralBranches", name := "out", desc := "(I)I" } : Jvm.MethodName) ({ cls := "PluralBranches", name := "out", desc := "(I)I" } : Jvm.MethodName)) ∈ lw_all := lw_g (lw_at lw_m7 98 rfl) rfl
theorem q1605 : (Jvm.Cond.code ({ cls := "PluralBranches", name := "out", desc := "(I)I" } : Jvm.MethodName) prog_1_method_42_code (2 : Nat) (Option.some Jvm.ClassFile.FieldType.int)) ∈ lw_all := lw_g (lw_at lw_m7 99 rfl) rfl
theorem q1607 : (Jvm.Cond.instanceMethod ({ cls := "PluralBranches", name := "shape", desc := "(IIIIIII)I" } : Jvm.MethodName)) ∈ lw_all := lw_g (lw_at lw_m7 101 rfl) rfl
theorem q1608 : (Jvm.Cond.selects "PluralBranches" ({ cls := "PluralBranches", name := "shape", desc := "(IIIIIII)I" } : Jvm.MethodName) ({ cls := "PluralBranches", name := "shape", desc := "(IIIIIII)I" } : Jvm.MethodName)) ∈ lw_all := lw_g (lw_at lw_m7 102 rfl) rfl
theorem q1609 : (Jvm.Cond.code ({ cls := "PluralBranches", name := "shape", desc := "(IIIIIII)I" } : Jvm.MethodName) prog_1_method_43_code (9 : Nat) (Option.some Jvm.ClassFile.FieldType.int)) ∈ lw_all := lw_g (lw_at lw_m7 103 rfl) rfl
theorem q1610 : (Jvm.Cond.classLink "PluralBranches" (325 : Nat) "PluralBranches$Pattern") ∈ lw_all := lw_g (lw_at lw_m7 104 rfl) rfl
theorem q1611 : (Jvm.Cond.methodLink "PluralBranches" (327 : Nat) ({ cls := "PluralBranches$Pattern", name := "<init>", desc := "(ZIII)V" } : Jvm.MethodName)) ∈ lw_all := lw_g (lw_at lw_m7 105 rfl) rfl
theorem q1612 : (Jvm.Cond.methodLink "PluralBranches" (330 : Nat) ({ cls := "PluralBranches$Pattern", name := "write", desc := "(LPluralBranches$Decimal;LPluralBranches$Sheet;)V" } : Jvm.MethodName)) ∈ lw_all := lw_g (lw_at lw_m7 106 rfl) rfl
theorem q1614 : (Jvm.Cond.instanceMethod ({ cls := "PluralBranches", name := "row", desc := "(III)I" } : Jvm.MethodName)) ∈ lw_all := lw_g (lw_at lw_m7 108 rfl) rfl
theorem q1615 : (Jvm.Cond.selects "PluralBranches" ({ cls := "PluralBranches", name := "row", desc := "(III)I" } : Jvm.MethodName) ({ cls := "PluralBranches", name := "row", desc := "(III)I" } : Jvm.MethodName)) ∈ lw_all := lw_g (lw_at lw_m7 109 rfl) rfl
theorem q1616 : (Jvm.Cond.codeWith ({ cls := "PluralBranches", name := "row", desc := "(III)I" } : Jvm.MethodName) prog_1_method_46_code (5 : Nat) (Option.some Jvm.ClassFile.FieldType.int) [((33 : Nat), (48 : Nat), (49 : Nat), (345 : Nat))]) ∈ lw_all := lw_g (lw_at lw_m7 110 rfl) rfl
theorem q1617 : (Jvm.Cond.classLink "PluralBranches" (345 : Nat) "java/lang/NegativeArraySizeException") ∈ lw_all := lw_g (lw_at lw_m7 111 rfl) rfl
theorem q1631 : (Jvm.Cond.methodLink "PluralBranches" (333 : Nat) ({ cls := "PluralBranches", name := "isRow", desc := "(I)Z" } : Jvm.MethodName)) ∈ lw_all := lw_g (lw_at lw_m7 125 rfl) rfl
theorem q1632 : (Jvm.Cond.static ({ cls := "PluralBranches", name := "isRow", desc := "(I)Z" } : Jvm.MethodName)) ∈ lw_all := lw_g (lw_at lw_m7 126 rfl) rfl
theorem q1633 : (Jvm.Cond.code ({ cls := "PluralBranches", name := "isRow", desc := "(I)Z" } : Jvm.MethodName) prog_1_method_44_code (1 : Nat) (Option.some Jvm.ClassFile.FieldType.boolean)) ∈ lw_all := lw_g (lw_at lw_m7 127 rfl) rfl
theorem q1634 : (Jvm.Cond.constantLong "PluralBranches" (336 : Nat) (-1 : Int64)) ∈ lw_all := lw_g (lw_at lw_m7 128 rfl) rfl
theorem q1635 : (Jvm.Cond.methodLink "PluralBranches" (338 : Nat) ({ cls := "PluralBranches", name := "rowOf", desc := "(II)Ljava/lang/Object;" } : Jvm.MethodName)) ∈ lw_all := lw_g (lw_at lw_m7 129 rfl) rfl
theorem q1636 : (Jvm.Cond.static ({ cls := "PluralBranches", name := "rowOf", desc := "(II)Ljava/lang/Object;" } : Jvm.MethodName)) ∈ lw_all := lw_g (lw_at lw_m7 130 rfl) rfl
theorem q1637 : (Jvm.Cond.code ({ cls := "PluralBranches", name := "rowOf", desc := "(II)Ljava/lang/Object;" } : Jvm.MethodName) prog_1_method_45_code (2 : Nat) (Option.some (Jvm.ClassFile.FieldType.object "java/lang/Object"))) ∈ lw_all := lw_g (lw_at lw_m7 131 rfl) rfl
theorem q1642 : (Jvm.Cond.instanceMethod ({ cls := "PluralBranches", name := "ratio", desc := "(IIII)I" } : Jvm.MethodName)) ∈ lw_all := lw_g (lw_at lw_m7 136 rfl) rfl
theorem q1643 : (Jvm.Cond.selects "PluralBranches" ({ cls := "PluralBranches", name := "ratio", desc := "(IIII)I" } : Jvm.MethodName) ({ cls := "PluralBranches", name := "ratio", desc := "(IIII)I" } : Jvm.MethodName)) ∈ lw_all := lw_g (lw_at lw_m7 137 rfl) rfl
theorem q1644 : (Jvm.Cond.codeWith ({ cls := "PluralBranches", name := "ratio", desc := "(IIII)I" } : Jvm.MethodName) prog_1_method_48_code (9 : Nat) (Option.some Jvm.ClassFile.FieldType.int) [((42 : Nat), (52 : Nat), (55 : Nat), (294 : Nat))]) ∈ lw_all := lw_g (lw_at lw_m7 138 rfl) rfl
theorem q1645 : (Jvm.Cond.methodLink "PluralBranches" (348 : Nat) ({ cls := "PluralBranches", name := "unlike", desc := "(II)I" } : Jvm.MethodName)) ∈ lw_all := lw_g (lw_at lw_m7 139 rfl) rfl
theorem q1646 : (Jvm.Cond.privateMethod ({ cls := "PluralBranches", name := "unlike", desc := "(II)I" } : Jvm.MethodName)) ∈ lw_tbl := lw_at lw_m7 140 rfl
theorem q1647 : (Jvm.Cond.instanceMethod ({ cls := "PluralBranches", name := "unlike", desc := "(II)I" } : Jvm.MethodName)) ∈ lw_all := lw_g (lw_at lw_m7 141 rfl) rfl
theorem q1648 : (Jvm.Cond.code ({ cls := "PluralBranches", name := "unlike", desc := "(II)I" } : Jvm.MethodName) prog_1_method_47_code (3 : Nat) (Option.some Jvm.ClassFile.FieldType.int)) ∈ lw_all := lw_g (lw_at lw_m7 142 rfl) rfl
theorem q1649 : (Jvm.Cond.methodLink "PluralBranches" (347 : Nat) ({ cls := "PluralBranches$Row", name := "size", desc := "()I" } : Jvm.MethodName)) ∈ lw_all := lw_g (lw_at lw_m7 143 rfl) rfl
theorem q1656 : (Jvm.Cond.classLink "PluralBranches" (351 : Nat) "[J") ∈ lw_all := lw_g (lw_at lw_m7 150 rfl) rfl
theorem q1657 : (Jvm.Cond.classLink "PluralBranches" (353 : Nat) "[F") ∈ lw_all := lw_g (lw_at lw_m7 151 rfl) rfl
theorem q1658 : (Jvm.Cond.classLink "PluralBranches" (355 : Nat) "[D") ∈ lw_all := lw_g (lw_at lw_m7 152 rfl) rfl
theorem q1660 : (Jvm.Cond.instanceMethod ({ cls := "PluralBranches", name := "cut", desc := "(III)J" } : Jvm.MethodName)) ∈ lw_all := lw_g (lw_at lw_m7 154 rfl) rfl
theorem q1661 : (Jvm.Cond.selects "PluralBranches" ({ cls := "PluralBranches", name := "cut", desc := "(III)J" } : Jvm.MethodName) ({ cls := "PluralBranches", name := "cut", desc := "(III)J" } : Jvm.MethodName)) ∈ lw_all := lw_g (lw_at lw_m7 155 rfl) rfl
theorem q1662 : (Jvm.Cond.code ({ cls := "PluralBranches", name := "cut", desc := "(III)J" } : Jvm.MethodName) prog_1_method_49_code (7 : Nat) (Option.some Jvm.ClassFile.FieldType.long)) ∈ lw_all := lw_g (lw_at lw_m7 156 rfl) rfl
theorem q1664 : (Jvm.Cond.instanceMethod ({ cls := "PluralBranches", name := "remains", desc := "(III)J" } : Jvm.MethodName)) ∈ lw_all := lw_g (lw_at lw_m7 158 rfl) rfl
theorem q1665 : (Jvm.Cond.selects "PluralBranches" ({ cls := "PluralBranches", name := "remains", desc := "(III)J" } : Jvm.MethodName) ({ cls := "PluralBranches", name := "remains", desc := "(III)J" } : Jvm.MethodName)) ∈ lw_all := lw_g (lw_at lw_m7 159 rfl) rfl
theorem q1666 : (Jvm.Cond.code ({ cls := "PluralBranches", name := "remains", desc := "(III)J" } : Jvm.MethodName) prog_1_method_50_code (6 : Nat) (Option.some Jvm.ClassFile.FieldType.long)) ∈ lw_all := lw_g (lw_at lw_m7 160 rfl) rfl
theorem q1667 : (Jvm.Cond.methodLink "PluralBranches" (357 : Nat) ({ cls := "PluralBranches$Row", name := "number", desc := "(I)D" } : Jvm.MethodName)) ∈ lw_all := lw_g (lw_at lw_m7 161 rfl) rfl
theorem q1671 : (Jvm.Cond.constantFloat "PluralBranches" (361 : Nat) (1148846080 : UInt32)) ∈ lw_all := lw_g (lw_at lw_m7 165 rfl) rfl
theorem q1672 : (Jvm.Cond.constantDouble "PluralBranches" (362 : Nat) (4652007308841189376 : UInt64)) ∈ lw_all := lw_g (lw_at lw_m7 166 rfl) rfl
theorem q1674 : (Jvm.Cond.instanceMethod ({ cls := "PluralBranches", name := "take", desc := "(IIII)I" } : Jvm.MethodName)) ∈ lw_all := lw_g (lw_at lw_m7 168 rfl) rfl
theorem q1675 : (Jvm.Cond.selects "PluralBranches" ({ cls := "PluralBranches", name := "take", desc := "(IIII)I" } : Jvm.MethodName) ({ cls := "PluralBranches", name := "take", desc := "(IIII)I" } : Jvm.MethodName)) ∈ lw_all := lw_g (lw_at lw_m7 169 rfl) rfl
theorem q1676 : (Jvm.Cond.code ({ cls := "PluralBranches", name := "take", desc := "(IIII)I" } : Jvm.MethodName) prog_1_method_51_code (9 : Nat) (Option.some Jvm.ClassFile.FieldType.int)) ∈ lw_all := lw_g (lw_at lw_m7 170 rfl) rfl
theorem q1677 : (Jvm.Cond.constantLong "PluralBranches" (366 : Nat) (-2147483648 : Int64)) ∈ lw_all := lw_g (lw_at lw_m7 171 rfl) rfl
theorem q1678 : (Jvm.Cond.constantLong "PluralBranches" (368 : Nat) (2147483647 : Int64)) ∈ lw_all := lw_g (lw_at lw_m7 172 rfl) rfl
theorem q1679 : (Jvm.Cond.methodLink "PluralBranches" (370 : Nat) ({ cls := "PluralBranches", name := "decimal", desc := "(III)I" } : Jvm.MethodName)) ∈ lw_all := lw_g (lw_at lw_m7 173 rfl) rfl
theorem q1680 : (Jvm.Cond.methodLink "PluralBranches" (373 : Nat) ({ cls := "java/lang/Math", name := "rint", desc := "(D)D" } : Jvm.MethodName)) ∈ lw_all := lw_g (lw_at lw_m7 174 rfl) rfl
theorem q1700 : (Jvm.Cond.constantDouble "PluralBranches" (377 : Nat) (13970166044105375744 : UInt64)) ∈ lw_all := lw_g (lw_at lw_m7 194 rfl) rfl
theorem q1701 : (Jvm.Cond.constantDouble "PluralBranches" (379 : Nat) (4746794007248502784 : UInt64)) ∈ lw_all := lw_g (lw_at lw_m7 195 rfl) rfl
theorem q1703 : (Jvm.Cond.instanceMethod ({ cls := "PluralBranches", name := "move", desc := "(IIIII)I" } : Jvm.MethodName)) ∈ lw_all := lw_g (lw_at lw_m7 197 rfl) rfl
theorem q1704 : (Jvm.Cond.selects "PluralBranches" ({ cls := "PluralBranches", name := "move", desc := "(IIIII)I" } : Jvm.MethodName) ({ cls := "PluralBranches", name := "move", desc := "(IIIII)I" } : Jvm.MethodName)) ∈ lw_all := lw_g (lw_at lw_m7 198 rfl) rfl
theorem q1705 : (Jvm.Cond.code ({ cls := "PluralBranches", name := "move", desc := "(IIIII)I" } : Jvm.MethodName) prog_1_method_52_code (8 : Nat) (Option.some Jvm.ClassFile.FieldType.int)) ∈ lw_all := lw_g (lw_at lw_m7 199 rfl) rfl
theorem q1706 : (Jvm.Cond.methodLink "PluralBranches" (381 : Nat) ({ cls := "PluralBranches$Row", name := "sort", desc := "()I" } : Jvm.MethodName)) ∈ lw_all := lw_g (lw_at lw_m7 200 rfl) rfl
theorem q1711 : (Jvm.Cond.instanceMethod ({ cls := "PluralBranches", name := "count", desc := "(I)I" } : Jvm.MethodName)) ∈ lw_all := lw_g (lw_at lw_m7 205 rfl) rfl
theorem q1712 : (Jvm.Cond.selects "PluralBranches" ({ cls := "PluralBranches", name := "count", desc := "(I)I" } : Jvm.MethodName) ({ cls := "PluralBranches", name := "count", desc := "(I)I" } : Jvm.MethodName)) ∈ lw_all := lw_g (lw_at lw_m7 206 rfl) rfl
theorem q1713 : (Jvm.Cond.code ({ cls := "PluralBranches", name := "count", desc := "(I)I" } : Jvm.MethodName) prog_1_method_53_code (4 : Nat) (Option.some Jvm.ClassFile.FieldType.int)) ∈ lw_all := lw_g (lw_at lw_m7 207 rfl) rfl
theorem q2281 : (Jvm.Cond.castable "PluralBranches" "java/lang/Object") ∈ lw_tbl := lw_at lw_m10 55 rfl
theorem in_X0 : ∀ w ∈ wsX00, w ∈ lw_all := lw_in wsX00 [409, 411, 413, 415, 417, 419, 421, 423] (by decide +kernel) (by decide +kernel)
/-! the law's own entry -/
set_option maxRecDepth 100000
abbrev cL_law : ByteArray := code
def dkwL_law_60 : List UInt8 := [172, 132, 3, 8, 167, 250, 3, 4, 172]
abbrev dktL_law_60 : List UInt8 := dkwL_law_60 ++ []
def dkwL_law_59 : List UInt8 := [3, 172, 43, 42, 29, 4, 96, 46, 182, 0, 155, 44, 42, 29, 4, 96, 46, 182, 0, 158, 159, 0, 5, 3]
abbrev dktL_law_59 : List UInt8 := dkwL_law_59 ++ dktL_law_60
def dkwL_law_58 : List UInt8 := [5, 96, 46, 42, 29, 6, 96, 46, 42, 29, 7, 96, 46, 42, 29, 8, 96, 46, 182, 0, 154, 159, 0, 28]
abbrev dktL_law_58 : List UInt8 := dkwL_law_58 ++ dktL_law_59
def dkwL_law_57 : List UInt8 := [6, 96, 46, 42, 29, 7, 96, 46, 42, 29, 8, 96, 46, 182, 0, 151, 44, 42, 29, 4, 96, 46, 42, 29]
abbrev dktL_law_57 : List UInt8 := dkwL_law_57 ++ dktL_law_58
def dkwL_law_56 : List UInt8 := [7, 96, 46, 182, 0, 150, 159, 0, 91, 3, 172, 43, 42, 29, 4, 96, 46, 42, 29, 5, 96, 46, 42, 29]
abbrev dktL_law_56 : List UInt8 := dkwL_law_56 ++ dktL_law_57
def dkwL_law_55 : List UInt8 := [7, 96, 46, 182, 0, 147, 44, 42, 29, 4, 96, 46, 42, 29, 5, 96, 46, 42, 29, 6, 96, 46, 42, 29]
abbrev dktL_law_55 : List UInt8 := dkwL_law_55 ++ dktL_law_56
def dkwL_law_54 : List UInt8 := [148, 153, 0, 144, 3, 172, 43, 42, 29, 4, 96, 46, 42, 29, 5, 96, 46, 42, 29, 6, 96, 46, 42, 29]
abbrev dktL_law_54 : List UInt8 := dkwL_law_54 ++ dktL_law_55
def dkwL_law_53 : List UInt8 := [96, 46, 182, 0, 143, 44, 42, 29, 4, 96, 46, 42, 29, 5, 96, 46, 42, 29, 6, 96, 46, 182, 0, 146]
abbrev dktL_law_53 : List UInt8 := dkwL_law_53 ++ dktL_law_54
def dkwL_law_52 : List UInt8 := [46, 182, 0, 142, 148, 153, 0, 188, 3, 172, 43, 42, 29, 4, 96, 46, 42, 29, 5, 96, 46, 42, 29, 6]
abbrev dktL_law_52 : List UInt8 := dkwL_law_52 ++ dktL_law_53
def dkwL_law_51 : List UInt8 := [46, 42, 29, 6, 96, 46, 182, 0, 139, 44, 42, 29, 4, 96, 46, 42, 29, 5, 96, 46, 42, 29, 6, 96]
abbrev dktL_law_51 : List UInt8 := dkwL_law_51 ++ dktL_law_52
def dkwL_law_50 : List UInt8 := [46, 42, 29, 7, 96, 46, 182, 0, 138, 159, 0, 232, 3, 172, 43, 42, 29, 4, 96, 46, 42, 29, 5, 96]
abbrev dktL_law_50 : List UInt8 := dkwL_law_50 ++ dktL_law_51
def dkwL_law_49 : List UInt8 := [46, 42, 29, 7, 96, 46, 182, 0, 135, 44, 42, 29, 4, 96, 46, 42, 29, 5, 96, 46, 42, 29, 6, 96]
abbrev dktL_law_49 : List UInt8 := dkwL_law_49 ++ dktL_law_50
def dkwL_law_48 : List UInt8 := [46, 182, 0, 134, 159, 1, 29, 3, 172, 43, 42, 29, 4, 96, 46, 42, 29, 5, 96, 46, 42, 29, 6, 96]
abbrev dktL_law_48 : List UInt8 := dkwL_law_48 ++ dktL_law_49
def dkwL_law_47 : List UInt8 := [46, 42, 29, 6, 96, 46, 182, 0, 131, 44, 42, 29, 4, 96, 46, 42, 29, 5, 96, 46, 42, 29, 6, 96]
abbrev dktL_law_47 : List UInt8 := dkwL_law_47 ++ dktL_law_48
def dkwL_law_46 : List UInt8 := [42, 29, 16, 7, 96, 46, 182, 0, 130, 159, 1, 72, 3, 172, 43, 42, 29, 4, 96, 46, 42, 29, 5, 96]
abbrev dktL_law_46 : List UInt8 := dkwL_law_46 ++ dktL_law_47
def dkwL_law_45 : List UInt8 := [5, 96, 46, 42, 29, 6, 96, 46, 42, 29, 7, 96, 46, 42, 29, 8, 96, 46, 42, 29, 16, 6, 96, 46]
abbrev dktL_law_45 : List UInt8 := dkwL_law_45 ++ dktL_law_46
def dkwL_law_44 : List UInt8 := [46, 42, 29, 16, 6, 96, 46, 42, 29, 16, 7, 96, 46, 182, 0, 126, 44, 42, 29, 4, 96, 46, 42, 29]
abbrev dktL_law_44 : List UInt8 := dkwL_law_44 ++ dktL_law_45
def dkwL_law_43 : List UInt8 := [42, 29, 4, 96, 46, 42, 29, 5, 96, 46, 42, 29, 6, 96, 46, 42, 29, 7, 96, 46, 42, 29, 8, 96]
abbrev dktL_law_43 : List UInt8 := dkwL_law_43 ++ dktL_law_44
def dkwL_law_42 : List UInt8 := [43, 42, 29, 4, 96, 46, 182, 0, 122, 44, 42, 29, 4, 96, 46, 182, 0, 125, 159, 1, 159, 3, 172, 43]
abbrev dktL_law_42 : List UInt8 := dkwL_law_42 ++ dktL_law_43
def dkwL_law_41 : List UInt8 := [96, 46, 182, 0, 118, 44, 42, 29, 4, 96, 46, 42, 29, 5, 96, 46, 182, 0, 121, 159, 1, 182, 3, 172]
abbrev dktL_law_41 : List UInt8 := dkwL_law_41 ++ dktL_law_42
def dkwL_law_40 : List UInt8 := [46, 42, 29, 5, 96, 46, 182, 0, 117, 148, 153, 1, 215, 3, 172, 43, 42, 29, 4, 96, 46, 42, 29, 5]
abbrev dktL_law_40 : List UInt8 := dkwL_law_40 ++ dktL_law_41
def dkwL_law_39 : List UInt8 := [153, 1, 249, 3, 172, 43, 42, 29, 4, 96, 46, 42, 29, 5, 96, 46, 182, 0, 114, 44, 42, 29, 4, 96]
abbrev dktL_law_39 : List UInt8 := dkwL_law_39 ++ dktL_law_40
def dkwL_law_38 : List UInt8 := [46, 182, 0, 110, 44, 42, 29, 4, 96, 46, 42, 29, 5, 96, 46, 42, 29, 6, 96, 46, 182, 0, 113, 148]
abbrev dktL_law_38 : List UInt8 := dkwL_law_38 ++ dktL_law_39
def dkwL_law_37 : List UInt8 := [182, 0, 109, 148, 153, 2, 37, 3, 172, 43, 42, 29, 4, 96, 46, 42, 29, 5, 96, 46, 42, 29, 6, 96]
abbrev dktL_law_37 : List UInt8 := dkwL_law_37 ++ dktL_law_38
def dkwL_law_36 : List UInt8 := [29, 4, 96, 46, 42, 29, 5, 96, 46, 182, 0, 105, 44, 42, 29, 4, 96, 46, 42, 29, 5, 96, 46]
abbrev dktL_law_36 : List UInt8 := dkwL_law_36 ++ dktL_law_37
def dkwL_law_35 : List UInt8 := [42, 29, 4, 96, 46, 182, 0, 101, 44, 42, 29, 4, 96, 46, 182, 0, 104, 159, 2, 71, 3, 172, 43, 42]
abbrev dktL_law_35 : List UInt8 := dkwL_law_35 ++ dktL_law_36
def dkwL_law_34 : List UInt8 := [46, 182, 0, 97, 44, 42, 29, 4, 96, 46, 42, 29, 5, 96, 46, 182, 0, 100, 159, 2, 94, 3, 172, 43]
abbrev dktL_law_34 : List UInt8 := dkwL_law_34 ++ dktL_law_35
def dkwL_law_33 : List UInt8 := [46, 42, 29, 8, 96, 46, 182, 0, 96, 159, 2, 127, 3, 172, 43, 42, 29, 4, 96, 46, 42, 29, 5, 96]
abbrev dktL_law_33 : List UInt8 := dkwL_law_33 ++ dktL_law_34
def dkwL_law_32 : List UInt8 := [46, 182, 0, 93, 44, 42, 29, 4, 96, 46, 42, 29, 5, 96, 46, 42, 29, 6, 96, 46, 42, 29, 7, 96]
abbrev dktL_law_32 : List UInt8 := dkwL_law_32 ++ dktL_law_33
def dkwL_law_31 : List UInt8 := [42, 29, 4, 96, 46, 42, 29, 5, 96, 46, 42, 29, 6, 96, 46, 42, 29, 7, 96, 46, 42, 29, 8, 96]
abbrev dktL_law_31 : List UInt8 := dkwL_law_31 ++ dktL_law_32
def dkwL_law_30 : List UInt8 := [46, 182, 0, 89, 44, 42, 29, 4, 96, 46, 42, 29, 5, 96, 46, 182, 0, 92, 159, 2, 190, 3, 172, 43]
abbrev dktL_law_30 : List UInt8 := dkwL_law_30 ++ dktL_law_31
def dkwL_law_29 : List UInt8 := [46, 42, 29, 6, 96, 46, 182, 0, 88, 159, 2, 223, 3, 172, 43, 42, 29, 4, 96, 46, 42, 29, 5, 96]
abbrev dktL_law_29 : List UInt8 := dkwL_law_29 ++ dktL_law_30
def dkwL_law_28 : List UInt8 := [46, 42, 29, 5, 96, 46, 42, 29, 6, 96, 46, 182, 0, 85, 44, 42, 29, 4, 96, 46, 42, 29, 5, 96]
abbrev dktL_law_28 : List UInt8 := dkwL_law_28 ++ dktL_law_29
def dkwL_law_27 : List UInt8 := [44, 42, 29, 4, 96, 46, 42, 29, 5, 96, 46, 182, 0, 84, 159, 3, 10, 3, 172, 43, 42, 29, 4, 96]
abbrev dktL_law_27 : List UInt8 := dkwL_law_27 ++ dktL_law_28
def dkwL_law_26 : List UInt8 := [96, 46, 182, 0, 80, 159, 3, 43, 3, 172, 43, 42, 29, 4, 96, 46, 42, 29, 5, 96, 46, 182, 0, 81]
abbrev dktL_law_26 : List UInt8 := dkwL_law_26 ++ dktL_law_27
def dkwL_law_25 : List UInt8 := [172, 43, 42, 29, 4, 96, 46, 42, 29, 5, 96, 46, 182, 0, 77, 44, 42, 29, 4, 96, 46, 42, 29, 5]
abbrev dktL_law_25 : List UInt8 := dkwL_law_25 ++ dktL_law_26
def dkwL_law_24 : List UInt8 := [96, 46, 42, 29, 6, 96, 46, 42, 29, 7, 96, 46, 42, 29, 8, 96, 46, 182, 0, 76, 159, 3, 76, 3]
abbrev dktL_law_24 : List UInt8 := dkwL_law_24 ++ dktL_law_25
def dkwL_law_23 : List UInt8 := [96, 46, 42, 29, 7, 96, 46, 42, 29, 8, 96, 46, 182, 0, 72, 44, 42, 29, 4, 96, 46, 42, 29, 5]
abbrev dktL_law_23 : List UInt8 := dkwL_law_23 ++ dktL_law_24
def dkwL_law_22 : List UInt8 := [96, 46, 182, 0, 71, 159, 3, 139, 3, 172, 43, 42, 29, 4, 96, 46, 42, 29, 5, 96, 46, 42, 29, 6]
abbrev dktL_law_22 : List UInt8 := dkwL_law_22 ++ dktL_law_23
def dkwL_law_21 : List UInt8 := [96, 46, 182, 0, 67, 44, 42, 29, 4, 96, 46, 42, 29, 5, 96, 46, 42, 29, 6, 96, 46, 42, 29, 7]
abbrev dktL_law_21 : List UInt8 := dkwL_law_21 ++ dktL_law_22
def dkwL_law_20 : List UInt8 := [159, 3, 192, 3, 172, 43, 42, 29, 4, 96, 46, 42, 29, 5, 96, 46, 42, 29, 6, 96, 46, 42, 29, 7]
abbrev dktL_law_20 : List UInt8 := dkwL_law_20 ++ dktL_law_21
def dkwL_law_19 : List UInt8 := [46, 182, 0, 63, 44, 42, 29, 4, 96, 46, 42, 29, 5, 96, 46, 42, 29, 6, 96, 46, 182, 0, 66]
abbrev dktL_law_19 : List UInt8 := dkwL_law_19 ++ dktL_law_20
def dkwL_law_18 : List UInt8 := [46, 182, 0, 62, 159, 3, 235, 3, 172, 43, 42, 29, 4, 96, 46, 42, 29, 5, 96, 46, 42, 29, 6, 96]
abbrev dktL_law_18 : List UInt8 := dkwL_law_18 ++ dktL_law_19
def dkwL_law_17 : List UInt8 := [46, 42, 29, 6, 96, 46, 182, 0, 59, 44, 42, 29, 4, 96, 46, 42, 29, 5, 96, 46, 42, 29, 6, 96]
abbrev dktL_law_17 : List UInt8 := dkwL_law_17 ++ dktL_law_18
def dkwL_law_16 : List UInt8 := [46, 42, 29, 5, 96, 46, 182, 0, 58, 159, 4, 22, 3, 172, 43, 42, 29, 4, 96, 46, 42, 29, 5, 96]
abbrev dktL_law_16 : List UInt8 := dkwL_law_16 ++ dktL_law_17
def dkwL_law_15 : List UInt8 := [159, 4, 55, 3, 172, 43, 42, 29, 4, 96, 46, 42, 29, 5, 96, 46, 182, 0, 55, 44, 42, 29, 4, 96]
abbrev dktL_law_15 : List UInt8 := dkwL_law_15 ++ dktL_law_16
def dkwL_law_14 : List UInt8 := [96, 46, 42, 29, 5, 96, 46, 182, 0, 50, 44, 42, 29, 4, 96, 46, 42, 29, 5, 96, 46, 182, 0, 54]
abbrev dktL_law_14 : List UInt8 := dkwL_law_14 ++ dktL_law_15
def dkwL_law_13 : List UInt8 := [4, 96, 46, 182, 0, 46, 44, 42, 29, 4, 96, 46, 182, 0, 49, 159, 4, 88, 3, 172, 43, 42, 29, 4]
abbrev dktL_law_13 : List UInt8 := dkwL_law_13 ++ dktL_law_14
def dkwL_law_12 : List UInt8 := [182, 0, 41, 159, 4, 124, 3, 172, 43, 182, 0, 42, 44, 182, 0, 45, 159, 4, 111, 3, 172, 43, 42, 29]
abbrev dktL_law_12 : List UInt8 := dkwL_law_12 ++ dktL_law_13
def dkwL_law_11 : List UInt8 := [182, 0, 37, 159, 4, 147, 3, 172, 43, 42, 29, 4, 96, 46, 182, 0, 38, 44, 42, 29, 4, 96, 46]
abbrev dktL_law_11 : List UInt8 := dkwL_law_11 ++ dktL_law_12
def dkwL_law_10 : List UInt8 := [42, 29, 8, 96, 46, 42, 29, 16, 6, 96, 46, 182, 0, 32, 159, 4, 160, 3, 172, 43, 182, 0, 33, 44]
abbrev dktL_law_10 : List UInt8 := dkwL_law_10 ++ dktL_law_11
def dkwL_law_9 : List UInt8 := [182, 0, 28, 44, 42, 29, 4, 96, 46, 42, 29, 5, 96, 46, 42, 29, 6, 96, 46, 42, 29, 7, 96, 46]
abbrev dktL_law_9 : List UInt8 := dkwL_law_9 ++ dktL_law_10
def dkwL_law_8 : List UInt8 := [46, 42, 29, 6, 96, 46, 42, 29, 7, 96, 46, 42, 29, 8, 96, 46, 42, 29, 16, 6, 96, 46]
abbrev dktL_law_8 : List UInt8 := dkwL_law_8 ++ dktL_law_9
def dkwL_law_7 : List UInt8 := [44, 42, 29, 4, 96, 46, 182, 0, 27, 159, 4, 235, 3, 172, 43, 42, 29, 4, 96, 46, 42, 29, 5, 96]
abbrev dktL_law_7 : List UInt8 := dkwL_law_7 ++ dktL_law_8
def dkwL_law_6 : List UInt8 := [96, 46, 42, 29, 6, 96, 46, 182, 0, 22, 159, 5, 2, 3, 172, 43, 42, 29, 4, 96, 46, 182, 0, 23]
abbrev dktL_law_6 : List UInt8 := dkwL_law_6 ++ dktL_law_7
def dkwL_law_5 : List UInt8 := [96, 46, 42, 29, 5, 96, 46, 42, 29, 6, 96, 46, 182, 0, 18, 44, 42, 29, 4, 96, 46, 42, 29, 5]
abbrev dktL_law_5 : List UInt8 := dkwL_law_5 ++ dktL_law_6
def dkwL_law_4 : List UInt8 := [46, 42, 29, 5, 96, 46, 42, 29, 6, 96, 46, 182, 0, 17, 148, 153, 5, 45, 3, 172, 43, 42, 29, 4]
abbrev dktL_law_4 : List UInt8 := dkwL_law_4 ++ dktL_law_5
def dkwL_law_3 : List UInt8 := [43, 42, 29, 4, 96, 46, 42, 29, 5, 96, 46, 42, 29, 6, 96, 46, 182, 0, 13, 44, 42, 29, 4, 96]
abbrev dktL_law_3 : List UInt8 := dkwL_law_3 ++ dktL_law_4
def dkwL_law_2 : List UInt8 := [170, 0, 0, 0, 0, 5, 235, 0, 0, 0, 0, 0, 0, 0, 33, 0, 0, 0, 151, 0, 0, 0, 195, 0, 0, 0, 238, 0, 0, 1, 5, 0, 0, 1, 80, 0, 0, 1, 93, 0, 0, 1, 116, 0, 0, 1, 129, 0, 0, 1, 152, 0, 0, 1, 185, 0, 0, 1, 218, 0, 0, 2, 5, 0, 0, 2, 48, 0, 0, 2, 101, 0, 0, 2, 164, 0, 0, 2, 197, 0, 0, 2, 230, 0, 0, 3, 17, 0, 0, 3, 50, 0, 0, 3, 113, 0, 0, 3, 146, 0, 0, 3, 169, 0, 0, 3, 203, 0, 0, 3, 247, 0, 0, 4, 25, 0, 0, 4, 58, 0, 0, 4, 81, 0, 0, 4, 168, 0, 0, 4, 211, 0, 0, 5, 8, 0, 0, 5, 52, 0, 0, 5, 96, 0, 0, 5, 149, 0, 0, 5, 212]
abbrev dktL_law_2 : List UInt8 := dkwL_law_2 ++ dktL_law_3
def dkwL_law_1 : List UInt8 := [163, 5, 250, 42, 29, 46, 16, 63, 126]
abbrev dktL_law_1 : List UInt8 := dkwL_law_1 ++ dktL_law_2
def dkwL_law_0 : List UInt8 := [187, 0, 7, 89, 183, 0, 9, 76, 187, 0, 10, 89, 183, 0, 12, 77, 3, 62, 29, 42, 190, 16, 8, 100]
abbrev dktL_law_0 : List UInt8 := dkwL_law_0 ++ dktL_law_1
theorem dksL_law_0 : cL_law.data.toList.drop 0 = dktL_law_0 := by decide +kernel
theorem dksL_law_1 : cL_law.data.toList.drop 24 = dktL_law_1 := dk_seg dksL_law_0 24 rfl rfl
theorem dksL_law_2 : cL_law.data.toList.drop 33 = dktL_law_2 := dk_seg dksL_law_1 9 rfl rfl
theorem dksL_law_3 : cL_law.data.toList.drop 184 = dktL_law_3 := dk_seg dksL_law_2 151 rfl rfl
theorem dksL_law_4 : cL_law.data.toList.drop 208 = dktL_law_4 := dk_seg dksL_law_3 24 rfl rfl
theorem dksL_law_5 : cL_law.data.toList.drop 232 = dktL_law_5 := dk_seg dksL_law_4 24 rfl rfl
theorem dksL_law_6 : cL_law.data.toList.drop 256 = dktL_law_6 := dk_seg dksL_law_5 24 rfl rfl
theorem dksL_law_7 : cL_law.data.toList.drop 280 = dktL_law_7 := dk_seg dksL_law_6 24 rfl rfl
theorem dksL_law_8 : cL_law.data.toList.drop 304 = dktL_law_8 := dk_seg dksL_law_7 24 rfl rfl
theorem dksL_law_9 : cL_law.data.toList.drop 326 = dktL_law_9 := dk_seg dksL_law_8 22 rfl rfl
theorem dksL_law_10 : cL_law.data.toList.drop 350 = dktL_law_10 := dk_seg dksL_law_9 24 rfl rfl
theorem dksL_law_11 : cL_law.data.toList.drop 374 = dktL_law_11 := dk_seg dksL_law_10 24 rfl rfl
theorem dksL_law_12 : cL_law.data.toList.drop 397 = dktL_law_12 := dk_seg dksL_law_11 23 rfl rfl
theorem dksL_law_13 : cL_law.data.toList.drop 421 = dktL_law_13 := dk_seg dksL_law_12 24 rfl rfl
theorem dksL_law_14 : cL_law.data.toList.drop 445 = dktL_law_14 := dk_seg dksL_law_13 24 rfl rfl
theorem dksL_law_15 : cL_law.data.toList.drop 469 = dktL_law_15 := dk_seg dksL_law_14 24 rfl rfl
theorem dksL_law_16 : cL_law.data.toList.drop 493 = dktL_law_16 := dk_seg dksL_law_15 24 rfl rfl
theorem dksL_law_17 : cL_law.data.toList.drop 517 = dktL_law_17 := dk_seg dksL_law_16 24 rfl rfl
theorem dksL_law_18 : cL_law.data.toList.drop 541 = dktL_law_18 := dk_seg dksL_law_17 24 rfl rfl
theorem dksL_law_19 : cL_law.data.toList.drop 565 = dktL_law_19 := dk_seg dksL_law_18 24 rfl rfl
theorem dksL_law_20 : cL_law.data.toList.drop 588 = dktL_law_20 := dk_seg dksL_law_19 23 rfl rfl
theorem dksL_law_21 : cL_law.data.toList.drop 612 = dktL_law_21 := dk_seg dksL_law_20 24 rfl rfl
theorem dksL_law_22 : cL_law.data.toList.drop 636 = dktL_law_22 := dk_seg dksL_law_21 24 rfl rfl
theorem dksL_law_23 : cL_law.data.toList.drop 660 = dktL_law_23 := dk_seg dksL_law_22 24 rfl rfl
theorem dksL_law_24 : cL_law.data.toList.drop 684 = dktL_law_24 := dk_seg dksL_law_23 24 rfl rfl
theorem dksL_law_25 : cL_law.data.toList.drop 708 = dktL_law_25 := dk_seg dksL_law_24 24 rfl rfl
theorem dksL_law_26 : cL_law.data.toList.drop 732 = dktL_law_26 := dk_seg dksL_law_25 24 rfl rfl
theorem dksL_law_27 : cL_law.data.toList.drop 756 = dktL_law_27 := dk_seg dksL_law_26 24 rfl rfl
theorem dksL_law_28 : cL_law.data.toList.drop 780 = dktL_law_28 := dk_seg dksL_law_27 24 rfl rfl
theorem dksL_law_29 : cL_law.data.toList.drop 804 = dktL_law_29 := dk_seg dksL_law_28 24 rfl rfl
theorem dksL_law_30 : cL_law.data.toList.drop 828 = dktL_law_30 := dk_seg dksL_law_29 24 rfl rfl
theorem dksL_law_31 : cL_law.data.toList.drop 852 = dktL_law_31 := dk_seg dksL_law_30 24 rfl rfl
theorem dksL_law_32 : cL_law.data.toList.drop 876 = dktL_law_32 := dk_seg dksL_law_31 24 rfl rfl
theorem dksL_law_33 : cL_law.data.toList.drop 900 = dktL_law_33 := dk_seg dksL_law_32 24 rfl rfl
theorem dksL_law_34 : cL_law.data.toList.drop 924 = dktL_law_34 := dk_seg dksL_law_33 24 rfl rfl
theorem dksL_law_35 : cL_law.data.toList.drop 948 = dktL_law_35 := dk_seg dksL_law_34 24 rfl rfl
theorem dksL_law_36 : cL_law.data.toList.drop 972 = dktL_law_36 := dk_seg dksL_law_35 24 rfl rfl
theorem dksL_law_37 : cL_law.data.toList.drop 995 = dktL_law_37 := dk_seg dksL_law_36 23 rfl rfl
theorem dksL_law_38 : cL_law.data.toList.drop 1019 = dktL_law_38 := dk_seg dksL_law_37 24 rfl rfl
theorem dksL_law_39 : cL_law.data.toList.drop 1043 = dktL_law_39 := dk_seg dksL_law_38 24 rfl rfl
theorem dksL_law_40 : cL_law.data.toList.drop 1067 = dktL_law_40 := dk_seg dksL_law_39 24 rfl rfl
theorem dksL_law_41 : cL_law.data.toList.drop 1091 = dktL_law_41 := dk_seg dksL_law_40 24 rfl rfl
theorem dksL_law_42 : cL_law.data.toList.drop 1115 = dktL_law_42 := dk_seg dksL_law_41 24 rfl rfl
theorem dksL_law_43 : cL_law.data.toList.drop 1139 = dktL_law_43 := dk_seg dksL_law_42 24 rfl rfl
theorem dksL_law_44 : cL_law.data.toList.drop 1163 = dktL_law_44 := dk_seg dksL_law_43 24 rfl rfl
theorem dksL_law_45 : cL_law.data.toList.drop 1187 = dktL_law_45 := dk_seg dksL_law_44 24 rfl rfl
theorem dksL_law_46 : cL_law.data.toList.drop 1211 = dktL_law_46 := dk_seg dksL_law_45 24 rfl rfl
theorem dksL_law_47 : cL_law.data.toList.drop 1235 = dktL_law_47 := dk_seg dksL_law_46 24 rfl rfl
theorem dksL_law_48 : cL_law.data.toList.drop 1259 = dktL_law_48 := dk_seg dksL_law_47 24 rfl rfl
theorem dksL_law_49 : cL_law.data.toList.drop 1283 = dktL_law_49 := dk_seg dksL_law_48 24 rfl rfl
theorem dksL_law_50 : cL_law.data.toList.drop 1307 = dktL_law_50 := dk_seg dksL_law_49 24 rfl rfl
theorem dksL_law_51 : cL_law.data.toList.drop 1331 = dktL_law_51 := dk_seg dksL_law_50 24 rfl rfl
theorem dksL_law_52 : cL_law.data.toList.drop 1355 = dktL_law_52 := dk_seg dksL_law_51 24 rfl rfl
theorem dksL_law_53 : cL_law.data.toList.drop 1379 = dktL_law_53 := dk_seg dksL_law_52 24 rfl rfl
theorem dksL_law_54 : cL_law.data.toList.drop 1403 = dktL_law_54 := dk_seg dksL_law_53 24 rfl rfl
theorem dksL_law_55 : cL_law.data.toList.drop 1427 = dktL_law_55 := dk_seg dksL_law_54 24 rfl rfl
theorem dksL_law_56 : cL_law.data.toList.drop 1451 = dktL_law_56 := dk_seg dksL_law_55 24 rfl rfl
theorem dksL_law_57 : cL_law.data.toList.drop 1475 = dktL_law_57 := dk_seg dksL_law_56 24 rfl rfl
theorem dksL_law_58 : cL_law.data.toList.drop 1499 = dktL_law_58 := dk_seg dksL_law_57 24 rfl rfl
theorem dksL_law_59 : cL_law.data.toList.drop 1523 = dktL_law_59 := dk_seg dksL_law_58 24 rfl rfl
theorem dksL_law_60 : cL_law.data.toList.drop 1547 = dktL_law_60 := dk_seg dksL_law_59 24 rfl rfl
theorem dL_law_0 : decode cL_law 0 = .ok (.new 7, 3) := dk_187 0 7 (dk_at dksL_law_0 0 rfl rfl)
theorem dL_law_3 : decode cL_law 3 = .ok (.dup, 1) := dk_89 (dk_at dksL_law_0 3 rfl rfl)
theorem dL_law_4 : decode cL_law 4 = .ok (.invokespecial 9, 3) := dk_183 0 9 (dk_at dksL_law_0 4 rfl rfl)
theorem dL_law_7 : decode cL_law 7 = .ok (.astore_n 1, 1) := dk_76 (dk_at dksL_law_0 7 rfl rfl)
theorem dL_law_8 : decode cL_law 8 = .ok (.new 10, 3) := dk_187 0 10 (dk_at dksL_law_0 8 rfl rfl)
theorem dL_law_11 : decode cL_law 11 = .ok (.dup, 1) := dk_89 (dk_at dksL_law_0 11 rfl rfl)
theorem dL_law_12 : decode cL_law 12 = .ok (.invokespecial 12, 3) := dk_183 0 12 (dk_at dksL_law_0 12 rfl rfl)
theorem dL_law_15 : decode cL_law 15 = .ok (.astore_n 2, 1) := dk_77 (dk_at dksL_law_0 15 rfl rfl)
theorem dL_law_16 : decode cL_law 16 = .ok (.iconst 0, 1) := dk_3 (dk_at dksL_law_0 16 rfl rfl)
theorem dL_law_17 : decode cL_law 17 = .ok (.istore_n 3, 1) := dk_62 (dk_at dksL_law_0 17 rfl rfl)
theorem dL_law_18 : decode cL_law 18 = .ok (.iload_n 3, 1) := dk_29 (dk_at dksL_law_0 18 rfl rfl)
theorem dL_law_19 : decode cL_law 19 = .ok (.aload_n 0, 1) := dk_42 (dk_at dksL_law_0 19 rfl rfl)
theorem dL_law_20 : decode cL_law 20 = .ok (.arraylength, 1) := dk_190 (dk_at dksL_law_0 20 rfl rfl)
theorem dL_law_21 : decode cL_law 21 = .ok (.bipush 8, 2) := dk_16 8 (dk_at dksL_law_0 21 rfl rfl)
theorem dL_law_23 : decode cL_law 23 = .ok (.isub, 1) := dk_100 (dk_at dksL_law_0 23 rfl rfl)
theorem dL_law_24 : decode cL_law 24 = .ok (.if_icmp .gt 1530, 3) := dk_163 5 250 (dk_at dksL_law_1 0 rfl rfl)
theorem dL_law_27 : decode cL_law 27 = .ok (.aload_n 0, 1) := dk_42 (dk_at dksL_law_1 3 rfl rfl)
theorem dL_law_28 : decode cL_law 28 = .ok (.iload_n 3, 1) := dk_29 (dk_at dksL_law_1 4 rfl rfl)
theorem dL_law_29 : decode cL_law 29 = .ok (.iaload, 1) := dk_46 (dk_at dksL_law_1 5 rfl rfl)
theorem dL_law_30 : decode cL_law 30 = .ok (.bipush 63, 2) := dk_16 63 (dk_at dksL_law_1 6 rfl rfl)
theorem dL_law_32 : decode cL_law 32 = .ok (.iand, 1) := dk_126 (dk_at dksL_law_1 8 rfl rfl)
theorem dL_law_33 : decode cL_law 33 = .ok (.tableswitch 1515 0 33 #[151, 195, 238, 261, 336, 349, 372, 385, 408, 441, 474, 517, 560, 613, 676, 709, 742, 785, 818, 881, 914, 937, 971, 1015, 1049, 1082, 1105, 1192, 1235, 1288, 1332, 1376, 1429, 1492], 151) := by decide +kernel
theorem dL_law_184 : decode cL_law 184 = .ok (.aload_n 1, 1) := dk_43 (dk_at dksL_law_3 0 rfl rfl)
theorem dL_law_185 : decode cL_law 185 = .ok (.aload_n 0, 1) := dk_42 (dk_at dksL_law_3 1 rfl rfl)
theorem dL_law_186 : decode cL_law 186 = .ok (.iload_n 3, 1) := dk_29 (dk_at dksL_law_3 2 rfl rfl)
theorem dL_law_187 : decode cL_law 187 = .ok (.iconst 1, 1) := dk_4 (dk_at dksL_law_3 3 rfl rfl)
theorem dL_law_188 : decode cL_law 188 = .ok (.iadd, 1) := dk_96 (dk_at dksL_law_3 4 rfl rfl)
theorem dL_law_189 : decode cL_law 189 = .ok (.iaload, 1) := dk_46 (dk_at dksL_law_3 5 rfl rfl)
theorem dL_law_190 : decode cL_law 190 = .ok (.aload_n 0, 1) := dk_42 (dk_at dksL_law_3 6 rfl rfl)
theorem dL_law_191 : decode cL_law 191 = .ok (.iload_n 3, 1) := dk_29 (dk_at dksL_law_3 7 rfl rfl)
theorem dL_law_192 : decode cL_law 192 = .ok (.iconst 2, 1) := dk_5 (dk_at dksL_law_3 8 rfl rfl)
theorem dL_law_193 : decode cL_law 193 = .ok (.iadd, 1) := dk_96 (dk_at dksL_law_3 9 rfl rfl)
theorem dL_law_194 : decode cL_law 194 = .ok (.iaload, 1) := dk_46 (dk_at dksL_law_3 10 rfl rfl)
theorem dL_law_195 : decode cL_law 195 = .ok (.aload_n 0, 1) := dk_42 (dk_at dksL_law_3 11 rfl rfl)
theorem dL_law_196 : decode cL_law 196 = .ok (.iload_n 3, 1) := dk_29 (dk_at dksL_law_3 12 rfl rfl)
theorem dL_law_197 : decode cL_law 197 = .ok (.iconst 3, 1) := dk_6 (dk_at dksL_law_3 13 rfl rfl)
theorem dL_law_198 : decode cL_law 198 = .ok (.iadd, 1) := dk_96 (dk_at dksL_law_3 14 rfl rfl)
theorem dL_law_199 : decode cL_law 199 = .ok (.iaload, 1) := dk_46 (dk_at dksL_law_3 15 rfl rfl)
theorem dL_law_200 : decode cL_law 200 = .ok (.invokevirtual 13, 3) := dk_182 0 13 (dk_at dksL_law_3 16 rfl rfl)
theorem dL_law_203 : decode cL_law 203 = .ok (.aload_n 2, 1) := dk_44 (dk_at dksL_law_3 19 rfl rfl)
theorem dL_law_204 : decode cL_law 204 = .ok (.aload_n 0, 1) := dk_42 (dk_at dksL_law_3 20 rfl rfl)
theorem dL_law_205 : decode cL_law 205 = .ok (.iload_n 3, 1) := dk_29 (dk_at dksL_law_3 21 rfl rfl)
theorem dL_law_206 : decode cL_law 206 = .ok (.iconst 1, 1) := dk_4 (dk_at dksL_law_3 22 rfl rfl)
theorem dL_law_207 : decode cL_law 207 = .ok (.iadd, 1) := dk_96 (dk_at dksL_law_3 23 rfl rfl)
theorem dL_law_208 : decode cL_law 208 = .ok (.iaload, 1) := dk_46 (dk_at dksL_law_4 0 rfl rfl)
theorem dL_law_209 : decode cL_law 209 = .ok (.aload_n 0, 1) := dk_42 (dk_at dksL_law_4 1 rfl rfl)
theorem dL_law_210 : decode cL_law 210 = .ok (.iload_n 3, 1) := dk_29 (dk_at dksL_law_4 2 rfl rfl)
theorem dL_law_211 : decode cL_law 211 = .ok (.iconst 2, 1) := dk_5 (dk_at dksL_law_4 3 rfl rfl)
theorem dL_law_212 : decode cL_law 212 = .ok (.iadd, 1) := dk_96 (dk_at dksL_law_4 4 rfl rfl)
theorem dL_law_213 : decode cL_law 213 = .ok (.iaload, 1) := dk_46 (dk_at dksL_law_4 5 rfl rfl)
theorem dL_law_214 : decode cL_law 214 = .ok (.aload_n 0, 1) := dk_42 (dk_at dksL_law_4 6 rfl rfl)
theorem dL_law_215 : decode cL_law 215 = .ok (.iload_n 3, 1) := dk_29 (dk_at dksL_law_4 7 rfl rfl)
theorem dL_law_216 : decode cL_law 216 = .ok (.iconst 3, 1) := dk_6 (dk_at dksL_law_4 8 rfl rfl)
theorem dL_law_217 : decode cL_law 217 = .ok (.iadd, 1) := dk_96 (dk_at dksL_law_4 9 rfl rfl)
theorem dL_law_218 : decode cL_law 218 = .ok (.iaload, 1) := dk_46 (dk_at dksL_law_4 10 rfl rfl)
theorem dL_law_219 : decode cL_law 219 = .ok (.invokevirtual 17, 3) := dk_182 0 17 (dk_at dksL_law_4 11 rfl rfl)
theorem dL_law_222 : decode cL_law 222 = .ok (.lcmp, 1) := dk_148 (dk_at dksL_law_4 14 rfl rfl)
theorem dL_law_223 : decode cL_law 223 = .ok (.ifCond .eq 1325, 3) := dk_153 5 45 (dk_at dksL_law_4 15 rfl rfl)
theorem dL_law_226 : decode cL_law 226 = .ok (.iconst 0, 1) := dk_3 (dk_at dksL_law_4 18 rfl rfl)
theorem dL_law_227 : decode cL_law 227 = .ok (.ireturn, 1) := dk_172 (dk_at dksL_law_4 19 rfl rfl)
theorem dL_law_228 : decode cL_law 228 = .ok (.aload_n 1, 1) := dk_43 (dk_at dksL_law_4 20 rfl rfl)
theorem dL_law_229 : decode cL_law 229 = .ok (.aload_n 0, 1) := dk_42 (dk_at dksL_law_4 21 rfl rfl)
theorem dL_law_230 : decode cL_law 230 = .ok (.iload_n 3, 1) := dk_29 (dk_at dksL_law_4 22 rfl rfl)
theorem dL_law_231 : decode cL_law 231 = .ok (.iconst 1, 1) := dk_4 (dk_at dksL_law_4 23 rfl rfl)
theorem dL_law_232 : decode cL_law 232 = .ok (.iadd, 1) := dk_96 (dk_at dksL_law_5 0 rfl rfl)
theorem dL_law_233 : decode cL_law 233 = .ok (.iaload, 1) := dk_46 (dk_at dksL_law_5 1 rfl rfl)
theorem dL_law_234 : decode cL_law 234 = .ok (.aload_n 0, 1) := dk_42 (dk_at dksL_law_5 2 rfl rfl)
theorem dL_law_235 : decode cL_law 235 = .ok (.iload_n 3, 1) := dk_29 (dk_at dksL_law_5 3 rfl rfl)
theorem dL_law_236 : decode cL_law 236 = .ok (.iconst 2, 1) := dk_5 (dk_at dksL_law_5 4 rfl rfl)
theorem dL_law_237 : decode cL_law 237 = .ok (.iadd, 1) := dk_96 (dk_at dksL_law_5 5 rfl rfl)
theorem dL_law_238 : decode cL_law 238 = .ok (.iaload, 1) := dk_46 (dk_at dksL_law_5 6 rfl rfl)
theorem dL_law_239 : decode cL_law 239 = .ok (.aload_n 0, 1) := dk_42 (dk_at dksL_law_5 7 rfl rfl)
theorem dL_law_240 : decode cL_law 240 = .ok (.iload_n 3, 1) := dk_29 (dk_at dksL_law_5 8 rfl rfl)
theorem dL_law_241 : decode cL_law 241 = .ok (.iconst 3, 1) := dk_6 (dk_at dksL_law_5 9 rfl rfl)
theorem dL_law_242 : decode cL_law 242 = .ok (.iadd, 1) := dk_96 (dk_at dksL_law_5 10 rfl rfl)
theorem dL_law_243 : decode cL_law 243 = .ok (.iaload, 1) := dk_46 (dk_at dksL_law_5 11 rfl rfl)
theorem dL_law_244 : decode cL_law 244 = .ok (.invokevirtual 18, 3) := dk_182 0 18 (dk_at dksL_law_5 12 rfl rfl)
theorem dL_law_247 : decode cL_law 247 = .ok (.aload_n 2, 1) := dk_44 (dk_at dksL_law_5 15 rfl rfl)
theorem dL_law_248 : decode cL_law 248 = .ok (.aload_n 0, 1) := dk_42 (dk_at dksL_law_5 16 rfl rfl)
theorem dL_law_249 : decode cL_law 249 = .ok (.iload_n 3, 1) := dk_29 (dk_at dksL_law_5 17 rfl rfl)
theorem dL_law_250 : decode cL_law 250 = .ok (.iconst 1, 1) := dk_4 (dk_at dksL_law_5 18 rfl rfl)
theorem dL_law_251 : decode cL_law 251 = .ok (.iadd, 1) := dk_96 (dk_at dksL_law_5 19 rfl rfl)
theorem dL_law_252 : decode cL_law 252 = .ok (.iaload, 1) := dk_46 (dk_at dksL_law_5 20 rfl rfl)
theorem dL_law_253 : decode cL_law 253 = .ok (.aload_n 0, 1) := dk_42 (dk_at dksL_law_5 21 rfl rfl)
theorem dL_law_254 : decode cL_law 254 = .ok (.iload_n 3, 1) := dk_29 (dk_at dksL_law_5 22 rfl rfl)
theorem dL_law_255 : decode cL_law 255 = .ok (.iconst 2, 1) := dk_5 (dk_at dksL_law_5 23 rfl rfl)
theorem dL_law_256 : decode cL_law 256 = .ok (.iadd, 1) := dk_96 (dk_at dksL_law_6 0 rfl rfl)
theorem dL_law_257 : decode cL_law 257 = .ok (.iaload, 1) := dk_46 (dk_at dksL_law_6 1 rfl rfl)
theorem dL_law_258 : decode cL_law 258 = .ok (.aload_n 0, 1) := dk_42 (dk_at dksL_law_6 2 rfl rfl)
theorem dL_law_259 : decode cL_law 259 = .ok (.iload_n 3, 1) := dk_29 (dk_at dksL_law_6 3 rfl rfl)
theorem dL_law_260 : decode cL_law 260 = .ok (.iconst 3, 1) := dk_6 (dk_at dksL_law_6 4 rfl rfl)
theorem dL_law_261 : decode cL_law 261 = .ok (.iadd, 1) := dk_96 (dk_at dksL_law_6 5 rfl rfl)
theorem dL_law_262 : decode cL_law 262 = .ok (.iaload, 1) := dk_46 (dk_at dksL_law_6 6 rfl rfl)
theorem dL_law_263 : decode cL_law 263 = .ok (.invokevirtual 22, 3) := dk_182 0 22 (dk_at dksL_law_6 7 rfl rfl)
theorem dL_law_266 : decode cL_law 266 = .ok (.if_icmp .eq 1282, 3) := dk_159 5 2 (dk_at dksL_law_6 10 rfl rfl)
theorem dL_law_269 : decode cL_law 269 = .ok (.iconst 0, 1) := dk_3 (dk_at dksL_law_6 13 rfl rfl)
theorem dL_law_270 : decode cL_law 270 = .ok (.ireturn, 1) := dk_172 (dk_at dksL_law_6 14 rfl rfl)
theorem dL_law_271 : decode cL_law 271 = .ok (.aload_n 1, 1) := dk_43 (dk_at dksL_law_6 15 rfl rfl)
theorem dL_law_272 : decode cL_law 272 = .ok (.aload_n 0, 1) := dk_42 (dk_at dksL_law_6 16 rfl rfl)
theorem dL_law_273 : decode cL_law 273 = .ok (.iload_n 3, 1) := dk_29 (dk_at dksL_law_6 17 rfl rfl)
theorem dL_law_274 : decode cL_law 274 = .ok (.iconst 1, 1) := dk_4 (dk_at dksL_law_6 18 rfl rfl)
theorem dL_law_275 : decode cL_law 275 = .ok (.iadd, 1) := dk_96 (dk_at dksL_law_6 19 rfl rfl)
theorem dL_law_276 : decode cL_law 276 = .ok (.iaload, 1) := dk_46 (dk_at dksL_law_6 20 rfl rfl)
theorem dL_law_277 : decode cL_law 277 = .ok (.invokevirtual 23, 3) := dk_182 0 23 (dk_at dksL_law_6 21 rfl rfl)
theorem dL_law_280 : decode cL_law 280 = .ok (.aload_n 2, 1) := dk_44 (dk_at dksL_law_7 0 rfl rfl)
theorem dL_law_281 : decode cL_law 281 = .ok (.aload_n 0, 1) := dk_42 (dk_at dksL_law_7 1 rfl rfl)
theorem dL_law_282 : decode cL_law 282 = .ok (.iload_n 3, 1) := dk_29 (dk_at dksL_law_7 2 rfl rfl)
theorem dL_law_283 : decode cL_law 283 = .ok (.iconst 1, 1) := dk_4 (dk_at dksL_law_7 3 rfl rfl)
theorem dL_law_284 : decode cL_law 284 = .ok (.iadd, 1) := dk_96 (dk_at dksL_law_7 4 rfl rfl)
theorem dL_law_285 : decode cL_law 285 = .ok (.iaload, 1) := dk_46 (dk_at dksL_law_7 5 rfl rfl)
theorem dL_law_286 : decode cL_law 286 = .ok (.invokevirtual 27, 3) := dk_182 0 27 (dk_at dksL_law_7 6 rfl rfl)
theorem dL_law_289 : decode cL_law 289 = .ok (.if_icmp .eq 1259, 3) := dk_159 4 235 (dk_at dksL_law_7 9 rfl rfl)
theorem dL_law_292 : decode cL_law 292 = .ok (.iconst 0, 1) := dk_3 (dk_at dksL_law_7 12 rfl rfl)
theorem dL_law_293 : decode cL_law 293 = .ok (.ireturn, 1) := dk_172 (dk_at dksL_law_7 13 rfl rfl)
theorem dL_law_294 : decode cL_law 294 = .ok (.aload_n 1, 1) := dk_43 (dk_at dksL_law_7 14 rfl rfl)
theorem dL_law_295 : decode cL_law 295 = .ok (.aload_n 0, 1) := dk_42 (dk_at dksL_law_7 15 rfl rfl)
theorem dL_law_296 : decode cL_law 296 = .ok (.iload_n 3, 1) := dk_29 (dk_at dksL_law_7 16 rfl rfl)
theorem dL_law_297 : decode cL_law 297 = .ok (.iconst 1, 1) := dk_4 (dk_at dksL_law_7 17 rfl rfl)
theorem dL_law_298 : decode cL_law 298 = .ok (.iadd, 1) := dk_96 (dk_at dksL_law_7 18 rfl rfl)
theorem dL_law_299 : decode cL_law 299 = .ok (.iaload, 1) := dk_46 (dk_at dksL_law_7 19 rfl rfl)
theorem dL_law_300 : decode cL_law 300 = .ok (.aload_n 0, 1) := dk_42 (dk_at dksL_law_7 20 rfl rfl)
theorem dL_law_301 : decode cL_law 301 = .ok (.iload_n 3, 1) := dk_29 (dk_at dksL_law_7 21 rfl rfl)
theorem dL_law_302 : decode cL_law 302 = .ok (.iconst 2, 1) := dk_5 (dk_at dksL_law_7 22 rfl rfl)
theorem dL_law_303 : decode cL_law 303 = .ok (.iadd, 1) := dk_96 (dk_at dksL_law_7 23 rfl rfl)
theorem dL_law_304 : decode cL_law 304 = .ok (.iaload, 1) := dk_46 (dk_at dksL_law_8 0 rfl rfl)
theorem dL_law_305 : decode cL_law 305 = .ok (.aload_n 0, 1) := dk_42 (dk_at dksL_law_8 1 rfl rfl)
theorem dL_law_306 : decode cL_law 306 = .ok (.iload_n 3, 1) := dk_29 (dk_at dksL_law_8 2 rfl rfl)
theorem dL_law_307 : decode cL_law 307 = .ok (.iconst 3, 1) := dk_6 (dk_at dksL_law_8 3 rfl rfl)
theorem dL_law_308 : decode cL_law 308 = .ok (.iadd, 1) := dk_96 (dk_at dksL_law_8 4 rfl rfl)
theorem dL_law_309 : decode cL_law 309 = .ok (.iaload, 1) := dk_46 (dk_at dksL_law_8 5 rfl rfl)
theorem dL_law_310 : decode cL_law 310 = .ok (.aload_n 0, 1) := dk_42 (dk_at dksL_law_8 6 rfl rfl)
theorem dL_law_311 : decode cL_law 311 = .ok (.iload_n 3, 1) := dk_29 (dk_at dksL_law_8 7 rfl rfl)
theorem dL_law_312 : decode cL_law 312 = .ok (.iconst 4, 1) := dk_7 (dk_at dksL_law_8 8 rfl rfl)
theorem dL_law_313 : decode cL_law 313 = .ok (.iadd, 1) := dk_96 (dk_at dksL_law_8 9 rfl rfl)
theorem dL_law_314 : decode cL_law 314 = .ok (.iaload, 1) := dk_46 (dk_at dksL_law_8 10 rfl rfl)
theorem dL_law_315 : decode cL_law 315 = .ok (.aload_n 0, 1) := dk_42 (dk_at dksL_law_8 11 rfl rfl)
theorem dL_law_316 : decode cL_law 316 = .ok (.iload_n 3, 1) := dk_29 (dk_at dksL_law_8 12 rfl rfl)
theorem dL_law_317 : decode cL_law 317 = .ok (.iconst 5, 1) := dk_8 (dk_at dksL_law_8 13 rfl rfl)
theorem dL_law_318 : decode cL_law 318 = .ok (.iadd, 1) := dk_96 (dk_at dksL_law_8 14 rfl rfl)
theorem dL_law_319 : decode cL_law 319 = .ok (.iaload, 1) := dk_46 (dk_at dksL_law_8 15 rfl rfl)
theorem dL_law_320 : decode cL_law 320 = .ok (.aload_n 0, 1) := dk_42 (dk_at dksL_law_8 16 rfl rfl)
theorem dL_law_321 : decode cL_law 321 = .ok (.iload_n 3, 1) := dk_29 (dk_at dksL_law_8 17 rfl rfl)
theorem dL_law_322 : decode cL_law 322 = .ok (.bipush 6, 2) := dk_16 6 (dk_at dksL_law_8 18 rfl rfl)
theorem dL_law_324 : decode cL_law 324 = .ok (.iadd, 1) := dk_96 (dk_at dksL_law_8 20 rfl rfl)
theorem dL_law_325 : decode cL_law 325 = .ok (.iaload, 1) := dk_46 (dk_at dksL_law_8 21 rfl rfl)
theorem dL_law_326 : decode cL_law 326 = .ok (.invokevirtual 28, 3) := dk_182 0 28 (dk_at dksL_law_9 0 rfl rfl)
theorem dL_law_329 : decode cL_law 329 = .ok (.aload_n 2, 1) := dk_44 (dk_at dksL_law_9 3 rfl rfl)
theorem dL_law_330 : decode cL_law 330 = .ok (.aload_n 0, 1) := dk_42 (dk_at dksL_law_9 4 rfl rfl)
theorem dL_law_331 : decode cL_law 331 = .ok (.iload_n 3, 1) := dk_29 (dk_at dksL_law_9 5 rfl rfl)
theorem dL_law_332 : decode cL_law 332 = .ok (.iconst 1, 1) := dk_4 (dk_at dksL_law_9 6 rfl rfl)
theorem dL_law_333 : decode cL_law 333 = .ok (.iadd, 1) := dk_96 (dk_at dksL_law_9 7 rfl rfl)
theorem dL_law_334 : decode cL_law 334 = .ok (.iaload, 1) := dk_46 (dk_at dksL_law_9 8 rfl rfl)
theorem dL_law_335 : decode cL_law 335 = .ok (.aload_n 0, 1) := dk_42 (dk_at dksL_law_9 9 rfl rfl)
theorem dL_law_336 : decode cL_law 336 = .ok (.iload_n 3, 1) := dk_29 (dk_at dksL_law_9 10 rfl rfl)
theorem dL_law_337 : decode cL_law 337 = .ok (.iconst 2, 1) := dk_5 (dk_at dksL_law_9 11 rfl rfl)
theorem dL_law_338 : decode cL_law 338 = .ok (.iadd, 1) := dk_96 (dk_at dksL_law_9 12 rfl rfl)
theorem dL_law_339 : decode cL_law 339 = .ok (.iaload, 1) := dk_46 (dk_at dksL_law_9 13 rfl rfl)
theorem dL_law_340 : decode cL_law 340 = .ok (.aload_n 0, 1) := dk_42 (dk_at dksL_law_9 14 rfl rfl)
theorem dL_law_341 : decode cL_law 341 = .ok (.iload_n 3, 1) := dk_29 (dk_at dksL_law_9 15 rfl rfl)
theorem dL_law_342 : decode cL_law 342 = .ok (.iconst 3, 1) := dk_6 (dk_at dksL_law_9 16 rfl rfl)
theorem dL_law_343 : decode cL_law 343 = .ok (.iadd, 1) := dk_96 (dk_at dksL_law_9 17 rfl rfl)
theorem dL_law_344 : decode cL_law 344 = .ok (.iaload, 1) := dk_46 (dk_at dksL_law_9 18 rfl rfl)
theorem dL_law_345 : decode cL_law 345 = .ok (.aload_n 0, 1) := dk_42 (dk_at dksL_law_9 19 rfl rfl)
theorem dL_law_346 : decode cL_law 346 = .ok (.iload_n 3, 1) := dk_29 (dk_at dksL_law_9 20 rfl rfl)
theorem dL_law_347 : decode cL_law 347 = .ok (.iconst 4, 1) := dk_7 (dk_at dksL_law_9 21 rfl rfl)
theorem dL_law_348 : decode cL_law 348 = .ok (.iadd, 1) := dk_96 (dk_at dksL_law_9 22 rfl rfl)
theorem dL_law_349 : decode cL_law 349 = .ok (.iaload, 1) := dk_46 (dk_at dksL_law_9 23 rfl rfl)
theorem dL_law_350 : decode cL_law 350 = .ok (.aload_n 0, 1) := dk_42 (dk_at dksL_law_10 0 rfl rfl)
theorem dL_law_351 : decode cL_law 351 = .ok (.iload_n 3, 1) := dk_29 (dk_at dksL_law_10 1 rfl rfl)
theorem dL_law_352 : decode cL_law 352 = .ok (.iconst 5, 1) := dk_8 (dk_at dksL_law_10 2 rfl rfl)
theorem dL_law_353 : decode cL_law 353 = .ok (.iadd, 1) := dk_96 (dk_at dksL_law_10 3 rfl rfl)
theorem dL_law_354 : decode cL_law 354 = .ok (.iaload, 1) := dk_46 (dk_at dksL_law_10 4 rfl rfl)
theorem dL_law_355 : decode cL_law 355 = .ok (.aload_n 0, 1) := dk_42 (dk_at dksL_law_10 5 rfl rfl)
theorem dL_law_356 : decode cL_law 356 = .ok (.iload_n 3, 1) := dk_29 (dk_at dksL_law_10 6 rfl rfl)
theorem dL_law_357 : decode cL_law 357 = .ok (.bipush 6, 2) := dk_16 6 (dk_at dksL_law_10 7 rfl rfl)
theorem dL_law_359 : decode cL_law 359 = .ok (.iadd, 1) := dk_96 (dk_at dksL_law_10 9 rfl rfl)
theorem dL_law_360 : decode cL_law 360 = .ok (.iaload, 1) := dk_46 (dk_at dksL_law_10 10 rfl rfl)
theorem dL_law_361 : decode cL_law 361 = .ok (.invokevirtual 32, 3) := dk_182 0 32 (dk_at dksL_law_10 11 rfl rfl)
theorem dL_law_364 : decode cL_law 364 = .ok (.if_icmp .eq 1184, 3) := dk_159 4 160 (dk_at dksL_law_10 14 rfl rfl)
theorem dL_law_367 : decode cL_law 367 = .ok (.iconst 0, 1) := dk_3 (dk_at dksL_law_10 17 rfl rfl)
theorem dL_law_368 : decode cL_law 368 = .ok (.ireturn, 1) := dk_172 (dk_at dksL_law_10 18 rfl rfl)
theorem dL_law_369 : decode cL_law 369 = .ok (.aload_n 1, 1) := dk_43 (dk_at dksL_law_10 19 rfl rfl)
theorem dL_law_370 : decode cL_law 370 = .ok (.invokevirtual 33, 3) := dk_182 0 33 (dk_at dksL_law_10 20 rfl rfl)
theorem dL_law_373 : decode cL_law 373 = .ok (.aload_n 2, 1) := dk_44 (dk_at dksL_law_10 23 rfl rfl)
theorem dL_law_374 : decode cL_law 374 = .ok (.invokevirtual 37, 3) := dk_182 0 37 (dk_at dksL_law_11 0 rfl rfl)
theorem dL_law_377 : decode cL_law 377 = .ok (.if_icmp .eq 1171, 3) := dk_159 4 147 (dk_at dksL_law_11 3 rfl rfl)
theorem dL_law_380 : decode cL_law 380 = .ok (.iconst 0, 1) := dk_3 (dk_at dksL_law_11 6 rfl rfl)
theorem dL_law_381 : decode cL_law 381 = .ok (.ireturn, 1) := dk_172 (dk_at dksL_law_11 7 rfl rfl)
theorem dL_law_382 : decode cL_law 382 = .ok (.aload_n 1, 1) := dk_43 (dk_at dksL_law_11 8 rfl rfl)
theorem dL_law_383 : decode cL_law 383 = .ok (.aload_n 0, 1) := dk_42 (dk_at dksL_law_11 9 rfl rfl)
theorem dL_law_384 : decode cL_law 384 = .ok (.iload_n 3, 1) := dk_29 (dk_at dksL_law_11 10 rfl rfl)
theorem dL_law_385 : decode cL_law 385 = .ok (.iconst 1, 1) := dk_4 (dk_at dksL_law_11 11 rfl rfl)
theorem dL_law_386 : decode cL_law 386 = .ok (.iadd, 1) := dk_96 (dk_at dksL_law_11 12 rfl rfl)
theorem dL_law_387 : decode cL_law 387 = .ok (.iaload, 1) := dk_46 (dk_at dksL_law_11 13 rfl rfl)
theorem dL_law_388 : decode cL_law 388 = .ok (.invokevirtual 38, 3) := dk_182 0 38 (dk_at dksL_law_11 14 rfl rfl)
theorem dL_law_391 : decode cL_law 391 = .ok (.aload_n 2, 1) := dk_44 (dk_at dksL_law_11 17 rfl rfl)
theorem dL_law_392 : decode cL_law 392 = .ok (.aload_n 0, 1) := dk_42 (dk_at dksL_law_11 18 rfl rfl)
theorem dL_law_393 : decode cL_law 393 = .ok (.iload_n 3, 1) := dk_29 (dk_at dksL_law_11 19 rfl rfl)
theorem dL_law_394 : decode cL_law 394 = .ok (.iconst 1, 1) := dk_4 (dk_at dksL_law_11 20 rfl rfl)
theorem dL_law_395 : decode cL_law 395 = .ok (.iadd, 1) := dk_96 (dk_at dksL_law_11 21 rfl rfl)
theorem dL_law_396 : decode cL_law 396 = .ok (.iaload, 1) := dk_46 (dk_at dksL_law_11 22 rfl rfl)
theorem dL_law_397 : decode cL_law 397 = .ok (.invokevirtual 41, 3) := dk_182 0 41 (dk_at dksL_law_12 0 rfl rfl)
theorem dL_law_400 : decode cL_law 400 = .ok (.if_icmp .eq 1148, 3) := dk_159 4 124 (dk_at dksL_law_12 3 rfl rfl)
theorem dL_law_403 : decode cL_law 403 = .ok (.iconst 0, 1) := dk_3 (dk_at dksL_law_12 6 rfl rfl)
theorem dL_law_404 : decode cL_law 404 = .ok (.ireturn, 1) := dk_172 (dk_at dksL_law_12 7 rfl rfl)
theorem dL_law_405 : decode cL_law 405 = .ok (.aload_n 1, 1) := dk_43 (dk_at dksL_law_12 8 rfl rfl)
theorem dL_law_406 : decode cL_law 406 = .ok (.invokevirtual 42, 3) := dk_182 0 42 (dk_at dksL_law_12 9 rfl rfl)
theorem dL_law_409 : decode cL_law 409 = .ok (.aload_n 2, 1) := dk_44 (dk_at dksL_law_12 12 rfl rfl)
theorem dL_law_410 : decode cL_law 410 = .ok (.invokevirtual 45, 3) := dk_182 0 45 (dk_at dksL_law_12 13 rfl rfl)
theorem dL_law_413 : decode cL_law 413 = .ok (.if_icmp .eq 1135, 3) := dk_159 4 111 (dk_at dksL_law_12 16 rfl rfl)
theorem dL_law_416 : decode cL_law 416 = .ok (.iconst 0, 1) := dk_3 (dk_at dksL_law_12 19 rfl rfl)
theorem dL_law_417 : decode cL_law 417 = .ok (.ireturn, 1) := dk_172 (dk_at dksL_law_12 20 rfl rfl)
theorem dL_law_418 : decode cL_law 418 = .ok (.aload_n 1, 1) := dk_43 (dk_at dksL_law_12 21 rfl rfl)
theorem dL_law_419 : decode cL_law 419 = .ok (.aload_n 0, 1) := dk_42 (dk_at dksL_law_12 22 rfl rfl)
theorem dL_law_420 : decode cL_law 420 = .ok (.iload_n 3, 1) := dk_29 (dk_at dksL_law_12 23 rfl rfl)
theorem dL_law_421 : decode cL_law 421 = .ok (.iconst 1, 1) := dk_4 (dk_at dksL_law_13 0 rfl rfl)
theorem dL_law_422 : decode cL_law 422 = .ok (.iadd, 1) := dk_96 (dk_at dksL_law_13 1 rfl rfl)
theorem dL_law_423 : decode cL_law 423 = .ok (.iaload, 1) := dk_46 (dk_at dksL_law_13 2 rfl rfl)
theorem dL_law_424 : decode cL_law 424 = .ok (.invokevirtual 46, 3) := dk_182 0 46 (dk_at dksL_law_13 3 rfl rfl)
theorem dL_law_427 : decode cL_law 427 = .ok (.aload_n 2, 1) := dk_44 (dk_at dksL_law_13 6 rfl rfl)
theorem dL_law_428 : decode cL_law 428 = .ok (.aload_n 0, 1) := dk_42 (dk_at dksL_law_13 7 rfl rfl)
theorem dL_law_429 : decode cL_law 429 = .ok (.iload_n 3, 1) := dk_29 (dk_at dksL_law_13 8 rfl rfl)
theorem dL_law_430 : decode cL_law 430 = .ok (.iconst 1, 1) := dk_4 (dk_at dksL_law_13 9 rfl rfl)
theorem dL_law_431 : decode cL_law 431 = .ok (.iadd, 1) := dk_96 (dk_at dksL_law_13 10 rfl rfl)
theorem dL_law_432 : decode cL_law 432 = .ok (.iaload, 1) := dk_46 (dk_at dksL_law_13 11 rfl rfl)
theorem dL_law_433 : decode cL_law 433 = .ok (.invokevirtual 49, 3) := dk_182 0 49 (dk_at dksL_law_13 12 rfl rfl)
theorem dL_law_436 : decode cL_law 436 = .ok (.if_icmp .eq 1112, 3) := dk_159 4 88 (dk_at dksL_law_13 15 rfl rfl)
theorem dL_law_439 : decode cL_law 439 = .ok (.iconst 0, 1) := dk_3 (dk_at dksL_law_13 18 rfl rfl)
theorem dL_law_440 : decode cL_law 440 = .ok (.ireturn, 1) := dk_172 (dk_at dksL_law_13 19 rfl rfl)
theorem dL_law_441 : decode cL_law 441 = .ok (.aload_n 1, 1) := dk_43 (dk_at dksL_law_13 20 rfl rfl)
theorem dL_law_442 : decode cL_law 442 = .ok (.aload_n 0, 1) := dk_42 (dk_at dksL_law_13 21 rfl rfl)
theorem dL_law_443 : decode cL_law 443 = .ok (.iload_n 3, 1) := dk_29 (dk_at dksL_law_13 22 rfl rfl)
theorem dL_law_444 : decode cL_law 444 = .ok (.iconst 1, 1) := dk_4 (dk_at dksL_law_13 23 rfl rfl)
theorem dL_law_445 : decode cL_law 445 = .ok (.iadd, 1) := dk_96 (dk_at dksL_law_14 0 rfl rfl)
theorem dL_law_446 : decode cL_law 446 = .ok (.iaload, 1) := dk_46 (dk_at dksL_law_14 1 rfl rfl)
theorem dL_law_447 : decode cL_law 447 = .ok (.aload_n 0, 1) := dk_42 (dk_at dksL_law_14 2 rfl rfl)
theorem dL_law_448 : decode cL_law 448 = .ok (.iload_n 3, 1) := dk_29 (dk_at dksL_law_14 3 rfl rfl)
theorem dL_law_449 : decode cL_law 449 = .ok (.iconst 2, 1) := dk_5 (dk_at dksL_law_14 4 rfl rfl)
theorem dL_law_450 : decode cL_law 450 = .ok (.iadd, 1) := dk_96 (dk_at dksL_law_14 5 rfl rfl)
theorem dL_law_451 : decode cL_law 451 = .ok (.iaload, 1) := dk_46 (dk_at dksL_law_14 6 rfl rfl)
theorem dL_law_452 : decode cL_law 452 = .ok (.invokevirtual 50, 3) := dk_182 0 50 (dk_at dksL_law_14 7 rfl rfl)
theorem dL_law_455 : decode cL_law 455 = .ok (.aload_n 2, 1) := dk_44 (dk_at dksL_law_14 10 rfl rfl)
theorem dL_law_456 : decode cL_law 456 = .ok (.aload_n 0, 1) := dk_42 (dk_at dksL_law_14 11 rfl rfl)
theorem dL_law_457 : decode cL_law 457 = .ok (.iload_n 3, 1) := dk_29 (dk_at dksL_law_14 12 rfl rfl)
theorem dL_law_458 : decode cL_law 458 = .ok (.iconst 1, 1) := dk_4 (dk_at dksL_law_14 13 rfl rfl)
theorem dL_law_459 : decode cL_law 459 = .ok (.iadd, 1) := dk_96 (dk_at dksL_law_14 14 rfl rfl)
theorem dL_law_460 : decode cL_law 460 = .ok (.iaload, 1) := dk_46 (dk_at dksL_law_14 15 rfl rfl)
theorem dL_law_461 : decode cL_law 461 = .ok (.aload_n 0, 1) := dk_42 (dk_at dksL_law_14 16 rfl rfl)
theorem dL_law_462 : decode cL_law 462 = .ok (.iload_n 3, 1) := dk_29 (dk_at dksL_law_14 17 rfl rfl)
theorem dL_law_463 : decode cL_law 463 = .ok (.iconst 2, 1) := dk_5 (dk_at dksL_law_14 18 rfl rfl)
theorem dL_law_464 : decode cL_law 464 = .ok (.iadd, 1) := dk_96 (dk_at dksL_law_14 19 rfl rfl)
theorem dL_law_465 : decode cL_law 465 = .ok (.iaload, 1) := dk_46 (dk_at dksL_law_14 20 rfl rfl)
theorem dL_law_466 : decode cL_law 466 = .ok (.invokevirtual 54, 3) := dk_182 0 54 (dk_at dksL_law_14 21 rfl rfl)
theorem dL_law_469 : decode cL_law 469 = .ok (.if_icmp .eq 1079, 3) := dk_159 4 55 (dk_at dksL_law_15 0 rfl rfl)
theorem dL_law_472 : decode cL_law 472 = .ok (.iconst 0, 1) := dk_3 (dk_at dksL_law_15 3 rfl rfl)
theorem dL_law_473 : decode cL_law 473 = .ok (.ireturn, 1) := dk_172 (dk_at dksL_law_15 4 rfl rfl)
theorem dL_law_474 : decode cL_law 474 = .ok (.aload_n 1, 1) := dk_43 (dk_at dksL_law_15 5 rfl rfl)
theorem dL_law_475 : decode cL_law 475 = .ok (.aload_n 0, 1) := dk_42 (dk_at dksL_law_15 6 rfl rfl)
theorem dL_law_476 : decode cL_law 476 = .ok (.iload_n 3, 1) := dk_29 (dk_at dksL_law_15 7 rfl rfl)
theorem dL_law_477 : decode cL_law 477 = .ok (.iconst 1, 1) := dk_4 (dk_at dksL_law_15 8 rfl rfl)
theorem dL_law_478 : decode cL_law 478 = .ok (.iadd, 1) := dk_96 (dk_at dksL_law_15 9 rfl rfl)
theorem dL_law_479 : decode cL_law 479 = .ok (.iaload, 1) := dk_46 (dk_at dksL_law_15 10 rfl rfl)
theorem dL_law_480 : decode cL_law 480 = .ok (.aload_n 0, 1) := dk_42 (dk_at dksL_law_15 11 rfl rfl)
theorem dL_law_481 : decode cL_law 481 = .ok (.iload_n 3, 1) := dk_29 (dk_at dksL_law_15 12 rfl rfl)
theorem dL_law_482 : decode cL_law 482 = .ok (.iconst 2, 1) := dk_5 (dk_at dksL_law_15 13 rfl rfl)
theorem dL_law_483 : decode cL_law 483 = .ok (.iadd, 1) := dk_96 (dk_at dksL_law_15 14 rfl rfl)
theorem dL_law_484 : decode cL_law 484 = .ok (.iaload, 1) := dk_46 (dk_at dksL_law_15 15 rfl rfl)
theorem dL_law_485 : decode cL_law 485 = .ok (.invokevirtual 55, 3) := dk_182 0 55 (dk_at dksL_law_15 16 rfl rfl)
theorem dL_law_488 : decode cL_law 488 = .ok (.aload_n 2, 1) := dk_44 (dk_at dksL_law_15 19 rfl rfl)
theorem dL_law_489 : decode cL_law 489 = .ok (.aload_n 0, 1) := dk_42 (dk_at dksL_law_15 20 rfl rfl)
theorem dL_law_490 : decode cL_law 490 = .ok (.iload_n 3, 1) := dk_29 (dk_at dksL_law_15 21 rfl rfl)
theorem dL_law_491 : decode cL_law 491 = .ok (.iconst 1, 1) := dk_4 (dk_at dksL_law_15 22 rfl rfl)
theorem dL_law_492 : decode cL_law 492 = .ok (.iadd, 1) := dk_96 (dk_at dksL_law_15 23 rfl rfl)
theorem dL_law_493 : decode cL_law 493 = .ok (.iaload, 1) := dk_46 (dk_at dksL_law_16 0 rfl rfl)
theorem dL_law_494 : decode cL_law 494 = .ok (.aload_n 0, 1) := dk_42 (dk_at dksL_law_16 1 rfl rfl)
theorem dL_law_495 : decode cL_law 495 = .ok (.iload_n 3, 1) := dk_29 (dk_at dksL_law_16 2 rfl rfl)
theorem dL_law_496 : decode cL_law 496 = .ok (.iconst 2, 1) := dk_5 (dk_at dksL_law_16 3 rfl rfl)
theorem dL_law_497 : decode cL_law 497 = .ok (.iadd, 1) := dk_96 (dk_at dksL_law_16 4 rfl rfl)
theorem dL_law_498 : decode cL_law 498 = .ok (.iaload, 1) := dk_46 (dk_at dksL_law_16 5 rfl rfl)
theorem dL_law_499 : decode cL_law 499 = .ok (.invokevirtual 58, 3) := dk_182 0 58 (dk_at dksL_law_16 6 rfl rfl)
theorem dL_law_502 : decode cL_law 502 = .ok (.if_icmp .eq 1046, 3) := dk_159 4 22 (dk_at dksL_law_16 9 rfl rfl)
theorem dL_law_505 : decode cL_law 505 = .ok (.iconst 0, 1) := dk_3 (dk_at dksL_law_16 12 rfl rfl)
theorem dL_law_506 : decode cL_law 506 = .ok (.ireturn, 1) := dk_172 (dk_at dksL_law_16 13 rfl rfl)
theorem dL_law_507 : decode cL_law 507 = .ok (.aload_n 1, 1) := dk_43 (dk_at dksL_law_16 14 rfl rfl)
theorem dL_law_508 : decode cL_law 508 = .ok (.aload_n 0, 1) := dk_42 (dk_at dksL_law_16 15 rfl rfl)
theorem dL_law_509 : decode cL_law 509 = .ok (.iload_n 3, 1) := dk_29 (dk_at dksL_law_16 16 rfl rfl)
theorem dL_law_510 : decode cL_law 510 = .ok (.iconst 1, 1) := dk_4 (dk_at dksL_law_16 17 rfl rfl)
theorem dL_law_511 : decode cL_law 511 = .ok (.iadd, 1) := dk_96 (dk_at dksL_law_16 18 rfl rfl)
theorem dL_law_512 : decode cL_law 512 = .ok (.iaload, 1) := dk_46 (dk_at dksL_law_16 19 rfl rfl)
theorem dL_law_513 : decode cL_law 513 = .ok (.aload_n 0, 1) := dk_42 (dk_at dksL_law_16 20 rfl rfl)
theorem dL_law_514 : decode cL_law 514 = .ok (.iload_n 3, 1) := dk_29 (dk_at dksL_law_16 21 rfl rfl)
theorem dL_law_515 : decode cL_law 515 = .ok (.iconst 2, 1) := dk_5 (dk_at dksL_law_16 22 rfl rfl)
theorem dL_law_516 : decode cL_law 516 = .ok (.iadd, 1) := dk_96 (dk_at dksL_law_16 23 rfl rfl)
theorem dL_law_517 : decode cL_law 517 = .ok (.iaload, 1) := dk_46 (dk_at dksL_law_17 0 rfl rfl)
theorem dL_law_518 : decode cL_law 518 = .ok (.aload_n 0, 1) := dk_42 (dk_at dksL_law_17 1 rfl rfl)
theorem dL_law_519 : decode cL_law 519 = .ok (.iload_n 3, 1) := dk_29 (dk_at dksL_law_17 2 rfl rfl)
theorem dL_law_520 : decode cL_law 520 = .ok (.iconst 3, 1) := dk_6 (dk_at dksL_law_17 3 rfl rfl)
theorem dL_law_521 : decode cL_law 521 = .ok (.iadd, 1) := dk_96 (dk_at dksL_law_17 4 rfl rfl)
theorem dL_law_522 : decode cL_law 522 = .ok (.iaload, 1) := dk_46 (dk_at dksL_law_17 5 rfl rfl)
theorem dL_law_523 : decode cL_law 523 = .ok (.invokevirtual 59, 3) := dk_182 0 59 (dk_at dksL_law_17 6 rfl rfl)
theorem dL_law_526 : decode cL_law 526 = .ok (.aload_n 2, 1) := dk_44 (dk_at dksL_law_17 9 rfl rfl)
theorem dL_law_527 : decode cL_law 527 = .ok (.aload_n 0, 1) := dk_42 (dk_at dksL_law_17 10 rfl rfl)
theorem dL_law_528 : decode cL_law 528 = .ok (.iload_n 3, 1) := dk_29 (dk_at dksL_law_17 11 rfl rfl)
theorem dL_law_529 : decode cL_law 529 = .ok (.iconst 1, 1) := dk_4 (dk_at dksL_law_17 12 rfl rfl)
theorem dL_law_530 : decode cL_law 530 = .ok (.iadd, 1) := dk_96 (dk_at dksL_law_17 13 rfl rfl)
theorem dL_law_531 : decode cL_law 531 = .ok (.iaload, 1) := dk_46 (dk_at dksL_law_17 14 rfl rfl)
theorem dL_law_532 : decode cL_law 532 = .ok (.aload_n 0, 1) := dk_42 (dk_at dksL_law_17 15 rfl rfl)
theorem dL_law_533 : decode cL_law 533 = .ok (.iload_n 3, 1) := dk_29 (dk_at dksL_law_17 16 rfl rfl)
theorem dL_law_534 : decode cL_law 534 = .ok (.iconst 2, 1) := dk_5 (dk_at dksL_law_17 17 rfl rfl)
theorem dL_law_535 : decode cL_law 535 = .ok (.iadd, 1) := dk_96 (dk_at dksL_law_17 18 rfl rfl)
theorem dL_law_536 : decode cL_law 536 = .ok (.iaload, 1) := dk_46 (dk_at dksL_law_17 19 rfl rfl)
theorem dL_law_537 : decode cL_law 537 = .ok (.aload_n 0, 1) := dk_42 (dk_at dksL_law_17 20 rfl rfl)
theorem dL_law_538 : decode cL_law 538 = .ok (.iload_n 3, 1) := dk_29 (dk_at dksL_law_17 21 rfl rfl)
theorem dL_law_539 : decode cL_law 539 = .ok (.iconst 3, 1) := dk_6 (dk_at dksL_law_17 22 rfl rfl)
theorem dL_law_540 : decode cL_law 540 = .ok (.iadd, 1) := dk_96 (dk_at dksL_law_17 23 rfl rfl)
theorem dL_law_541 : decode cL_law 541 = .ok (.iaload, 1) := dk_46 (dk_at dksL_law_18 0 rfl rfl)
theorem dL_law_542 : decode cL_law 542 = .ok (.invokevirtual 62, 3) := dk_182 0 62 (dk_at dksL_law_18 1 rfl rfl)
theorem dL_law_545 : decode cL_law 545 = .ok (.if_icmp .eq 1003, 3) := dk_159 3 235 (dk_at dksL_law_18 4 rfl rfl)
theorem dL_law_548 : decode cL_law 548 = .ok (.iconst 0, 1) := dk_3 (dk_at dksL_law_18 7 rfl rfl)
theorem dL_law_549 : decode cL_law 549 = .ok (.ireturn, 1) := dk_172 (dk_at dksL_law_18 8 rfl rfl)
theorem dL_law_550 : decode cL_law 550 = .ok (.aload_n 1, 1) := dk_43 (dk_at dksL_law_18 9 rfl rfl)
theorem dL_law_551 : decode cL_law 551 = .ok (.aload_n 0, 1) := dk_42 (dk_at dksL_law_18 10 rfl rfl)
theorem dL_law_552 : decode cL_law 552 = .ok (.iload_n 3, 1) := dk_29 (dk_at dksL_law_18 11 rfl rfl)
theorem dL_law_553 : decode cL_law 553 = .ok (.iconst 1, 1) := dk_4 (dk_at dksL_law_18 12 rfl rfl)
theorem dL_law_554 : decode cL_law 554 = .ok (.iadd, 1) := dk_96 (dk_at dksL_law_18 13 rfl rfl)
theorem dL_law_555 : decode cL_law 555 = .ok (.iaload, 1) := dk_46 (dk_at dksL_law_18 14 rfl rfl)
theorem dL_law_556 : decode cL_law 556 = .ok (.aload_n 0, 1) := dk_42 (dk_at dksL_law_18 15 rfl rfl)
theorem dL_law_557 : decode cL_law 557 = .ok (.iload_n 3, 1) := dk_29 (dk_at dksL_law_18 16 rfl rfl)
theorem dL_law_558 : decode cL_law 558 = .ok (.iconst 2, 1) := dk_5 (dk_at dksL_law_18 17 rfl rfl)
theorem dL_law_559 : decode cL_law 559 = .ok (.iadd, 1) := dk_96 (dk_at dksL_law_18 18 rfl rfl)
theorem dL_law_560 : decode cL_law 560 = .ok (.iaload, 1) := dk_46 (dk_at dksL_law_18 19 rfl rfl)
theorem dL_law_561 : decode cL_law 561 = .ok (.aload_n 0, 1) := dk_42 (dk_at dksL_law_18 20 rfl rfl)
theorem dL_law_562 : decode cL_law 562 = .ok (.iload_n 3, 1) := dk_29 (dk_at dksL_law_18 21 rfl rfl)
theorem dL_law_563 : decode cL_law 563 = .ok (.iconst 3, 1) := dk_6 (dk_at dksL_law_18 22 rfl rfl)
theorem dL_law_564 : decode cL_law 564 = .ok (.iadd, 1) := dk_96 (dk_at dksL_law_18 23 rfl rfl)
theorem dL_law_565 : decode cL_law 565 = .ok (.iaload, 1) := dk_46 (dk_at dksL_law_19 0 rfl rfl)
theorem dL_law_566 : decode cL_law 566 = .ok (.invokevirtual 63, 3) := dk_182 0 63 (dk_at dksL_law_19 1 rfl rfl)
theorem dL_law_569 : decode cL_law 569 = .ok (.aload_n 2, 1) := dk_44 (dk_at dksL_law_19 4 rfl rfl)
theorem dL_law_570 : decode cL_law 570 = .ok (.aload_n 0, 1) := dk_42 (dk_at dksL_law_19 5 rfl rfl)
theorem dL_law_571 : decode cL_law 571 = .ok (.iload_n 3, 1) := dk_29 (dk_at dksL_law_19 6 rfl rfl)
theorem dL_law_572 : decode cL_law 572 = .ok (.iconst 1, 1) := dk_4 (dk_at dksL_law_19 7 rfl rfl)
theorem dL_law_573 : decode cL_law 573 = .ok (.iadd, 1) := dk_96 (dk_at dksL_law_19 8 rfl rfl)
theorem dL_law_574 : decode cL_law 574 = .ok (.iaload, 1) := dk_46 (dk_at dksL_law_19 9 rfl rfl)
theorem dL_law_575 : decode cL_law 575 = .ok (.aload_n 0, 1) := dk_42 (dk_at dksL_law_19 10 rfl rfl)
theorem dL_law_576 : decode cL_law 576 = .ok (.iload_n 3, 1) := dk_29 (dk_at dksL_law_19 11 rfl rfl)
theorem dL_law_577 : decode cL_law 577 = .ok (.iconst 2, 1) := dk_5 (dk_at dksL_law_19 12 rfl rfl)
theorem dL_law_578 : decode cL_law 578 = .ok (.iadd, 1) := dk_96 (dk_at dksL_law_19 13 rfl rfl)
theorem dL_law_579 : decode cL_law 579 = .ok (.iaload, 1) := dk_46 (dk_at dksL_law_19 14 rfl rfl)
theorem dL_law_580 : decode cL_law 580 = .ok (.aload_n 0, 1) := dk_42 (dk_at dksL_law_19 15 rfl rfl)
theorem dL_law_581 : decode cL_law 581 = .ok (.iload_n 3, 1) := dk_29 (dk_at dksL_law_19 16 rfl rfl)
theorem dL_law_582 : decode cL_law 582 = .ok (.iconst 3, 1) := dk_6 (dk_at dksL_law_19 17 rfl rfl)
theorem dL_law_583 : decode cL_law 583 = .ok (.iadd, 1) := dk_96 (dk_at dksL_law_19 18 rfl rfl)
theorem dL_law_584 : decode cL_law 584 = .ok (.iaload, 1) := dk_46 (dk_at dksL_law_19 19 rfl rfl)
theorem dL_law_585 : decode cL_law 585 = .ok (.invokevirtual 66, 3) := dk_182 0 66 (dk_at dksL_law_19 20 rfl rfl)
theorem dL_law_588 : decode cL_law 588 = .ok (.if_icmp .eq 960, 3) := dk_159 3 192 (dk_at dksL_law_20 0 rfl rfl)
theorem dL_law_591 : decode cL_law 591 = .ok (.iconst 0, 1) := dk_3 (dk_at dksL_law_20 3 rfl rfl)
theorem dL_law_592 : decode cL_law 592 = .ok (.ireturn, 1) := dk_172 (dk_at dksL_law_20 4 rfl rfl)
theorem dL_law_593 : decode cL_law 593 = .ok (.aload_n 1, 1) := dk_43 (dk_at dksL_law_20 5 rfl rfl)
theorem dL_law_594 : decode cL_law 594 = .ok (.aload_n 0, 1) := dk_42 (dk_at dksL_law_20 6 rfl rfl)
theorem dL_law_595 : decode cL_law 595 = .ok (.iload_n 3, 1) := dk_29 (dk_at dksL_law_20 7 rfl rfl)
theorem dL_law_596 : decode cL_law 596 = .ok (.iconst 1, 1) := dk_4 (dk_at dksL_law_20 8 rfl rfl)
theorem dL_law_597 : decode cL_law 597 = .ok (.iadd, 1) := dk_96 (dk_at dksL_law_20 9 rfl rfl)
theorem dL_law_598 : decode cL_law 598 = .ok (.iaload, 1) := dk_46 (dk_at dksL_law_20 10 rfl rfl)
theorem dL_law_599 : decode cL_law 599 = .ok (.aload_n 0, 1) := dk_42 (dk_at dksL_law_20 11 rfl rfl)
theorem dL_law_600 : decode cL_law 600 = .ok (.iload_n 3, 1) := dk_29 (dk_at dksL_law_20 12 rfl rfl)
theorem dL_law_601 : decode cL_law 601 = .ok (.iconst 2, 1) := dk_5 (dk_at dksL_law_20 13 rfl rfl)
theorem dL_law_602 : decode cL_law 602 = .ok (.iadd, 1) := dk_96 (dk_at dksL_law_20 14 rfl rfl)
theorem dL_law_603 : decode cL_law 603 = .ok (.iaload, 1) := dk_46 (dk_at dksL_law_20 15 rfl rfl)
theorem dL_law_604 : decode cL_law 604 = .ok (.aload_n 0, 1) := dk_42 (dk_at dksL_law_20 16 rfl rfl)
theorem dL_law_605 : decode cL_law 605 = .ok (.iload_n 3, 1) := dk_29 (dk_at dksL_law_20 17 rfl rfl)
theorem dL_law_606 : decode cL_law 606 = .ok (.iconst 3, 1) := dk_6 (dk_at dksL_law_20 18 rfl rfl)
theorem dL_law_607 : decode cL_law 607 = .ok (.iadd, 1) := dk_96 (dk_at dksL_law_20 19 rfl rfl)
theorem dL_law_608 : decode cL_law 608 = .ok (.iaload, 1) := dk_46 (dk_at dksL_law_20 20 rfl rfl)
theorem dL_law_609 : decode cL_law 609 = .ok (.aload_n 0, 1) := dk_42 (dk_at dksL_law_20 21 rfl rfl)
theorem dL_law_610 : decode cL_law 610 = .ok (.iload_n 3, 1) := dk_29 (dk_at dksL_law_20 22 rfl rfl)
theorem dL_law_611 : decode cL_law 611 = .ok (.iconst 4, 1) := dk_7 (dk_at dksL_law_20 23 rfl rfl)
theorem dL_law_612 : decode cL_law 612 = .ok (.iadd, 1) := dk_96 (dk_at dksL_law_21 0 rfl rfl)
theorem dL_law_613 : decode cL_law 613 = .ok (.iaload, 1) := dk_46 (dk_at dksL_law_21 1 rfl rfl)
theorem dL_law_614 : decode cL_law 614 = .ok (.invokevirtual 67, 3) := dk_182 0 67 (dk_at dksL_law_21 2 rfl rfl)
theorem dL_law_617 : decode cL_law 617 = .ok (.aload_n 2, 1) := dk_44 (dk_at dksL_law_21 5 rfl rfl)
theorem dL_law_618 : decode cL_law 618 = .ok (.aload_n 0, 1) := dk_42 (dk_at dksL_law_21 6 rfl rfl)
theorem dL_law_619 : decode cL_law 619 = .ok (.iload_n 3, 1) := dk_29 (dk_at dksL_law_21 7 rfl rfl)
theorem dL_law_620 : decode cL_law 620 = .ok (.iconst 1, 1) := dk_4 (dk_at dksL_law_21 8 rfl rfl)
theorem dL_law_621 : decode cL_law 621 = .ok (.iadd, 1) := dk_96 (dk_at dksL_law_21 9 rfl rfl)
theorem dL_law_622 : decode cL_law 622 = .ok (.iaload, 1) := dk_46 (dk_at dksL_law_21 10 rfl rfl)
theorem dL_law_623 : decode cL_law 623 = .ok (.aload_n 0, 1) := dk_42 (dk_at dksL_law_21 11 rfl rfl)
theorem dL_law_624 : decode cL_law 624 = .ok (.iload_n 3, 1) := dk_29 (dk_at dksL_law_21 12 rfl rfl)
theorem dL_law_625 : decode cL_law 625 = .ok (.iconst 2, 1) := dk_5 (dk_at dksL_law_21 13 rfl rfl)
theorem dL_law_626 : decode cL_law 626 = .ok (.iadd, 1) := dk_96 (dk_at dksL_law_21 14 rfl rfl)
theorem dL_law_627 : decode cL_law 627 = .ok (.iaload, 1) := dk_46 (dk_at dksL_law_21 15 rfl rfl)
theorem dL_law_628 : decode cL_law 628 = .ok (.aload_n 0, 1) := dk_42 (dk_at dksL_law_21 16 rfl rfl)
theorem dL_law_629 : decode cL_law 629 = .ok (.iload_n 3, 1) := dk_29 (dk_at dksL_law_21 17 rfl rfl)
theorem dL_law_630 : decode cL_law 630 = .ok (.iconst 3, 1) := dk_6 (dk_at dksL_law_21 18 rfl rfl)
theorem dL_law_631 : decode cL_law 631 = .ok (.iadd, 1) := dk_96 (dk_at dksL_law_21 19 rfl rfl)
theorem dL_law_632 : decode cL_law 632 = .ok (.iaload, 1) := dk_46 (dk_at dksL_law_21 20 rfl rfl)
theorem dL_law_633 : decode cL_law 633 = .ok (.aload_n 0, 1) := dk_42 (dk_at dksL_law_21 21 rfl rfl)
theorem dL_law_634 : decode cL_law 634 = .ok (.iload_n 3, 1) := dk_29 (dk_at dksL_law_21 22 rfl rfl)
theorem dL_law_635 : decode cL_law 635 = .ok (.iconst 4, 1) := dk_7 (dk_at dksL_law_21 23 rfl rfl)
theorem dL_law_636 : decode cL_law 636 = .ok (.iadd, 1) := dk_96 (dk_at dksL_law_22 0 rfl rfl)
theorem dL_law_637 : decode cL_law 637 = .ok (.iaload, 1) := dk_46 (dk_at dksL_law_22 1 rfl rfl)
theorem dL_law_638 : decode cL_law 638 = .ok (.invokevirtual 71, 3) := dk_182 0 71 (dk_at dksL_law_22 2 rfl rfl)
theorem dL_law_641 : decode cL_law 641 = .ok (.if_icmp .eq 907, 3) := dk_159 3 139 (dk_at dksL_law_22 5 rfl rfl)
theorem dL_law_644 : decode cL_law 644 = .ok (.iconst 0, 1) := dk_3 (dk_at dksL_law_22 8 rfl rfl)
theorem dL_law_645 : decode cL_law 645 = .ok (.ireturn, 1) := dk_172 (dk_at dksL_law_22 9 rfl rfl)
theorem dL_law_646 : decode cL_law 646 = .ok (.aload_n 1, 1) := dk_43 (dk_at dksL_law_22 10 rfl rfl)
theorem dL_law_647 : decode cL_law 647 = .ok (.aload_n 0, 1) := dk_42 (dk_at dksL_law_22 11 rfl rfl)
theorem dL_law_648 : decode cL_law 648 = .ok (.iload_n 3, 1) := dk_29 (dk_at dksL_law_22 12 rfl rfl)
theorem dL_law_649 : decode cL_law 649 = .ok (.iconst 1, 1) := dk_4 (dk_at dksL_law_22 13 rfl rfl)
theorem dL_law_650 : decode cL_law 650 = .ok (.iadd, 1) := dk_96 (dk_at dksL_law_22 14 rfl rfl)
theorem dL_law_651 : decode cL_law 651 = .ok (.iaload, 1) := dk_46 (dk_at dksL_law_22 15 rfl rfl)
theorem dL_law_652 : decode cL_law 652 = .ok (.aload_n 0, 1) := dk_42 (dk_at dksL_law_22 16 rfl rfl)
theorem dL_law_653 : decode cL_law 653 = .ok (.iload_n 3, 1) := dk_29 (dk_at dksL_law_22 17 rfl rfl)
theorem dL_law_654 : decode cL_law 654 = .ok (.iconst 2, 1) := dk_5 (dk_at dksL_law_22 18 rfl rfl)
theorem dL_law_655 : decode cL_law 655 = .ok (.iadd, 1) := dk_96 (dk_at dksL_law_22 19 rfl rfl)
theorem dL_law_656 : decode cL_law 656 = .ok (.iaload, 1) := dk_46 (dk_at dksL_law_22 20 rfl rfl)
theorem dL_law_657 : decode cL_law 657 = .ok (.aload_n 0, 1) := dk_42 (dk_at dksL_law_22 21 rfl rfl)
theorem dL_law_658 : decode cL_law 658 = .ok (.iload_n 3, 1) := dk_29 (dk_at dksL_law_22 22 rfl rfl)
theorem dL_law_659 : decode cL_law 659 = .ok (.iconst 3, 1) := dk_6 (dk_at dksL_law_22 23 rfl rfl)
theorem dL_law_660 : decode cL_law 660 = .ok (.iadd, 1) := dk_96 (dk_at dksL_law_23 0 rfl rfl)
theorem dL_law_661 : decode cL_law 661 = .ok (.iaload, 1) := dk_46 (dk_at dksL_law_23 1 rfl rfl)
theorem dL_law_662 : decode cL_law 662 = .ok (.aload_n 0, 1) := dk_42 (dk_at dksL_law_23 2 rfl rfl)
theorem dL_law_663 : decode cL_law 663 = .ok (.iload_n 3, 1) := dk_29 (dk_at dksL_law_23 3 rfl rfl)
theorem dL_law_664 : decode cL_law 664 = .ok (.iconst 4, 1) := dk_7 (dk_at dksL_law_23 4 rfl rfl)
theorem dL_law_665 : decode cL_law 665 = .ok (.iadd, 1) := dk_96 (dk_at dksL_law_23 5 rfl rfl)
theorem dL_law_666 : decode cL_law 666 = .ok (.iaload, 1) := dk_46 (dk_at dksL_law_23 6 rfl rfl)
theorem dL_law_667 : decode cL_law 667 = .ok (.aload_n 0, 1) := dk_42 (dk_at dksL_law_23 7 rfl rfl)
theorem dL_law_668 : decode cL_law 668 = .ok (.iload_n 3, 1) := dk_29 (dk_at dksL_law_23 8 rfl rfl)
theorem dL_law_669 : decode cL_law 669 = .ok (.iconst 5, 1) := dk_8 (dk_at dksL_law_23 9 rfl rfl)
theorem dL_law_670 : decode cL_law 670 = .ok (.iadd, 1) := dk_96 (dk_at dksL_law_23 10 rfl rfl)
theorem dL_law_671 : decode cL_law 671 = .ok (.iaload, 1) := dk_46 (dk_at dksL_law_23 11 rfl rfl)
theorem dL_law_672 : decode cL_law 672 = .ok (.invokevirtual 72, 3) := dk_182 0 72 (dk_at dksL_law_23 12 rfl rfl)
theorem dL_law_675 : decode cL_law 675 = .ok (.aload_n 2, 1) := dk_44 (dk_at dksL_law_23 15 rfl rfl)
theorem dL_law_676 : decode cL_law 676 = .ok (.aload_n 0, 1) := dk_42 (dk_at dksL_law_23 16 rfl rfl)
theorem dL_law_677 : decode cL_law 677 = .ok (.iload_n 3, 1) := dk_29 (dk_at dksL_law_23 17 rfl rfl)
theorem dL_law_678 : decode cL_law 678 = .ok (.iconst 1, 1) := dk_4 (dk_at dksL_law_23 18 rfl rfl)
theorem dL_law_679 : decode cL_law 679 = .ok (.iadd, 1) := dk_96 (dk_at dksL_law_23 19 rfl rfl)
theorem dL_law_680 : decode cL_law 680 = .ok (.iaload, 1) := dk_46 (dk_at dksL_law_23 20 rfl rfl)
theorem dL_law_681 : decode cL_law 681 = .ok (.aload_n 0, 1) := dk_42 (dk_at dksL_law_23 21 rfl rfl)
theorem dL_law_682 : decode cL_law 682 = .ok (.iload_n 3, 1) := dk_29 (dk_at dksL_law_23 22 rfl rfl)
theorem dL_law_683 : decode cL_law 683 = .ok (.iconst 2, 1) := dk_5 (dk_at dksL_law_23 23 rfl rfl)
theorem dL_law_684 : decode cL_law 684 = .ok (.iadd, 1) := dk_96 (dk_at dksL_law_24 0 rfl rfl)
theorem dL_law_685 : decode cL_law 685 = .ok (.iaload, 1) := dk_46 (dk_at dksL_law_24 1 rfl rfl)
theorem dL_law_686 : decode cL_law 686 = .ok (.aload_n 0, 1) := dk_42 (dk_at dksL_law_24 2 rfl rfl)
theorem dL_law_687 : decode cL_law 687 = .ok (.iload_n 3, 1) := dk_29 (dk_at dksL_law_24 3 rfl rfl)
theorem dL_law_688 : decode cL_law 688 = .ok (.iconst 3, 1) := dk_6 (dk_at dksL_law_24 4 rfl rfl)
theorem dL_law_689 : decode cL_law 689 = .ok (.iadd, 1) := dk_96 (dk_at dksL_law_24 5 rfl rfl)
theorem dL_law_690 : decode cL_law 690 = .ok (.iaload, 1) := dk_46 (dk_at dksL_law_24 6 rfl rfl)
theorem dL_law_691 : decode cL_law 691 = .ok (.aload_n 0, 1) := dk_42 (dk_at dksL_law_24 7 rfl rfl)
theorem dL_law_692 : decode cL_law 692 = .ok (.iload_n 3, 1) := dk_29 (dk_at dksL_law_24 8 rfl rfl)
theorem dL_law_693 : decode cL_law 693 = .ok (.iconst 4, 1) := dk_7 (dk_at dksL_law_24 9 rfl rfl)
theorem dL_law_694 : decode cL_law 694 = .ok (.iadd, 1) := dk_96 (dk_at dksL_law_24 10 rfl rfl)
theorem dL_law_695 : decode cL_law 695 = .ok (.iaload, 1) := dk_46 (dk_at dksL_law_24 11 rfl rfl)
theorem dL_law_696 : decode cL_law 696 = .ok (.aload_n 0, 1) := dk_42 (dk_at dksL_law_24 12 rfl rfl)
theorem dL_law_697 : decode cL_law 697 = .ok (.iload_n 3, 1) := dk_29 (dk_at dksL_law_24 13 rfl rfl)
theorem dL_law_698 : decode cL_law 698 = .ok (.iconst 5, 1) := dk_8 (dk_at dksL_law_24 14 rfl rfl)
theorem dL_law_699 : decode cL_law 699 = .ok (.iadd, 1) := dk_96 (dk_at dksL_law_24 15 rfl rfl)
theorem dL_law_700 : decode cL_law 700 = .ok (.iaload, 1) := dk_46 (dk_at dksL_law_24 16 rfl rfl)
theorem dL_law_701 : decode cL_law 701 = .ok (.invokevirtual 76, 3) := dk_182 0 76 (dk_at dksL_law_24 17 rfl rfl)
theorem dL_law_704 : decode cL_law 704 = .ok (.if_icmp .eq 844, 3) := dk_159 3 76 (dk_at dksL_law_24 20 rfl rfl)
theorem dL_law_707 : decode cL_law 707 = .ok (.iconst 0, 1) := dk_3 (dk_at dksL_law_24 23 rfl rfl)
theorem dL_law_708 : decode cL_law 708 = .ok (.ireturn, 1) := dk_172 (dk_at dksL_law_25 0 rfl rfl)
theorem dL_law_709 : decode cL_law 709 = .ok (.aload_n 1, 1) := dk_43 (dk_at dksL_law_25 1 rfl rfl)
theorem dL_law_710 : decode cL_law 710 = .ok (.aload_n 0, 1) := dk_42 (dk_at dksL_law_25 2 rfl rfl)
theorem dL_law_711 : decode cL_law 711 = .ok (.iload_n 3, 1) := dk_29 (dk_at dksL_law_25 3 rfl rfl)
theorem dL_law_712 : decode cL_law 712 = .ok (.iconst 1, 1) := dk_4 (dk_at dksL_law_25 4 rfl rfl)
theorem dL_law_713 : decode cL_law 713 = .ok (.iadd, 1) := dk_96 (dk_at dksL_law_25 5 rfl rfl)
theorem dL_law_714 : decode cL_law 714 = .ok (.iaload, 1) := dk_46 (dk_at dksL_law_25 6 rfl rfl)
theorem dL_law_715 : decode cL_law 715 = .ok (.aload_n 0, 1) := dk_42 (dk_at dksL_law_25 7 rfl rfl)
theorem dL_law_716 : decode cL_law 716 = .ok (.iload_n 3, 1) := dk_29 (dk_at dksL_law_25 8 rfl rfl)
theorem dL_law_717 : decode cL_law 717 = .ok (.iconst 2, 1) := dk_5 (dk_at dksL_law_25 9 rfl rfl)
theorem dL_law_718 : decode cL_law 718 = .ok (.iadd, 1) := dk_96 (dk_at dksL_law_25 10 rfl rfl)
theorem dL_law_719 : decode cL_law 719 = .ok (.iaload, 1) := dk_46 (dk_at dksL_law_25 11 rfl rfl)
theorem dL_law_720 : decode cL_law 720 = .ok (.invokevirtual 77, 3) := dk_182 0 77 (dk_at dksL_law_25 12 rfl rfl)
theorem dL_law_723 : decode cL_law 723 = .ok (.aload_n 2, 1) := dk_44 (dk_at dksL_law_25 15 rfl rfl)
theorem dL_law_724 : decode cL_law 724 = .ok (.aload_n 0, 1) := dk_42 (dk_at dksL_law_25 16 rfl rfl)
theorem dL_law_725 : decode cL_law 725 = .ok (.iload_n 3, 1) := dk_29 (dk_at dksL_law_25 17 rfl rfl)
theorem dL_law_726 : decode cL_law 726 = .ok (.iconst 1, 1) := dk_4 (dk_at dksL_law_25 18 rfl rfl)
theorem dL_law_727 : decode cL_law 727 = .ok (.iadd, 1) := dk_96 (dk_at dksL_law_25 19 rfl rfl)
theorem dL_law_728 : decode cL_law 728 = .ok (.iaload, 1) := dk_46 (dk_at dksL_law_25 20 rfl rfl)
theorem dL_law_729 : decode cL_law 729 = .ok (.aload_n 0, 1) := dk_42 (dk_at dksL_law_25 21 rfl rfl)
theorem dL_law_730 : decode cL_law 730 = .ok (.iload_n 3, 1) := dk_29 (dk_at dksL_law_25 22 rfl rfl)
theorem dL_law_731 : decode cL_law 731 = .ok (.iconst 2, 1) := dk_5 (dk_at dksL_law_25 23 rfl rfl)
theorem dL_law_732 : decode cL_law 732 = .ok (.iadd, 1) := dk_96 (dk_at dksL_law_26 0 rfl rfl)
theorem dL_law_733 : decode cL_law 733 = .ok (.iaload, 1) := dk_46 (dk_at dksL_law_26 1 rfl rfl)
theorem dL_law_734 : decode cL_law 734 = .ok (.invokevirtual 80, 3) := dk_182 0 80 (dk_at dksL_law_26 2 rfl rfl)
theorem dL_law_737 : decode cL_law 737 = .ok (.if_icmp .eq 811, 3) := dk_159 3 43 (dk_at dksL_law_26 5 rfl rfl)
theorem dL_law_740 : decode cL_law 740 = .ok (.iconst 0, 1) := dk_3 (dk_at dksL_law_26 8 rfl rfl)
theorem dL_law_741 : decode cL_law 741 = .ok (.ireturn, 1) := dk_172 (dk_at dksL_law_26 9 rfl rfl)
theorem dL_law_742 : decode cL_law 742 = .ok (.aload_n 1, 1) := dk_43 (dk_at dksL_law_26 10 rfl rfl)
theorem dL_law_743 : decode cL_law 743 = .ok (.aload_n 0, 1) := dk_42 (dk_at dksL_law_26 11 rfl rfl)
theorem dL_law_744 : decode cL_law 744 = .ok (.iload_n 3, 1) := dk_29 (dk_at dksL_law_26 12 rfl rfl)
theorem dL_law_745 : decode cL_law 745 = .ok (.iconst 1, 1) := dk_4 (dk_at dksL_law_26 13 rfl rfl)
theorem dL_law_746 : decode cL_law 746 = .ok (.iadd, 1) := dk_96 (dk_at dksL_law_26 14 rfl rfl)
theorem dL_law_747 : decode cL_law 747 = .ok (.iaload, 1) := dk_46 (dk_at dksL_law_26 15 rfl rfl)
theorem dL_law_748 : decode cL_law 748 = .ok (.aload_n 0, 1) := dk_42 (dk_at dksL_law_26 16 rfl rfl)
theorem dL_law_749 : decode cL_law 749 = .ok (.iload_n 3, 1) := dk_29 (dk_at dksL_law_26 17 rfl rfl)
theorem dL_law_750 : decode cL_law 750 = .ok (.iconst 2, 1) := dk_5 (dk_at dksL_law_26 18 rfl rfl)
theorem dL_law_751 : decode cL_law 751 = .ok (.iadd, 1) := dk_96 (dk_at dksL_law_26 19 rfl rfl)
theorem dL_law_752 : decode cL_law 752 = .ok (.iaload, 1) := dk_46 (dk_at dksL_law_26 20 rfl rfl)
theorem dL_law_753 : decode cL_law 753 = .ok (.invokevirtual 81, 3) := dk_182 0 81 (dk_at dksL_law_26 21 rfl rfl)
theorem dL_law_756 : decode cL_law 756 = .ok (.aload_n 2, 1) := dk_44 (dk_at dksL_law_27 0 rfl rfl)
theorem dL_law_757 : decode cL_law 757 = .ok (.aload_n 0, 1) := dk_42 (dk_at dksL_law_27 1 rfl rfl)
theorem dL_law_758 : decode cL_law 758 = .ok (.iload_n 3, 1) := dk_29 (dk_at dksL_law_27 2 rfl rfl)
theorem dL_law_759 : decode cL_law 759 = .ok (.iconst 1, 1) := dk_4 (dk_at dksL_law_27 3 rfl rfl)
theorem dL_law_760 : decode cL_law 760 = .ok (.iadd, 1) := dk_96 (dk_at dksL_law_27 4 rfl rfl)
theorem dL_law_761 : decode cL_law 761 = .ok (.iaload, 1) := dk_46 (dk_at dksL_law_27 5 rfl rfl)
theorem dL_law_762 : decode cL_law 762 = .ok (.aload_n 0, 1) := dk_42 (dk_at dksL_law_27 6 rfl rfl)
theorem dL_law_763 : decode cL_law 763 = .ok (.iload_n 3, 1) := dk_29 (dk_at dksL_law_27 7 rfl rfl)
theorem dL_law_764 : decode cL_law 764 = .ok (.iconst 2, 1) := dk_5 (dk_at dksL_law_27 8 rfl rfl)
theorem dL_law_765 : decode cL_law 765 = .ok (.iadd, 1) := dk_96 (dk_at dksL_law_27 9 rfl rfl)
theorem dL_law_766 : decode cL_law 766 = .ok (.iaload, 1) := dk_46 (dk_at dksL_law_27 10 rfl rfl)
theorem dL_law_767 : decode cL_law 767 = .ok (.invokevirtual 84, 3) := dk_182 0 84 (dk_at dksL_law_27 11 rfl rfl)
theorem dL_law_770 : decode cL_law 770 = .ok (.if_icmp .eq 778, 3) := dk_159 3 10 (dk_at dksL_law_27 14 rfl rfl)
theorem dL_law_773 : decode cL_law 773 = .ok (.iconst 0, 1) := dk_3 (dk_at dksL_law_27 17 rfl rfl)
theorem dL_law_774 : decode cL_law 774 = .ok (.ireturn, 1) := dk_172 (dk_at dksL_law_27 18 rfl rfl)
theorem dL_law_775 : decode cL_law 775 = .ok (.aload_n 1, 1) := dk_43 (dk_at dksL_law_27 19 rfl rfl)
theorem dL_law_776 : decode cL_law 776 = .ok (.aload_n 0, 1) := dk_42 (dk_at dksL_law_27 20 rfl rfl)
theorem dL_law_777 : decode cL_law 777 = .ok (.iload_n 3, 1) := dk_29 (dk_at dksL_law_27 21 rfl rfl)
theorem dL_law_778 : decode cL_law 778 = .ok (.iconst 1, 1) := dk_4 (dk_at dksL_law_27 22 rfl rfl)
theorem dL_law_779 : decode cL_law 779 = .ok (.iadd, 1) := dk_96 (dk_at dksL_law_27 23 rfl rfl)
theorem dL_law_780 : decode cL_law 780 = .ok (.iaload, 1) := dk_46 (dk_at dksL_law_28 0 rfl rfl)
theorem dL_law_781 : decode cL_law 781 = .ok (.aload_n 0, 1) := dk_42 (dk_at dksL_law_28 1 rfl rfl)
theorem dL_law_782 : decode cL_law 782 = .ok (.iload_n 3, 1) := dk_29 (dk_at dksL_law_28 2 rfl rfl)
theorem dL_law_783 : decode cL_law 783 = .ok (.iconst 2, 1) := dk_5 (dk_at dksL_law_28 3 rfl rfl)
theorem dL_law_784 : decode cL_law 784 = .ok (.iadd, 1) := dk_96 (dk_at dksL_law_28 4 rfl rfl)
theorem dL_law_785 : decode cL_law 785 = .ok (.iaload, 1) := dk_46 (dk_at dksL_law_28 5 rfl rfl)
theorem dL_law_786 : decode cL_law 786 = .ok (.aload_n 0, 1) := dk_42 (dk_at dksL_law_28 6 rfl rfl)
theorem dL_law_787 : decode cL_law 787 = .ok (.iload_n 3, 1) := dk_29 (dk_at dksL_law_28 7 rfl rfl)
theorem dL_law_788 : decode cL_law 788 = .ok (.iconst 3, 1) := dk_6 (dk_at dksL_law_28 8 rfl rfl)
theorem dL_law_789 : decode cL_law 789 = .ok (.iadd, 1) := dk_96 (dk_at dksL_law_28 9 rfl rfl)
theorem dL_law_790 : decode cL_law 790 = .ok (.iaload, 1) := dk_46 (dk_at dksL_law_28 10 rfl rfl)
theorem dL_law_791 : decode cL_law 791 = .ok (.invokevirtual 85, 3) := dk_182 0 85 (dk_at dksL_law_28 11 rfl rfl)
theorem dL_law_794 : decode cL_law 794 = .ok (.aload_n 2, 1) := dk_44 (dk_at dksL_law_28 14 rfl rfl)
theorem dL_law_795 : decode cL_law 795 = .ok (.aload_n 0, 1) := dk_42 (dk_at dksL_law_28 15 rfl rfl)
theorem dL_law_796 : decode cL_law 796 = .ok (.iload_n 3, 1) := dk_29 (dk_at dksL_law_28 16 rfl rfl)
theorem dL_law_797 : decode cL_law 797 = .ok (.iconst 1, 1) := dk_4 (dk_at dksL_law_28 17 rfl rfl)
theorem dL_law_798 : decode cL_law 798 = .ok (.iadd, 1) := dk_96 (dk_at dksL_law_28 18 rfl rfl)
theorem dL_law_799 : decode cL_law 799 = .ok (.iaload, 1) := dk_46 (dk_at dksL_law_28 19 rfl rfl)
theorem dL_law_800 : decode cL_law 800 = .ok (.aload_n 0, 1) := dk_42 (dk_at dksL_law_28 20 rfl rfl)
theorem dL_law_801 : decode cL_law 801 = .ok (.iload_n 3, 1) := dk_29 (dk_at dksL_law_28 21 rfl rfl)
theorem dL_law_802 : decode cL_law 802 = .ok (.iconst 2, 1) := dk_5 (dk_at dksL_law_28 22 rfl rfl)
theorem dL_law_803 : decode cL_law 803 = .ok (.iadd, 1) := dk_96 (dk_at dksL_law_28 23 rfl rfl)
theorem dL_law_804 : decode cL_law 804 = .ok (.iaload, 1) := dk_46 (dk_at dksL_law_29 0 rfl rfl)
theorem dL_law_805 : decode cL_law 805 = .ok (.aload_n 0, 1) := dk_42 (dk_at dksL_law_29 1 rfl rfl)
theorem dL_law_806 : decode cL_law 806 = .ok (.iload_n 3, 1) := dk_29 (dk_at dksL_law_29 2 rfl rfl)
theorem dL_law_807 : decode cL_law 807 = .ok (.iconst 3, 1) := dk_6 (dk_at dksL_law_29 3 rfl rfl)
theorem dL_law_808 : decode cL_law 808 = .ok (.iadd, 1) := dk_96 (dk_at dksL_law_29 4 rfl rfl)
theorem dL_law_809 : decode cL_law 809 = .ok (.iaload, 1) := dk_46 (dk_at dksL_law_29 5 rfl rfl)
theorem dL_law_810 : decode cL_law 810 = .ok (.invokevirtual 88, 3) := dk_182 0 88 (dk_at dksL_law_29 6 rfl rfl)
theorem dL_law_813 : decode cL_law 813 = .ok (.if_icmp .eq 735, 3) := dk_159 2 223 (dk_at dksL_law_29 9 rfl rfl)
theorem dL_law_816 : decode cL_law 816 = .ok (.iconst 0, 1) := dk_3 (dk_at dksL_law_29 12 rfl rfl)
theorem dL_law_817 : decode cL_law 817 = .ok (.ireturn, 1) := dk_172 (dk_at dksL_law_29 13 rfl rfl)
theorem dL_law_818 : decode cL_law 818 = .ok (.aload_n 1, 1) := dk_43 (dk_at dksL_law_29 14 rfl rfl)
theorem dL_law_819 : decode cL_law 819 = .ok (.aload_n 0, 1) := dk_42 (dk_at dksL_law_29 15 rfl rfl)
theorem dL_law_820 : decode cL_law 820 = .ok (.iload_n 3, 1) := dk_29 (dk_at dksL_law_29 16 rfl rfl)
theorem dL_law_821 : decode cL_law 821 = .ok (.iconst 1, 1) := dk_4 (dk_at dksL_law_29 17 rfl rfl)
theorem dL_law_822 : decode cL_law 822 = .ok (.iadd, 1) := dk_96 (dk_at dksL_law_29 18 rfl rfl)
theorem dL_law_823 : decode cL_law 823 = .ok (.iaload, 1) := dk_46 (dk_at dksL_law_29 19 rfl rfl)
theorem dL_law_824 : decode cL_law 824 = .ok (.aload_n 0, 1) := dk_42 (dk_at dksL_law_29 20 rfl rfl)
theorem dL_law_825 : decode cL_law 825 = .ok (.iload_n 3, 1) := dk_29 (dk_at dksL_law_29 21 rfl rfl)
theorem dL_law_826 : decode cL_law 826 = .ok (.iconst 2, 1) := dk_5 (dk_at dksL_law_29 22 rfl rfl)
theorem dL_law_827 : decode cL_law 827 = .ok (.iadd, 1) := dk_96 (dk_at dksL_law_29 23 rfl rfl)
theorem dL_law_828 : decode cL_law 828 = .ok (.iaload, 1) := dk_46 (dk_at dksL_law_30 0 rfl rfl)
theorem dL_law_829 : decode cL_law 829 = .ok (.invokevirtual 89, 3) := dk_182 0 89 (dk_at dksL_law_30 1 rfl rfl)
theorem dL_law_832 : decode cL_law 832 = .ok (.aload_n 2, 1) := dk_44 (dk_at dksL_law_30 4 rfl rfl)
theorem dL_law_833 : decode cL_law 833 = .ok (.aload_n 0, 1) := dk_42 (dk_at dksL_law_30 5 rfl rfl)
theorem dL_law_834 : decode cL_law 834 = .ok (.iload_n 3, 1) := dk_29 (dk_at dksL_law_30 6 rfl rfl)
theorem dL_law_835 : decode cL_law 835 = .ok (.iconst 1, 1) := dk_4 (dk_at dksL_law_30 7 rfl rfl)
theorem dL_law_836 : decode cL_law 836 = .ok (.iadd, 1) := dk_96 (dk_at dksL_law_30 8 rfl rfl)
theorem dL_law_837 : decode cL_law 837 = .ok (.iaload, 1) := dk_46 (dk_at dksL_law_30 9 rfl rfl)
theorem dL_law_838 : decode cL_law 838 = .ok (.aload_n 0, 1) := dk_42 (dk_at dksL_law_30 10 rfl rfl)
theorem dL_law_839 : decode cL_law 839 = .ok (.iload_n 3, 1) := dk_29 (dk_at dksL_law_30 11 rfl rfl)
theorem dL_law_840 : decode cL_law 840 = .ok (.iconst 2, 1) := dk_5 (dk_at dksL_law_30 12 rfl rfl)
theorem dL_law_841 : decode cL_law 841 = .ok (.iadd, 1) := dk_96 (dk_at dksL_law_30 13 rfl rfl)
theorem dL_law_842 : decode cL_law 842 = .ok (.iaload, 1) := dk_46 (dk_at dksL_law_30 14 rfl rfl)
theorem dL_law_843 : decode cL_law 843 = .ok (.invokevirtual 92, 3) := dk_182 0 92 (dk_at dksL_law_30 15 rfl rfl)
theorem dL_law_846 : decode cL_law 846 = .ok (.if_icmp .eq 702, 3) := dk_159 2 190 (dk_at dksL_law_30 18 rfl rfl)
theorem dL_law_849 : decode cL_law 849 = .ok (.iconst 0, 1) := dk_3 (dk_at dksL_law_30 21 rfl rfl)
theorem dL_law_850 : decode cL_law 850 = .ok (.ireturn, 1) := dk_172 (dk_at dksL_law_30 22 rfl rfl)
theorem dL_law_851 : decode cL_law 851 = .ok (.aload_n 1, 1) := dk_43 (dk_at dksL_law_30 23 rfl rfl)
theorem dL_law_852 : decode cL_law 852 = .ok (.aload_n 0, 1) := dk_42 (dk_at dksL_law_31 0 rfl rfl)
theorem dL_law_853 : decode cL_law 853 = .ok (.iload_n 3, 1) := dk_29 (dk_at dksL_law_31 1 rfl rfl)
theorem dL_law_854 : decode cL_law 854 = .ok (.iconst 1, 1) := dk_4 (dk_at dksL_law_31 2 rfl rfl)
theorem dL_law_855 : decode cL_law 855 = .ok (.iadd, 1) := dk_96 (dk_at dksL_law_31 3 rfl rfl)
theorem dL_law_856 : decode cL_law 856 = .ok (.iaload, 1) := dk_46 (dk_at dksL_law_31 4 rfl rfl)
theorem dL_law_857 : decode cL_law 857 = .ok (.aload_n 0, 1) := dk_42 (dk_at dksL_law_31 5 rfl rfl)
theorem dL_law_858 : decode cL_law 858 = .ok (.iload_n 3, 1) := dk_29 (dk_at dksL_law_31 6 rfl rfl)
theorem dL_law_859 : decode cL_law 859 = .ok (.iconst 2, 1) := dk_5 (dk_at dksL_law_31 7 rfl rfl)
theorem dL_law_860 : decode cL_law 860 = .ok (.iadd, 1) := dk_96 (dk_at dksL_law_31 8 rfl rfl)
theorem dL_law_861 : decode cL_law 861 = .ok (.iaload, 1) := dk_46 (dk_at dksL_law_31 9 rfl rfl)
theorem dL_law_862 : decode cL_law 862 = .ok (.aload_n 0, 1) := dk_42 (dk_at dksL_law_31 10 rfl rfl)
theorem dL_law_863 : decode cL_law 863 = .ok (.iload_n 3, 1) := dk_29 (dk_at dksL_law_31 11 rfl rfl)
theorem dL_law_864 : decode cL_law 864 = .ok (.iconst 3, 1) := dk_6 (dk_at dksL_law_31 12 rfl rfl)
theorem dL_law_865 : decode cL_law 865 = .ok (.iadd, 1) := dk_96 (dk_at dksL_law_31 13 rfl rfl)
theorem dL_law_866 : decode cL_law 866 = .ok (.iaload, 1) := dk_46 (dk_at dksL_law_31 14 rfl rfl)
theorem dL_law_867 : decode cL_law 867 = .ok (.aload_n 0, 1) := dk_42 (dk_at dksL_law_31 15 rfl rfl)
theorem dL_law_868 : decode cL_law 868 = .ok (.iload_n 3, 1) := dk_29 (dk_at dksL_law_31 16 rfl rfl)
theorem dL_law_869 : decode cL_law 869 = .ok (.iconst 4, 1) := dk_7 (dk_at dksL_law_31 17 rfl rfl)
theorem dL_law_870 : decode cL_law 870 = .ok (.iadd, 1) := dk_96 (dk_at dksL_law_31 18 rfl rfl)
theorem dL_law_871 : decode cL_law 871 = .ok (.iaload, 1) := dk_46 (dk_at dksL_law_31 19 rfl rfl)
theorem dL_law_872 : decode cL_law 872 = .ok (.aload_n 0, 1) := dk_42 (dk_at dksL_law_31 20 rfl rfl)
theorem dL_law_873 : decode cL_law 873 = .ok (.iload_n 3, 1) := dk_29 (dk_at dksL_law_31 21 rfl rfl)
theorem dL_law_874 : decode cL_law 874 = .ok (.iconst 5, 1) := dk_8 (dk_at dksL_law_31 22 rfl rfl)
theorem dL_law_875 : decode cL_law 875 = .ok (.iadd, 1) := dk_96 (dk_at dksL_law_31 23 rfl rfl)
theorem dL_law_876 : decode cL_law 876 = .ok (.iaload, 1) := dk_46 (dk_at dksL_law_32 0 rfl rfl)
theorem dL_law_877 : decode cL_law 877 = .ok (.invokevirtual 93, 3) := dk_182 0 93 (dk_at dksL_law_32 1 rfl rfl)
theorem dL_law_880 : decode cL_law 880 = .ok (.aload_n 2, 1) := dk_44 (dk_at dksL_law_32 4 rfl rfl)
theorem dL_law_881 : decode cL_law 881 = .ok (.aload_n 0, 1) := dk_42 (dk_at dksL_law_32 5 rfl rfl)
theorem dL_law_882 : decode cL_law 882 = .ok (.iload_n 3, 1) := dk_29 (dk_at dksL_law_32 6 rfl rfl)
theorem dL_law_883 : decode cL_law 883 = .ok (.iconst 1, 1) := dk_4 (dk_at dksL_law_32 7 rfl rfl)
theorem dL_law_884 : decode cL_law 884 = .ok (.iadd, 1) := dk_96 (dk_at dksL_law_32 8 rfl rfl)
theorem dL_law_885 : decode cL_law 885 = .ok (.iaload, 1) := dk_46 (dk_at dksL_law_32 9 rfl rfl)
theorem dL_law_886 : decode cL_law 886 = .ok (.aload_n 0, 1) := dk_42 (dk_at dksL_law_32 10 rfl rfl)
theorem dL_law_887 : decode cL_law 887 = .ok (.iload_n 3, 1) := dk_29 (dk_at dksL_law_32 11 rfl rfl)
theorem dL_law_888 : decode cL_law 888 = .ok (.iconst 2, 1) := dk_5 (dk_at dksL_law_32 12 rfl rfl)
theorem dL_law_889 : decode cL_law 889 = .ok (.iadd, 1) := dk_96 (dk_at dksL_law_32 13 rfl rfl)
theorem dL_law_890 : decode cL_law 890 = .ok (.iaload, 1) := dk_46 (dk_at dksL_law_32 14 rfl rfl)
theorem dL_law_891 : decode cL_law 891 = .ok (.aload_n 0, 1) := dk_42 (dk_at dksL_law_32 15 rfl rfl)
theorem dL_law_892 : decode cL_law 892 = .ok (.iload_n 3, 1) := dk_29 (dk_at dksL_law_32 16 rfl rfl)
theorem dL_law_893 : decode cL_law 893 = .ok (.iconst 3, 1) := dk_6 (dk_at dksL_law_32 17 rfl rfl)
theorem dL_law_894 : decode cL_law 894 = .ok (.iadd, 1) := dk_96 (dk_at dksL_law_32 18 rfl rfl)
theorem dL_law_895 : decode cL_law 895 = .ok (.iaload, 1) := dk_46 (dk_at dksL_law_32 19 rfl rfl)
theorem dL_law_896 : decode cL_law 896 = .ok (.aload_n 0, 1) := dk_42 (dk_at dksL_law_32 20 rfl rfl)
theorem dL_law_897 : decode cL_law 897 = .ok (.iload_n 3, 1) := dk_29 (dk_at dksL_law_32 21 rfl rfl)
theorem dL_law_898 : decode cL_law 898 = .ok (.iconst 4, 1) := dk_7 (dk_at dksL_law_32 22 rfl rfl)
theorem dL_law_899 : decode cL_law 899 = .ok (.iadd, 1) := dk_96 (dk_at dksL_law_32 23 rfl rfl)
theorem dL_law_900 : decode cL_law 900 = .ok (.iaload, 1) := dk_46 (dk_at dksL_law_33 0 rfl rfl)
theorem dL_law_901 : decode cL_law 901 = .ok (.aload_n 0, 1) := dk_42 (dk_at dksL_law_33 1 rfl rfl)
theorem dL_law_902 : decode cL_law 902 = .ok (.iload_n 3, 1) := dk_29 (dk_at dksL_law_33 2 rfl rfl)
theorem dL_law_903 : decode cL_law 903 = .ok (.iconst 5, 1) := dk_8 (dk_at dksL_law_33 3 rfl rfl)
theorem dL_law_904 : decode cL_law 904 = .ok (.iadd, 1) := dk_96 (dk_at dksL_law_33 4 rfl rfl)
theorem dL_law_905 : decode cL_law 905 = .ok (.iaload, 1) := dk_46 (dk_at dksL_law_33 5 rfl rfl)
theorem dL_law_906 : decode cL_law 906 = .ok (.invokevirtual 96, 3) := dk_182 0 96 (dk_at dksL_law_33 6 rfl rfl)
theorem dL_law_909 : decode cL_law 909 = .ok (.if_icmp .eq 639, 3) := dk_159 2 127 (dk_at dksL_law_33 9 rfl rfl)
theorem dL_law_912 : decode cL_law 912 = .ok (.iconst 0, 1) := dk_3 (dk_at dksL_law_33 12 rfl rfl)
theorem dL_law_913 : decode cL_law 913 = .ok (.ireturn, 1) := dk_172 (dk_at dksL_law_33 13 rfl rfl)
theorem dL_law_914 : decode cL_law 914 = .ok (.aload_n 1, 1) := dk_43 (dk_at dksL_law_33 14 rfl rfl)
theorem dL_law_915 : decode cL_law 915 = .ok (.aload_n 0, 1) := dk_42 (dk_at dksL_law_33 15 rfl rfl)
theorem dL_law_916 : decode cL_law 916 = .ok (.iload_n 3, 1) := dk_29 (dk_at dksL_law_33 16 rfl rfl)
theorem dL_law_917 : decode cL_law 917 = .ok (.iconst 1, 1) := dk_4 (dk_at dksL_law_33 17 rfl rfl)
theorem dL_law_918 : decode cL_law 918 = .ok (.iadd, 1) := dk_96 (dk_at dksL_law_33 18 rfl rfl)
theorem dL_law_919 : decode cL_law 919 = .ok (.iaload, 1) := dk_46 (dk_at dksL_law_33 19 rfl rfl)
theorem dL_law_920 : decode cL_law 920 = .ok (.aload_n 0, 1) := dk_42 (dk_at dksL_law_33 20 rfl rfl)
theorem dL_law_921 : decode cL_law 921 = .ok (.iload_n 3, 1) := dk_29 (dk_at dksL_law_33 21 rfl rfl)
theorem dL_law_922 : decode cL_law 922 = .ok (.iconst 2, 1) := dk_5 (dk_at dksL_law_33 22 rfl rfl)
theorem dL_law_923 : decode cL_law 923 = .ok (.iadd, 1) := dk_96 (dk_at dksL_law_33 23 rfl rfl)
theorem dL_law_924 : decode cL_law 924 = .ok (.iaload, 1) := dk_46 (dk_at dksL_law_34 0 rfl rfl)
theorem dL_law_925 : decode cL_law 925 = .ok (.invokevirtual 97, 3) := dk_182 0 97 (dk_at dksL_law_34 1 rfl rfl)
theorem dL_law_928 : decode cL_law 928 = .ok (.aload_n 2, 1) := dk_44 (dk_at dksL_law_34 4 rfl rfl)
theorem dL_law_929 : decode cL_law 929 = .ok (.aload_n 0, 1) := dk_42 (dk_at dksL_law_34 5 rfl rfl)
theorem dL_law_930 : decode cL_law 930 = .ok (.iload_n 3, 1) := dk_29 (dk_at dksL_law_34 6 rfl rfl)
theorem dL_law_931 : decode cL_law 931 = .ok (.iconst 1, 1) := dk_4 (dk_at dksL_law_34 7 rfl rfl)
theorem dL_law_932 : decode cL_law 932 = .ok (.iadd, 1) := dk_96 (dk_at dksL_law_34 8 rfl rfl)
theorem dL_law_933 : decode cL_law 933 = .ok (.iaload, 1) := dk_46 (dk_at dksL_law_34 9 rfl rfl)
theorem dL_law_934 : decode cL_law 934 = .ok (.aload_n 0, 1) := dk_42 (dk_at dksL_law_34 10 rfl rfl)
theorem dL_law_935 : decode cL_law 935 = .ok (.iload_n 3, 1) := dk_29 (dk_at dksL_law_34 11 rfl rfl)
theorem dL_law_936 : decode cL_law 936 = .ok (.iconst 2, 1) := dk_5 (dk_at dksL_law_34 12 rfl rfl)
theorem dL_law_937 : decode cL_law 937 = .ok (.iadd, 1) := dk_96 (dk_at dksL_law_34 13 rfl rfl)
theorem dL_law_938 : decode cL_law 938 = .ok (.iaload, 1) := dk_46 (dk_at dksL_law_34 14 rfl rfl)
theorem dL_law_939 : decode cL_law 939 = .ok (.invokevirtual 100, 3) := dk_182 0 100 (dk_at dksL_law_34 15 rfl rfl)
theorem dL_law_942 : decode cL_law 942 = .ok (.if_icmp .eq 606, 3) := dk_159 2 94 (dk_at dksL_law_34 18 rfl rfl)
theorem dL_law_945 : decode cL_law 945 = .ok (.iconst 0, 1) := dk_3 (dk_at dksL_law_34 21 rfl rfl)
theorem dL_law_946 : decode cL_law 946 = .ok (.ireturn, 1) := dk_172 (dk_at dksL_law_34 22 rfl rfl)
theorem dL_law_947 : decode cL_law 947 = .ok (.aload_n 1, 1) := dk_43 (dk_at dksL_law_34 23 rfl rfl)
theorem dL_law_948 : decode cL_law 948 = .ok (.aload_n 0, 1) := dk_42 (dk_at dksL_law_35 0 rfl rfl)
theorem dL_law_949 : decode cL_law 949 = .ok (.iload_n 3, 1) := dk_29 (dk_at dksL_law_35 1 rfl rfl)
theorem dL_law_950 : decode cL_law 950 = .ok (.iconst 1, 1) := dk_4 (dk_at dksL_law_35 2 rfl rfl)
theorem dL_law_951 : decode cL_law 951 = .ok (.iadd, 1) := dk_96 (dk_at dksL_law_35 3 rfl rfl)
theorem dL_law_952 : decode cL_law 952 = .ok (.iaload, 1) := dk_46 (dk_at dksL_law_35 4 rfl rfl)
theorem dL_law_953 : decode cL_law 953 = .ok (.invokevirtual 101, 3) := dk_182 0 101 (dk_at dksL_law_35 5 rfl rfl)
theorem dL_law_956 : decode cL_law 956 = .ok (.aload_n 2, 1) := dk_44 (dk_at dksL_law_35 8 rfl rfl)
theorem dL_law_957 : decode cL_law 957 = .ok (.aload_n 0, 1) := dk_42 (dk_at dksL_law_35 9 rfl rfl)
theorem dL_law_958 : decode cL_law 958 = .ok (.iload_n 3, 1) := dk_29 (dk_at dksL_law_35 10 rfl rfl)
theorem dL_law_959 : decode cL_law 959 = .ok (.iconst 1, 1) := dk_4 (dk_at dksL_law_35 11 rfl rfl)
theorem dL_law_960 : decode cL_law 960 = .ok (.iadd, 1) := dk_96 (dk_at dksL_law_35 12 rfl rfl)
theorem dL_law_961 : decode cL_law 961 = .ok (.iaload, 1) := dk_46 (dk_at dksL_law_35 13 rfl rfl)
theorem dL_law_962 : decode cL_law 962 = .ok (.invokevirtual 104, 3) := dk_182 0 104 (dk_at dksL_law_35 14 rfl rfl)
theorem dL_law_965 : decode cL_law 965 = .ok (.if_icmp .eq 583, 3) := dk_159 2 71 (dk_at dksL_law_35 17 rfl rfl)
theorem dL_law_968 : decode cL_law 968 = .ok (.iconst 0, 1) := dk_3 (dk_at dksL_law_35 20 rfl rfl)
theorem dL_law_969 : decode cL_law 969 = .ok (.ireturn, 1) := dk_172 (dk_at dksL_law_35 21 rfl rfl)
theorem dL_law_970 : decode cL_law 970 = .ok (.aload_n 1, 1) := dk_43 (dk_at dksL_law_35 22 rfl rfl)
theorem dL_law_971 : decode cL_law 971 = .ok (.aload_n 0, 1) := dk_42 (dk_at dksL_law_35 23 rfl rfl)
theorem dL_law_972 : decode cL_law 972 = .ok (.iload_n 3, 1) := dk_29 (dk_at dksL_law_36 0 rfl rfl)
theorem dL_law_973 : decode cL_law 973 = .ok (.iconst 1, 1) := dk_4 (dk_at dksL_law_36 1 rfl rfl)
theorem dL_law_974 : decode cL_law 974 = .ok (.iadd, 1) := dk_96 (dk_at dksL_law_36 2 rfl rfl)
theorem dL_law_975 : decode cL_law 975 = .ok (.iaload, 1) := dk_46 (dk_at dksL_law_36 3 rfl rfl)
theorem dL_law_976 : decode cL_law 976 = .ok (.aload_n 0, 1) := dk_42 (dk_at dksL_law_36 4 rfl rfl)
theorem dL_law_977 : decode cL_law 977 = .ok (.iload_n 3, 1) := dk_29 (dk_at dksL_law_36 5 rfl rfl)
theorem dL_law_978 : decode cL_law 978 = .ok (.iconst 2, 1) := dk_5 (dk_at dksL_law_36 6 rfl rfl)
theorem dL_law_979 : decode cL_law 979 = .ok (.iadd, 1) := dk_96 (dk_at dksL_law_36 7 rfl rfl)
theorem dL_law_980 : decode cL_law 980 = .ok (.iaload, 1) := dk_46 (dk_at dksL_law_36 8 rfl rfl)
theorem dL_law_981 : decode cL_law 981 = .ok (.invokevirtual 105, 3) := dk_182 0 105 (dk_at dksL_law_36 9 rfl rfl)
theorem dL_law_984 : decode cL_law 984 = .ok (.aload_n 2, 1) := dk_44 (dk_at dksL_law_36 12 rfl rfl)
theorem dL_law_985 : decode cL_law 985 = .ok (.aload_n 0, 1) := dk_42 (dk_at dksL_law_36 13 rfl rfl)
theorem dL_law_986 : decode cL_law 986 = .ok (.iload_n 3, 1) := dk_29 (dk_at dksL_law_36 14 rfl rfl)
theorem dL_law_987 : decode cL_law 987 = .ok (.iconst 1, 1) := dk_4 (dk_at dksL_law_36 15 rfl rfl)
theorem dL_law_988 : decode cL_law 988 = .ok (.iadd, 1) := dk_96 (dk_at dksL_law_36 16 rfl rfl)
theorem dL_law_989 : decode cL_law 989 = .ok (.iaload, 1) := dk_46 (dk_at dksL_law_36 17 rfl rfl)
theorem dL_law_990 : decode cL_law 990 = .ok (.aload_n 0, 1) := dk_42 (dk_at dksL_law_36 18 rfl rfl)
theorem dL_law_991 : decode cL_law 991 = .ok (.iload_n 3, 1) := dk_29 (dk_at dksL_law_36 19 rfl rfl)
theorem dL_law_992 : decode cL_law 992 = .ok (.iconst 2, 1) := dk_5 (dk_at dksL_law_36 20 rfl rfl)
theorem dL_law_993 : decode cL_law 993 = .ok (.iadd, 1) := dk_96 (dk_at dksL_law_36 21 rfl rfl)
theorem dL_law_994 : decode cL_law 994 = .ok (.iaload, 1) := dk_46 (dk_at dksL_law_36 22 rfl rfl)
theorem dL_law_995 : decode cL_law 995 = .ok (.invokevirtual 109, 3) := dk_182 0 109 (dk_at dksL_law_37 0 rfl rfl)
theorem dL_law_998 : decode cL_law 998 = .ok (.lcmp, 1) := dk_148 (dk_at dksL_law_37 3 rfl rfl)
theorem dL_law_999 : decode cL_law 999 = .ok (.ifCond .eq 549, 3) := dk_153 2 37 (dk_at dksL_law_37 4 rfl rfl)
theorem dL_law_1002 : decode cL_law 1002 = .ok (.iconst 0, 1) := dk_3 (dk_at dksL_law_37 7 rfl rfl)
theorem dL_law_1003 : decode cL_law 1003 = .ok (.ireturn, 1) := dk_172 (dk_at dksL_law_37 8 rfl rfl)
theorem dL_law_1004 : decode cL_law 1004 = .ok (.aload_n 1, 1) := dk_43 (dk_at dksL_law_37 9 rfl rfl)
theorem dL_law_1005 : decode cL_law 1005 = .ok (.aload_n 0, 1) := dk_42 (dk_at dksL_law_37 10 rfl rfl)
theorem dL_law_1006 : decode cL_law 1006 = .ok (.iload_n 3, 1) := dk_29 (dk_at dksL_law_37 11 rfl rfl)
theorem dL_law_1007 : decode cL_law 1007 = .ok (.iconst 1, 1) := dk_4 (dk_at dksL_law_37 12 rfl rfl)
theorem dL_law_1008 : decode cL_law 1008 = .ok (.iadd, 1) := dk_96 (dk_at dksL_law_37 13 rfl rfl)
theorem dL_law_1009 : decode cL_law 1009 = .ok (.iaload, 1) := dk_46 (dk_at dksL_law_37 14 rfl rfl)
theorem dL_law_1010 : decode cL_law 1010 = .ok (.aload_n 0, 1) := dk_42 (dk_at dksL_law_37 15 rfl rfl)
theorem dL_law_1011 : decode cL_law 1011 = .ok (.iload_n 3, 1) := dk_29 (dk_at dksL_law_37 16 rfl rfl)
theorem dL_law_1012 : decode cL_law 1012 = .ok (.iconst 2, 1) := dk_5 (dk_at dksL_law_37 17 rfl rfl)
theorem dL_law_1013 : decode cL_law 1013 = .ok (.iadd, 1) := dk_96 (dk_at dksL_law_37 18 rfl rfl)
theorem dL_law_1014 : decode cL_law 1014 = .ok (.iaload, 1) := dk_46 (dk_at dksL_law_37 19 rfl rfl)
theorem dL_law_1015 : decode cL_law 1015 = .ok (.aload_n 0, 1) := dk_42 (dk_at dksL_law_37 20 rfl rfl)
theorem dL_law_1016 : decode cL_law 1016 = .ok (.iload_n 3, 1) := dk_29 (dk_at dksL_law_37 21 rfl rfl)
theorem dL_law_1017 : decode cL_law 1017 = .ok (.iconst 3, 1) := dk_6 (dk_at dksL_law_37 22 rfl rfl)
theorem dL_law_1018 : decode cL_law 1018 = .ok (.iadd, 1) := dk_96 (dk_at dksL_law_37 23 rfl rfl)
theorem dL_law_1019 : decode cL_law 1019 = .ok (.iaload, 1) := dk_46 (dk_at dksL_law_38 0 rfl rfl)
theorem dL_law_1020 : decode cL_law 1020 = .ok (.invokevirtual 110, 3) := dk_182 0 110 (dk_at dksL_law_38 1 rfl rfl)
theorem dL_law_1023 : decode cL_law 1023 = .ok (.aload_n 2, 1) := dk_44 (dk_at dksL_law_38 4 rfl rfl)
theorem dL_law_1024 : decode cL_law 1024 = .ok (.aload_n 0, 1) := dk_42 (dk_at dksL_law_38 5 rfl rfl)
theorem dL_law_1025 : decode cL_law 1025 = .ok (.iload_n 3, 1) := dk_29 (dk_at dksL_law_38 6 rfl rfl)
theorem dL_law_1026 : decode cL_law 1026 = .ok (.iconst 1, 1) := dk_4 (dk_at dksL_law_38 7 rfl rfl)
theorem dL_law_1027 : decode cL_law 1027 = .ok (.iadd, 1) := dk_96 (dk_at dksL_law_38 8 rfl rfl)
theorem dL_law_1028 : decode cL_law 1028 = .ok (.iaload, 1) := dk_46 (dk_at dksL_law_38 9 rfl rfl)
theorem dL_law_1029 : decode cL_law 1029 = .ok (.aload_n 0, 1) := dk_42 (dk_at dksL_law_38 10 rfl rfl)
theorem dL_law_1030 : decode cL_law 1030 = .ok (.iload_n 3, 1) := dk_29 (dk_at dksL_law_38 11 rfl rfl)
theorem dL_law_1031 : decode cL_law 1031 = .ok (.iconst 2, 1) := dk_5 (dk_at dksL_law_38 12 rfl rfl)
theorem dL_law_1032 : decode cL_law 1032 = .ok (.iadd, 1) := dk_96 (dk_at dksL_law_38 13 rfl rfl)
theorem dL_law_1033 : decode cL_law 1033 = .ok (.iaload, 1) := dk_46 (dk_at dksL_law_38 14 rfl rfl)
theorem dL_law_1034 : decode cL_law 1034 = .ok (.aload_n 0, 1) := dk_42 (dk_at dksL_law_38 15 rfl rfl)
theorem dL_law_1035 : decode cL_law 1035 = .ok (.iload_n 3, 1) := dk_29 (dk_at dksL_law_38 16 rfl rfl)
theorem dL_law_1036 : decode cL_law 1036 = .ok (.iconst 3, 1) := dk_6 (dk_at dksL_law_38 17 rfl rfl)
theorem dL_law_1037 : decode cL_law 1037 = .ok (.iadd, 1) := dk_96 (dk_at dksL_law_38 18 rfl rfl)
theorem dL_law_1038 : decode cL_law 1038 = .ok (.iaload, 1) := dk_46 (dk_at dksL_law_38 19 rfl rfl)
theorem dL_law_1039 : decode cL_law 1039 = .ok (.invokevirtual 113, 3) := dk_182 0 113 (dk_at dksL_law_38 20 rfl rfl)
theorem dL_law_1042 : decode cL_law 1042 = .ok (.lcmp, 1) := dk_148 (dk_at dksL_law_38 23 rfl rfl)
theorem dL_law_1043 : decode cL_law 1043 = .ok (.ifCond .eq 505, 3) := dk_153 1 249 (dk_at dksL_law_39 0 rfl rfl)
theorem dL_law_1046 : decode cL_law 1046 = .ok (.iconst 0, 1) := dk_3 (dk_at dksL_law_39 3 rfl rfl)
theorem dL_law_1047 : decode cL_law 1047 = .ok (.ireturn, 1) := dk_172 (dk_at dksL_law_39 4 rfl rfl)
theorem dL_law_1048 : decode cL_law 1048 = .ok (.aload_n 1, 1) := dk_43 (dk_at dksL_law_39 5 rfl rfl)
theorem dL_law_1049 : decode cL_law 1049 = .ok (.aload_n 0, 1) := dk_42 (dk_at dksL_law_39 6 rfl rfl)
theorem dL_law_1050 : decode cL_law 1050 = .ok (.iload_n 3, 1) := dk_29 (dk_at dksL_law_39 7 rfl rfl)
theorem dL_law_1051 : decode cL_law 1051 = .ok (.iconst 1, 1) := dk_4 (dk_at dksL_law_39 8 rfl rfl)
theorem dL_law_1052 : decode cL_law 1052 = .ok (.iadd, 1) := dk_96 (dk_at dksL_law_39 9 rfl rfl)
theorem dL_law_1053 : decode cL_law 1053 = .ok (.iaload, 1) := dk_46 (dk_at dksL_law_39 10 rfl rfl)
theorem dL_law_1054 : decode cL_law 1054 = .ok (.aload_n 0, 1) := dk_42 (dk_at dksL_law_39 11 rfl rfl)
theorem dL_law_1055 : decode cL_law 1055 = .ok (.iload_n 3, 1) := dk_29 (dk_at dksL_law_39 12 rfl rfl)
theorem dL_law_1056 : decode cL_law 1056 = .ok (.iconst 2, 1) := dk_5 (dk_at dksL_law_39 13 rfl rfl)
theorem dL_law_1057 : decode cL_law 1057 = .ok (.iadd, 1) := dk_96 (dk_at dksL_law_39 14 rfl rfl)
theorem dL_law_1058 : decode cL_law 1058 = .ok (.iaload, 1) := dk_46 (dk_at dksL_law_39 15 rfl rfl)
theorem dL_law_1059 : decode cL_law 1059 = .ok (.invokevirtual 114, 3) := dk_182 0 114 (dk_at dksL_law_39 16 rfl rfl)
theorem dL_law_1062 : decode cL_law 1062 = .ok (.aload_n 2, 1) := dk_44 (dk_at dksL_law_39 19 rfl rfl)
theorem dL_law_1063 : decode cL_law 1063 = .ok (.aload_n 0, 1) := dk_42 (dk_at dksL_law_39 20 rfl rfl)
theorem dL_law_1064 : decode cL_law 1064 = .ok (.iload_n 3, 1) := dk_29 (dk_at dksL_law_39 21 rfl rfl)
theorem dL_law_1065 : decode cL_law 1065 = .ok (.iconst 1, 1) := dk_4 (dk_at dksL_law_39 22 rfl rfl)
theorem dL_law_1066 : decode cL_law 1066 = .ok (.iadd, 1) := dk_96 (dk_at dksL_law_39 23 rfl rfl)
theorem dL_law_1067 : decode cL_law 1067 = .ok (.iaload, 1) := dk_46 (dk_at dksL_law_40 0 rfl rfl)
theorem dL_law_1068 : decode cL_law 1068 = .ok (.aload_n 0, 1) := dk_42 (dk_at dksL_law_40 1 rfl rfl)
theorem dL_law_1069 : decode cL_law 1069 = .ok (.iload_n 3, 1) := dk_29 (dk_at dksL_law_40 2 rfl rfl)
theorem dL_law_1070 : decode cL_law 1070 = .ok (.iconst 2, 1) := dk_5 (dk_at dksL_law_40 3 rfl rfl)
theorem dL_law_1071 : decode cL_law 1071 = .ok (.iadd, 1) := dk_96 (dk_at dksL_law_40 4 rfl rfl)
theorem dL_law_1072 : decode cL_law 1072 = .ok (.iaload, 1) := dk_46 (dk_at dksL_law_40 5 rfl rfl)
theorem dL_law_1073 : decode cL_law 1073 = .ok (.invokevirtual 117, 3) := dk_182 0 117 (dk_at dksL_law_40 6 rfl rfl)
theorem dL_law_1076 : decode cL_law 1076 = .ok (.lcmp, 1) := dk_148 (dk_at dksL_law_40 9 rfl rfl)
theorem dL_law_1077 : decode cL_law 1077 = .ok (.ifCond .eq 471, 3) := dk_153 1 215 (dk_at dksL_law_40 10 rfl rfl)
theorem dL_law_1080 : decode cL_law 1080 = .ok (.iconst 0, 1) := dk_3 (dk_at dksL_law_40 13 rfl rfl)
theorem dL_law_1081 : decode cL_law 1081 = .ok (.ireturn, 1) := dk_172 (dk_at dksL_law_40 14 rfl rfl)
theorem dL_law_1082 : decode cL_law 1082 = .ok (.aload_n 1, 1) := dk_43 (dk_at dksL_law_40 15 rfl rfl)
theorem dL_law_1083 : decode cL_law 1083 = .ok (.aload_n 0, 1) := dk_42 (dk_at dksL_law_40 16 rfl rfl)
theorem dL_law_1084 : decode cL_law 1084 = .ok (.iload_n 3, 1) := dk_29 (dk_at dksL_law_40 17 rfl rfl)
theorem dL_law_1085 : decode cL_law 1085 = .ok (.iconst 1, 1) := dk_4 (dk_at dksL_law_40 18 rfl rfl)
theorem dL_law_1086 : decode cL_law 1086 = .ok (.iadd, 1) := dk_96 (dk_at dksL_law_40 19 rfl rfl)
theorem dL_law_1087 : decode cL_law 1087 = .ok (.iaload, 1) := dk_46 (dk_at dksL_law_40 20 rfl rfl)
theorem dL_law_1088 : decode cL_law 1088 = .ok (.aload_n 0, 1) := dk_42 (dk_at dksL_law_40 21 rfl rfl)
theorem dL_law_1089 : decode cL_law 1089 = .ok (.iload_n 3, 1) := dk_29 (dk_at dksL_law_40 22 rfl rfl)
theorem dL_law_1090 : decode cL_law 1090 = .ok (.iconst 2, 1) := dk_5 (dk_at dksL_law_40 23 rfl rfl)
theorem dL_law_1091 : decode cL_law 1091 = .ok (.iadd, 1) := dk_96 (dk_at dksL_law_41 0 rfl rfl)
theorem dL_law_1092 : decode cL_law 1092 = .ok (.iaload, 1) := dk_46 (dk_at dksL_law_41 1 rfl rfl)
theorem dL_law_1093 : decode cL_law 1093 = .ok (.invokevirtual 118, 3) := dk_182 0 118 (dk_at dksL_law_41 2 rfl rfl)
theorem dL_law_1096 : decode cL_law 1096 = .ok (.aload_n 2, 1) := dk_44 (dk_at dksL_law_41 5 rfl rfl)
theorem dL_law_1097 : decode cL_law 1097 = .ok (.aload_n 0, 1) := dk_42 (dk_at dksL_law_41 6 rfl rfl)
theorem dL_law_1098 : decode cL_law 1098 = .ok (.iload_n 3, 1) := dk_29 (dk_at dksL_law_41 7 rfl rfl)
theorem dL_law_1099 : decode cL_law 1099 = .ok (.iconst 1, 1) := dk_4 (dk_at dksL_law_41 8 rfl rfl)
theorem dL_law_1100 : decode cL_law 1100 = .ok (.iadd, 1) := dk_96 (dk_at dksL_law_41 9 rfl rfl)
theorem dL_law_1101 : decode cL_law 1101 = .ok (.iaload, 1) := dk_46 (dk_at dksL_law_41 10 rfl rfl)
theorem dL_law_1102 : decode cL_law 1102 = .ok (.aload_n 0, 1) := dk_42 (dk_at dksL_law_41 11 rfl rfl)
theorem dL_law_1103 : decode cL_law 1103 = .ok (.iload_n 3, 1) := dk_29 (dk_at dksL_law_41 12 rfl rfl)
theorem dL_law_1104 : decode cL_law 1104 = .ok (.iconst 2, 1) := dk_5 (dk_at dksL_law_41 13 rfl rfl)
theorem dL_law_1105 : decode cL_law 1105 = .ok (.iadd, 1) := dk_96 (dk_at dksL_law_41 14 rfl rfl)
theorem dL_law_1106 : decode cL_law 1106 = .ok (.iaload, 1) := dk_46 (dk_at dksL_law_41 15 rfl rfl)
theorem dL_law_1107 : decode cL_law 1107 = .ok (.invokevirtual 121, 3) := dk_182 0 121 (dk_at dksL_law_41 16 rfl rfl)
theorem dL_law_1110 : decode cL_law 1110 = .ok (.if_icmp .eq 438, 3) := dk_159 1 182 (dk_at dksL_law_41 19 rfl rfl)
theorem dL_law_1113 : decode cL_law 1113 = .ok (.iconst 0, 1) := dk_3 (dk_at dksL_law_41 22 rfl rfl)
theorem dL_law_1114 : decode cL_law 1114 = .ok (.ireturn, 1) := dk_172 (dk_at dksL_law_41 23 rfl rfl)
theorem dL_law_1115 : decode cL_law 1115 = .ok (.aload_n 1, 1) := dk_43 (dk_at dksL_law_42 0 rfl rfl)
theorem dL_law_1116 : decode cL_law 1116 = .ok (.aload_n 0, 1) := dk_42 (dk_at dksL_law_42 1 rfl rfl)
theorem dL_law_1117 : decode cL_law 1117 = .ok (.iload_n 3, 1) := dk_29 (dk_at dksL_law_42 2 rfl rfl)
theorem dL_law_1118 : decode cL_law 1118 = .ok (.iconst 1, 1) := dk_4 (dk_at dksL_law_42 3 rfl rfl)
theorem dL_law_1119 : decode cL_law 1119 = .ok (.iadd, 1) := dk_96 (dk_at dksL_law_42 4 rfl rfl)
theorem dL_law_1120 : decode cL_law 1120 = .ok (.iaload, 1) := dk_46 (dk_at dksL_law_42 5 rfl rfl)
theorem dL_law_1121 : decode cL_law 1121 = .ok (.invokevirtual 122, 3) := dk_182 0 122 (dk_at dksL_law_42 6 rfl rfl)
theorem dL_law_1124 : decode cL_law 1124 = .ok (.aload_n 2, 1) := dk_44 (dk_at dksL_law_42 9 rfl rfl)
theorem dL_law_1125 : decode cL_law 1125 = .ok (.aload_n 0, 1) := dk_42 (dk_at dksL_law_42 10 rfl rfl)
theorem dL_law_1126 : decode cL_law 1126 = .ok (.iload_n 3, 1) := dk_29 (dk_at dksL_law_42 11 rfl rfl)
theorem dL_law_1127 : decode cL_law 1127 = .ok (.iconst 1, 1) := dk_4 (dk_at dksL_law_42 12 rfl rfl)
theorem dL_law_1128 : decode cL_law 1128 = .ok (.iadd, 1) := dk_96 (dk_at dksL_law_42 13 rfl rfl)
theorem dL_law_1129 : decode cL_law 1129 = .ok (.iaload, 1) := dk_46 (dk_at dksL_law_42 14 rfl rfl)
theorem dL_law_1130 : decode cL_law 1130 = .ok (.invokevirtual 125, 3) := dk_182 0 125 (dk_at dksL_law_42 15 rfl rfl)
theorem dL_law_1133 : decode cL_law 1133 = .ok (.if_icmp .eq 415, 3) := dk_159 1 159 (dk_at dksL_law_42 18 rfl rfl)
theorem dL_law_1136 : decode cL_law 1136 = .ok (.iconst 0, 1) := dk_3 (dk_at dksL_law_42 21 rfl rfl)
theorem dL_law_1137 : decode cL_law 1137 = .ok (.ireturn, 1) := dk_172 (dk_at dksL_law_42 22 rfl rfl)
theorem dL_law_1138 : decode cL_law 1138 = .ok (.aload_n 1, 1) := dk_43 (dk_at dksL_law_42 23 rfl rfl)
theorem dL_law_1139 : decode cL_law 1139 = .ok (.aload_n 0, 1) := dk_42 (dk_at dksL_law_43 0 rfl rfl)
theorem dL_law_1140 : decode cL_law 1140 = .ok (.iload_n 3, 1) := dk_29 (dk_at dksL_law_43 1 rfl rfl)
theorem dL_law_1141 : decode cL_law 1141 = .ok (.iconst 1, 1) := dk_4 (dk_at dksL_law_43 2 rfl rfl)
theorem dL_law_1142 : decode cL_law 1142 = .ok (.iadd, 1) := dk_96 (dk_at dksL_law_43 3 rfl rfl)
theorem dL_law_1143 : decode cL_law 1143 = .ok (.iaload, 1) := dk_46 (dk_at dksL_law_43 4 rfl rfl)
theorem dL_law_1144 : decode cL_law 1144 = .ok (.aload_n 0, 1) := dk_42 (dk_at dksL_law_43 5 rfl rfl)
theorem dL_law_1145 : decode cL_law 1145 = .ok (.iload_n 3, 1) := dk_29 (dk_at dksL_law_43 6 rfl rfl)
theorem dL_law_1146 : decode cL_law 1146 = .ok (.iconst 2, 1) := dk_5 (dk_at dksL_law_43 7 rfl rfl)
theorem dL_law_1147 : decode cL_law 1147 = .ok (.iadd, 1) := dk_96 (dk_at dksL_law_43 8 rfl rfl)
theorem dL_law_1148 : decode cL_law 1148 = .ok (.iaload, 1) := dk_46 (dk_at dksL_law_43 9 rfl rfl)
theorem dL_law_1149 : decode cL_law 1149 = .ok (.aload_n 0, 1) := dk_42 (dk_at dksL_law_43 10 rfl rfl)
theorem dL_law_1150 : decode cL_law 1150 = .ok (.iload_n 3, 1) := dk_29 (dk_at dksL_law_43 11 rfl rfl)
theorem dL_law_1151 : decode cL_law 1151 = .ok (.iconst 3, 1) := dk_6 (dk_at dksL_law_43 12 rfl rfl)
theorem dL_law_1152 : decode cL_law 1152 = .ok (.iadd, 1) := dk_96 (dk_at dksL_law_43 13 rfl rfl)
theorem dL_law_1153 : decode cL_law 1153 = .ok (.iaload, 1) := dk_46 (dk_at dksL_law_43 14 rfl rfl)
theorem dL_law_1154 : decode cL_law 1154 = .ok (.aload_n 0, 1) := dk_42 (dk_at dksL_law_43 15 rfl rfl)
theorem dL_law_1155 : decode cL_law 1155 = .ok (.iload_n 3, 1) := dk_29 (dk_at dksL_law_43 16 rfl rfl)
theorem dL_law_1156 : decode cL_law 1156 = .ok (.iconst 4, 1) := dk_7 (dk_at dksL_law_43 17 rfl rfl)
theorem dL_law_1157 : decode cL_law 1157 = .ok (.iadd, 1) := dk_96 (dk_at dksL_law_43 18 rfl rfl)
theorem dL_law_1158 : decode cL_law 1158 = .ok (.iaload, 1) := dk_46 (dk_at dksL_law_43 19 rfl rfl)
theorem dL_law_1159 : decode cL_law 1159 = .ok (.aload_n 0, 1) := dk_42 (dk_at dksL_law_43 20 rfl rfl)
theorem dL_law_1160 : decode cL_law 1160 = .ok (.iload_n 3, 1) := dk_29 (dk_at dksL_law_43 21 rfl rfl)
theorem dL_law_1161 : decode cL_law 1161 = .ok (.iconst 5, 1) := dk_8 (dk_at dksL_law_43 22 rfl rfl)
theorem dL_law_1162 : decode cL_law 1162 = .ok (.iadd, 1) := dk_96 (dk_at dksL_law_43 23 rfl rfl)
theorem dL_law_1163 : decode cL_law 1163 = .ok (.iaload, 1) := dk_46 (dk_at dksL_law_44 0 rfl rfl)
theorem dL_law_1164 : decode cL_law 1164 = .ok (.aload_n 0, 1) := dk_42 (dk_at dksL_law_44 1 rfl rfl)
theorem dL_law_1165 : decode cL_law 1165 = .ok (.iload_n 3, 1) := dk_29 (dk_at dksL_law_44 2 rfl rfl)
theorem dL_law_1166 : decode cL_law 1166 = .ok (.bipush 6, 2) := dk_16 6 (dk_at dksL_law_44 3 rfl rfl)
theorem dL_law_1168 : decode cL_law 1168 = .ok (.iadd, 1) := dk_96 (dk_at dksL_law_44 5 rfl rfl)
theorem dL_law_1169 : decode cL_law 1169 = .ok (.iaload, 1) := dk_46 (dk_at dksL_law_44 6 rfl rfl)
theorem dL_law_1170 : decode cL_law 1170 = .ok (.aload_n 0, 1) := dk_42 (dk_at dksL_law_44 7 rfl rfl)
theorem dL_law_1171 : decode cL_law 1171 = .ok (.iload_n 3, 1) := dk_29 (dk_at dksL_law_44 8 rfl rfl)
theorem dL_law_1172 : decode cL_law 1172 = .ok (.bipush 7, 2) := dk_16 7 (dk_at dksL_law_44 9 rfl rfl)
theorem dL_law_1174 : decode cL_law 1174 = .ok (.iadd, 1) := dk_96 (dk_at dksL_law_44 11 rfl rfl)
theorem dL_law_1175 : decode cL_law 1175 = .ok (.iaload, 1) := dk_46 (dk_at dksL_law_44 12 rfl rfl)
theorem dL_law_1176 : decode cL_law 1176 = .ok (.invokevirtual 126, 3) := dk_182 0 126 (dk_at dksL_law_44 13 rfl rfl)
theorem dL_law_1179 : decode cL_law 1179 = .ok (.aload_n 2, 1) := dk_44 (dk_at dksL_law_44 16 rfl rfl)
theorem dL_law_1180 : decode cL_law 1180 = .ok (.aload_n 0, 1) := dk_42 (dk_at dksL_law_44 17 rfl rfl)
theorem dL_law_1181 : decode cL_law 1181 = .ok (.iload_n 3, 1) := dk_29 (dk_at dksL_law_44 18 rfl rfl)
theorem dL_law_1182 : decode cL_law 1182 = .ok (.iconst 1, 1) := dk_4 (dk_at dksL_law_44 19 rfl rfl)
theorem dL_law_1183 : decode cL_law 1183 = .ok (.iadd, 1) := dk_96 (dk_at dksL_law_44 20 rfl rfl)
theorem dL_law_1184 : decode cL_law 1184 = .ok (.iaload, 1) := dk_46 (dk_at dksL_law_44 21 rfl rfl)
theorem dL_law_1185 : decode cL_law 1185 = .ok (.aload_n 0, 1) := dk_42 (dk_at dksL_law_44 22 rfl rfl)
theorem dL_law_1186 : decode cL_law 1186 = .ok (.iload_n 3, 1) := dk_29 (dk_at dksL_law_44 23 rfl rfl)
theorem dL_law_1187 : decode cL_law 1187 = .ok (.iconst 2, 1) := dk_5 (dk_at dksL_law_45 0 rfl rfl)
theorem dL_law_1188 : decode cL_law 1188 = .ok (.iadd, 1) := dk_96 (dk_at dksL_law_45 1 rfl rfl)
theorem dL_law_1189 : decode cL_law 1189 = .ok (.iaload, 1) := dk_46 (dk_at dksL_law_45 2 rfl rfl)
theorem dL_law_1190 : decode cL_law 1190 = .ok (.aload_n 0, 1) := dk_42 (dk_at dksL_law_45 3 rfl rfl)
theorem dL_law_1191 : decode cL_law 1191 = .ok (.iload_n 3, 1) := dk_29 (dk_at dksL_law_45 4 rfl rfl)
theorem dL_law_1192 : decode cL_law 1192 = .ok (.iconst 3, 1) := dk_6 (dk_at dksL_law_45 5 rfl rfl)
theorem dL_law_1193 : decode cL_law 1193 = .ok (.iadd, 1) := dk_96 (dk_at dksL_law_45 6 rfl rfl)
theorem dL_law_1194 : decode cL_law 1194 = .ok (.iaload, 1) := dk_46 (dk_at dksL_law_45 7 rfl rfl)
theorem dL_law_1195 : decode cL_law 1195 = .ok (.aload_n 0, 1) := dk_42 (dk_at dksL_law_45 8 rfl rfl)
theorem dL_law_1196 : decode cL_law 1196 = .ok (.iload_n 3, 1) := dk_29 (dk_at dksL_law_45 9 rfl rfl)
theorem dL_law_1197 : decode cL_law 1197 = .ok (.iconst 4, 1) := dk_7 (dk_at dksL_law_45 10 rfl rfl)
theorem dL_law_1198 : decode cL_law 1198 = .ok (.iadd, 1) := dk_96 (dk_at dksL_law_45 11 rfl rfl)
theorem dL_law_1199 : decode cL_law 1199 = .ok (.iaload, 1) := dk_46 (dk_at dksL_law_45 12 rfl rfl)
theorem dL_law_1200 : decode cL_law 1200 = .ok (.aload_n 0, 1) := dk_42 (dk_at dksL_law_45 13 rfl rfl)
theorem dL_law_1201 : decode cL_law 1201 = .ok (.iload_n 3, 1) := dk_29 (dk_at dksL_law_45 14 rfl rfl)
theorem dL_law_1202 : decode cL_law 1202 = .ok (.iconst 5, 1) := dk_8 (dk_at dksL_law_45 15 rfl rfl)
theorem dL_law_1203 : decode cL_law 1203 = .ok (.iadd, 1) := dk_96 (dk_at dksL_law_45 16 rfl rfl)
theorem dL_law_1204 : decode cL_law 1204 = .ok (.iaload, 1) := dk_46 (dk_at dksL_law_45 17 rfl rfl)
theorem dL_law_1205 : decode cL_law 1205 = .ok (.aload_n 0, 1) := dk_42 (dk_at dksL_law_45 18 rfl rfl)
theorem dL_law_1206 : decode cL_law 1206 = .ok (.iload_n 3, 1) := dk_29 (dk_at dksL_law_45 19 rfl rfl)
theorem dL_law_1207 : decode cL_law 1207 = .ok (.bipush 6, 2) := dk_16 6 (dk_at dksL_law_45 20 rfl rfl)
theorem dL_law_1209 : decode cL_law 1209 = .ok (.iadd, 1) := dk_96 (dk_at dksL_law_45 22 rfl rfl)
theorem dL_law_1210 : decode cL_law 1210 = .ok (.iaload, 1) := dk_46 (dk_at dksL_law_45 23 rfl rfl)
theorem dL_law_1211 : decode cL_law 1211 = .ok (.aload_n 0, 1) := dk_42 (dk_at dksL_law_46 0 rfl rfl)
theorem dL_law_1212 : decode cL_law 1212 = .ok (.iload_n 3, 1) := dk_29 (dk_at dksL_law_46 1 rfl rfl)
theorem dL_law_1213 : decode cL_law 1213 = .ok (.bipush 7, 2) := dk_16 7 (dk_at dksL_law_46 2 rfl rfl)
theorem dL_law_1215 : decode cL_law 1215 = .ok (.iadd, 1) := dk_96 (dk_at dksL_law_46 4 rfl rfl)
theorem dL_law_1216 : decode cL_law 1216 = .ok (.iaload, 1) := dk_46 (dk_at dksL_law_46 5 rfl rfl)
theorem dL_law_1217 : decode cL_law 1217 = .ok (.invokevirtual 130, 3) := dk_182 0 130 (dk_at dksL_law_46 6 rfl rfl)
theorem dL_law_1220 : decode cL_law 1220 = .ok (.if_icmp .eq 328, 3) := dk_159 1 72 (dk_at dksL_law_46 9 rfl rfl)
theorem dL_law_1223 : decode cL_law 1223 = .ok (.iconst 0, 1) := dk_3 (dk_at dksL_law_46 12 rfl rfl)
theorem dL_law_1224 : decode cL_law 1224 = .ok (.ireturn, 1) := dk_172 (dk_at dksL_law_46 13 rfl rfl)
theorem dL_law_1225 : decode cL_law 1225 = .ok (.aload_n 1, 1) := dk_43 (dk_at dksL_law_46 14 rfl rfl)
theorem dL_law_1226 : decode cL_law 1226 = .ok (.aload_n 0, 1) := dk_42 (dk_at dksL_law_46 15 rfl rfl)
theorem dL_law_1227 : decode cL_law 1227 = .ok (.iload_n 3, 1) := dk_29 (dk_at dksL_law_46 16 rfl rfl)
theorem dL_law_1228 : decode cL_law 1228 = .ok (.iconst 1, 1) := dk_4 (dk_at dksL_law_46 17 rfl rfl)
theorem dL_law_1229 : decode cL_law 1229 = .ok (.iadd, 1) := dk_96 (dk_at dksL_law_46 18 rfl rfl)
theorem dL_law_1230 : decode cL_law 1230 = .ok (.iaload, 1) := dk_46 (dk_at dksL_law_46 19 rfl rfl)
theorem dL_law_1231 : decode cL_law 1231 = .ok (.aload_n 0, 1) := dk_42 (dk_at dksL_law_46 20 rfl rfl)
theorem dL_law_1232 : decode cL_law 1232 = .ok (.iload_n 3, 1) := dk_29 (dk_at dksL_law_46 21 rfl rfl)
theorem dL_law_1233 : decode cL_law 1233 = .ok (.iconst 2, 1) := dk_5 (dk_at dksL_law_46 22 rfl rfl)
theorem dL_law_1234 : decode cL_law 1234 = .ok (.iadd, 1) := dk_96 (dk_at dksL_law_46 23 rfl rfl)
theorem dL_law_1235 : decode cL_law 1235 = .ok (.iaload, 1) := dk_46 (dk_at dksL_law_47 0 rfl rfl)
theorem dL_law_1236 : decode cL_law 1236 = .ok (.aload_n 0, 1) := dk_42 (dk_at dksL_law_47 1 rfl rfl)
theorem dL_law_1237 : decode cL_law 1237 = .ok (.iload_n 3, 1) := dk_29 (dk_at dksL_law_47 2 rfl rfl)
theorem dL_law_1238 : decode cL_law 1238 = .ok (.iconst 3, 1) := dk_6 (dk_at dksL_law_47 3 rfl rfl)
theorem dL_law_1239 : decode cL_law 1239 = .ok (.iadd, 1) := dk_96 (dk_at dksL_law_47 4 rfl rfl)
theorem dL_law_1240 : decode cL_law 1240 = .ok (.iaload, 1) := dk_46 (dk_at dksL_law_47 5 rfl rfl)
theorem dL_law_1241 : decode cL_law 1241 = .ok (.invokevirtual 131, 3) := dk_182 0 131 (dk_at dksL_law_47 6 rfl rfl)
theorem dL_law_1244 : decode cL_law 1244 = .ok (.aload_n 2, 1) := dk_44 (dk_at dksL_law_47 9 rfl rfl)
theorem dL_law_1245 : decode cL_law 1245 = .ok (.aload_n 0, 1) := dk_42 (dk_at dksL_law_47 10 rfl rfl)
theorem dL_law_1246 : decode cL_law 1246 = .ok (.iload_n 3, 1) := dk_29 (dk_at dksL_law_47 11 rfl rfl)
theorem dL_law_1247 : decode cL_law 1247 = .ok (.iconst 1, 1) := dk_4 (dk_at dksL_law_47 12 rfl rfl)
theorem dL_law_1248 : decode cL_law 1248 = .ok (.iadd, 1) := dk_96 (dk_at dksL_law_47 13 rfl rfl)
theorem dL_law_1249 : decode cL_law 1249 = .ok (.iaload, 1) := dk_46 (dk_at dksL_law_47 14 rfl rfl)
theorem dL_law_1250 : decode cL_law 1250 = .ok (.aload_n 0, 1) := dk_42 (dk_at dksL_law_47 15 rfl rfl)
theorem dL_law_1251 : decode cL_law 1251 = .ok (.iload_n 3, 1) := dk_29 (dk_at dksL_law_47 16 rfl rfl)
theorem dL_law_1252 : decode cL_law 1252 = .ok (.iconst 2, 1) := dk_5 (dk_at dksL_law_47 17 rfl rfl)
theorem dL_law_1253 : decode cL_law 1253 = .ok (.iadd, 1) := dk_96 (dk_at dksL_law_47 18 rfl rfl)
theorem dL_law_1254 : decode cL_law 1254 = .ok (.iaload, 1) := dk_46 (dk_at dksL_law_47 19 rfl rfl)
theorem dL_law_1255 : decode cL_law 1255 = .ok (.aload_n 0, 1) := dk_42 (dk_at dksL_law_47 20 rfl rfl)
theorem dL_law_1256 : decode cL_law 1256 = .ok (.iload_n 3, 1) := dk_29 (dk_at dksL_law_47 21 rfl rfl)
theorem dL_law_1257 : decode cL_law 1257 = .ok (.iconst 3, 1) := dk_6 (dk_at dksL_law_47 22 rfl rfl)
theorem dL_law_1258 : decode cL_law 1258 = .ok (.iadd, 1) := dk_96 (dk_at dksL_law_47 23 rfl rfl)
theorem dL_law_1259 : decode cL_law 1259 = .ok (.iaload, 1) := dk_46 (dk_at dksL_law_48 0 rfl rfl)
theorem dL_law_1260 : decode cL_law 1260 = .ok (.invokevirtual 134, 3) := dk_182 0 134 (dk_at dksL_law_48 1 rfl rfl)
theorem dL_law_1263 : decode cL_law 1263 = .ok (.if_icmp .eq 285, 3) := dk_159 1 29 (dk_at dksL_law_48 4 rfl rfl)
theorem dL_law_1266 : decode cL_law 1266 = .ok (.iconst 0, 1) := dk_3 (dk_at dksL_law_48 7 rfl rfl)
theorem dL_law_1267 : decode cL_law 1267 = .ok (.ireturn, 1) := dk_172 (dk_at dksL_law_48 8 rfl rfl)
theorem dL_law_1268 : decode cL_law 1268 = .ok (.aload_n 1, 1) := dk_43 (dk_at dksL_law_48 9 rfl rfl)
theorem dL_law_1269 : decode cL_law 1269 = .ok (.aload_n 0, 1) := dk_42 (dk_at dksL_law_48 10 rfl rfl)
theorem dL_law_1270 : decode cL_law 1270 = .ok (.iload_n 3, 1) := dk_29 (dk_at dksL_law_48 11 rfl rfl)
theorem dL_law_1271 : decode cL_law 1271 = .ok (.iconst 1, 1) := dk_4 (dk_at dksL_law_48 12 rfl rfl)
theorem dL_law_1272 : decode cL_law 1272 = .ok (.iadd, 1) := dk_96 (dk_at dksL_law_48 13 rfl rfl)
theorem dL_law_1273 : decode cL_law 1273 = .ok (.iaload, 1) := dk_46 (dk_at dksL_law_48 14 rfl rfl)
theorem dL_law_1274 : decode cL_law 1274 = .ok (.aload_n 0, 1) := dk_42 (dk_at dksL_law_48 15 rfl rfl)
theorem dL_law_1275 : decode cL_law 1275 = .ok (.iload_n 3, 1) := dk_29 (dk_at dksL_law_48 16 rfl rfl)
theorem dL_law_1276 : decode cL_law 1276 = .ok (.iconst 2, 1) := dk_5 (dk_at dksL_law_48 17 rfl rfl)
theorem dL_law_1277 : decode cL_law 1277 = .ok (.iadd, 1) := dk_96 (dk_at dksL_law_48 18 rfl rfl)
theorem dL_law_1278 : decode cL_law 1278 = .ok (.iaload, 1) := dk_46 (dk_at dksL_law_48 19 rfl rfl)
theorem dL_law_1279 : decode cL_law 1279 = .ok (.aload_n 0, 1) := dk_42 (dk_at dksL_law_48 20 rfl rfl)
theorem dL_law_1280 : decode cL_law 1280 = .ok (.iload_n 3, 1) := dk_29 (dk_at dksL_law_48 21 rfl rfl)
theorem dL_law_1281 : decode cL_law 1281 = .ok (.iconst 3, 1) := dk_6 (dk_at dksL_law_48 22 rfl rfl)
theorem dL_law_1282 : decode cL_law 1282 = .ok (.iadd, 1) := dk_96 (dk_at dksL_law_48 23 rfl rfl)
theorem dL_law_1283 : decode cL_law 1283 = .ok (.iaload, 1) := dk_46 (dk_at dksL_law_49 0 rfl rfl)
theorem dL_law_1284 : decode cL_law 1284 = .ok (.aload_n 0, 1) := dk_42 (dk_at dksL_law_49 1 rfl rfl)
theorem dL_law_1285 : decode cL_law 1285 = .ok (.iload_n 3, 1) := dk_29 (dk_at dksL_law_49 2 rfl rfl)
theorem dL_law_1286 : decode cL_law 1286 = .ok (.iconst 4, 1) := dk_7 (dk_at dksL_law_49 3 rfl rfl)
theorem dL_law_1287 : decode cL_law 1287 = .ok (.iadd, 1) := dk_96 (dk_at dksL_law_49 4 rfl rfl)
theorem dL_law_1288 : decode cL_law 1288 = .ok (.iaload, 1) := dk_46 (dk_at dksL_law_49 5 rfl rfl)
theorem dL_law_1289 : decode cL_law 1289 = .ok (.invokevirtual 135, 3) := dk_182 0 135 (dk_at dksL_law_49 6 rfl rfl)
theorem dL_law_1292 : decode cL_law 1292 = .ok (.aload_n 2, 1) := dk_44 (dk_at dksL_law_49 9 rfl rfl)
theorem dL_law_1293 : decode cL_law 1293 = .ok (.aload_n 0, 1) := dk_42 (dk_at dksL_law_49 10 rfl rfl)
theorem dL_law_1294 : decode cL_law 1294 = .ok (.iload_n 3, 1) := dk_29 (dk_at dksL_law_49 11 rfl rfl)
theorem dL_law_1295 : decode cL_law 1295 = .ok (.iconst 1, 1) := dk_4 (dk_at dksL_law_49 12 rfl rfl)
theorem dL_law_1296 : decode cL_law 1296 = .ok (.iadd, 1) := dk_96 (dk_at dksL_law_49 13 rfl rfl)
theorem dL_law_1297 : decode cL_law 1297 = .ok (.iaload, 1) := dk_46 (dk_at dksL_law_49 14 rfl rfl)
theorem dL_law_1298 : decode cL_law 1298 = .ok (.aload_n 0, 1) := dk_42 (dk_at dksL_law_49 15 rfl rfl)
theorem dL_law_1299 : decode cL_law 1299 = .ok (.iload_n 3, 1) := dk_29 (dk_at dksL_law_49 16 rfl rfl)
theorem dL_law_1300 : decode cL_law 1300 = .ok (.iconst 2, 1) := dk_5 (dk_at dksL_law_49 17 rfl rfl)
theorem dL_law_1301 : decode cL_law 1301 = .ok (.iadd, 1) := dk_96 (dk_at dksL_law_49 18 rfl rfl)
theorem dL_law_1302 : decode cL_law 1302 = .ok (.iaload, 1) := dk_46 (dk_at dksL_law_49 19 rfl rfl)
theorem dL_law_1303 : decode cL_law 1303 = .ok (.aload_n 0, 1) := dk_42 (dk_at dksL_law_49 20 rfl rfl)
theorem dL_law_1304 : decode cL_law 1304 = .ok (.iload_n 3, 1) := dk_29 (dk_at dksL_law_49 21 rfl rfl)
theorem dL_law_1305 : decode cL_law 1305 = .ok (.iconst 3, 1) := dk_6 (dk_at dksL_law_49 22 rfl rfl)
theorem dL_law_1306 : decode cL_law 1306 = .ok (.iadd, 1) := dk_96 (dk_at dksL_law_49 23 rfl rfl)
theorem dL_law_1307 : decode cL_law 1307 = .ok (.iaload, 1) := dk_46 (dk_at dksL_law_50 0 rfl rfl)
theorem dL_law_1308 : decode cL_law 1308 = .ok (.aload_n 0, 1) := dk_42 (dk_at dksL_law_50 1 rfl rfl)
theorem dL_law_1309 : decode cL_law 1309 = .ok (.iload_n 3, 1) := dk_29 (dk_at dksL_law_50 2 rfl rfl)
theorem dL_law_1310 : decode cL_law 1310 = .ok (.iconst 4, 1) := dk_7 (dk_at dksL_law_50 3 rfl rfl)
theorem dL_law_1311 : decode cL_law 1311 = .ok (.iadd, 1) := dk_96 (dk_at dksL_law_50 4 rfl rfl)
theorem dL_law_1312 : decode cL_law 1312 = .ok (.iaload, 1) := dk_46 (dk_at dksL_law_50 5 rfl rfl)
theorem dL_law_1313 : decode cL_law 1313 = .ok (.invokevirtual 138, 3) := dk_182 0 138 (dk_at dksL_law_50 6 rfl rfl)
theorem dL_law_1316 : decode cL_law 1316 = .ok (.if_icmp .eq 232, 3) := dk_159 0 232 (dk_at dksL_law_50 9 rfl rfl)
theorem dL_law_1319 : decode cL_law 1319 = .ok (.iconst 0, 1) := dk_3 (dk_at dksL_law_50 12 rfl rfl)
theorem dL_law_1320 : decode cL_law 1320 = .ok (.ireturn, 1) := dk_172 (dk_at dksL_law_50 13 rfl rfl)
theorem dL_law_1321 : decode cL_law 1321 = .ok (.aload_n 1, 1) := dk_43 (dk_at dksL_law_50 14 rfl rfl)
theorem dL_law_1322 : decode cL_law 1322 = .ok (.aload_n 0, 1) := dk_42 (dk_at dksL_law_50 15 rfl rfl)
theorem dL_law_1323 : decode cL_law 1323 = .ok (.iload_n 3, 1) := dk_29 (dk_at dksL_law_50 16 rfl rfl)
theorem dL_law_1324 : decode cL_law 1324 = .ok (.iconst 1, 1) := dk_4 (dk_at dksL_law_50 17 rfl rfl)
theorem dL_law_1325 : decode cL_law 1325 = .ok (.iadd, 1) := dk_96 (dk_at dksL_law_50 18 rfl rfl)
theorem dL_law_1326 : decode cL_law 1326 = .ok (.iaload, 1) := dk_46 (dk_at dksL_law_50 19 rfl rfl)
theorem dL_law_1327 : decode cL_law 1327 = .ok (.aload_n 0, 1) := dk_42 (dk_at dksL_law_50 20 rfl rfl)
theorem dL_law_1328 : decode cL_law 1328 = .ok (.iload_n 3, 1) := dk_29 (dk_at dksL_law_50 21 rfl rfl)
theorem dL_law_1329 : decode cL_law 1329 = .ok (.iconst 2, 1) := dk_5 (dk_at dksL_law_50 22 rfl rfl)
theorem dL_law_1330 : decode cL_law 1330 = .ok (.iadd, 1) := dk_96 (dk_at dksL_law_50 23 rfl rfl)
theorem dL_law_1331 : decode cL_law 1331 = .ok (.iaload, 1) := dk_46 (dk_at dksL_law_51 0 rfl rfl)
theorem dL_law_1332 : decode cL_law 1332 = .ok (.aload_n 0, 1) := dk_42 (dk_at dksL_law_51 1 rfl rfl)
theorem dL_law_1333 : decode cL_law 1333 = .ok (.iload_n 3, 1) := dk_29 (dk_at dksL_law_51 2 rfl rfl)
theorem dL_law_1334 : decode cL_law 1334 = .ok (.iconst 3, 1) := dk_6 (dk_at dksL_law_51 3 rfl rfl)
theorem dL_law_1335 : decode cL_law 1335 = .ok (.iadd, 1) := dk_96 (dk_at dksL_law_51 4 rfl rfl)
theorem dL_law_1336 : decode cL_law 1336 = .ok (.iaload, 1) := dk_46 (dk_at dksL_law_51 5 rfl rfl)
theorem dL_law_1337 : decode cL_law 1337 = .ok (.invokevirtual 139, 3) := dk_182 0 139 (dk_at dksL_law_51 6 rfl rfl)
theorem dL_law_1340 : decode cL_law 1340 = .ok (.aload_n 2, 1) := dk_44 (dk_at dksL_law_51 9 rfl rfl)
theorem dL_law_1341 : decode cL_law 1341 = .ok (.aload_n 0, 1) := dk_42 (dk_at dksL_law_51 10 rfl rfl)
theorem dL_law_1342 : decode cL_law 1342 = .ok (.iload_n 3, 1) := dk_29 (dk_at dksL_law_51 11 rfl rfl)
theorem dL_law_1343 : decode cL_law 1343 = .ok (.iconst 1, 1) := dk_4 (dk_at dksL_law_51 12 rfl rfl)
theorem dL_law_1344 : decode cL_law 1344 = .ok (.iadd, 1) := dk_96 (dk_at dksL_law_51 13 rfl rfl)
theorem dL_law_1345 : decode cL_law 1345 = .ok (.iaload, 1) := dk_46 (dk_at dksL_law_51 14 rfl rfl)
theorem dL_law_1346 : decode cL_law 1346 = .ok (.aload_n 0, 1) := dk_42 (dk_at dksL_law_51 15 rfl rfl)
theorem dL_law_1347 : decode cL_law 1347 = .ok (.iload_n 3, 1) := dk_29 (dk_at dksL_law_51 16 rfl rfl)
theorem dL_law_1348 : decode cL_law 1348 = .ok (.iconst 2, 1) := dk_5 (dk_at dksL_law_51 17 rfl rfl)
theorem dL_law_1349 : decode cL_law 1349 = .ok (.iadd, 1) := dk_96 (dk_at dksL_law_51 18 rfl rfl)
theorem dL_law_1350 : decode cL_law 1350 = .ok (.iaload, 1) := dk_46 (dk_at dksL_law_51 19 rfl rfl)
theorem dL_law_1351 : decode cL_law 1351 = .ok (.aload_n 0, 1) := dk_42 (dk_at dksL_law_51 20 rfl rfl)
theorem dL_law_1352 : decode cL_law 1352 = .ok (.iload_n 3, 1) := dk_29 (dk_at dksL_law_51 21 rfl rfl)
theorem dL_law_1353 : decode cL_law 1353 = .ok (.iconst 3, 1) := dk_6 (dk_at dksL_law_51 22 rfl rfl)
theorem dL_law_1354 : decode cL_law 1354 = .ok (.iadd, 1) := dk_96 (dk_at dksL_law_51 23 rfl rfl)
theorem dL_law_1355 : decode cL_law 1355 = .ok (.iaload, 1) := dk_46 (dk_at dksL_law_52 0 rfl rfl)
theorem dL_law_1356 : decode cL_law 1356 = .ok (.invokevirtual 142, 3) := dk_182 0 142 (dk_at dksL_law_52 1 rfl rfl)
theorem dL_law_1359 : decode cL_law 1359 = .ok (.lcmp, 1) := dk_148 (dk_at dksL_law_52 4 rfl rfl)
theorem dL_law_1360 : decode cL_law 1360 = .ok (.ifCond .eq 188, 3) := dk_153 0 188 (dk_at dksL_law_52 5 rfl rfl)
theorem dL_law_1363 : decode cL_law 1363 = .ok (.iconst 0, 1) := dk_3 (dk_at dksL_law_52 8 rfl rfl)
theorem dL_law_1364 : decode cL_law 1364 = .ok (.ireturn, 1) := dk_172 (dk_at dksL_law_52 9 rfl rfl)
theorem dL_law_1365 : decode cL_law 1365 = .ok (.aload_n 1, 1) := dk_43 (dk_at dksL_law_52 10 rfl rfl)
theorem dL_law_1366 : decode cL_law 1366 = .ok (.aload_n 0, 1) := dk_42 (dk_at dksL_law_52 11 rfl rfl)
theorem dL_law_1367 : decode cL_law 1367 = .ok (.iload_n 3, 1) := dk_29 (dk_at dksL_law_52 12 rfl rfl)
theorem dL_law_1368 : decode cL_law 1368 = .ok (.iconst 1, 1) := dk_4 (dk_at dksL_law_52 13 rfl rfl)
theorem dL_law_1369 : decode cL_law 1369 = .ok (.iadd, 1) := dk_96 (dk_at dksL_law_52 14 rfl rfl)
theorem dL_law_1370 : decode cL_law 1370 = .ok (.iaload, 1) := dk_46 (dk_at dksL_law_52 15 rfl rfl)
theorem dL_law_1371 : decode cL_law 1371 = .ok (.aload_n 0, 1) := dk_42 (dk_at dksL_law_52 16 rfl rfl)
theorem dL_law_1372 : decode cL_law 1372 = .ok (.iload_n 3, 1) := dk_29 (dk_at dksL_law_52 17 rfl rfl)
theorem dL_law_1373 : decode cL_law 1373 = .ok (.iconst 2, 1) := dk_5 (dk_at dksL_law_52 18 rfl rfl)
theorem dL_law_1374 : decode cL_law 1374 = .ok (.iadd, 1) := dk_96 (dk_at dksL_law_52 19 rfl rfl)
theorem dL_law_1375 : decode cL_law 1375 = .ok (.iaload, 1) := dk_46 (dk_at dksL_law_52 20 rfl rfl)
theorem dL_law_1376 : decode cL_law 1376 = .ok (.aload_n 0, 1) := dk_42 (dk_at dksL_law_52 21 rfl rfl)
theorem dL_law_1377 : decode cL_law 1377 = .ok (.iload_n 3, 1) := dk_29 (dk_at dksL_law_52 22 rfl rfl)
theorem dL_law_1378 : decode cL_law 1378 = .ok (.iconst 3, 1) := dk_6 (dk_at dksL_law_52 23 rfl rfl)
theorem dL_law_1379 : decode cL_law 1379 = .ok (.iadd, 1) := dk_96 (dk_at dksL_law_53 0 rfl rfl)
theorem dL_law_1380 : decode cL_law 1380 = .ok (.iaload, 1) := dk_46 (dk_at dksL_law_53 1 rfl rfl)
theorem dL_law_1381 : decode cL_law 1381 = .ok (.invokevirtual 143, 3) := dk_182 0 143 (dk_at dksL_law_53 2 rfl rfl)
theorem dL_law_1384 : decode cL_law 1384 = .ok (.aload_n 2, 1) := dk_44 (dk_at dksL_law_53 5 rfl rfl)
theorem dL_law_1385 : decode cL_law 1385 = .ok (.aload_n 0, 1) := dk_42 (dk_at dksL_law_53 6 rfl rfl)
theorem dL_law_1386 : decode cL_law 1386 = .ok (.iload_n 3, 1) := dk_29 (dk_at dksL_law_53 7 rfl rfl)
theorem dL_law_1387 : decode cL_law 1387 = .ok (.iconst 1, 1) := dk_4 (dk_at dksL_law_53 8 rfl rfl)
theorem dL_law_1388 : decode cL_law 1388 = .ok (.iadd, 1) := dk_96 (dk_at dksL_law_53 9 rfl rfl)
theorem dL_law_1389 : decode cL_law 1389 = .ok (.iaload, 1) := dk_46 (dk_at dksL_law_53 10 rfl rfl)
theorem dL_law_1390 : decode cL_law 1390 = .ok (.aload_n 0, 1) := dk_42 (dk_at dksL_law_53 11 rfl rfl)
theorem dL_law_1391 : decode cL_law 1391 = .ok (.iload_n 3, 1) := dk_29 (dk_at dksL_law_53 12 rfl rfl)
theorem dL_law_1392 : decode cL_law 1392 = .ok (.iconst 2, 1) := dk_5 (dk_at dksL_law_53 13 rfl rfl)
theorem dL_law_1393 : decode cL_law 1393 = .ok (.iadd, 1) := dk_96 (dk_at dksL_law_53 14 rfl rfl)
theorem dL_law_1394 : decode cL_law 1394 = .ok (.iaload, 1) := dk_46 (dk_at dksL_law_53 15 rfl rfl)
theorem dL_law_1395 : decode cL_law 1395 = .ok (.aload_n 0, 1) := dk_42 (dk_at dksL_law_53 16 rfl rfl)
theorem dL_law_1396 : decode cL_law 1396 = .ok (.iload_n 3, 1) := dk_29 (dk_at dksL_law_53 17 rfl rfl)
theorem dL_law_1397 : decode cL_law 1397 = .ok (.iconst 3, 1) := dk_6 (dk_at dksL_law_53 18 rfl rfl)
theorem dL_law_1398 : decode cL_law 1398 = .ok (.iadd, 1) := dk_96 (dk_at dksL_law_53 19 rfl rfl)
theorem dL_law_1399 : decode cL_law 1399 = .ok (.iaload, 1) := dk_46 (dk_at dksL_law_53 20 rfl rfl)
theorem dL_law_1400 : decode cL_law 1400 = .ok (.invokevirtual 146, 3) := dk_182 0 146 (dk_at dksL_law_53 21 rfl rfl)
theorem dL_law_1403 : decode cL_law 1403 = .ok (.lcmp, 1) := dk_148 (dk_at dksL_law_54 0 rfl rfl)
theorem dL_law_1404 : decode cL_law 1404 = .ok (.ifCond .eq 144, 3) := dk_153 0 144 (dk_at dksL_law_54 1 rfl rfl)
theorem dL_law_1407 : decode cL_law 1407 = .ok (.iconst 0, 1) := dk_3 (dk_at dksL_law_54 4 rfl rfl)
theorem dL_law_1408 : decode cL_law 1408 = .ok (.ireturn, 1) := dk_172 (dk_at dksL_law_54 5 rfl rfl)
theorem dL_law_1409 : decode cL_law 1409 = .ok (.aload_n 1, 1) := dk_43 (dk_at dksL_law_54 6 rfl rfl)
theorem dL_law_1410 : decode cL_law 1410 = .ok (.aload_n 0, 1) := dk_42 (dk_at dksL_law_54 7 rfl rfl)
theorem dL_law_1411 : decode cL_law 1411 = .ok (.iload_n 3, 1) := dk_29 (dk_at dksL_law_54 8 rfl rfl)
theorem dL_law_1412 : decode cL_law 1412 = .ok (.iconst 1, 1) := dk_4 (dk_at dksL_law_54 9 rfl rfl)
theorem dL_law_1413 : decode cL_law 1413 = .ok (.iadd, 1) := dk_96 (dk_at dksL_law_54 10 rfl rfl)
theorem dL_law_1414 : decode cL_law 1414 = .ok (.iaload, 1) := dk_46 (dk_at dksL_law_54 11 rfl rfl)
theorem dL_law_1415 : decode cL_law 1415 = .ok (.aload_n 0, 1) := dk_42 (dk_at dksL_law_54 12 rfl rfl)
theorem dL_law_1416 : decode cL_law 1416 = .ok (.iload_n 3, 1) := dk_29 (dk_at dksL_law_54 13 rfl rfl)
theorem dL_law_1417 : decode cL_law 1417 = .ok (.iconst 2, 1) := dk_5 (dk_at dksL_law_54 14 rfl rfl)
theorem dL_law_1418 : decode cL_law 1418 = .ok (.iadd, 1) := dk_96 (dk_at dksL_law_54 15 rfl rfl)
theorem dL_law_1419 : decode cL_law 1419 = .ok (.iaload, 1) := dk_46 (dk_at dksL_law_54 16 rfl rfl)
theorem dL_law_1420 : decode cL_law 1420 = .ok (.aload_n 0, 1) := dk_42 (dk_at dksL_law_54 17 rfl rfl)
theorem dL_law_1421 : decode cL_law 1421 = .ok (.iload_n 3, 1) := dk_29 (dk_at dksL_law_54 18 rfl rfl)
theorem dL_law_1422 : decode cL_law 1422 = .ok (.iconst 3, 1) := dk_6 (dk_at dksL_law_54 19 rfl rfl)
theorem dL_law_1423 : decode cL_law 1423 = .ok (.iadd, 1) := dk_96 (dk_at dksL_law_54 20 rfl rfl)
theorem dL_law_1424 : decode cL_law 1424 = .ok (.iaload, 1) := dk_46 (dk_at dksL_law_54 21 rfl rfl)
theorem dL_law_1425 : decode cL_law 1425 = .ok (.aload_n 0, 1) := dk_42 (dk_at dksL_law_54 22 rfl rfl)
theorem dL_law_1426 : decode cL_law 1426 = .ok (.iload_n 3, 1) := dk_29 (dk_at dksL_law_54 23 rfl rfl)
theorem dL_law_1427 : decode cL_law 1427 = .ok (.iconst 4, 1) := dk_7 (dk_at dksL_law_55 0 rfl rfl)
theorem dL_law_1428 : decode cL_law 1428 = .ok (.iadd, 1) := dk_96 (dk_at dksL_law_55 1 rfl rfl)
theorem dL_law_1429 : decode cL_law 1429 = .ok (.iaload, 1) := dk_46 (dk_at dksL_law_55 2 rfl rfl)
theorem dL_law_1430 : decode cL_law 1430 = .ok (.invokevirtual 147, 3) := dk_182 0 147 (dk_at dksL_law_55 3 rfl rfl)
theorem dL_law_1433 : decode cL_law 1433 = .ok (.aload_n 2, 1) := dk_44 (dk_at dksL_law_55 6 rfl rfl)
theorem dL_law_1434 : decode cL_law 1434 = .ok (.aload_n 0, 1) := dk_42 (dk_at dksL_law_55 7 rfl rfl)
theorem dL_law_1435 : decode cL_law 1435 = .ok (.iload_n 3, 1) := dk_29 (dk_at dksL_law_55 8 rfl rfl)
theorem dL_law_1436 : decode cL_law 1436 = .ok (.iconst 1, 1) := dk_4 (dk_at dksL_law_55 9 rfl rfl)
theorem dL_law_1437 : decode cL_law 1437 = .ok (.iadd, 1) := dk_96 (dk_at dksL_law_55 10 rfl rfl)
theorem dL_law_1438 : decode cL_law 1438 = .ok (.iaload, 1) := dk_46 (dk_at dksL_law_55 11 rfl rfl)
theorem dL_law_1439 : decode cL_law 1439 = .ok (.aload_n 0, 1) := dk_42 (dk_at dksL_law_55 12 rfl rfl)
theorem dL_law_1440 : decode cL_law 1440 = .ok (.iload_n 3, 1) := dk_29 (dk_at dksL_law_55 13 rfl rfl)
theorem dL_law_1441 : decode cL_law 1441 = .ok (.iconst 2, 1) := dk_5 (dk_at dksL_law_55 14 rfl rfl)
theorem dL_law_1442 : decode cL_law 1442 = .ok (.iadd, 1) := dk_96 (dk_at dksL_law_55 15 rfl rfl)
theorem dL_law_1443 : decode cL_law 1443 = .ok (.iaload, 1) := dk_46 (dk_at dksL_law_55 16 rfl rfl)
theorem dL_law_1444 : decode cL_law 1444 = .ok (.aload_n 0, 1) := dk_42 (dk_at dksL_law_55 17 rfl rfl)
theorem dL_law_1445 : decode cL_law 1445 = .ok (.iload_n 3, 1) := dk_29 (dk_at dksL_law_55 18 rfl rfl)
theorem dL_law_1446 : decode cL_law 1446 = .ok (.iconst 3, 1) := dk_6 (dk_at dksL_law_55 19 rfl rfl)
theorem dL_law_1447 : decode cL_law 1447 = .ok (.iadd, 1) := dk_96 (dk_at dksL_law_55 20 rfl rfl)
theorem dL_law_1448 : decode cL_law 1448 = .ok (.iaload, 1) := dk_46 (dk_at dksL_law_55 21 rfl rfl)
theorem dL_law_1449 : decode cL_law 1449 = .ok (.aload_n 0, 1) := dk_42 (dk_at dksL_law_55 22 rfl rfl)
theorem dL_law_1450 : decode cL_law 1450 = .ok (.iload_n 3, 1) := dk_29 (dk_at dksL_law_55 23 rfl rfl)
theorem dL_law_1451 : decode cL_law 1451 = .ok (.iconst 4, 1) := dk_7 (dk_at dksL_law_56 0 rfl rfl)
theorem dL_law_1452 : decode cL_law 1452 = .ok (.iadd, 1) := dk_96 (dk_at dksL_law_56 1 rfl rfl)
theorem dL_law_1453 : decode cL_law 1453 = .ok (.iaload, 1) := dk_46 (dk_at dksL_law_56 2 rfl rfl)
theorem dL_law_1454 : decode cL_law 1454 = .ok (.invokevirtual 150, 3) := dk_182 0 150 (dk_at dksL_law_56 3 rfl rfl)
theorem dL_law_1457 : decode cL_law 1457 = .ok (.if_icmp .eq 91, 3) := dk_159 0 91 (dk_at dksL_law_56 6 rfl rfl)
theorem dL_law_1460 : decode cL_law 1460 = .ok (.iconst 0, 1) := dk_3 (dk_at dksL_law_56 9 rfl rfl)
theorem dL_law_1461 : decode cL_law 1461 = .ok (.ireturn, 1) := dk_172 (dk_at dksL_law_56 10 rfl rfl)
theorem dL_law_1462 : decode cL_law 1462 = .ok (.aload_n 1, 1) := dk_43 (dk_at dksL_law_56 11 rfl rfl)
theorem dL_law_1463 : decode cL_law 1463 = .ok (.aload_n 0, 1) := dk_42 (dk_at dksL_law_56 12 rfl rfl)
theorem dL_law_1464 : decode cL_law 1464 = .ok (.iload_n 3, 1) := dk_29 (dk_at dksL_law_56 13 rfl rfl)
theorem dL_law_1465 : decode cL_law 1465 = .ok (.iconst 1, 1) := dk_4 (dk_at dksL_law_56 14 rfl rfl)
theorem dL_law_1466 : decode cL_law 1466 = .ok (.iadd, 1) := dk_96 (dk_at dksL_law_56 15 rfl rfl)
theorem dL_law_1467 : decode cL_law 1467 = .ok (.iaload, 1) := dk_46 (dk_at dksL_law_56 16 rfl rfl)
theorem dL_law_1468 : decode cL_law 1468 = .ok (.aload_n 0, 1) := dk_42 (dk_at dksL_law_56 17 rfl rfl)
theorem dL_law_1469 : decode cL_law 1469 = .ok (.iload_n 3, 1) := dk_29 (dk_at dksL_law_56 18 rfl rfl)
theorem dL_law_1470 : decode cL_law 1470 = .ok (.iconst 2, 1) := dk_5 (dk_at dksL_law_56 19 rfl rfl)
theorem dL_law_1471 : decode cL_law 1471 = .ok (.iadd, 1) := dk_96 (dk_at dksL_law_56 20 rfl rfl)
theorem dL_law_1472 : decode cL_law 1472 = .ok (.iaload, 1) := dk_46 (dk_at dksL_law_56 21 rfl rfl)
theorem dL_law_1473 : decode cL_law 1473 = .ok (.aload_n 0, 1) := dk_42 (dk_at dksL_law_56 22 rfl rfl)
theorem dL_law_1474 : decode cL_law 1474 = .ok (.iload_n 3, 1) := dk_29 (dk_at dksL_law_56 23 rfl rfl)
theorem dL_law_1475 : decode cL_law 1475 = .ok (.iconst 3, 1) := dk_6 (dk_at dksL_law_57 0 rfl rfl)
theorem dL_law_1476 : decode cL_law 1476 = .ok (.iadd, 1) := dk_96 (dk_at dksL_law_57 1 rfl rfl)
theorem dL_law_1477 : decode cL_law 1477 = .ok (.iaload, 1) := dk_46 (dk_at dksL_law_57 2 rfl rfl)
theorem dL_law_1478 : decode cL_law 1478 = .ok (.aload_n 0, 1) := dk_42 (dk_at dksL_law_57 3 rfl rfl)
theorem dL_law_1479 : decode cL_law 1479 = .ok (.iload_n 3, 1) := dk_29 (dk_at dksL_law_57 4 rfl rfl)
theorem dL_law_1480 : decode cL_law 1480 = .ok (.iconst 4, 1) := dk_7 (dk_at dksL_law_57 5 rfl rfl)
theorem dL_law_1481 : decode cL_law 1481 = .ok (.iadd, 1) := dk_96 (dk_at dksL_law_57 6 rfl rfl)
theorem dL_law_1482 : decode cL_law 1482 = .ok (.iaload, 1) := dk_46 (dk_at dksL_law_57 7 rfl rfl)
theorem dL_law_1483 : decode cL_law 1483 = .ok (.aload_n 0, 1) := dk_42 (dk_at dksL_law_57 8 rfl rfl)
theorem dL_law_1484 : decode cL_law 1484 = .ok (.iload_n 3, 1) := dk_29 (dk_at dksL_law_57 9 rfl rfl)
theorem dL_law_1485 : decode cL_law 1485 = .ok (.iconst 5, 1) := dk_8 (dk_at dksL_law_57 10 rfl rfl)
theorem dL_law_1486 : decode cL_law 1486 = .ok (.iadd, 1) := dk_96 (dk_at dksL_law_57 11 rfl rfl)
theorem dL_law_1487 : decode cL_law 1487 = .ok (.iaload, 1) := dk_46 (dk_at dksL_law_57 12 rfl rfl)
theorem dL_law_1488 : decode cL_law 1488 = .ok (.invokevirtual 151, 3) := dk_182 0 151 (dk_at dksL_law_57 13 rfl rfl)
theorem dL_law_1491 : decode cL_law 1491 = .ok (.aload_n 2, 1) := dk_44 (dk_at dksL_law_57 16 rfl rfl)
theorem dL_law_1492 : decode cL_law 1492 = .ok (.aload_n 0, 1) := dk_42 (dk_at dksL_law_57 17 rfl rfl)
theorem dL_law_1493 : decode cL_law 1493 = .ok (.iload_n 3, 1) := dk_29 (dk_at dksL_law_57 18 rfl rfl)
theorem dL_law_1494 : decode cL_law 1494 = .ok (.iconst 1, 1) := dk_4 (dk_at dksL_law_57 19 rfl rfl)
theorem dL_law_1495 : decode cL_law 1495 = .ok (.iadd, 1) := dk_96 (dk_at dksL_law_57 20 rfl rfl)
theorem dL_law_1496 : decode cL_law 1496 = .ok (.iaload, 1) := dk_46 (dk_at dksL_law_57 21 rfl rfl)
theorem dL_law_1497 : decode cL_law 1497 = .ok (.aload_n 0, 1) := dk_42 (dk_at dksL_law_57 22 rfl rfl)
theorem dL_law_1498 : decode cL_law 1498 = .ok (.iload_n 3, 1) := dk_29 (dk_at dksL_law_57 23 rfl rfl)
theorem dL_law_1499 : decode cL_law 1499 = .ok (.iconst 2, 1) := dk_5 (dk_at dksL_law_58 0 rfl rfl)
theorem dL_law_1500 : decode cL_law 1500 = .ok (.iadd, 1) := dk_96 (dk_at dksL_law_58 1 rfl rfl)
theorem dL_law_1501 : decode cL_law 1501 = .ok (.iaload, 1) := dk_46 (dk_at dksL_law_58 2 rfl rfl)
theorem dL_law_1502 : decode cL_law 1502 = .ok (.aload_n 0, 1) := dk_42 (dk_at dksL_law_58 3 rfl rfl)
theorem dL_law_1503 : decode cL_law 1503 = .ok (.iload_n 3, 1) := dk_29 (dk_at dksL_law_58 4 rfl rfl)
theorem dL_law_1504 : decode cL_law 1504 = .ok (.iconst 3, 1) := dk_6 (dk_at dksL_law_58 5 rfl rfl)
theorem dL_law_1505 : decode cL_law 1505 = .ok (.iadd, 1) := dk_96 (dk_at dksL_law_58 6 rfl rfl)
theorem dL_law_1506 : decode cL_law 1506 = .ok (.iaload, 1) := dk_46 (dk_at dksL_law_58 7 rfl rfl)
theorem dL_law_1507 : decode cL_law 1507 = .ok (.aload_n 0, 1) := dk_42 (dk_at dksL_law_58 8 rfl rfl)
theorem dL_law_1508 : decode cL_law 1508 = .ok (.iload_n 3, 1) := dk_29 (dk_at dksL_law_58 9 rfl rfl)
theorem dL_law_1509 : decode cL_law 1509 = .ok (.iconst 4, 1) := dk_7 (dk_at dksL_law_58 10 rfl rfl)
theorem dL_law_1510 : decode cL_law 1510 = .ok (.iadd, 1) := dk_96 (dk_at dksL_law_58 11 rfl rfl)
theorem dL_law_1511 : decode cL_law 1511 = .ok (.iaload, 1) := dk_46 (dk_at dksL_law_58 12 rfl rfl)
theorem dL_law_1512 : decode cL_law 1512 = .ok (.aload_n 0, 1) := dk_42 (dk_at dksL_law_58 13 rfl rfl)
theorem dL_law_1513 : decode cL_law 1513 = .ok (.iload_n 3, 1) := dk_29 (dk_at dksL_law_58 14 rfl rfl)
theorem dL_law_1514 : decode cL_law 1514 = .ok (.iconst 5, 1) := dk_8 (dk_at dksL_law_58 15 rfl rfl)
theorem dL_law_1515 : decode cL_law 1515 = .ok (.iadd, 1) := dk_96 (dk_at dksL_law_58 16 rfl rfl)
theorem dL_law_1516 : decode cL_law 1516 = .ok (.iaload, 1) := dk_46 (dk_at dksL_law_58 17 rfl rfl)
theorem dL_law_1517 : decode cL_law 1517 = .ok (.invokevirtual 154, 3) := dk_182 0 154 (dk_at dksL_law_58 18 rfl rfl)
theorem dL_law_1520 : decode cL_law 1520 = .ok (.if_icmp .eq 28, 3) := dk_159 0 28 (dk_at dksL_law_58 21 rfl rfl)
theorem dL_law_1523 : decode cL_law 1523 = .ok (.iconst 0, 1) := dk_3 (dk_at dksL_law_59 0 rfl rfl)
theorem dL_law_1524 : decode cL_law 1524 = .ok (.ireturn, 1) := dk_172 (dk_at dksL_law_59 1 rfl rfl)
theorem dL_law_1525 : decode cL_law 1525 = .ok (.aload_n 1, 1) := dk_43 (dk_at dksL_law_59 2 rfl rfl)
theorem dL_law_1526 : decode cL_law 1526 = .ok (.aload_n 0, 1) := dk_42 (dk_at dksL_law_59 3 rfl rfl)
theorem dL_law_1527 : decode cL_law 1527 = .ok (.iload_n 3, 1) := dk_29 (dk_at dksL_law_59 4 rfl rfl)
theorem dL_law_1528 : decode cL_law 1528 = .ok (.iconst 1, 1) := dk_4 (dk_at dksL_law_59 5 rfl rfl)
theorem dL_law_1529 : decode cL_law 1529 = .ok (.iadd, 1) := dk_96 (dk_at dksL_law_59 6 rfl rfl)
theorem dL_law_1530 : decode cL_law 1530 = .ok (.iaload, 1) := dk_46 (dk_at dksL_law_59 7 rfl rfl)
theorem dL_law_1531 : decode cL_law 1531 = .ok (.invokevirtual 155, 3) := dk_182 0 155 (dk_at dksL_law_59 8 rfl rfl)
theorem dL_law_1534 : decode cL_law 1534 = .ok (.aload_n 2, 1) := dk_44 (dk_at dksL_law_59 11 rfl rfl)
theorem dL_law_1535 : decode cL_law 1535 = .ok (.aload_n 0, 1) := dk_42 (dk_at dksL_law_59 12 rfl rfl)
theorem dL_law_1536 : decode cL_law 1536 = .ok (.iload_n 3, 1) := dk_29 (dk_at dksL_law_59 13 rfl rfl)
theorem dL_law_1537 : decode cL_law 1537 = .ok (.iconst 1, 1) := dk_4 (dk_at dksL_law_59 14 rfl rfl)
theorem dL_law_1538 : decode cL_law 1538 = .ok (.iadd, 1) := dk_96 (dk_at dksL_law_59 15 rfl rfl)
theorem dL_law_1539 : decode cL_law 1539 = .ok (.iaload, 1) := dk_46 (dk_at dksL_law_59 16 rfl rfl)
theorem dL_law_1540 : decode cL_law 1540 = .ok (.invokevirtual 158, 3) := dk_182 0 158 (dk_at dksL_law_59 17 rfl rfl)
theorem dL_law_1543 : decode cL_law 1543 = .ok (.if_icmp .eq 5, 3) := dk_159 0 5 (dk_at dksL_law_59 20 rfl rfl)
theorem dL_law_1546 : decode cL_law 1546 = .ok (.iconst 0, 1) := dk_3 (dk_at dksL_law_59 23 rfl rfl)
theorem dL_law_1547 : decode cL_law 1547 = .ok (.ireturn, 1) := dk_172 (dk_at dksL_law_60 0 rfl rfl)
theorem dL_law_1548 : decode cL_law 1548 = .ok (.iinc 3 8, 3) := dk_132 3 8 (dk_at dksL_law_60 1 rfl rfl)
theorem dL_law_1551 : decode cL_law 1551 = .ok (.goto (-1533), 3) := dk_167 250 3 (dk_at dksL_law_60 4 rfl rfl)
theorem dL_law_1554 : decode cL_law 1554 = .ok (.iconst 1, 1) := dk_4 (dk_at dksL_law_60 7 rfl rfl)
theorem dL_law_1555 : decode cL_law 1555 = .ok (.ireturn, 1) := dk_172 (dk_at dksL_law_60 8 rfl rfl)
