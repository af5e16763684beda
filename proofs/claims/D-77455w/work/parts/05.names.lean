/-! PluralBranchesModel -/
set_option maxRecDepth 100000
def RX9 : String := "PluralBranchesModel"
def TX9 : u_T := fun k => match k with
  | 0 => ("PluralBranchesModel", "conditions", "I", false)
  | 1 => ("PluralBranchesModel", "forWhich", "[I", true)
  | 2 => ("PluralBranchesModel", "ofWhat", "[I", true)
  | 3 => ("PluralBranchesModel", "by", "[I", true)
  | 4 => ("PluralBranchesModel", "lows", "[I", true)
  | 5 => ("PluralBranchesModel", "highs", "[I", true)
  | 6 => ("PluralBranchesModel", "nots", "[I", true)
  | 7 => ("PluralBranchesModel", "tape", "[I", true)
  | 8 => ("PluralBranchesModel", "taped", "I", false)
  | 9 => ("PluralBranchesModel", "sizes", "[I", true)
  | 10 => ("PluralBranchesModel", "texts", "[I", true)
  | 11 => ("PluralBranchesModel", "parts", "[I", true)
  | 12 => ("PluralBranchesModel", "choices", "[I", true)
  | 13 => ("PluralBranchesModel", "deeps", "[I", true)
  | 14 => ("PluralBranchesModel", "usedSets", "[I", true)
  | 15 => ("PluralBranchesModel", "types", "[I", true)
  | 16 => ("PluralBranchesModel", "choiceArguments", "[I", true)
  | 17 => ("PluralBranchesModel", "choiceKinds", "[I", true)
  | 18 => ("PluralBranchesModel", "choiceAround", "[I", true)
  | 19 => ("PluralBranchesModel", "branchMany", "[I", true)
  | 20 => ("PluralBranchesModel", "branchKeys", "[I", true)
  | 21 => ("PluralBranchesModel", "branchBegins", "[I", true)
  | 22 => ("PluralBranchesModel", "choicePlaces", "[I", true)
  | 23 => ("PluralBranchesModel", "at", "I", false)
  | 24 => ("PluralBranchesModel", "readParts", "I", false)
  | 25 => ("PluralBranchesModel", "readChoices", "I", false)
  | 26 => ("PluralBranchesModel", "readDeep", "I", false)
  | 27 => ("PluralBranchesModel", "readUsed", "I", false)
  | 28 => ("PluralBranchesModel", "wrong", "I", false)
  | 29 => ("PluralBranchesModel", "readTypes", "[I", true)
  | 30 => ("PluralBranchesModel", "readArguments", "[I", true)
  | 31 => ("PluralBranchesModel", "readKinds", "[I", true)
  | 32 => ("PluralBranchesModel", "readAround", "[I", true)
  | 33 => ("PluralBranchesModel", "readMany", "[I", true)
  | 34 => ("PluralBranchesModel", "readKeys", "[I", true)
  | 35 => ("PluralBranchesModel", "readBegins", "[I", true)
  | 36 => ("PluralBranchesModel", "readPlaces", "[I", true)
  | 37 => ("PluralBranchesModel", "grouped", "I", false)
  | 38 => ("PluralBranchesModel", "whole", "I", false)
  | 39 => ("PluralBranchesModel", "least", "I", false)
  | 40 => ("PluralBranchesModel", "most", "I", false)
  | 41 => ("PluralBranchesModel", "holding", "[I", true)
  | 42 => ("PluralBranchesModel", "firsts", "[I", true)
  | 43 => ("PluralBranchesModel", "scales", "[I", true)
  | 44 => ("PluralBranchesModel", "ints", "[I", true)
  | 45 => ("PluralBranchesModel", "output", "[I", true)
  | 46 => ("PluralBranchesModel", "outputSize", "I", false)
  | 47 => ("PluralBranchesModel", "written", "[I", true)
  | 48 => ("PluralBranchesModel", "writtenSize", "I", false)
  | 49 => ("PluralBranchesModel", "language0", "I", false)
  | 50 => ("PluralBranchesModel", "ended", "I", false)
  | 51 => ("PluralBranchesModel", "rowSizes", "[I", true)
  | 52 => ("PluralBranchesModel", "sorts", "[I", true)
  | 53 => ("PluralBranchesModel", "floats", "[F", true)
  | 54 => ("PluralBranchesModel", "doubles", "[D", true)
  | _ => ("PluralBranchesModel", "longs", "[J", true)
def tyX9 : Nat → FieldType := fun k => match k with
  | 0 => .int
  | 1 => .array .int
  | 2 => .array .int
  | 3 => .array .int
  | 4 => .array .int
  | 5 => .array .int
  | 6 => .array .int
  | 7 => .array .int
  | 8 => .int
  | 9 => .array .int
  | 10 => .array .int
  | 11 => .array .int
  | 12 => .array .int
  | 13 => .array .int
  | 14 => .array .int
  | 15 => .array .int
  | 16 => .array .int
  | 17 => .array .int
  | 18 => .array .int
  | 19 => .array .int
  | 20 => .array .int
  | 21 => .array .int
  | 22 => .array .int
  | 23 => .int
  | 24 => .int
  | 25 => .int
  | 26 => .int
  | 27 => .int
  | 28 => .int
  | 29 => .array .int
  | 30 => .array .int
  | 31 => .array .int
  | 32 => .array .int
  | 33 => .array .int
  | 34 => .array .int
  | 35 => .array .int
  | 36 => .array .int
  | 37 => .int
  | 38 => .int
  | 39 => .int
  | 40 => .int
  | 41 => .array .int
  | 42 => .array .int
  | 43 => .array .int
  | 44 => .array .int
  | 45 => .array .int
  | 46 => .int
  | 47 => .array .int
  | 48 => .int
  | 49 => .int
  | 50 => .int
  | 51 => .array .int
  | 52 => .array .int
  | 53 => .array .float
  | 54 => .array .double
  | _ => .array .long
abbrev wsX90 : List Cond := u_ws RX9 TX9 56
set_option maxRecDepth 100000 in
theorem nmX9 : ∀ a, a < 56 → ∀ b, b < 56 → a ≠ b → (TX9 a).2.1 ≠ (TX9 b).2.1 := by decide +kernel
set_option maxRecDepth 100000 in
theorem tyX9_ok : ∀ k, k < 56 → parseFieldDescriptor (TX9 k).2.2.1 = some (tyX9 k) := by decide +kernel
abbrev cX9_init : ByteArray := prog_31_method_1_code
def yX9_init : MethodName := ⟨RX9, "<init>", "()V"⟩
def dkwX9_init_15 : List UInt8 := [132, 1, 1, 167, 255, 241, 177]
abbrev dktX9_init_15 : List UInt8 := dkwX9_init_15 ++ []
def dkwX9_init_14 : List UInt8 := [27, 2, 79, 132, 1, 1, 167, 255, 241, 3, 60, 27, 7, 162, 0, 16, 42, 180, 0, 33, 27, 2, 79]
abbrev dktX9_init_14 : List UInt8 := dkwX9_init_14 ++ dktX9_init_15
def dkwX9_init_13 : List UInt8 := [188, 7, 181, 0, 127, 42, 16, 90, 188, 11, 181, 0, 131, 3, 60, 27, 6, 162, 0, 16, 42, 180, 0, 117]
abbrev dktX9_init_13 : List UInt8 := dkwX9_init_13 ++ dktX9_init_14
def dkwX9_init_12 : List UInt8 := [188, 10, 181, 0, 117, 42, 6, 188, 10, 181, 0, 120, 42, 16, 90, 188, 6, 181, 0, 123, 42, 16, 90]
abbrev dktX9_init_12 : List UInt8 := dkwX9_init_12 ++ dktX9_init_13
def dkwX9_init_11 : List UInt8 := [181, 0, 108, 42, 17, 0, 240, 188, 10, 181, 0, 111, 42, 17, 2, 88, 188, 10, 181, 0, 114, 42, 6]
abbrev dktX9_init_11 : List UInt8 := dkwX9_init_11 ++ dktX9_init_12
def dkwX9_init_10 : List UInt8 := [188, 10, 181, 0, 99, 42, 8, 188, 10, 181, 0, 102, 42, 8, 188, 10, 181, 0, 105, 42, 16, 30, 188, 10]
abbrev dktX9_init_10 : List UInt8 := dkwX9_init_10 ++ dktX9_init_11
def dkwX9_init_9 : List UInt8 := [188, 10, 181, 0, 90, 42, 16, 80, 188, 10, 181, 0, 93, 42, 16, 8, 188, 10, 181, 0, 96, 42, 8]
abbrev dktX9_init_9 : List UInt8 := dkwX9_init_9 ++ dktX9_init_10
def dkwX9_init_8 : List UInt8 := [188, 10, 181, 0, 81, 42, 16, 8, 188, 10, 181, 0, 84, 42, 16, 8, 188, 10, 181, 0, 87, 42, 16, 80]
abbrev dktX9_init_8 : List UInt8 := dkwX9_init_8 ++ dktX9_init_9
def dkwX9_init_7 : List UInt8 := [188, 10, 181, 0, 72, 42, 8, 188, 10, 181, 0, 75, 42, 16, 8, 188, 10, 181, 0, 78, 42, 16, 8]
abbrev dktX9_init_7 : List UInt8 := dkwX9_init_7 ++ dktX9_init_8
def dkwX9_init_6 : List UInt8 := [181, 0, 63, 42, 17, 1, 64, 188, 10, 181, 0, 66, 42, 17, 1, 64, 188, 10, 181, 0, 69, 42, 16, 32]
abbrev dktX9_init_6 : List UInt8 := dkwX9_init_6 ++ dktX9_init_7
def dkwX9_init_5 : List UInt8 := [181, 0, 54, 42, 16, 32, 188, 10, 181, 0, 57, 42, 16, 32, 188, 10, 181, 0, 60, 42, 16, 32, 188, 10]
abbrev dktX9_init_5 : List UInt8 := dkwX9_init_5 ++ dktX9_init_6
def dkwX9_init_4 : List UInt8 := [181, 0, 45, 42, 7, 188, 10, 181, 0, 48, 42, 16, 20, 188, 10, 181, 0, 51, 42, 16, 32, 188, 10]
abbrev dktX9_init_4 : List UInt8 := dkwX9_init_4 ++ dktX9_init_5
def dkwX9_init_3 : List UInt8 := [188, 10, 181, 0, 36, 42, 7, 188, 10, 181, 0, 39, 42, 7, 188, 10, 181, 0, 42, 42, 7, 188, 10]
abbrev dktX9_init_3 : List UInt8 := dkwX9_init_3 ++ dktX9_init_4
def dkwX9_init_2 : List UInt8 := [188, 10, 181, 0, 27, 42, 16, 120, 188, 10, 181, 0, 30, 42, 7, 188, 10, 181, 0, 33, 42, 17, 1, 224]
abbrev dktX9_init_2 : List UInt8 := dkwX9_init_2 ++ dktX9_init_3
def dkwX9_init_1 : List UInt8 := [188, 10, 181, 0, 18, 42, 16, 12, 188, 10, 181, 0, 21, 42, 16, 12, 188, 10, 181, 0, 24, 42, 16, 12]
abbrev dktX9_init_1 : List UInt8 := dkwX9_init_1 ++ dktX9_init_2
def dkwX9_init_0 : List UInt8 := [42, 183, 0, 3, 42, 16, 12, 188, 10, 181, 0, 9, 42, 16, 12, 188, 10, 181, 0, 15, 42, 16, 12]
abbrev dktX9_init_0 : List UInt8 := dkwX9_init_0 ++ dktX9_init_1
theorem dksX9_init_0 : cX9_init.data.toList.drop 0 = dktX9_init_0 := by decide +kernel
theorem dksX9_init_1 : cX9_init.data.toList.drop 23 = dktX9_init_1 := dk_seg dksX9_init_0 23 rfl rfl
theorem dksX9_init_2 : cX9_init.data.toList.drop 47 = dktX9_init_2 := dk_seg dksX9_init_1 24 rfl rfl
theorem dksX9_init_3 : cX9_init.data.toList.drop 71 = dktX9_init_3 := dk_seg dksX9_init_2 24 rfl rfl
theorem dksX9_init_4 : cX9_init.data.toList.drop 94 = dktX9_init_4 := dk_seg dksX9_init_3 23 rfl rfl
theorem dksX9_init_5 : cX9_init.data.toList.drop 117 = dktX9_init_5 := dk_seg dksX9_init_4 23 rfl rfl
theorem dksX9_init_6 : cX9_init.data.toList.drop 141 = dktX9_init_6 := dk_seg dksX9_init_5 24 rfl rfl
theorem dksX9_init_7 : cX9_init.data.toList.drop 165 = dktX9_init_7 := dk_seg dksX9_init_6 24 rfl rfl
theorem dksX9_init_8 : cX9_init.data.toList.drop 188 = dktX9_init_8 := dk_seg dksX9_init_7 23 rfl rfl
theorem dksX9_init_9 : cX9_init.data.toList.drop 212 = dktX9_init_9 := dk_seg dksX9_init_8 24 rfl rfl
theorem dksX9_init_10 : cX9_init.data.toList.drop 235 = dktX9_init_10 := dk_seg dksX9_init_9 23 rfl rfl
theorem dksX9_init_11 : cX9_init.data.toList.drop 259 = dktX9_init_11 := dk_seg dksX9_init_10 24 rfl rfl
theorem dksX9_init_12 : cX9_init.data.toList.drop 282 = dktX9_init_12 := dk_seg dksX9_init_11 23 rfl rfl
theorem dksX9_init_13 : cX9_init.data.toList.drop 305 = dktX9_init_13 := dk_seg dksX9_init_12 23 rfl rfl
theorem dksX9_init_14 : cX9_init.data.toList.drop 329 = dktX9_init_14 := dk_seg dksX9_init_13 24 rfl rfl
theorem dksX9_init_15 : cX9_init.data.toList.drop 352 = dktX9_init_15 := dk_seg dksX9_init_14 23 rfl rfl
theorem dX9_init_0 : decode cX9_init 0 = .ok (.aload_n 0, 1) := dk_42 (dk_at dksX9_init_0 0 rfl rfl)
theorem dX9_init_1 : decode cX9_init 1 = .ok (.invokespecial 3, 3) := dk_183 0 3 (dk_at dksX9_init_0 1 rfl rfl)
theorem dX9_init_4 : decode cX9_init 4 = .ok (.aload_n 0, 1) := dk_42 (dk_at dksX9_init_0 4 rfl rfl)
theorem dX9_init_5 : decode cX9_init 5 = .ok (.bipush 12, 2) := dk_16 12 (dk_at dksX9_init_0 5 rfl rfl)
theorem dX9_init_7 : decode cX9_init 7 = .ok (.newarray .int, 2) := dk_188_10 (dk_at dksX9_init_0 7 rfl rfl)
theorem dX9_init_9 : decode cX9_init 9 = .ok (.putfield 9, 3) := dk_181 0 9 (dk_at dksX9_init_0 9 rfl rfl)
theorem dX9_init_12 : decode cX9_init 12 = .ok (.aload_n 0, 1) := dk_42 (dk_at dksX9_init_0 12 rfl rfl)
theorem dX9_init_13 : decode cX9_init 13 = .ok (.bipush 12, 2) := dk_16 12 (dk_at dksX9_init_0 13 rfl rfl)
theorem dX9_init_15 : decode cX9_init 15 = .ok (.newarray .int, 2) := dk_188_10 (dk_at dksX9_init_0 15 rfl rfl)
theorem dX9_init_17 : decode cX9_init 17 = .ok (.putfield 15, 3) := dk_181 0 15 (dk_at dksX9_init_0 17 rfl rfl)
theorem dX9_init_20 : decode cX9_init 20 = .ok (.aload_n 0, 1) := dk_42 (dk_at dksX9_init_0 20 rfl rfl)
theorem dX9_init_21 : decode cX9_init 21 = .ok (.bipush 12, 2) := dk_16 12 (dk_at dksX9_init_0 21 rfl rfl)
theorem dX9_init_23 : decode cX9_init 23 = .ok (.newarray .int, 2) := dk_188_10 (dk_at dksX9_init_1 0 rfl rfl)
theorem dX9_init_25 : decode cX9_init 25 = .ok (.putfield 18, 3) := dk_181 0 18 (dk_at dksX9_init_1 2 rfl rfl)
theorem dX9_init_28 : decode cX9_init 28 = .ok (.aload_n 0, 1) := dk_42 (dk_at dksX9_init_1 5 rfl rfl)
theorem dX9_init_29 : decode cX9_init 29 = .ok (.bipush 12, 2) := dk_16 12 (dk_at dksX9_init_1 6 rfl rfl)
theorem dX9_init_31 : decode cX9_init 31 = .ok (.newarray .int, 2) := dk_188_10 (dk_at dksX9_init_1 8 rfl rfl)
theorem dX9_init_33 : decode cX9_init 33 = .ok (.putfield 21, 3) := dk_181 0 21 (dk_at dksX9_init_1 10 rfl rfl)
theorem dX9_init_36 : decode cX9_init 36 = .ok (.aload_n 0, 1) := dk_42 (dk_at dksX9_init_1 13 rfl rfl)
theorem dX9_init_37 : decode cX9_init 37 = .ok (.bipush 12, 2) := dk_16 12 (dk_at dksX9_init_1 14 rfl rfl)
theorem dX9_init_39 : decode cX9_init 39 = .ok (.newarray .int, 2) := dk_188_10 (dk_at dksX9_init_1 16 rfl rfl)
theorem dX9_init_41 : decode cX9_init 41 = .ok (.putfield 24, 3) := dk_181 0 24 (dk_at dksX9_init_1 18 rfl rfl)
theorem dX9_init_44 : decode cX9_init 44 = .ok (.aload_n 0, 1) := dk_42 (dk_at dksX9_init_1 21 rfl rfl)
theorem dX9_init_45 : decode cX9_init 45 = .ok (.bipush 12, 2) := dk_16 12 (dk_at dksX9_init_1 22 rfl rfl)
theorem dX9_init_47 : decode cX9_init 47 = .ok (.newarray .int, 2) := dk_188_10 (dk_at dksX9_init_2 0 rfl rfl)
theorem dX9_init_49 : decode cX9_init 49 = .ok (.putfield 27, 3) := dk_181 0 27 (dk_at dksX9_init_2 2 rfl rfl)
theorem dX9_init_52 : decode cX9_init 52 = .ok (.aload_n 0, 1) := dk_42 (dk_at dksX9_init_2 5 rfl rfl)
theorem dX9_init_53 : decode cX9_init 53 = .ok (.bipush 120, 2) := dk_16 120 (dk_at dksX9_init_2 6 rfl rfl)
theorem dX9_init_55 : decode cX9_init 55 = .ok (.newarray .int, 2) := dk_188_10 (dk_at dksX9_init_2 8 rfl rfl)
theorem dX9_init_57 : decode cX9_init 57 = .ok (.putfield 30, 3) := dk_181 0 30 (dk_at dksX9_init_2 10 rfl rfl)
theorem dX9_init_60 : decode cX9_init 60 = .ok (.aload_n 0, 1) := dk_42 (dk_at dksX9_init_2 13 rfl rfl)
theorem dX9_init_61 : decode cX9_init 61 = .ok (.iconst 4, 1) := dk_7 (dk_at dksX9_init_2 14 rfl rfl)
theorem dX9_init_62 : decode cX9_init 62 = .ok (.newarray .int, 2) := dk_188_10 (dk_at dksX9_init_2 15 rfl rfl)
theorem dX9_init_64 : decode cX9_init 64 = .ok (.putfield 33, 3) := dk_181 0 33 (dk_at dksX9_init_2 17 rfl rfl)
theorem dX9_init_67 : decode cX9_init 67 = .ok (.aload_n 0, 1) := dk_42 (dk_at dksX9_init_2 20 rfl rfl)
theorem dX9_init_68 : decode cX9_init 68 = .ok (.sipush 480, 3) := dk_17 1 224 (dk_at dksX9_init_2 21 rfl rfl)
theorem dX9_init_71 : decode cX9_init 71 = .ok (.newarray .int, 2) := dk_188_10 (dk_at dksX9_init_3 0 rfl rfl)
theorem dX9_init_73 : decode cX9_init 73 = .ok (.putfield 36, 3) := dk_181 0 36 (dk_at dksX9_init_3 2 rfl rfl)
theorem dX9_init_76 : decode cX9_init 76 = .ok (.aload_n 0, 1) := dk_42 (dk_at dksX9_init_3 5 rfl rfl)
theorem dX9_init_77 : decode cX9_init 77 = .ok (.iconst 4, 1) := dk_7 (dk_at dksX9_init_3 6 rfl rfl)
theorem dX9_init_78 : decode cX9_init 78 = .ok (.newarray .int, 2) := dk_188_10 (dk_at dksX9_init_3 7 rfl rfl)
theorem dX9_init_80 : decode cX9_init 80 = .ok (.putfield 39, 3) := dk_181 0 39 (dk_at dksX9_init_3 9 rfl rfl)
theorem dX9_init_83 : decode cX9_init 83 = .ok (.aload_n 0, 1) := dk_42 (dk_at dksX9_init_3 12 rfl rfl)
theorem dX9_init_84 : decode cX9_init 84 = .ok (.iconst 4, 1) := dk_7 (dk_at dksX9_init_3 13 rfl rfl)
theorem dX9_init_85 : decode cX9_init 85 = .ok (.newarray .int, 2) := dk_188_10 (dk_at dksX9_init_3 14 rfl rfl)
theorem dX9_init_87 : decode cX9_init 87 = .ok (.putfield 42, 3) := dk_181 0 42 (dk_at dksX9_init_3 16 rfl rfl)
theorem dX9_init_90 : decode cX9_init 90 = .ok (.aload_n 0, 1) := dk_42 (dk_at dksX9_init_3 19 rfl rfl)
theorem dX9_init_91 : decode cX9_init 91 = .ok (.iconst 4, 1) := dk_7 (dk_at dksX9_init_3 20 rfl rfl)
theorem dX9_init_92 : decode cX9_init 92 = .ok (.newarray .int, 2) := dk_188_10 (dk_at dksX9_init_3 21 rfl rfl)
theorem dX9_init_94 : decode cX9_init 94 = .ok (.putfield 45, 3) := dk_181 0 45 (dk_at dksX9_init_4 0 rfl rfl)
theorem dX9_init_97 : decode cX9_init 97 = .ok (.aload_n 0, 1) := dk_42 (dk_at dksX9_init_4 3 rfl rfl)
theorem dX9_init_98 : decode cX9_init 98 = .ok (.iconst 4, 1) := dk_7 (dk_at dksX9_init_4 4 rfl rfl)
theorem dX9_init_99 : decode cX9_init 99 = .ok (.newarray .int, 2) := dk_188_10 (dk_at dksX9_init_4 5 rfl rfl)
theorem dX9_init_101 : decode cX9_init 101 = .ok (.putfield 48, 3) := dk_181 0 48 (dk_at dksX9_init_4 7 rfl rfl)
theorem dX9_init_104 : decode cX9_init 104 = .ok (.aload_n 0, 1) := dk_42 (dk_at dksX9_init_4 10 rfl rfl)
theorem dX9_init_105 : decode cX9_init 105 = .ok (.bipush 20, 2) := dk_16 20 (dk_at dksX9_init_4 11 rfl rfl)
theorem dX9_init_107 : decode cX9_init 107 = .ok (.newarray .int, 2) := dk_188_10 (dk_at dksX9_init_4 13 rfl rfl)
theorem dX9_init_109 : decode cX9_init 109 = .ok (.putfield 51, 3) := dk_181 0 51 (dk_at dksX9_init_4 15 rfl rfl)
theorem dX9_init_112 : decode cX9_init 112 = .ok (.aload_n 0, 1) := dk_42 (dk_at dksX9_init_4 18 rfl rfl)
theorem dX9_init_113 : decode cX9_init 113 = .ok (.bipush 32, 2) := dk_16 32 (dk_at dksX9_init_4 19 rfl rfl)
theorem dX9_init_115 : decode cX9_init 115 = .ok (.newarray .int, 2) := dk_188_10 (dk_at dksX9_init_4 21 rfl rfl)
theorem dX9_init_117 : decode cX9_init 117 = .ok (.putfield 54, 3) := dk_181 0 54 (dk_at dksX9_init_5 0 rfl rfl)
theorem dX9_init_120 : decode cX9_init 120 = .ok (.aload_n 0, 1) := dk_42 (dk_at dksX9_init_5 3 rfl rfl)
theorem dX9_init_121 : decode cX9_init 121 = .ok (.bipush 32, 2) := dk_16 32 (dk_at dksX9_init_5 4 rfl rfl)
theorem dX9_init_123 : decode cX9_init 123 = .ok (.newarray .int, 2) := dk_188_10 (dk_at dksX9_init_5 6 rfl rfl)
theorem dX9_init_125 : decode cX9_init 125 = .ok (.putfield 57, 3) := dk_181 0 57 (dk_at dksX9_init_5 8 rfl rfl)
theorem dX9_init_128 : decode cX9_init 128 = .ok (.aload_n 0, 1) := dk_42 (dk_at dksX9_init_5 11 rfl rfl)
theorem dX9_init_129 : decode cX9_init 129 = .ok (.bipush 32, 2) := dk_16 32 (dk_at dksX9_init_5 12 rfl rfl)
theorem dX9_init_131 : decode cX9_init 131 = .ok (.newarray .int, 2) := dk_188_10 (dk_at dksX9_init_5 14 rfl rfl)
theorem dX9_init_133 : decode cX9_init 133 = .ok (.putfield 60, 3) := dk_181 0 60 (dk_at dksX9_init_5 16 rfl rfl)
theorem dX9_init_136 : decode cX9_init 136 = .ok (.aload_n 0, 1) := dk_42 (dk_at dksX9_init_5 19 rfl rfl)
theorem dX9_init_137 : decode cX9_init 137 = .ok (.bipush 32, 2) := dk_16 32 (dk_at dksX9_init_5 20 rfl rfl)
theorem dX9_init_139 : decode cX9_init 139 = .ok (.newarray .int, 2) := dk_188_10 (dk_at dksX9_init_5 22 rfl rfl)
theorem dX9_init_141 : decode cX9_init 141 = .ok (.putfield 63, 3) := dk_181 0 63 (dk_at dksX9_init_6 0 rfl rfl)
theorem dX9_init_144 : decode cX9_init 144 = .ok (.aload_n 0, 1) := dk_42 (dk_at dksX9_init_6 3 rfl rfl)
theorem dX9_init_145 : decode cX9_init 145 = .ok (.sipush 320, 3) := dk_17 1 64 (dk_at dksX9_init_6 4 rfl rfl)
theorem dX9_init_148 : decode cX9_init 148 = .ok (.newarray .int, 2) := dk_188_10 (dk_at dksX9_init_6 7 rfl rfl)
theorem dX9_init_150 : decode cX9_init 150 = .ok (.putfield 66, 3) := dk_181 0 66 (dk_at dksX9_init_6 9 rfl rfl)
theorem dX9_init_153 : decode cX9_init 153 = .ok (.aload_n 0, 1) := dk_42 (dk_at dksX9_init_6 12 rfl rfl)
theorem dX9_init_154 : decode cX9_init 154 = .ok (.sipush 320, 3) := dk_17 1 64 (dk_at dksX9_init_6 13 rfl rfl)
theorem dX9_init_157 : decode cX9_init 157 = .ok (.newarray .int, 2) := dk_188_10 (dk_at dksX9_init_6 16 rfl rfl)
theorem dX9_init_159 : decode cX9_init 159 = .ok (.putfield 69, 3) := dk_181 0 69 (dk_at dksX9_init_6 18 rfl rfl)
theorem dX9_init_162 : decode cX9_init 162 = .ok (.aload_n 0, 1) := dk_42 (dk_at dksX9_init_6 21 rfl rfl)
theorem dX9_init_163 : decode cX9_init 163 = .ok (.bipush 32, 2) := dk_16 32 (dk_at dksX9_init_6 22 rfl rfl)
theorem dX9_init_165 : decode cX9_init 165 = .ok (.newarray .int, 2) := dk_188_10 (dk_at dksX9_init_7 0 rfl rfl)
theorem dX9_init_167 : decode cX9_init 167 = .ok (.putfield 72, 3) := dk_181 0 72 (dk_at dksX9_init_7 2 rfl rfl)
theorem dX9_init_170 : decode cX9_init 170 = .ok (.aload_n 0, 1) := dk_42 (dk_at dksX9_init_7 5 rfl rfl)
theorem dX9_init_171 : decode cX9_init 171 = .ok (.iconst 5, 1) := dk_8 (dk_at dksX9_init_7 6 rfl rfl)
theorem dX9_init_172 : decode cX9_init 172 = .ok (.newarray .int, 2) := dk_188_10 (dk_at dksX9_init_7 7 rfl rfl)
theorem dX9_init_174 : decode cX9_init 174 = .ok (.putfield 75, 3) := dk_181 0 75 (dk_at dksX9_init_7 9 rfl rfl)
theorem dX9_init_177 : decode cX9_init 177 = .ok (.aload_n 0, 1) := dk_42 (dk_at dksX9_init_7 12 rfl rfl)
theorem dX9_init_178 : decode cX9_init 178 = .ok (.bipush 8, 2) := dk_16 8 (dk_at dksX9_init_7 13 rfl rfl)
theorem dX9_init_180 : decode cX9_init 180 = .ok (.newarray .int, 2) := dk_188_10 (dk_at dksX9_init_7 15 rfl rfl)
theorem dX9_init_182 : decode cX9_init 182 = .ok (.putfield 78, 3) := dk_181 0 78 (dk_at dksX9_init_7 17 rfl rfl)
theorem dX9_init_185 : decode cX9_init 185 = .ok (.aload_n 0, 1) := dk_42 (dk_at dksX9_init_7 20 rfl rfl)
theorem dX9_init_186 : decode cX9_init 186 = .ok (.bipush 8, 2) := dk_16 8 (dk_at dksX9_init_7 21 rfl rfl)
theorem dX9_init_188 : decode cX9_init 188 = .ok (.newarray .int, 2) := dk_188_10 (dk_at dksX9_init_8 0 rfl rfl)
theorem dX9_init_190 : decode cX9_init 190 = .ok (.putfield 81, 3) := dk_181 0 81 (dk_at dksX9_init_8 2 rfl rfl)
theorem dX9_init_193 : decode cX9_init 193 = .ok (.aload_n 0, 1) := dk_42 (dk_at dksX9_init_8 5 rfl rfl)
theorem dX9_init_194 : decode cX9_init 194 = .ok (.bipush 8, 2) := dk_16 8 (dk_at dksX9_init_8 6 rfl rfl)
theorem dX9_init_196 : decode cX9_init 196 = .ok (.newarray .int, 2) := dk_188_10 (dk_at dksX9_init_8 8 rfl rfl)
theorem dX9_init_198 : decode cX9_init 198 = .ok (.putfield 84, 3) := dk_181 0 84 (dk_at dksX9_init_8 10 rfl rfl)
theorem dX9_init_201 : decode cX9_init 201 = .ok (.aload_n 0, 1) := dk_42 (dk_at dksX9_init_8 13 rfl rfl)
theorem dX9_init_202 : decode cX9_init 202 = .ok (.bipush 8, 2) := dk_16 8 (dk_at dksX9_init_8 14 rfl rfl)
theorem dX9_init_204 : decode cX9_init 204 = .ok (.newarray .int, 2) := dk_188_10 (dk_at dksX9_init_8 16 rfl rfl)
theorem dX9_init_206 : decode cX9_init 206 = .ok (.putfield 87, 3) := dk_181 0 87 (dk_at dksX9_init_8 18 rfl rfl)
theorem dX9_init_209 : decode cX9_init 209 = .ok (.aload_n 0, 1) := dk_42 (dk_at dksX9_init_8 21 rfl rfl)
theorem dX9_init_210 : decode cX9_init 210 = .ok (.bipush 80, 2) := dk_16 80 (dk_at dksX9_init_8 22 rfl rfl)
theorem dX9_init_212 : decode cX9_init 212 = .ok (.newarray .int, 2) := dk_188_10 (dk_at dksX9_init_9 0 rfl rfl)
theorem dX9_init_214 : decode cX9_init 214 = .ok (.putfield 90, 3) := dk_181 0 90 (dk_at dksX9_init_9 2 rfl rfl)
theorem dX9_init_217 : decode cX9_init 217 = .ok (.aload_n 0, 1) := dk_42 (dk_at dksX9_init_9 5 rfl rfl)
theorem dX9_init_218 : decode cX9_init 218 = .ok (.bipush 80, 2) := dk_16 80 (dk_at dksX9_init_9 6 rfl rfl)
theorem dX9_init_220 : decode cX9_init 220 = .ok (.newarray .int, 2) := dk_188_10 (dk_at dksX9_init_9 8 rfl rfl)
theorem dX9_init_222 : decode cX9_init 222 = .ok (.putfield 93, 3) := dk_181 0 93 (dk_at dksX9_init_9 10 rfl rfl)
theorem dX9_init_225 : decode cX9_init 225 = .ok (.aload_n 0, 1) := dk_42 (dk_at dksX9_init_9 13 rfl rfl)
theorem dX9_init_226 : decode cX9_init 226 = .ok (.bipush 8, 2) := dk_16 8 (dk_at dksX9_init_9 14 rfl rfl)
theorem dX9_init_228 : decode cX9_init 228 = .ok (.newarray .int, 2) := dk_188_10 (dk_at dksX9_init_9 16 rfl rfl)
theorem dX9_init_230 : decode cX9_init 230 = .ok (.putfield 96, 3) := dk_181 0 96 (dk_at dksX9_init_9 18 rfl rfl)
theorem dX9_init_233 : decode cX9_init 233 = .ok (.aload_n 0, 1) := dk_42 (dk_at dksX9_init_9 21 rfl rfl)
theorem dX9_init_234 : decode cX9_init 234 = .ok (.iconst 5, 1) := dk_8 (dk_at dksX9_init_9 22 rfl rfl)
theorem dX9_init_235 : decode cX9_init 235 = .ok (.newarray .int, 2) := dk_188_10 (dk_at dksX9_init_10 0 rfl rfl)
theorem dX9_init_237 : decode cX9_init 237 = .ok (.putfield 99, 3) := dk_181 0 99 (dk_at dksX9_init_10 2 rfl rfl)
theorem dX9_init_240 : decode cX9_init 240 = .ok (.aload_n 0, 1) := dk_42 (dk_at dksX9_init_10 5 rfl rfl)
theorem dX9_init_241 : decode cX9_init 241 = .ok (.iconst 5, 1) := dk_8 (dk_at dksX9_init_10 6 rfl rfl)
theorem dX9_init_242 : decode cX9_init 242 = .ok (.newarray .int, 2) := dk_188_10 (dk_at dksX9_init_10 7 rfl rfl)
theorem dX9_init_244 : decode cX9_init 244 = .ok (.putfield 102, 3) := dk_181 0 102 (dk_at dksX9_init_10 9 rfl rfl)
theorem dX9_init_247 : decode cX9_init 247 = .ok (.aload_n 0, 1) := dk_42 (dk_at dksX9_init_10 12 rfl rfl)
theorem dX9_init_248 : decode cX9_init 248 = .ok (.iconst 5, 1) := dk_8 (dk_at dksX9_init_10 13 rfl rfl)
theorem dX9_init_249 : decode cX9_init 249 = .ok (.newarray .int, 2) := dk_188_10 (dk_at dksX9_init_10 14 rfl rfl)
theorem dX9_init_251 : decode cX9_init 251 = .ok (.putfield 105, 3) := dk_181 0 105 (dk_at dksX9_init_10 16 rfl rfl)
theorem dX9_init_254 : decode cX9_init 254 = .ok (.aload_n 0, 1) := dk_42 (dk_at dksX9_init_10 19 rfl rfl)
theorem dX9_init_255 : decode cX9_init 255 = .ok (.bipush 30, 2) := dk_16 30 (dk_at dksX9_init_10 20 rfl rfl)
theorem dX9_init_257 : decode cX9_init 257 = .ok (.newarray .int, 2) := dk_188_10 (dk_at dksX9_init_10 22 rfl rfl)
theorem dX9_init_259 : decode cX9_init 259 = .ok (.putfield 108, 3) := dk_181 0 108 (dk_at dksX9_init_11 0 rfl rfl)
theorem dX9_init_262 : decode cX9_init 262 = .ok (.aload_n 0, 1) := dk_42 (dk_at dksX9_init_11 3 rfl rfl)
theorem dX9_init_263 : decode cX9_init 263 = .ok (.sipush 240, 3) := dk_17 0 240 (dk_at dksX9_init_11 4 rfl rfl)
theorem dX9_init_266 : decode cX9_init 266 = .ok (.newarray .int, 2) := dk_188_10 (dk_at dksX9_init_11 7 rfl rfl)
theorem dX9_init_268 : decode cX9_init 268 = .ok (.putfield 111, 3) := dk_181 0 111 (dk_at dksX9_init_11 9 rfl rfl)
theorem dX9_init_271 : decode cX9_init 271 = .ok (.aload_n 0, 1) := dk_42 (dk_at dksX9_init_11 12 rfl rfl)
theorem dX9_init_272 : decode cX9_init 272 = .ok (.sipush 600, 3) := dk_17 2 88 (dk_at dksX9_init_11 13 rfl rfl)
theorem dX9_init_275 : decode cX9_init 275 = .ok (.newarray .int, 2) := dk_188_10 (dk_at dksX9_init_11 16 rfl rfl)
theorem dX9_init_277 : decode cX9_init 277 = .ok (.putfield 114, 3) := dk_181 0 114 (dk_at dksX9_init_11 18 rfl rfl)
theorem dX9_init_280 : decode cX9_init 280 = .ok (.aload_n 0, 1) := dk_42 (dk_at dksX9_init_11 21 rfl rfl)
theorem dX9_init_281 : decode cX9_init 281 = .ok (.iconst 3, 1) := dk_6 (dk_at dksX9_init_11 22 rfl rfl)
theorem dX9_init_282 : decode cX9_init 282 = .ok (.newarray .int, 2) := dk_188_10 (dk_at dksX9_init_12 0 rfl rfl)
theorem dX9_init_284 : decode cX9_init 284 = .ok (.putfield 117, 3) := dk_181 0 117 (dk_at dksX9_init_12 2 rfl rfl)
theorem dX9_init_287 : decode cX9_init 287 = .ok (.aload_n 0, 1) := dk_42 (dk_at dksX9_init_12 5 rfl rfl)
theorem dX9_init_288 : decode cX9_init 288 = .ok (.iconst 3, 1) := dk_6 (dk_at dksX9_init_12 6 rfl rfl)
theorem dX9_init_289 : decode cX9_init 289 = .ok (.newarray .int, 2) := dk_188_10 (dk_at dksX9_init_12 7 rfl rfl)
theorem dX9_init_291 : decode cX9_init 291 = .ok (.putfield 120, 3) := dk_181 0 120 (dk_at dksX9_init_12 9 rfl rfl)
theorem dX9_init_294 : decode cX9_init 294 = .ok (.aload_n 0, 1) := dk_42 (dk_at dksX9_init_12 12 rfl rfl)
theorem dX9_init_295 : decode cX9_init 295 = .ok (.bipush 90, 2) := dk_16 90 (dk_at dksX9_init_12 13 rfl rfl)
theorem dX9_init_297 : decode cX9_init 297 = .ok (.newarray .float, 2) := dk_188_6 (dk_at dksX9_init_12 15 rfl rfl)
theorem dX9_init_299 : decode cX9_init 299 = .ok (.putfield 123, 3) := dk_181 0 123 (dk_at dksX9_init_12 17 rfl rfl)
theorem dX9_init_302 : decode cX9_init 302 = .ok (.aload_n 0, 1) := dk_42 (dk_at dksX9_init_12 20 rfl rfl)
theorem dX9_init_303 : decode cX9_init 303 = .ok (.bipush 90, 2) := dk_16 90 (dk_at dksX9_init_12 21 rfl rfl)
theorem dX9_init_305 : decode cX9_init 305 = .ok (.newarray .double, 2) := dk_188_7 (dk_at dksX9_init_13 0 rfl rfl)
theorem dX9_init_307 : decode cX9_init 307 = .ok (.putfield 127, 3) := dk_181 0 127 (dk_at dksX9_init_13 2 rfl rfl)
theorem dX9_init_310 : decode cX9_init 310 = .ok (.aload_n 0, 1) := dk_42 (dk_at dksX9_init_13 5 rfl rfl)
theorem dX9_init_311 : decode cX9_init 311 = .ok (.bipush 90, 2) := dk_16 90 (dk_at dksX9_init_13 6 rfl rfl)
theorem dX9_init_313 : decode cX9_init 313 = .ok (.newarray .long, 2) := dk_188_11 (dk_at dksX9_init_13 8 rfl rfl)
theorem dX9_init_315 : decode cX9_init 315 = .ok (.putfield 131, 3) := dk_181 0 131 (dk_at dksX9_init_13 10 rfl rfl)
theorem dX9_init_318 : decode cX9_init 318 = .ok (.iconst 0, 1) := dk_3 (dk_at dksX9_init_13 13 rfl rfl)
theorem dX9_init_319 : decode cX9_init 319 = .ok (.istore_n 1, 1) := dk_60 (dk_at dksX9_init_13 14 rfl rfl)
theorem dX9_init_320 : decode cX9_init 320 = .ok (.iload_n 1, 1) := dk_27 (dk_at dksX9_init_13 15 rfl rfl)
theorem dX9_init_321 : decode cX9_init 321 = .ok (.iconst 3, 1) := dk_6 (dk_at dksX9_init_13 16 rfl rfl)
theorem dX9_init_322 : decode cX9_init 322 = .ok (.if_icmp .ge 16, 3) := dk_162 0 16 (dk_at dksX9_init_13 17 rfl rfl)
theorem dX9_init_325 : decode cX9_init 325 = .ok (.aload_n 0, 1) := dk_42 (dk_at dksX9_init_13 20 rfl rfl)
theorem dX9_init_326 : decode cX9_init 326 = .ok (.getfield 117, 3) := dk_180 0 117 (dk_at dksX9_init_13 21 rfl rfl)
theorem dX9_init_329 : decode cX9_init 329 = .ok (.iload_n 1, 1) := dk_27 (dk_at dksX9_init_14 0 rfl rfl)
theorem dX9_init_330 : decode cX9_init 330 = .ok (.iconst (-1), 1) := dk_2 (dk_at dksX9_init_14 1 rfl rfl)
theorem dX9_init_331 : decode cX9_init 331 = .ok (.iastore, 1) := dk_79 (dk_at dksX9_init_14 2 rfl rfl)
theorem dX9_init_332 : decode cX9_init 332 = .ok (.iinc 1 1, 3) := dk_132 1 1 (dk_at dksX9_init_14 3 rfl rfl)
theorem dX9_init_335 : decode cX9_init 335 = .ok (.goto (-15), 3) := dk_167 255 241 (dk_at dksX9_init_14 6 rfl rfl)
theorem dX9_init_338 : decode cX9_init 338 = .ok (.iconst 0, 1) := dk_3 (dk_at dksX9_init_14 9 rfl rfl)
theorem dX9_init_339 : decode cX9_init 339 = .ok (.istore_n 1, 1) := dk_60 (dk_at dksX9_init_14 10 rfl rfl)
theorem dX9_init_340 : decode cX9_init 340 = .ok (.iload_n 1, 1) := dk_27 (dk_at dksX9_init_14 11 rfl rfl)
theorem dX9_init_341 : decode cX9_init 341 = .ok (.iconst 4, 1) := dk_7 (dk_at dksX9_init_14 12 rfl rfl)
theorem dX9_init_342 : decode cX9_init 342 = .ok (.if_icmp .ge 16, 3) := dk_162 0 16 (dk_at dksX9_init_14 13 rfl rfl)
theorem dX9_init_345 : decode cX9_init 345 = .ok (.aload_n 0, 1) := dk_42 (dk_at dksX9_init_14 16 rfl rfl)
theorem dX9_init_346 : decode cX9_init 346 = .ok (.getfield 33, 3) := dk_180 0 33 (dk_at dksX9_init_14 17 rfl rfl)
theorem dX9_init_349 : decode cX9_init 349 = .ok (.iload_n 1, 1) := dk_27 (dk_at dksX9_init_14 20 rfl rfl)
theorem dX9_init_350 : decode cX9_init 350 = .ok (.iconst (-1), 1) := dk_2 (dk_at dksX9_init_14 21 rfl rfl)
theorem dX9_init_351 : decode cX9_init 351 = .ok (.iastore, 1) := dk_79 (dk_at dksX9_init_14 22 rfl rfl)
theorem dX9_init_352 : decode cX9_init 352 = .ok (.iinc 1 1, 3) := dk_132 1 1 (dk_at dksX9_init_15 0 rfl rfl)
theorem dX9_init_355 : decode cX9_init 355 = .ok (.goto (-15), 3) := dk_167 255 241 (dk_at dksX9_init_15 3 rfl rfl)
theorem dX9_init_358 : decode cX9_init 358 = .ok (.return_, 1) := dk_177 (dk_at dksX9_init_15 6 rfl rfl)
abbrev cX9_operand : ByteArray := prog_31_method_5_code
def yX9_operand : MethodName := ⟨RX9, "operand", "(III)J"⟩
def dkwX9_operand_1 : List UInt8 := [27, 28, 29, 184, 0, 149, 167, 0, 6, 20, 0, 153, 173]
abbrev dktX9_operand_1 : List UInt8 := dkwX9_operand_1 ++ []
def dkwX9_operand_0 : List UInt8 := [28, 133, 9, 20, 0, 141, 184, 0, 143, 153, 0, 24, 29, 133, 9, 20, 0, 147, 184, 0, 143, 153, 0, 12]
abbrev dktX9_operand_0 : List UInt8 := dkwX9_operand_0 ++ dktX9_operand_1
theorem dksX9_operand_0 : cX9_operand.data.toList.drop 0 = dktX9_operand_0 := by decide +kernel
theorem dksX9_operand_1 : cX9_operand.data.toList.drop 24 = dktX9_operand_1 := dk_seg dksX9_operand_0 24 rfl rfl
theorem dX9_operand_0 : decode cX9_operand 0 = .ok (.iload_n 2, 1) := dk_28 (dk_at dksX9_operand_0 0 rfl rfl)
theorem dX9_operand_1 : decode cX9_operand 1 = .ok (.i2l, 1) := dk_133 (dk_at dksX9_operand_0 1 rfl rfl)
theorem dX9_operand_2 : decode cX9_operand 2 = .ok (.lconst 0, 1) := dk_9 (dk_at dksX9_operand_0 2 rfl rfl)
theorem dX9_operand_3 : decode cX9_operand 3 = .ok (.ldc2_w 141, 3) := dk_20 0 141 (dk_at dksX9_operand_0 3 rfl rfl)
theorem dX9_operand_6 : decode cX9_operand 6 = .ok (.invokestatic 143, 3) := dk_184 0 143 (dk_at dksX9_operand_0 6 rfl rfl)
theorem dX9_operand_9 : decode cX9_operand 9 = .ok (.ifCond .eq 24, 3) := dk_153 0 24 (dk_at dksX9_operand_0 9 rfl rfl)
theorem dX9_operand_12 : decode cX9_operand 12 = .ok (.iload_n 3, 1) := dk_29 (dk_at dksX9_operand_0 12 rfl rfl)
theorem dX9_operand_13 : decode cX9_operand 13 = .ok (.i2l, 1) := dk_133 (dk_at dksX9_operand_0 13 rfl rfl)
theorem dX9_operand_14 : decode cX9_operand 14 = .ok (.lconst 0, 1) := dk_9 (dk_at dksX9_operand_0 14 rfl rfl)
theorem dX9_operand_15 : decode cX9_operand 15 = .ok (.ldc2_w 147, 3) := dk_20 0 147 (dk_at dksX9_operand_0 15 rfl rfl)
theorem dX9_operand_18 : decode cX9_operand 18 = .ok (.invokestatic 143, 3) := dk_184 0 143 (dk_at dksX9_operand_0 18 rfl rfl)
theorem dX9_operand_21 : decode cX9_operand 21 = .ok (.ifCond .eq 12, 3) := dk_153 0 12 (dk_at dksX9_operand_0 21 rfl rfl)
theorem dX9_operand_24 : decode cX9_operand 24 = .ok (.iload_n 1, 1) := dk_27 (dk_at dksX9_operand_1 0 rfl rfl)
theorem dX9_operand_25 : decode cX9_operand 25 = .ok (.iload_n 2, 1) := dk_28 (dk_at dksX9_operand_1 1 rfl rfl)
theorem dX9_operand_26 : decode cX9_operand 26 = .ok (.iload_n 3, 1) := dk_29 (dk_at dksX9_operand_1 2 rfl rfl)
theorem dX9_operand_27 : decode cX9_operand 27 = .ok (.invokestatic 149, 3) := dk_184 0 149 (dk_at dksX9_operand_1 3 rfl rfl)
theorem dX9_operand_30 : decode cX9_operand 30 = .ok (.goto 6, 3) := dk_167 0 6 (dk_at dksX9_operand_1 6 rfl rfl)
theorem dX9_operand_33 : decode cX9_operand 33 = .ok (.ldc2_w 153, 3) := dk_20 0 153 (dk_at dksX9_operand_1 9 rfl rfl)
theorem dX9_operand_36 : decode cX9_operand 36 = .ok (.lreturn, 1) := dk_173 (dk_at dksX9_operand_1 12 rfl rfl)
abbrev cX9_in : ByteArray := prog_31_method_2_code
def yX9_in : MethodName := ⟨RX9, "in", "(JJJ)Z"⟩
def dkwX9_in_0 : List UInt8 := [30, 32, 148, 155, 0, 14, 30, 22, 4, 148, 157, 0, 7, 4, 167, 0, 4, 3, 172]
abbrev dktX9_in_0 : List UInt8 := dkwX9_in_0 ++ []
theorem dksX9_in_0 : cX9_in.data.toList.drop 0 = dktX9_in_0 := by decide +kernel
theorem dX9_in_0 : decode cX9_in 0 = .ok (.lload_n 0, 1) := dk_30 (dk_at dksX9_in_0 0 rfl rfl)
theorem dX9_in_1 : decode cX9_in 1 = .ok (.lload_n 2, 1) := dk_32 (dk_at dksX9_in_0 1 rfl rfl)
theorem dX9_in_2 : decode cX9_in 2 = .ok (.lcmp, 1) := dk_148 (dk_at dksX9_in_0 2 rfl rfl)
theorem dX9_in_3 : decode cX9_in 3 = .ok (.ifCond .lt 14, 3) := dk_155 0 14 (dk_at dksX9_in_0 3 rfl rfl)
theorem dX9_in_6 : decode cX9_in 6 = .ok (.lload_n 0, 1) := dk_30 (dk_at dksX9_in_0 6 rfl rfl)
theorem dX9_in_7 : decode cX9_in 7 = .ok (.lload 4, 2) := dk_22 4 (dk_at dksX9_in_0 7 rfl rfl)
theorem dX9_in_9 : decode cX9_in 9 = .ok (.lcmp, 1) := dk_148 (dk_at dksX9_in_0 9 rfl rfl)
theorem dX9_in_10 : decode cX9_in 10 = .ok (.ifCond .gt 7, 3) := dk_157 0 7 (dk_at dksX9_in_0 10 rfl rfl)
theorem dX9_in_13 : decode cX9_in 13 = .ok (.iconst 1, 1) := dk_4 (dk_at dksX9_in_0 13 rfl rfl)
theorem dX9_in_14 : decode cX9_in 14 = .ok (.goto 4, 3) := dk_167 0 4 (dk_at dksX9_in_0 14 rfl rfl)
theorem dX9_in_17 : decode cX9_in 17 = .ok (.iconst 0, 1) := dk_3 (dk_at dksX9_in_0 17 rfl rfl)
theorem dX9_in_18 : decode cX9_in 18 = .ok (.ireturn, 1) := dk_172 (dk_at dksX9_in_0 18 rfl rfl)
abbrev cX9_operandOf : ByteArray := prog_31_method_4_code
def yX9_operandOf : MethodName := ⟨RX9, "operandOf", "(III)J"⟩
def dkwX9_operandOf_4 : List UInt8 := [160, 0, 8, 22, 5, 167, 0, 16, 28, 6, 160, 0, 9, 21, 7, 133, 167, 0, 5, 22, 8, 173]
abbrev dktX9_operandOf_4 : List UInt8 := dkwX9_operandOf_4 ++ []
def dkwX9_operandOf_3 : List UInt8 := [154, 0, 12, 33, 27, 184, 0, 137, 109, 167, 0, 36, 28, 4, 160, 0, 8, 27, 133, 167, 0, 26, 28, 5]
abbrev dktX9_operandOf_3 : List UInt8 := dkwX9_operandOf_3 ++ dktX9_operandOf_4
def dkwX9_operandOf_2 : List UInt8 := [20, 0, 135, 113, 9, 148, 154, 0, 17, 22, 8, 20, 0, 135, 109, 55, 8, 132, 7, 255, 167, 255, 227, 28]
abbrev dktX9_operandOf_2 : List UInt8 := dkwX9_operandOf_2 ++ dktX9_operandOf_3
def dkwX9_operandOf_1 : List UInt8 := [148, 154, 0, 7, 3, 167, 0, 4, 27, 54, 7, 22, 5, 55, 8, 22, 8, 9, 148, 153, 0, 28, 22, 8]
abbrev dktX9_operandOf_1 : List UInt8 := dkwX9_operandOf_1 ++ dktX9_operandOf_2
def dkwX9_operandOf_0 : List UInt8 := [26, 156, 0, 9, 26, 133, 117, 167, 0, 5, 26, 133, 66, 33, 27, 184, 0, 137, 113, 55, 5, 22, 5, 9]
abbrev dktX9_operandOf_0 : List UInt8 := dkwX9_operandOf_0 ++ dktX9_operandOf_1
theorem dksX9_operandOf_0 : cX9_operandOf.data.toList.drop 0 = dktX9_operandOf_0 := by decide +kernel
theorem dksX9_operandOf_1 : cX9_operandOf.data.toList.drop 24 = dktX9_operandOf_1 := dk_seg dksX9_operandOf_0 24 rfl rfl
theorem dksX9_operandOf_2 : cX9_operandOf.data.toList.drop 48 = dktX9_operandOf_2 := dk_seg dksX9_operandOf_1 24 rfl rfl
theorem dksX9_operandOf_3 : cX9_operandOf.data.toList.drop 72 = dktX9_operandOf_3 := dk_seg dksX9_operandOf_2 24 rfl rfl
theorem dksX9_operandOf_4 : cX9_operandOf.data.toList.drop 96 = dktX9_operandOf_4 := dk_seg dksX9_operandOf_3 24 rfl rfl
theorem dX9_operandOf_0 : decode cX9_operandOf 0 = .ok (.iload_n 0, 1) := dk_26 (dk_at dksX9_operandOf_0 0 rfl rfl)
theorem dX9_operandOf_1 : decode cX9_operandOf 1 = .ok (.ifCond .ge 9, 3) := dk_156 0 9 (dk_at dksX9_operandOf_0 1 rfl rfl)
theorem dX9_operandOf_4 : decode cX9_operandOf 4 = .ok (.iload_n 0, 1) := dk_26 (dk_at dksX9_operandOf_0 4 rfl rfl)
theorem dX9_operandOf_5 : decode cX9_operandOf 5 = .ok (.i2l, 1) := dk_133 (dk_at dksX9_operandOf_0 5 rfl rfl)
theorem dX9_operandOf_6 : decode cX9_operandOf 6 = .ok (.lneg, 1) := dk_117 (dk_at dksX9_operandOf_0 6 rfl rfl)
theorem dX9_operandOf_7 : decode cX9_operandOf 7 = .ok (.goto 5, 3) := dk_167 0 5 (dk_at dksX9_operandOf_0 7 rfl rfl)
theorem dX9_operandOf_10 : decode cX9_operandOf 10 = .ok (.iload_n 0, 1) := dk_26 (dk_at dksX9_operandOf_0 10 rfl rfl)
theorem dX9_operandOf_11 : decode cX9_operandOf 11 = .ok (.i2l, 1) := dk_133 (dk_at dksX9_operandOf_0 11 rfl rfl)
theorem dX9_operandOf_12 : decode cX9_operandOf 12 = .ok (.lstore_n 3, 1) := dk_66 (dk_at dksX9_operandOf_0 12 rfl rfl)
theorem dX9_operandOf_13 : decode cX9_operandOf 13 = .ok (.lload_n 3, 1) := dk_33 (dk_at dksX9_operandOf_0 13 rfl rfl)
theorem dX9_operandOf_14 : decode cX9_operandOf 14 = .ok (.iload_n 1, 1) := dk_27 (dk_at dksX9_operandOf_0 14 rfl rfl)
theorem dX9_operandOf_15 : decode cX9_operandOf 15 = .ok (.invokestatic 137, 3) := dk_184 0 137 (dk_at dksX9_operandOf_0 15 rfl rfl)
theorem dX9_operandOf_18 : decode cX9_operandOf 18 = .ok (.lrem, 1) := dk_113 (dk_at dksX9_operandOf_0 18 rfl rfl)
theorem dX9_operandOf_19 : decode cX9_operandOf 19 = .ok (.lstore 5, 2) := dk_55 5 (dk_at dksX9_operandOf_0 19 rfl rfl)
theorem dX9_operandOf_21 : decode cX9_operandOf 21 = .ok (.lload 5, 2) := dk_22 5 (dk_at dksX9_operandOf_0 21 rfl rfl)
theorem dX9_operandOf_23 : decode cX9_operandOf 23 = .ok (.lconst 0, 1) := dk_9 (dk_at dksX9_operandOf_0 23 rfl rfl)
theorem dX9_operandOf_24 : decode cX9_operandOf 24 = .ok (.lcmp, 1) := dk_148 (dk_at dksX9_operandOf_1 0 rfl rfl)
theorem dX9_operandOf_25 : decode cX9_operandOf 25 = .ok (.ifCond .ne 7, 3) := dk_154 0 7 (dk_at dksX9_operandOf_1 1 rfl rfl)
theorem dX9_operandOf_28 : decode cX9_operandOf 28 = .ok (.iconst 0, 1) := dk_3 (dk_at dksX9_operandOf_1 4 rfl rfl)
theorem dX9_operandOf_29 : decode cX9_operandOf 29 = .ok (.goto 4, 3) := dk_167 0 4 (dk_at dksX9_operandOf_1 5 rfl rfl)
theorem dX9_operandOf_32 : decode cX9_operandOf 32 = .ok (.iload_n 1, 1) := dk_27 (dk_at dksX9_operandOf_1 8 rfl rfl)
theorem dX9_operandOf_33 : decode cX9_operandOf 33 = .ok (.istore 7, 2) := dk_54 7 (dk_at dksX9_operandOf_1 9 rfl rfl)
theorem dX9_operandOf_35 : decode cX9_operandOf 35 = .ok (.lload 5, 2) := dk_22 5 (dk_at dksX9_operandOf_1 11 rfl rfl)
theorem dX9_operandOf_37 : decode cX9_operandOf 37 = .ok (.lstore 8, 2) := dk_55 8 (dk_at dksX9_operandOf_1 13 rfl rfl)
theorem dX9_operandOf_39 : decode cX9_operandOf 39 = .ok (.lload 8, 2) := dk_22 8 (dk_at dksX9_operandOf_1 15 rfl rfl)
theorem dX9_operandOf_41 : decode cX9_operandOf 41 = .ok (.lconst 0, 1) := dk_9 (dk_at dksX9_operandOf_1 17 rfl rfl)
theorem dX9_operandOf_42 : decode cX9_operandOf 42 = .ok (.lcmp, 1) := dk_148 (dk_at dksX9_operandOf_1 18 rfl rfl)
theorem dX9_operandOf_43 : decode cX9_operandOf 43 = .ok (.ifCond .eq 28, 3) := dk_153 0 28 (dk_at dksX9_operandOf_1 19 rfl rfl)
theorem dX9_operandOf_46 : decode cX9_operandOf 46 = .ok (.lload 8, 2) := dk_22 8 (dk_at dksX9_operandOf_1 22 rfl rfl)
theorem dX9_operandOf_48 : decode cX9_operandOf 48 = .ok (.ldc2_w 135, 3) := dk_20 0 135 (dk_at dksX9_operandOf_2 0 rfl rfl)
theorem dX9_operandOf_51 : decode cX9_operandOf 51 = .ok (.lrem, 1) := dk_113 (dk_at dksX9_operandOf_2 3 rfl rfl)
theorem dX9_operandOf_52 : decode cX9_operandOf 52 = .ok (.lconst 0, 1) := dk_9 (dk_at dksX9_operandOf_2 4 rfl rfl)
theorem dX9_operandOf_53 : decode cX9_operandOf 53 = .ok (.lcmp, 1) := dk_148 (dk_at dksX9_operandOf_2 5 rfl rfl)
theorem dX9_operandOf_54 : decode cX9_operandOf 54 = .ok (.ifCond .ne 17, 3) := dk_154 0 17 (dk_at dksX9_operandOf_2 6 rfl rfl)
theorem dX9_operandOf_57 : decode cX9_operandOf 57 = .ok (.lload 8, 2) := dk_22 8 (dk_at dksX9_operandOf_2 9 rfl rfl)
theorem dX9_operandOf_59 : decode cX9_operandOf 59 = .ok (.ldc2_w 135, 3) := dk_20 0 135 (dk_at dksX9_operandOf_2 11 rfl rfl)
theorem dX9_operandOf_62 : decode cX9_operandOf 62 = .ok (.ldiv, 1) := dk_109 (dk_at dksX9_operandOf_2 14 rfl rfl)
theorem dX9_operandOf_63 : decode cX9_operandOf 63 = .ok (.lstore 8, 2) := dk_55 8 (dk_at dksX9_operandOf_2 15 rfl rfl)
theorem dX9_operandOf_65 : decode cX9_operandOf 65 = .ok (.iinc 7 (-1), 3) := dk_132 7 255 (dk_at dksX9_operandOf_2 17 rfl rfl)
theorem dX9_operandOf_68 : decode cX9_operandOf 68 = .ok (.goto (-29), 3) := dk_167 255 227 (dk_at dksX9_operandOf_2 20 rfl rfl)
theorem dX9_operandOf_71 : decode cX9_operandOf 71 = .ok (.iload_n 2, 1) := dk_28 (dk_at dksX9_operandOf_2 23 rfl rfl)
theorem dX9_operandOf_72 : decode cX9_operandOf 72 = .ok (.ifCond .ne 12, 3) := dk_154 0 12 (dk_at dksX9_operandOf_3 0 rfl rfl)
theorem dX9_operandOf_75 : decode cX9_operandOf 75 = .ok (.lload_n 3, 1) := dk_33 (dk_at dksX9_operandOf_3 3 rfl rfl)
theorem dX9_operandOf_76 : decode cX9_operandOf 76 = .ok (.iload_n 1, 1) := dk_27 (dk_at dksX9_operandOf_3 4 rfl rfl)
theorem dX9_operandOf_77 : decode cX9_operandOf 77 = .ok (.invokestatic 137, 3) := dk_184 0 137 (dk_at dksX9_operandOf_3 5 rfl rfl)
theorem dX9_operandOf_80 : decode cX9_operandOf 80 = .ok (.ldiv, 1) := dk_109 (dk_at dksX9_operandOf_3 8 rfl rfl)
theorem dX9_operandOf_81 : decode cX9_operandOf 81 = .ok (.goto 36, 3) := dk_167 0 36 (dk_at dksX9_operandOf_3 9 rfl rfl)
theorem dX9_operandOf_84 : decode cX9_operandOf 84 = .ok (.iload_n 2, 1) := dk_28 (dk_at dksX9_operandOf_3 12 rfl rfl)
theorem dX9_operandOf_85 : decode cX9_operandOf 85 = .ok (.iconst 1, 1) := dk_4 (dk_at dksX9_operandOf_3 13 rfl rfl)
theorem dX9_operandOf_86 : decode cX9_operandOf 86 = .ok (.if_icmp .ne 8, 3) := dk_160 0 8 (dk_at dksX9_operandOf_3 14 rfl rfl)
theorem dX9_operandOf_89 : decode cX9_operandOf 89 = .ok (.iload_n 1, 1) := dk_27 (dk_at dksX9_operandOf_3 17 rfl rfl)
theorem dX9_operandOf_90 : decode cX9_operandOf 90 = .ok (.i2l, 1) := dk_133 (dk_at dksX9_operandOf_3 18 rfl rfl)
theorem dX9_operandOf_91 : decode cX9_operandOf 91 = .ok (.goto 26, 3) := dk_167 0 26 (dk_at dksX9_operandOf_3 19 rfl rfl)
theorem dX9_operandOf_94 : decode cX9_operandOf 94 = .ok (.iload_n 2, 1) := dk_28 (dk_at dksX9_operandOf_3 22 rfl rfl)
theorem dX9_operandOf_95 : decode cX9_operandOf 95 = .ok (.iconst 2, 1) := dk_5 (dk_at dksX9_operandOf_3 23 rfl rfl)
theorem dX9_operandOf_96 : decode cX9_operandOf 96 = .ok (.if_icmp .ne 8, 3) := dk_160 0 8 (dk_at dksX9_operandOf_4 0 rfl rfl)
theorem dX9_operandOf_99 : decode cX9_operandOf 99 = .ok (.lload 5, 2) := dk_22 5 (dk_at dksX9_operandOf_4 3 rfl rfl)
theorem dX9_operandOf_101 : decode cX9_operandOf 101 = .ok (.goto 16, 3) := dk_167 0 16 (dk_at dksX9_operandOf_4 5 rfl rfl)
theorem dX9_operandOf_104 : decode cX9_operandOf 104 = .ok (.iload_n 2, 1) := dk_28 (dk_at dksX9_operandOf_4 8 rfl rfl)
theorem dX9_operandOf_105 : decode cX9_operandOf 105 = .ok (.iconst 3, 1) := dk_6 (dk_at dksX9_operandOf_4 9 rfl rfl)
theorem dX9_operandOf_106 : decode cX9_operandOf 106 = .ok (.if_icmp .ne 9, 3) := dk_160 0 9 (dk_at dksX9_operandOf_4 10 rfl rfl)
theorem dX9_operandOf_109 : decode cX9_operandOf 109 = .ok (.iload 7, 2) := dk_21 7 (dk_at dksX9_operandOf_4 13 rfl rfl)
theorem dX9_operandOf_111 : decode cX9_operandOf 111 = .ok (.i2l, 1) := dk_133 (dk_at dksX9_operandOf_4 15 rfl rfl)
theorem dX9_operandOf_112 : decode cX9_operandOf 112 = .ok (.goto 5, 3) := dk_167 0 5 (dk_at dksX9_operandOf_4 16 rfl rfl)
theorem dX9_operandOf_115 : decode cX9_operandOf 115 = .ok (.lload 8, 2) := dk_22 8 (dk_at dksX9_operandOf_4 19 rfl rfl)
theorem dX9_operandOf_117 : decode cX9_operandOf 117 = .ok (.lreturn, 1) := dk_173 (dk_at dksX9_operandOf_4 21 rfl rfl)
abbrev cX9_tens : ByteArray := prog_31_method_3_code
def yX9_tens : MethodName := ⟨RX9, "tens", "(I)J"⟩
def dkwX9_tens_0 : List UInt8 := [10, 64, 3, 62, 29, 26, 162, 0, 15, 31, 20, 0, 135, 105, 64, 132, 3, 1, 167, 255, 242, 31, 173]
abbrev dktX9_tens_0 : List UInt8 := dkwX9_tens_0 ++ []
theorem dksX9_tens_0 : cX9_tens.data.toList.drop 0 = dktX9_tens_0 := by decide +kernel
theorem dX9_tens_0 : decode cX9_tens 0 = .ok (.lconst 1, 1) := dk_10 (dk_at dksX9_tens_0 0 rfl rfl)
theorem dX9_tens_1 : decode cX9_tens 1 = .ok (.lstore_n 1, 1) := dk_64 (dk_at dksX9_tens_0 1 rfl rfl)
theorem dX9_tens_2 : decode cX9_tens 2 = .ok (.iconst 0, 1) := dk_3 (dk_at dksX9_tens_0 2 rfl rfl)
theorem dX9_tens_3 : decode cX9_tens 3 = .ok (.istore_n 3, 1) := dk_62 (dk_at dksX9_tens_0 3 rfl rfl)
theorem dX9_tens_4 : decode cX9_tens 4 = .ok (.iload_n 3, 1) := dk_29 (dk_at dksX9_tens_0 4 rfl rfl)
theorem dX9_tens_5 : decode cX9_tens 5 = .ok (.iload_n 0, 1) := dk_26 (dk_at dksX9_tens_0 5 rfl rfl)
theorem dX9_tens_6 : decode cX9_tens 6 = .ok (.if_icmp .ge 15, 3) := dk_162 0 15 (dk_at dksX9_tens_0 6 rfl rfl)
theorem dX9_tens_9 : decode cX9_tens 9 = .ok (.lload_n 1, 1) := dk_31 (dk_at dksX9_tens_0 9 rfl rfl)
theorem dX9_tens_10 : decode cX9_tens 10 = .ok (.ldc2_w 135, 3) := dk_20 0 135 (dk_at dksX9_tens_0 10 rfl rfl)
theorem dX9_tens_13 : decode cX9_tens 13 = .ok (.lmul, 1) := dk_105 (dk_at dksX9_tens_0 13 rfl rfl)
theorem dX9_tens_14 : decode cX9_tens 14 = .ok (.lstore_n 1, 1) := dk_64 (dk_at dksX9_tens_0 14 rfl rfl)
theorem dX9_tens_15 : decode cX9_tens 15 = .ok (.iinc 3 1, 3) := dk_132 3 1 (dk_at dksX9_tens_0 15 rfl rfl)
theorem dX9_tens_18 : decode cX9_tens 18 = .ok (.goto (-14), 3) := dk_167 255 242 (dk_at dksX9_tens_0 18 rfl rfl)
theorem dX9_tens_21 : decode cX9_tens 21 = .ok (.lload_n 1, 1) := dk_31 (dk_at dksX9_tens_0 21 rfl rfl)
theorem dX9_tens_22 : decode cX9_tens 22 = .ok (.lreturn, 1) := dk_173 (dk_at dksX9_tens_0 22 rfl rfl)
abbrev cX9_condition : ByteArray := prog_31_method_6_code
def yX9_condition : MethodName := ⟨RX9, "condition", "(IIIIII)I"⟩
def dkwX9_condition_5 : List UInt8 := [180, 0, 157, 21, 6, 79, 42, 89, 180, 0, 157, 4, 96, 181, 0, 157, 42, 180, 0, 157, 172]
abbrev dktX9_condition_5 : List UInt8 := dkwX9_condition_5 ++ []
def dkwX9_condition_4 : List UInt8 := [180, 0, 157, 21, 4, 79, 42, 180, 0, 24, 42, 180, 0, 157, 21, 5, 79, 42, 180, 0, 27, 42]
abbrev dktX9_condition_4 : List UInt8 := dkwX9_condition_4 ++ dktX9_condition_5
def dkwX9_condition_3 : List UInt8 := [180, 0, 15, 42, 180, 0, 157, 28, 79, 42, 180, 0, 18, 42, 180, 0, 157, 29, 79, 42, 180, 0, 21, 42]
abbrev dktX9_condition_3 : List UInt8 := dkwX9_condition_3 ++ dktX9_condition_4
def dkwX9_condition_2 : List UInt8 := [172, 42, 180, 0, 157, 16, 12, 160, 0, 6, 16, 253, 172, 42, 180, 0, 9, 42, 180, 0, 157, 27, 79, 42]
abbrev dktX9_condition_2 : List UInt8 := dkwX9_condition_2 ++ dktX9_condition_3
def dkwX9_condition_1 : List UInt8 := [29, 133, 9, 20, 0, 155, 184, 0, 143, 153, 0, 14, 21, 6, 133, 9, 10, 184, 0, 143, 154, 0, 5, 2]
abbrev dktX9_condition_1 : List UInt8 := dkwX9_condition_1 ++ dktX9_condition_2
def dkwX9_condition_0 : List UInt8 := [27, 133, 9, 20, 0, 147, 184, 0, 143, 153, 0, 38, 28, 133, 9, 20, 0, 147, 184, 0, 143, 153, 0, 26]
abbrev dktX9_condition_0 : List UInt8 := dkwX9_condition_0 ++ dktX9_condition_1
theorem dksX9_condition_0 : cX9_condition.data.toList.drop 0 = dktX9_condition_0 := by decide +kernel
theorem dksX9_condition_1 : cX9_condition.data.toList.drop 24 = dktX9_condition_1 := dk_seg dksX9_condition_0 24 rfl rfl
theorem dksX9_condition_2 : cX9_condition.data.toList.drop 48 = dktX9_condition_2 := dk_seg dksX9_condition_1 24 rfl rfl
theorem dksX9_condition_3 : cX9_condition.data.toList.drop 72 = dktX9_condition_3 := dk_seg dksX9_condition_2 24 rfl rfl
theorem dksX9_condition_4 : cX9_condition.data.toList.drop 96 = dktX9_condition_4 := dk_seg dksX9_condition_3 24 rfl rfl
theorem dksX9_condition_5 : cX9_condition.data.toList.drop 118 = dktX9_condition_5 := dk_seg dksX9_condition_4 22 rfl rfl
theorem dX9_condition_0 : decode cX9_condition 0 = .ok (.iload_n 1, 1) := dk_27 (dk_at dksX9_condition_0 0 rfl rfl)
theorem dX9_condition_1 : decode cX9_condition 1 = .ok (.i2l, 1) := dk_133 (dk_at dksX9_condition_0 1 rfl rfl)
theorem dX9_condition_2 : decode cX9_condition 2 = .ok (.lconst 0, 1) := dk_9 (dk_at dksX9_condition_0 2 rfl rfl)
theorem dX9_condition_3 : decode cX9_condition 3 = .ok (.ldc2_w 147, 3) := dk_20 0 147 (dk_at dksX9_condition_0 3 rfl rfl)
theorem dX9_condition_6 : decode cX9_condition 6 = .ok (.invokestatic 143, 3) := dk_184 0 143 (dk_at dksX9_condition_0 6 rfl rfl)
theorem dX9_condition_9 : decode cX9_condition 9 = .ok (.ifCond .eq 38, 3) := dk_153 0 38 (dk_at dksX9_condition_0 9 rfl rfl)
theorem dX9_condition_12 : decode cX9_condition 12 = .ok (.iload_n 2, 1) := dk_28 (dk_at dksX9_condition_0 12 rfl rfl)
theorem dX9_condition_13 : decode cX9_condition 13 = .ok (.i2l, 1) := dk_133 (dk_at dksX9_condition_0 13 rfl rfl)
theorem dX9_condition_14 : decode cX9_condition 14 = .ok (.lconst 0, 1) := dk_9 (dk_at dksX9_condition_0 14 rfl rfl)
theorem dX9_condition_15 : decode cX9_condition 15 = .ok (.ldc2_w 147, 3) := dk_20 0 147 (dk_at dksX9_condition_0 15 rfl rfl)
theorem dX9_condition_18 : decode cX9_condition 18 = .ok (.invokestatic 143, 3) := dk_184 0 143 (dk_at dksX9_condition_0 18 rfl rfl)
theorem dX9_condition_21 : decode cX9_condition 21 = .ok (.ifCond .eq 26, 3) := dk_153 0 26 (dk_at dksX9_condition_0 21 rfl rfl)
theorem dX9_condition_24 : decode cX9_condition 24 = .ok (.iload_n 3, 1) := dk_29 (dk_at dksX9_condition_1 0 rfl rfl)
theorem dX9_condition_25 : decode cX9_condition 25 = .ok (.i2l, 1) := dk_133 (dk_at dksX9_condition_1 1 rfl rfl)
theorem dX9_condition_26 : decode cX9_condition 26 = .ok (.lconst 0, 1) := dk_9 (dk_at dksX9_condition_1 2 rfl rfl)
theorem dX9_condition_27 : decode cX9_condition 27 = .ok (.ldc2_w 155, 3) := dk_20 0 155 (dk_at dksX9_condition_1 3 rfl rfl)
theorem dX9_condition_30 : decode cX9_condition 30 = .ok (.invokestatic 143, 3) := dk_184 0 143 (dk_at dksX9_condition_1 6 rfl rfl)
theorem dX9_condition_33 : decode cX9_condition 33 = .ok (.ifCond .eq 14, 3) := dk_153 0 14 (dk_at dksX9_condition_1 9 rfl rfl)
theorem dX9_condition_36 : decode cX9_condition 36 = .ok (.iload 6, 2) := dk_21 6 (dk_at dksX9_condition_1 12 rfl rfl)
theorem dX9_condition_38 : decode cX9_condition 38 = .ok (.i2l, 1) := dk_133 (dk_at dksX9_condition_1 14 rfl rfl)
theorem dX9_condition_39 : decode cX9_condition 39 = .ok (.lconst 0, 1) := dk_9 (dk_at dksX9_condition_1 15 rfl rfl)
theorem dX9_condition_40 : decode cX9_condition 40 = .ok (.lconst 1, 1) := dk_10 (dk_at dksX9_condition_1 16 rfl rfl)
theorem dX9_condition_41 : decode cX9_condition 41 = .ok (.invokestatic 143, 3) := dk_184 0 143 (dk_at dksX9_condition_1 17 rfl rfl)
theorem dX9_condition_44 : decode cX9_condition 44 = .ok (.ifCond .ne 5, 3) := dk_154 0 5 (dk_at dksX9_condition_1 20 rfl rfl)
theorem dX9_condition_47 : decode cX9_condition 47 = .ok (.iconst (-1), 1) := dk_2 (dk_at dksX9_condition_1 23 rfl rfl)
theorem dX9_condition_48 : decode cX9_condition 48 = .ok (.ireturn, 1) := dk_172 (dk_at dksX9_condition_2 0 rfl rfl)
theorem dX9_condition_49 : decode cX9_condition 49 = .ok (.aload_n 0, 1) := dk_42 (dk_at dksX9_condition_2 1 rfl rfl)
theorem dX9_condition_50 : decode cX9_condition 50 = .ok (.getfield 157, 3) := dk_180 0 157 (dk_at dksX9_condition_2 2 rfl rfl)
theorem dX9_condition_53 : decode cX9_condition 53 = .ok (.bipush 12, 2) := dk_16 12 (dk_at dksX9_condition_2 5 rfl rfl)
theorem dX9_condition_55 : decode cX9_condition 55 = .ok (.if_icmp .ne 6, 3) := dk_160 0 6 (dk_at dksX9_condition_2 7 rfl rfl)
theorem dX9_condition_58 : decode cX9_condition 58 = .ok (.bipush (-3), 2) := dk_16 253 (dk_at dksX9_condition_2 10 rfl rfl)
theorem dX9_condition_60 : decode cX9_condition 60 = .ok (.ireturn, 1) := dk_172 (dk_at dksX9_condition_2 12 rfl rfl)
theorem dX9_condition_61 : decode cX9_condition 61 = .ok (.aload_n 0, 1) := dk_42 (dk_at dksX9_condition_2 13 rfl rfl)
theorem dX9_condition_62 : decode cX9_condition 62 = .ok (.getfield 9, 3) := dk_180 0 9 (dk_at dksX9_condition_2 14 rfl rfl)
theorem dX9_condition_65 : decode cX9_condition 65 = .ok (.aload_n 0, 1) := dk_42 (dk_at dksX9_condition_2 17 rfl rfl)
theorem dX9_condition_66 : decode cX9_condition 66 = .ok (.getfield 157, 3) := dk_180 0 157 (dk_at dksX9_condition_2 18 rfl rfl)
theorem dX9_condition_69 : decode cX9_condition 69 = .ok (.iload_n 1, 1) := dk_27 (dk_at dksX9_condition_2 21 rfl rfl)
theorem dX9_condition_70 : decode cX9_condition 70 = .ok (.iastore, 1) := dk_79 (dk_at dksX9_condition_2 22 rfl rfl)
theorem dX9_condition_71 : decode cX9_condition 71 = .ok (.aload_n 0, 1) := dk_42 (dk_at dksX9_condition_2 23 rfl rfl)
theorem dX9_condition_72 : decode cX9_condition 72 = .ok (.getfield 15, 3) := dk_180 0 15 (dk_at dksX9_condition_3 0 rfl rfl)
theorem dX9_condition_75 : decode cX9_condition 75 = .ok (.aload_n 0, 1) := dk_42 (dk_at dksX9_condition_3 3 rfl rfl)
theorem dX9_condition_76 : decode cX9_condition 76 = .ok (.getfield 157, 3) := dk_180 0 157 (dk_at dksX9_condition_3 4 rfl rfl)
theorem dX9_condition_79 : decode cX9_condition 79 = .ok (.iload_n 2, 1) := dk_28 (dk_at dksX9_condition_3 7 rfl rfl)
theorem dX9_condition_80 : decode cX9_condition 80 = .ok (.iastore, 1) := dk_79 (dk_at dksX9_condition_3 8 rfl rfl)
theorem dX9_condition_81 : decode cX9_condition 81 = .ok (.aload_n 0, 1) := dk_42 (dk_at dksX9_condition_3 9 rfl rfl)
theorem dX9_condition_82 : decode cX9_condition 82 = .ok (.getfield 18, 3) := dk_180 0 18 (dk_at dksX9_condition_3 10 rfl rfl)
theorem dX9_condition_85 : decode cX9_condition 85 = .ok (.aload_n 0, 1) := dk_42 (dk_at dksX9_condition_3 13 rfl rfl)
theorem dX9_condition_86 : decode cX9_condition 86 = .ok (.getfield 157, 3) := dk_180 0 157 (dk_at dksX9_condition_3 14 rfl rfl)
theorem dX9_condition_89 : decode cX9_condition 89 = .ok (.iload_n 3, 1) := dk_29 (dk_at dksX9_condition_3 17 rfl rfl)
theorem dX9_condition_90 : decode cX9_condition 90 = .ok (.iastore, 1) := dk_79 (dk_at dksX9_condition_3 18 rfl rfl)
theorem dX9_condition_91 : decode cX9_condition 91 = .ok (.aload_n 0, 1) := dk_42 (dk_at dksX9_condition_3 19 rfl rfl)
theorem dX9_condition_92 : decode cX9_condition 92 = .ok (.getfield 21, 3) := dk_180 0 21 (dk_at dksX9_condition_3 20 rfl rfl)
theorem dX9_condition_95 : decode cX9_condition 95 = .ok (.aload_n 0, 1) := dk_42 (dk_at dksX9_condition_3 23 rfl rfl)
theorem dX9_condition_96 : decode cX9_condition 96 = .ok (.getfield 157, 3) := dk_180 0 157 (dk_at dksX9_condition_4 0 rfl rfl)
theorem dX9_condition_99 : decode cX9_condition 99 = .ok (.iload 4, 2) := dk_21 4 (dk_at dksX9_condition_4 3 rfl rfl)
theorem dX9_condition_101 : decode cX9_condition 101 = .ok (.iastore, 1) := dk_79 (dk_at dksX9_condition_4 5 rfl rfl)
theorem dX9_condition_102 : decode cX9_condition 102 = .ok (.aload_n 0, 1) := dk_42 (dk_at dksX9_condition_4 6 rfl rfl)
theorem dX9_condition_103 : decode cX9_condition 103 = .ok (.getfield 24, 3) := dk_180 0 24 (dk_at dksX9_condition_4 7 rfl rfl)
theorem dX9_condition_106 : decode cX9_condition 106 = .ok (.aload_n 0, 1) := dk_42 (dk_at dksX9_condition_4 10 rfl rfl)
theorem dX9_condition_107 : decode cX9_condition 107 = .ok (.getfield 157, 3) := dk_180 0 157 (dk_at dksX9_condition_4 11 rfl rfl)
theorem dX9_condition_110 : decode cX9_condition 110 = .ok (.iload 5, 2) := dk_21 5 (dk_at dksX9_condition_4 14 rfl rfl)
theorem dX9_condition_112 : decode cX9_condition 112 = .ok (.iastore, 1) := dk_79 (dk_at dksX9_condition_4 16 rfl rfl)
theorem dX9_condition_113 : decode cX9_condition 113 = .ok (.aload_n 0, 1) := dk_42 (dk_at dksX9_condition_4 17 rfl rfl)
theorem dX9_condition_114 : decode cX9_condition 114 = .ok (.getfield 27, 3) := dk_180 0 27 (dk_at dksX9_condition_4 18 rfl rfl)
theorem dX9_condition_117 : decode cX9_condition 117 = .ok (.aload_n 0, 1) := dk_42 (dk_at dksX9_condition_4 21 rfl rfl)
theorem dX9_condition_118 : decode cX9_condition 118 = .ok (.getfield 157, 3) := dk_180 0 157 (dk_at dksX9_condition_5 0 rfl rfl)
theorem dX9_condition_121 : decode cX9_condition 121 = .ok (.iload 6, 2) := dk_21 6 (dk_at dksX9_condition_5 3 rfl rfl)
theorem dX9_condition_123 : decode cX9_condition 123 = .ok (.iastore, 1) := dk_79 (dk_at dksX9_condition_5 5 rfl rfl)
theorem dX9_condition_124 : decode cX9_condition 124 = .ok (.aload_n 0, 1) := dk_42 (dk_at dksX9_condition_5 6 rfl rfl)
theorem dX9_condition_125 : decode cX9_condition 125 = .ok (.dup, 1) := dk_89 (dk_at dksX9_condition_5 7 rfl rfl)
theorem dX9_condition_126 : decode cX9_condition 126 = .ok (.getfield 157, 3) := dk_180 0 157 (dk_at dksX9_condition_5 8 rfl rfl)
theorem dX9_condition_129 : decode cX9_condition 129 = .ok (.iconst 1, 1) := dk_4 (dk_at dksX9_condition_5 11 rfl rfl)
theorem dX9_condition_130 : decode cX9_condition 130 = .ok (.iadd, 1) := dk_96 (dk_at dksX9_condition_5 12 rfl rfl)
theorem dX9_condition_131 : decode cX9_condition 131 = .ok (.putfield 157, 3) := dk_181 0 157 (dk_at dksX9_condition_5 13 rfl rfl)
theorem dX9_condition_134 : decode cX9_condition 134 = .ok (.aload_n 0, 1) := dk_42 (dk_at dksX9_condition_5 16 rfl rfl)
theorem dX9_condition_135 : decode cX9_condition 135 = .ok (.getfield 157, 3) := dk_180 0 157 (dk_at dksX9_condition_5 17 rfl rfl)
theorem dX9_condition_138 : decode cX9_condition 138 = .ok (.ireturn, 1) := dk_172 (dk_at dksX9_condition_5 20 rfl rfl)
abbrev cX9_plain : ByteArray := prog_31_method_7_code
def yX9_plain : MethodName := ⟨RX9, "plain", "()I"⟩
def dkwX9_plain_0 : List UInt8 := [42, 180, 0, 157, 60, 42, 3, 181, 0, 157, 27, 172]
abbrev dktX9_plain_0 : List UInt8 := dkwX9_plain_0 ++ []
theorem dksX9_plain_0 : cX9_plain.data.toList.drop 0 = dktX9_plain_0 := by decide +kernel
theorem dX9_plain_0 : decode cX9_plain 0 = .ok (.aload_n 0, 1) := dk_42 (dk_at dksX9_plain_0 0 rfl rfl)
theorem dX9_plain_1 : decode cX9_plain 1 = .ok (.getfield 157, 3) := dk_180 0 157 (dk_at dksX9_plain_0 1 rfl rfl)
theorem dX9_plain_4 : decode cX9_plain 4 = .ok (.istore_n 1, 1) := dk_60 (dk_at dksX9_plain_0 4 rfl rfl)
theorem dX9_plain_5 : decode cX9_plain 5 = .ok (.aload_n 0, 1) := dk_42 (dk_at dksX9_plain_0 5 rfl rfl)
theorem dX9_plain_6 : decode cX9_plain 6 = .ok (.iconst 0, 1) := dk_3 (dk_at dksX9_plain_0 6 rfl rfl)
theorem dX9_plain_7 : decode cX9_plain 7 = .ok (.putfield 157, 3) := dk_181 0 157 (dk_at dksX9_plain_0 7 rfl rfl)
theorem dX9_plain_10 : decode cX9_plain 10 = .ok (.iload_n 1, 1) := dk_27 (dk_at dksX9_plain_0 10 rfl rfl)
theorem dX9_plain_11 : decode cX9_plain 11 = .ok (.ireturn, 1) := dk_172 (dk_at dksX9_plain_0 11 rfl rfl)
abbrev cX9_category : ByteArray := prog_31_method_12_code
def yX9_category : MethodName := ⟨RX9, "category", "(III)I"⟩
def dkwX9_category_1 : List UInt8 := [182, 0, 189, 167, 0, 4, 2, 172]
abbrev dktX9_category_1 : List UInt8 := dkwX9_category_1 ++ []
def dkwX9_category_0 : List UInt8 := [27, 184, 0, 185, 153, 0, 25, 29, 133, 9, 20, 0, 141, 184, 0, 143, 153, 0, 13, 42, 27, 28, 29]
abbrev dktX9_category_0 : List UInt8 := dkwX9_category_0 ++ dktX9_category_1
theorem dksX9_category_0 : cX9_category.data.toList.drop 0 = dktX9_category_0 := by decide +kernel
theorem dksX9_category_1 : cX9_category.data.toList.drop 23 = dktX9_category_1 := dk_seg dksX9_category_0 23 rfl rfl
theorem dX9_category_0 : decode cX9_category 0 = .ok (.iload_n 1, 1) := dk_27 (dk_at dksX9_category_0 0 rfl rfl)
theorem dX9_category_1 : decode cX9_category 1 = .ok (.invokestatic 185, 3) := dk_184 0 185 (dk_at dksX9_category_0 1 rfl rfl)
theorem dX9_category_4 : decode cX9_category 4 = .ok (.ifCond .eq 25, 3) := dk_153 0 25 (dk_at dksX9_category_0 4 rfl rfl)
theorem dX9_category_7 : decode cX9_category 7 = .ok (.iload_n 3, 1) := dk_29 (dk_at dksX9_category_0 7 rfl rfl)
theorem dX9_category_8 : decode cX9_category 8 = .ok (.i2l, 1) := dk_133 (dk_at dksX9_category_0 8 rfl rfl)
theorem dX9_category_9 : decode cX9_category 9 = .ok (.lconst 0, 1) := dk_9 (dk_at dksX9_category_0 9 rfl rfl)
theorem dX9_category_10 : decode cX9_category 10 = .ok (.ldc2_w 141, 3) := dk_20 0 141 (dk_at dksX9_category_0 10 rfl rfl)
theorem dX9_category_13 : decode cX9_category 13 = .ok (.invokestatic 143, 3) := dk_184 0 143 (dk_at dksX9_category_0 13 rfl rfl)
theorem dX9_category_16 : decode cX9_category 16 = .ok (.ifCond .eq 13, 3) := dk_153 0 13 (dk_at dksX9_category_0 16 rfl rfl)
theorem dX9_category_19 : decode cX9_category 19 = .ok (.aload_n 0, 1) := dk_42 (dk_at dksX9_category_0 19 rfl rfl)
theorem dX9_category_20 : decode cX9_category 20 = .ok (.iload_n 1, 1) := dk_27 (dk_at dksX9_category_0 20 rfl rfl)
theorem dX9_category_21 : decode cX9_category 21 = .ok (.iload_n 2, 1) := dk_28 (dk_at dksX9_category_0 21 rfl rfl)
theorem dX9_category_22 : decode cX9_category 22 = .ok (.iload_n 3, 1) := dk_29 (dk_at dksX9_category_0 22 rfl rfl)
theorem dX9_category_23 : decode cX9_category 23 = .ok (.invokevirtual 189, 3) := dk_182 0 189 (dk_at dksX9_category_1 0 rfl rfl)
theorem dX9_category_26 : decode cX9_category 26 = .ok (.goto 4, 3) := dk_167 0 4 (dk_at dksX9_category_1 3 rfl rfl)
theorem dX9_category_29 : decode cX9_category 29 = .ok (.iconst (-1), 1) := dk_2 (dk_at dksX9_category_1 6 rfl rfl)
theorem dX9_category_30 : decode cX9_category 30 = .ok (.ireturn, 1) := dk_172 (dk_at dksX9_category_1 7 rfl rfl)
abbrev cX9_isLanguage : ByteArray := prog_31_method_11_code
def yX9_isLanguage : MethodName := ⟨RX9, "isLanguage", "(I)Z"⟩
def dkwX9_isLanguage_0 : List UInt8 := [26, 133, 9, 20, 0, 141, 184, 0, 143, 172]
abbrev dktX9_isLanguage_0 : List UInt8 := dkwX9_isLanguage_0 ++ []
theorem dksX9_isLanguage_0 : cX9_isLanguage.data.toList.drop 0 = dktX9_isLanguage_0 := by decide +kernel
theorem dX9_isLanguage_0 : decode cX9_isLanguage 0 = .ok (.iload_n 0, 1) := dk_26 (dk_at dksX9_isLanguage_0 0 rfl rfl)
theorem dX9_isLanguage_1 : decode cX9_isLanguage 1 = .ok (.i2l, 1) := dk_133 (dk_at dksX9_isLanguage_0 1 rfl rfl)
theorem dX9_isLanguage_2 : decode cX9_isLanguage 2 = .ok (.lconst 0, 1) := dk_9 (dk_at dksX9_isLanguage_0 2 rfl rfl)
theorem dX9_isLanguage_3 : decode cX9_isLanguage 3 = .ok (.ldc2_w 141, 3) := dk_20 0 141 (dk_at dksX9_isLanguage_0 3 rfl rfl)
theorem dX9_isLanguage_6 : decode cX9_isLanguage 6 = .ok (.invokestatic 143, 3) := dk_184 0 143 (dk_at dksX9_isLanguage_0 6 rfl rfl)
theorem dX9_isLanguage_9 : decode cX9_isLanguage 9 = .ok (.ireturn, 1) := dk_172 (dk_at dksX9_isLanguage_0 9 rfl rfl)
abbrev cX9_categoryOf : ByteArray := prog_31_method_10_code
def yX9_categoryOf : MethodName := ⟨RX9, "categoryOf", "(III)I"⟩
def dkwX9_categoryOf_1 : List UInt8 := [167, 255, 235, 21, 4, 172]
abbrev dktX9_categoryOf_1 : List UInt8 := dkwX9_categoryOf_1 ++ []
def dkwX9_categoryOf_0 : List UInt8 := [3, 54, 4, 21, 4, 8, 162, 0, 21, 42, 27, 21, 4, 28, 29, 182, 0, 181, 154, 0, 9, 132, 4, 1]
abbrev dktX9_categoryOf_0 : List UInt8 := dkwX9_categoryOf_0 ++ dktX9_categoryOf_1
theorem dksX9_categoryOf_0 : cX9_categoryOf.data.toList.drop 0 = dktX9_categoryOf_0 := by decide +kernel
theorem dksX9_categoryOf_1 : cX9_categoryOf.data.toList.drop 24 = dktX9_categoryOf_1 := dk_seg dksX9_categoryOf_0 24 rfl rfl
theorem dX9_categoryOf_0 : decode cX9_categoryOf 0 = .ok (.iconst 0, 1) := dk_3 (dk_at dksX9_categoryOf_0 0 rfl rfl)
theorem dX9_categoryOf_1 : decode cX9_categoryOf 1 = .ok (.istore 4, 2) := dk_54 4 (dk_at dksX9_categoryOf_0 1 rfl rfl)
theorem dX9_categoryOf_3 : decode cX9_categoryOf 3 = .ok (.iload 4, 2) := dk_21 4 (dk_at dksX9_categoryOf_0 3 rfl rfl)
theorem dX9_categoryOf_5 : decode cX9_categoryOf 5 = .ok (.iconst 5, 1) := dk_8 (dk_at dksX9_categoryOf_0 5 rfl rfl)
theorem dX9_categoryOf_6 : decode cX9_categoryOf 6 = .ok (.if_icmp .ge 21, 3) := dk_162 0 21 (dk_at dksX9_categoryOf_0 6 rfl rfl)
theorem dX9_categoryOf_9 : decode cX9_categoryOf 9 = .ok (.aload_n 0, 1) := dk_42 (dk_at dksX9_categoryOf_0 9 rfl rfl)
theorem dX9_categoryOf_10 : decode cX9_categoryOf 10 = .ok (.iload_n 1, 1) := dk_27 (dk_at dksX9_categoryOf_0 10 rfl rfl)
theorem dX9_categoryOf_11 : decode cX9_categoryOf 11 = .ok (.iload 4, 2) := dk_21 4 (dk_at dksX9_categoryOf_0 11 rfl rfl)
theorem dX9_categoryOf_13 : decode cX9_categoryOf 13 = .ok (.iload_n 2, 1) := dk_28 (dk_at dksX9_categoryOf_0 13 rfl rfl)
theorem dX9_categoryOf_14 : decode cX9_categoryOf 14 = .ok (.iload_n 3, 1) := dk_29 (dk_at dksX9_categoryOf_0 14 rfl rfl)
theorem dX9_categoryOf_15 : decode cX9_categoryOf 15 = .ok (.invokevirtual 181, 3) := dk_182 0 181 (dk_at dksX9_categoryOf_0 15 rfl rfl)
theorem dX9_categoryOf_18 : decode cX9_categoryOf 18 = .ok (.ifCond .ne 9, 3) := dk_154 0 9 (dk_at dksX9_categoryOf_0 18 rfl rfl)
theorem dX9_categoryOf_21 : decode cX9_categoryOf 21 = .ok (.iinc 4 1, 3) := dk_132 4 1 (dk_at dksX9_categoryOf_0 21 rfl rfl)
theorem dX9_categoryOf_24 : decode cX9_categoryOf 24 = .ok (.goto (-21), 3) := dk_167 255 235 (dk_at dksX9_categoryOf_1 0 rfl rfl)
theorem dX9_categoryOf_27 : decode cX9_categoryOf 27 = .ok (.iload 4, 2) := dk_21 4 (dk_at dksX9_categoryOf_1 3 rfl rfl)
theorem dX9_categoryOf_29 : decode cX9_categoryOf 29 = .ok (.ireturn, 1) := dk_172 (dk_at dksX9_categoryOf_1 5 rfl rfl)
abbrev cX9_holds : ByteArray := prog_31_method_9_code
def yX9_holds : MethodName := ⟨RX9, "holds", "(IIII)Z"⟩
def dkwX9_holds_14 : List UInt8 := [172, 27, 16, 6, 160, 0, 18, 42, 28, 29, 21, 4, 182, 0, 177, 153, 0, 7, 4, 167, 0, 4, 3, 172]
abbrev dktX9_holds_14 : List UInt8 := dkwX9_holds_14 ++ []
def dkwX9_holds_13 : List UInt8 := [21, 13, 153, 0, 21, 22, 11, 20, 0, 169, 20, 0, 175, 184, 0, 143, 153, 0, 7, 4, 167, 0, 4, 3]
abbrev dktX9_holds_13 : List UInt8 := dkwX9_holds_13 ++ dktX9_holds_14
def dkwX9_holds_12 : List UInt8 := [153, 0, 21, 22, 11, 20, 0, 173, 20, 0, 135, 184, 0, 143, 153, 0, 7, 4, 167, 0, 4, 3, 172]
abbrev dktX9_holds_12 : List UInt8 := dkwX9_holds_12 ++ dktX9_holds_13
def dkwX9_holds_11 : List UInt8 := [22, 5, 20, 0, 163, 148, 154, 0, 12, 21, 13, 153, 0, 7, 4, 167, 0, 4, 3, 172, 21, 13]
abbrev dktX9_holds_11 : List UInt8 := dkwX9_holds_11 ++ dktX9_holds_12
def dkwX9_holds_10 : List UInt8 := [167, 0, 4, 3, 172, 22, 5, 9, 148, 154, 0, 12, 21, 13, 153, 0, 7, 4, 167, 0, 4, 3, 172]
abbrev dktX9_holds_10 : List UInt8 := dkwX9_holds_10 ++ dktX9_holds_11
def dkwX9_holds_9 : List UInt8 := [154, 0, 7, 4, 167, 0, 23, 3, 167, 0, 19, 22, 7, 20, 0, 135, 113, 10, 148, 154, 0, 7, 4]
abbrev dktX9_holds_9 : List UInt8 := dkwX9_holds_9 ++ dktX9_holds_10
def dkwX9_holds_8 : List UInt8 := [20, 0, 171, 184, 0, 143, 153, 0, 7, 4, 167, 0, 4, 3, 172, 21, 13, 153, 0, 18, 22, 9, 10, 148]
abbrev dktX9_holds_8 : List UInt8 := dkwX9_holds_8 ++ dktX9_holds_9
def dkwX9_holds_7 : List UInt8 := [3, 172, 21, 13, 172, 21, 13, 153, 0, 28, 22, 9, 9, 148, 153, 0, 17, 22, 11, 20, 0, 169]
abbrev dktX9_holds_7 : List UInt8 := dkwX9_holds_7 ++ dktX9_holds_8
def dkwX9_holds_6 : List UInt8 := [184, 0, 143, 153, 0, 21, 22, 11, 20, 0, 165, 20, 0, 167, 184, 0, 143, 154, 0, 7, 4, 167, 0, 4]
abbrev dktX9_holds_6 : List UInt8 := dkwX9_holds_6 ++ dktX9_holds_7
def dkwX9_holds_5 : List UInt8 := [157, 0, 7, 4, 167, 0, 4, 3, 172, 21, 13, 153, 0, 35, 22, 9, 20, 0, 163, 20, 0, 147]
abbrev dktX9_holds_5 : List UInt8 := dkwX9_holds_5 ++ dktX9_holds_6
def dkwX9_holds_4 : List UInt8 := [22, 5, 10, 148, 154, 0, 12, 21, 13, 153, 0, 7, 4, 167, 0, 4, 3, 172, 22, 5, 10, 148]
abbrev dktX9_holds_4 : List UInt8 := dkwX9_holds_4 ++ dktX9_holds_5
def dkwX9_holds_3 : List UInt8 := [170, 0, 0, 0, 0, 0, 1, 166, 0, 0, 0, 1, 0, 0, 0, 44, 0, 0, 0, 192, 0, 0, 1, 166, 0, 0, 1, 166, 0, 0, 1, 166, 0, 0, 1, 166, 0, 0, 1, 166, 0, 0, 1, 166, 0, 0, 1, 166, 0, 0, 1, 166, 0, 0, 1, 166, 0, 0, 0, 210, 0, 0, 1, 166, 0, 0, 1, 166, 0, 0, 1, 166, 0, 0, 1, 166, 0, 0, 1, 166, 0, 0, 1, 166, 0, 0, 1, 166, 0, 0, 1, 166, 0, 0, 1, 166, 0, 0, 0, 192, 0, 0, 1, 166, 0, 0, 0, 223, 0, 0, 1, 6, 0, 0, 1, 166, 0, 0, 1, 166, 0, 0, 1, 166, 0, 0, 1, 166, 0, 0, 1, 166, 0, 0, 1, 9, 0, 0, 1, 41, 0, 0, 1, 166, 0, 0, 1, 166, 0, 0, 1, 166, 0, 0, 1, 166, 0, 0, 1, 166, 0, 0, 1, 166, 0, 0, 1, 166, 0, 0, 1, 166, 0, 0, 1, 78, 0, 0, 0, 192, 0, 0, 1, 96, 0, 0, 1, 116, 0, 0, 1, 141]
abbrev dktX9_holds_3 : List UInt8 := dkwX9_holds_3 ++ dktX9_holds_4
def dkwX9_holds_2 : List UInt8 := [27, 104, 28, 96]
abbrev dktX9_holds_2 : List UInt8 := dkwX9_holds_2 ++ dktX9_holds_3
def dkwX9_holds_1 : List UInt8 := [55, 9, 22, 5, 20, 0, 161, 113, 55, 11, 21, 4, 154, 0, 7, 4, 167, 0, 4, 3, 54, 13, 16, 10]
abbrev dktX9_holds_1 : List UInt8 := dkwX9_holds_1 ++ dktX9_holds_2
def dkwX9_holds_0 : List UInt8 := [29, 21, 4, 3, 184, 0, 149, 55, 5, 29, 21, 4, 5, 184, 0, 149, 55, 7, 22, 5, 20, 0, 135, 113]
abbrev dktX9_holds_0 : List UInt8 := dkwX9_holds_0 ++ dktX9_holds_1
theorem dksX9_holds_0 : cX9_holds.data.toList.drop 0 = dktX9_holds_0 := by decide +kernel
theorem dksX9_holds_1 : cX9_holds.data.toList.drop 24 = dktX9_holds_1 := dk_seg dksX9_holds_0 24 rfl rfl
theorem dksX9_holds_2 : cX9_holds.data.toList.drop 48 = dktX9_holds_2 := dk_seg dksX9_holds_1 24 rfl rfl
theorem dksX9_holds_3 : cX9_holds.data.toList.drop 52 = dktX9_holds_3 := dk_seg dksX9_holds_2 4 rfl rfl
theorem dksX9_holds_4 : cX9_holds.data.toList.drop 244 = dktX9_holds_4 := dk_seg dksX9_holds_3 192 rfl rfl
theorem dksX9_holds_5 : cX9_holds.data.toList.drop 266 = dktX9_holds_5 := dk_seg dksX9_holds_4 22 rfl rfl
theorem dksX9_holds_6 : cX9_holds.data.toList.drop 288 = dktX9_holds_6 := dk_seg dksX9_holds_5 22 rfl rfl
theorem dksX9_holds_7 : cX9_holds.data.toList.drop 312 = dktX9_holds_7 := dk_seg dksX9_holds_6 24 rfl rfl
theorem dksX9_holds_8 : cX9_holds.data.toList.drop 334 = dktX9_holds_8 := dk_seg dksX9_holds_7 22 rfl rfl
theorem dksX9_holds_9 : cX9_holds.data.toList.drop 358 = dktX9_holds_9 := dk_seg dksX9_holds_8 24 rfl rfl
theorem dksX9_holds_10 : cX9_holds.data.toList.drop 381 = dktX9_holds_10 := dk_seg dksX9_holds_9 23 rfl rfl
theorem dksX9_holds_11 : cX9_holds.data.toList.drop 404 = dktX9_holds_11 := dk_seg dksX9_holds_10 23 rfl rfl
theorem dksX9_holds_12 : cX9_holds.data.toList.drop 426 = dktX9_holds_12 := dk_seg dksX9_holds_11 22 rfl rfl
theorem dksX9_holds_13 : cX9_holds.data.toList.drop 449 = dktX9_holds_13 := dk_seg dksX9_holds_12 23 rfl rfl
theorem dksX9_holds_14 : cX9_holds.data.toList.drop 473 = dktX9_holds_14 := dk_seg dksX9_holds_13 24 rfl rfl
theorem dX9_holds_0 : decode cX9_holds 0 = .ok (.iload_n 3, 1) := dk_29 (dk_at dksX9_holds_0 0 rfl rfl)
theorem dX9_holds_1 : decode cX9_holds 1 = .ok (.iload 4, 2) := dk_21 4 (dk_at dksX9_holds_0 1 rfl rfl)
theorem dX9_holds_3 : decode cX9_holds 3 = .ok (.iconst 0, 1) := dk_3 (dk_at dksX9_holds_0 3 rfl rfl)
theorem dX9_holds_4 : decode cX9_holds 4 = .ok (.invokestatic 149, 3) := dk_184 0 149 (dk_at dksX9_holds_0 4 rfl rfl)
theorem dX9_holds_7 : decode cX9_holds 7 = .ok (.lstore 5, 2) := dk_55 5 (dk_at dksX9_holds_0 7 rfl rfl)
theorem dX9_holds_9 : decode cX9_holds 9 = .ok (.iload_n 3, 1) := dk_29 (dk_at dksX9_holds_0 9 rfl rfl)
theorem dX9_holds_10 : decode cX9_holds 10 = .ok (.iload 4, 2) := dk_21 4 (dk_at dksX9_holds_0 10 rfl rfl)
theorem dX9_holds_12 : decode cX9_holds 12 = .ok (.iconst 2, 1) := dk_5 (dk_at dksX9_holds_0 12 rfl rfl)
theorem dX9_holds_13 : decode cX9_holds 13 = .ok (.invokestatic 149, 3) := dk_184 0 149 (dk_at dksX9_holds_0 13 rfl rfl)
theorem dX9_holds_16 : decode cX9_holds 16 = .ok (.lstore 7, 2) := dk_55 7 (dk_at dksX9_holds_0 16 rfl rfl)
theorem dX9_holds_18 : decode cX9_holds 18 = .ok (.lload 5, 2) := dk_22 5 (dk_at dksX9_holds_0 18 rfl rfl)
theorem dX9_holds_20 : decode cX9_holds 20 = .ok (.ldc2_w 135, 3) := dk_20 0 135 (dk_at dksX9_holds_0 20 rfl rfl)
theorem dX9_holds_23 : decode cX9_holds 23 = .ok (.lrem, 1) := dk_113 (dk_at dksX9_holds_0 23 rfl rfl)
theorem dX9_holds_24 : decode cX9_holds 24 = .ok (.lstore 9, 2) := dk_55 9 (dk_at dksX9_holds_1 0 rfl rfl)
theorem dX9_holds_26 : decode cX9_holds 26 = .ok (.lload 5, 2) := dk_22 5 (dk_at dksX9_holds_1 2 rfl rfl)
theorem dX9_holds_28 : decode cX9_holds 28 = .ok (.ldc2_w 161, 3) := dk_20 0 161 (dk_at dksX9_holds_1 4 rfl rfl)
theorem dX9_holds_31 : decode cX9_holds 31 = .ok (.lrem, 1) := dk_113 (dk_at dksX9_holds_1 7 rfl rfl)
theorem dX9_holds_32 : decode cX9_holds 32 = .ok (.lstore 11, 2) := dk_55 11 (dk_at dksX9_holds_1 8 rfl rfl)
theorem dX9_holds_34 : decode cX9_holds 34 = .ok (.iload 4, 2) := dk_21 4 (dk_at dksX9_holds_1 10 rfl rfl)
theorem dX9_holds_36 : decode cX9_holds 36 = .ok (.ifCond .ne 7, 3) := dk_154 0 7 (dk_at dksX9_holds_1 12 rfl rfl)
theorem dX9_holds_39 : decode cX9_holds 39 = .ok (.iconst 1, 1) := dk_4 (dk_at dksX9_holds_1 15 rfl rfl)
theorem dX9_holds_40 : decode cX9_holds 40 = .ok (.goto 4, 3) := dk_167 0 4 (dk_at dksX9_holds_1 16 rfl rfl)
theorem dX9_holds_43 : decode cX9_holds 43 = .ok (.iconst 0, 1) := dk_3 (dk_at dksX9_holds_1 19 rfl rfl)
theorem dX9_holds_44 : decode cX9_holds 44 = .ok (.istore 13, 2) := dk_54 13 (dk_at dksX9_holds_1 20 rfl rfl)
theorem dX9_holds_46 : decode cX9_holds 46 = .ok (.bipush 10, 2) := dk_16 10 (dk_at dksX9_holds_1 22 rfl rfl)
theorem dX9_holds_48 : decode cX9_holds 48 = .ok (.iload_n 1, 1) := dk_27 (dk_at dksX9_holds_2 0 rfl rfl)
theorem dX9_holds_49 : decode cX9_holds 49 = .ok (.imul, 1) := dk_104 (dk_at dksX9_holds_2 1 rfl rfl)
theorem dX9_holds_50 : decode cX9_holds 50 = .ok (.iload_n 2, 1) := dk_28 (dk_at dksX9_holds_2 2 rfl rfl)
theorem dX9_holds_51 : decode cX9_holds 51 = .ok (.iadd, 1) := dk_96 (dk_at dksX9_holds_2 3 rfl rfl)
theorem dX9_holds_52 : decode cX9_holds 52 = .ok (.tableswitch 422 1 44 #[192, 422, 422, 422, 422, 422, 422, 422, 422, 422, 210, 422, 422, 422, 422, 422, 422, 422, 422, 422, 192, 422, 223, 262, 422, 422, 422, 422, 422, 265, 297, 422, 422, 422, 422, 422, 422, 422, 422, 334, 192, 352, 372, 397], 192) := by decide +kernel
theorem dX9_holds_244 : decode cX9_holds 244 = .ok (.lload 5, 2) := dk_22 5 (dk_at dksX9_holds_4 0 rfl rfl)
theorem dX9_holds_246 : decode cX9_holds 246 = .ok (.lconst 1, 1) := dk_10 (dk_at dksX9_holds_4 2 rfl rfl)
theorem dX9_holds_247 : decode cX9_holds 247 = .ok (.lcmp, 1) := dk_148 (dk_at dksX9_holds_4 3 rfl rfl)
theorem dX9_holds_248 : decode cX9_holds 248 = .ok (.ifCond .ne 12, 3) := dk_154 0 12 (dk_at dksX9_holds_4 4 rfl rfl)
theorem dX9_holds_251 : decode cX9_holds 251 = .ok (.iload 13, 2) := dk_21 13 (dk_at dksX9_holds_4 7 rfl rfl)
theorem dX9_holds_253 : decode cX9_holds 253 = .ok (.ifCond .eq 7, 3) := dk_153 0 7 (dk_at dksX9_holds_4 9 rfl rfl)
theorem dX9_holds_256 : decode cX9_holds 256 = .ok (.iconst 1, 1) := dk_4 (dk_at dksX9_holds_4 12 rfl rfl)
theorem dX9_holds_257 : decode cX9_holds 257 = .ok (.goto 4, 3) := dk_167 0 4 (dk_at dksX9_holds_4 13 rfl rfl)
theorem dX9_holds_260 : decode cX9_holds 260 = .ok (.iconst 0, 1) := dk_3 (dk_at dksX9_holds_4 16 rfl rfl)
theorem dX9_holds_261 : decode cX9_holds 261 = .ok (.ireturn, 1) := dk_172 (dk_at dksX9_holds_4 17 rfl rfl)
theorem dX9_holds_262 : decode cX9_holds 262 = .ok (.lload 5, 2) := dk_22 5 (dk_at dksX9_holds_4 18 rfl rfl)
theorem dX9_holds_264 : decode cX9_holds 264 = .ok (.lconst 1, 1) := dk_10 (dk_at dksX9_holds_4 20 rfl rfl)
theorem dX9_holds_265 : decode cX9_holds 265 = .ok (.lcmp, 1) := dk_148 (dk_at dksX9_holds_4 21 rfl rfl)
theorem dX9_holds_266 : decode cX9_holds 266 = .ok (.ifCond .gt 7, 3) := dk_157 0 7 (dk_at dksX9_holds_5 0 rfl rfl)
theorem dX9_holds_269 : decode cX9_holds 269 = .ok (.iconst 1, 1) := dk_4 (dk_at dksX9_holds_5 3 rfl rfl)
theorem dX9_holds_270 : decode cX9_holds 270 = .ok (.goto 4, 3) := dk_167 0 4 (dk_at dksX9_holds_5 4 rfl rfl)
theorem dX9_holds_273 : decode cX9_holds 273 = .ok (.iconst 0, 1) := dk_3 (dk_at dksX9_holds_5 7 rfl rfl)
theorem dX9_holds_274 : decode cX9_holds 274 = .ok (.ireturn, 1) := dk_172 (dk_at dksX9_holds_5 8 rfl rfl)
theorem dX9_holds_275 : decode cX9_holds 275 = .ok (.iload 13, 2) := dk_21 13 (dk_at dksX9_holds_5 9 rfl rfl)
theorem dX9_holds_277 : decode cX9_holds 277 = .ok (.ifCond .eq 35, 3) := dk_153 0 35 (dk_at dksX9_holds_5 11 rfl rfl)
theorem dX9_holds_280 : decode cX9_holds 280 = .ok (.lload 9, 2) := dk_22 9 (dk_at dksX9_holds_5 14 rfl rfl)
theorem dX9_holds_282 : decode cX9_holds 282 = .ok (.ldc2_w 163, 3) := dk_20 0 163 (dk_at dksX9_holds_5 16 rfl rfl)
theorem dX9_holds_285 : decode cX9_holds 285 = .ok (.ldc2_w 147, 3) := dk_20 0 147 (dk_at dksX9_holds_5 19 rfl rfl)
theorem dX9_holds_288 : decode cX9_holds 288 = .ok (.invokestatic 143, 3) := dk_184 0 143 (dk_at dksX9_holds_6 0 rfl rfl)
theorem dX9_holds_291 : decode cX9_holds 291 = .ok (.ifCond .eq 21, 3) := dk_153 0 21 (dk_at dksX9_holds_6 3 rfl rfl)
theorem dX9_holds_294 : decode cX9_holds 294 = .ok (.lload 11, 2) := dk_22 11 (dk_at dksX9_holds_6 6 rfl rfl)
theorem dX9_holds_296 : decode cX9_holds 296 = .ok (.ldc2_w 165, 3) := dk_20 0 165 (dk_at dksX9_holds_6 8 rfl rfl)
theorem dX9_holds_299 : decode cX9_holds 299 = .ok (.ldc2_w 167, 3) := dk_20 0 167 (dk_at dksX9_holds_6 11 rfl rfl)
theorem dX9_holds_302 : decode cX9_holds 302 = .ok (.invokestatic 143, 3) := dk_184 0 143 (dk_at dksX9_holds_6 14 rfl rfl)
theorem dX9_holds_305 : decode cX9_holds 305 = .ok (.ifCond .ne 7, 3) := dk_154 0 7 (dk_at dksX9_holds_6 17 rfl rfl)
theorem dX9_holds_308 : decode cX9_holds 308 = .ok (.iconst 1, 1) := dk_4 (dk_at dksX9_holds_6 20 rfl rfl)
theorem dX9_holds_309 : decode cX9_holds 309 = .ok (.goto 4, 3) := dk_167 0 4 (dk_at dksX9_holds_6 21 rfl rfl)
theorem dX9_holds_312 : decode cX9_holds 312 = .ok (.iconst 0, 1) := dk_3 (dk_at dksX9_holds_7 0 rfl rfl)
theorem dX9_holds_313 : decode cX9_holds 313 = .ok (.ireturn, 1) := dk_172 (dk_at dksX9_holds_7 1 rfl rfl)
theorem dX9_holds_314 : decode cX9_holds 314 = .ok (.iload 13, 2) := dk_21 13 (dk_at dksX9_holds_7 2 rfl rfl)
theorem dX9_holds_316 : decode cX9_holds 316 = .ok (.ireturn, 1) := dk_172 (dk_at dksX9_holds_7 4 rfl rfl)
theorem dX9_holds_317 : decode cX9_holds 317 = .ok (.iload 13, 2) := dk_21 13 (dk_at dksX9_holds_7 5 rfl rfl)
theorem dX9_holds_319 : decode cX9_holds 319 = .ok (.ifCond .eq 28, 3) := dk_153 0 28 (dk_at dksX9_holds_7 7 rfl rfl)
theorem dX9_holds_322 : decode cX9_holds 322 = .ok (.lload 9, 2) := dk_22 9 (dk_at dksX9_holds_7 10 rfl rfl)
theorem dX9_holds_324 : decode cX9_holds 324 = .ok (.lconst 0, 1) := dk_9 (dk_at dksX9_holds_7 12 rfl rfl)
theorem dX9_holds_325 : decode cX9_holds 325 = .ok (.lcmp, 1) := dk_148 (dk_at dksX9_holds_7 13 rfl rfl)
theorem dX9_holds_326 : decode cX9_holds 326 = .ok (.ifCond .eq 17, 3) := dk_153 0 17 (dk_at dksX9_holds_7 14 rfl rfl)
theorem dX9_holds_329 : decode cX9_holds 329 = .ok (.lload 11, 2) := dk_22 11 (dk_at dksX9_holds_7 17 rfl rfl)
theorem dX9_holds_331 : decode cX9_holds 331 = .ok (.ldc2_w 169, 3) := dk_20 0 169 (dk_at dksX9_holds_7 19 rfl rfl)
theorem dX9_holds_334 : decode cX9_holds 334 = .ok (.ldc2_w 171, 3) := dk_20 0 171 (dk_at dksX9_holds_8 0 rfl rfl)
theorem dX9_holds_337 : decode cX9_holds 337 = .ok (.invokestatic 143, 3) := dk_184 0 143 (dk_at dksX9_holds_8 3 rfl rfl)
theorem dX9_holds_340 : decode cX9_holds 340 = .ok (.ifCond .eq 7, 3) := dk_153 0 7 (dk_at dksX9_holds_8 6 rfl rfl)
theorem dX9_holds_343 : decode cX9_holds 343 = .ok (.iconst 1, 1) := dk_4 (dk_at dksX9_holds_8 9 rfl rfl)
theorem dX9_holds_344 : decode cX9_holds 344 = .ok (.goto 4, 3) := dk_167 0 4 (dk_at dksX9_holds_8 10 rfl rfl)
theorem dX9_holds_347 : decode cX9_holds 347 = .ok (.iconst 0, 1) := dk_3 (dk_at dksX9_holds_8 13 rfl rfl)
theorem dX9_holds_348 : decode cX9_holds 348 = .ok (.ireturn, 1) := dk_172 (dk_at dksX9_holds_8 14 rfl rfl)
theorem dX9_holds_349 : decode cX9_holds 349 = .ok (.iload 13, 2) := dk_21 13 (dk_at dksX9_holds_8 15 rfl rfl)
theorem dX9_holds_351 : decode cX9_holds 351 = .ok (.ifCond .eq 18, 3) := dk_153 0 18 (dk_at dksX9_holds_8 17 rfl rfl)
theorem dX9_holds_354 : decode cX9_holds 354 = .ok (.lload 9, 2) := dk_22 9 (dk_at dksX9_holds_8 20 rfl rfl)
theorem dX9_holds_356 : decode cX9_holds 356 = .ok (.lconst 1, 1) := dk_10 (dk_at dksX9_holds_8 22 rfl rfl)
theorem dX9_holds_357 : decode cX9_holds 357 = .ok (.lcmp, 1) := dk_148 (dk_at dksX9_holds_8 23 rfl rfl)
theorem dX9_holds_358 : decode cX9_holds 358 = .ok (.ifCond .ne 7, 3) := dk_154 0 7 (dk_at dksX9_holds_9 0 rfl rfl)
theorem dX9_holds_361 : decode cX9_holds 361 = .ok (.iconst 1, 1) := dk_4 (dk_at dksX9_holds_9 3 rfl rfl)
theorem dX9_holds_362 : decode cX9_holds 362 = .ok (.goto 23, 3) := dk_167 0 23 (dk_at dksX9_holds_9 4 rfl rfl)
theorem dX9_holds_365 : decode cX9_holds 365 = .ok (.iconst 0, 1) := dk_3 (dk_at dksX9_holds_9 7 rfl rfl)
theorem dX9_holds_366 : decode cX9_holds 366 = .ok (.goto 19, 3) := dk_167 0 19 (dk_at dksX9_holds_9 8 rfl rfl)
theorem dX9_holds_369 : decode cX9_holds 369 = .ok (.lload 7, 2) := dk_22 7 (dk_at dksX9_holds_9 11 rfl rfl)
theorem dX9_holds_371 : decode cX9_holds 371 = .ok (.ldc2_w 135, 3) := dk_20 0 135 (dk_at dksX9_holds_9 13 rfl rfl)
theorem dX9_holds_374 : decode cX9_holds 374 = .ok (.lrem, 1) := dk_113 (dk_at dksX9_holds_9 16 rfl rfl)
theorem dX9_holds_375 : decode cX9_holds 375 = .ok (.lconst 1, 1) := dk_10 (dk_at dksX9_holds_9 17 rfl rfl)
theorem dX9_holds_376 : decode cX9_holds 376 = .ok (.lcmp, 1) := dk_148 (dk_at dksX9_holds_9 18 rfl rfl)
theorem dX9_holds_377 : decode cX9_holds 377 = .ok (.ifCond .ne 7, 3) := dk_154 0 7 (dk_at dksX9_holds_9 19 rfl rfl)
theorem dX9_holds_380 : decode cX9_holds 380 = .ok (.iconst 1, 1) := dk_4 (dk_at dksX9_holds_9 22 rfl rfl)
theorem dX9_holds_381 : decode cX9_holds 381 = .ok (.goto 4, 3) := dk_167 0 4 (dk_at dksX9_holds_10 0 rfl rfl)
theorem dX9_holds_384 : decode cX9_holds 384 = .ok (.iconst 0, 1) := dk_3 (dk_at dksX9_holds_10 3 rfl rfl)
theorem dX9_holds_385 : decode cX9_holds 385 = .ok (.ireturn, 1) := dk_172 (dk_at dksX9_holds_10 4 rfl rfl)
theorem dX9_holds_386 : decode cX9_holds 386 = .ok (.lload 5, 2) := dk_22 5 (dk_at dksX9_holds_10 5 rfl rfl)
theorem dX9_holds_388 : decode cX9_holds 388 = .ok (.lconst 0, 1) := dk_9 (dk_at dksX9_holds_10 7 rfl rfl)
theorem dX9_holds_389 : decode cX9_holds 389 = .ok (.lcmp, 1) := dk_148 (dk_at dksX9_holds_10 8 rfl rfl)
theorem dX9_holds_390 : decode cX9_holds 390 = .ok (.ifCond .ne 12, 3) := dk_154 0 12 (dk_at dksX9_holds_10 9 rfl rfl)
theorem dX9_holds_393 : decode cX9_holds 393 = .ok (.iload 13, 2) := dk_21 13 (dk_at dksX9_holds_10 12 rfl rfl)
theorem dX9_holds_395 : decode cX9_holds 395 = .ok (.ifCond .eq 7, 3) := dk_153 0 7 (dk_at dksX9_holds_10 14 rfl rfl)
theorem dX9_holds_398 : decode cX9_holds 398 = .ok (.iconst 1, 1) := dk_4 (dk_at dksX9_holds_10 17 rfl rfl)
theorem dX9_holds_399 : decode cX9_holds 399 = .ok (.goto 4, 3) := dk_167 0 4 (dk_at dksX9_holds_10 18 rfl rfl)
theorem dX9_holds_402 : decode cX9_holds 402 = .ok (.iconst 0, 1) := dk_3 (dk_at dksX9_holds_10 21 rfl rfl)
theorem dX9_holds_403 : decode cX9_holds 403 = .ok (.ireturn, 1) := dk_172 (dk_at dksX9_holds_10 22 rfl rfl)
theorem dX9_holds_404 : decode cX9_holds 404 = .ok (.lload 5, 2) := dk_22 5 (dk_at dksX9_holds_11 0 rfl rfl)
theorem dX9_holds_406 : decode cX9_holds 406 = .ok (.ldc2_w 163, 3) := dk_20 0 163 (dk_at dksX9_holds_11 2 rfl rfl)
theorem dX9_holds_409 : decode cX9_holds 409 = .ok (.lcmp, 1) := dk_148 (dk_at dksX9_holds_11 5 rfl rfl)
theorem dX9_holds_410 : decode cX9_holds 410 = .ok (.ifCond .ne 12, 3) := dk_154 0 12 (dk_at dksX9_holds_11 6 rfl rfl)
theorem dX9_holds_413 : decode cX9_holds 413 = .ok (.iload 13, 2) := dk_21 13 (dk_at dksX9_holds_11 9 rfl rfl)
theorem dX9_holds_415 : decode cX9_holds 415 = .ok (.ifCond .eq 7, 3) := dk_153 0 7 (dk_at dksX9_holds_11 11 rfl rfl)
theorem dX9_holds_418 : decode cX9_holds 418 = .ok (.iconst 1, 1) := dk_4 (dk_at dksX9_holds_11 14 rfl rfl)
theorem dX9_holds_419 : decode cX9_holds 419 = .ok (.goto 4, 3) := dk_167 0 4 (dk_at dksX9_holds_11 15 rfl rfl)
theorem dX9_holds_422 : decode cX9_holds 422 = .ok (.iconst 0, 1) := dk_3 (dk_at dksX9_holds_11 18 rfl rfl)
theorem dX9_holds_423 : decode cX9_holds 423 = .ok (.ireturn, 1) := dk_172 (dk_at dksX9_holds_11 19 rfl rfl)
theorem dX9_holds_424 : decode cX9_holds 424 = .ok (.iload 13, 2) := dk_21 13 (dk_at dksX9_holds_11 20 rfl rfl)
theorem dX9_holds_426 : decode cX9_holds 426 = .ok (.ifCond .eq 21, 3) := dk_153 0 21 (dk_at dksX9_holds_12 0 rfl rfl)
theorem dX9_holds_429 : decode cX9_holds 429 = .ok (.lload 11, 2) := dk_22 11 (dk_at dksX9_holds_12 3 rfl rfl)
theorem dX9_holds_431 : decode cX9_holds 431 = .ok (.ldc2_w 173, 3) := dk_20 0 173 (dk_at dksX9_holds_12 5 rfl rfl)
theorem dX9_holds_434 : decode cX9_holds 434 = .ok (.ldc2_w 135, 3) := dk_20 0 135 (dk_at dksX9_holds_12 8 rfl rfl)
theorem dX9_holds_437 : decode cX9_holds 437 = .ok (.invokestatic 143, 3) := dk_184 0 143 (dk_at dksX9_holds_12 11 rfl rfl)
theorem dX9_holds_440 : decode cX9_holds 440 = .ok (.ifCond .eq 7, 3) := dk_153 0 7 (dk_at dksX9_holds_12 14 rfl rfl)
theorem dX9_holds_443 : decode cX9_holds 443 = .ok (.iconst 1, 1) := dk_4 (dk_at dksX9_holds_12 17 rfl rfl)
theorem dX9_holds_444 : decode cX9_holds 444 = .ok (.goto 4, 3) := dk_167 0 4 (dk_at dksX9_holds_12 18 rfl rfl)
theorem dX9_holds_447 : decode cX9_holds 447 = .ok (.iconst 0, 1) := dk_3 (dk_at dksX9_holds_12 21 rfl rfl)
theorem dX9_holds_448 : decode cX9_holds 448 = .ok (.ireturn, 1) := dk_172 (dk_at dksX9_holds_12 22 rfl rfl)
theorem dX9_holds_449 : decode cX9_holds 449 = .ok (.iload 13, 2) := dk_21 13 (dk_at dksX9_holds_13 0 rfl rfl)
theorem dX9_holds_451 : decode cX9_holds 451 = .ok (.ifCond .eq 21, 3) := dk_153 0 21 (dk_at dksX9_holds_13 2 rfl rfl)
theorem dX9_holds_454 : decode cX9_holds 454 = .ok (.lload 11, 2) := dk_22 11 (dk_at dksX9_holds_13 5 rfl rfl)
theorem dX9_holds_456 : decode cX9_holds 456 = .ok (.ldc2_w 169, 3) := dk_20 0 169 (dk_at dksX9_holds_13 7 rfl rfl)
theorem dX9_holds_459 : decode cX9_holds 459 = .ok (.ldc2_w 175, 3) := dk_20 0 175 (dk_at dksX9_holds_13 10 rfl rfl)
theorem dX9_holds_462 : decode cX9_holds 462 = .ok (.invokestatic 143, 3) := dk_184 0 143 (dk_at dksX9_holds_13 13 rfl rfl)
theorem dX9_holds_465 : decode cX9_holds 465 = .ok (.ifCond .eq 7, 3) := dk_153 0 7 (dk_at dksX9_holds_13 16 rfl rfl)
theorem dX9_holds_468 : decode cX9_holds 468 = .ok (.iconst 1, 1) := dk_4 (dk_at dksX9_holds_13 19 rfl rfl)
theorem dX9_holds_469 : decode cX9_holds 469 = .ok (.goto 4, 3) := dk_167 0 4 (dk_at dksX9_holds_13 20 rfl rfl)
theorem dX9_holds_472 : decode cX9_holds 472 = .ok (.iconst 0, 1) := dk_3 (dk_at dksX9_holds_13 23 rfl rfl)
theorem dX9_holds_473 : decode cX9_holds 473 = .ok (.ireturn, 1) := dk_172 (dk_at dksX9_holds_14 0 rfl rfl)
theorem dX9_holds_474 : decode cX9_holds 474 = .ok (.iload_n 1, 1) := dk_27 (dk_at dksX9_holds_14 1 rfl rfl)
theorem dX9_holds_475 : decode cX9_holds 475 = .ok (.bipush 6, 2) := dk_16 6 (dk_at dksX9_holds_14 2 rfl rfl)
theorem dX9_holds_477 : decode cX9_holds 477 = .ok (.if_icmp .ne 18, 3) := dk_160 0 18 (dk_at dksX9_holds_14 4 rfl rfl)
theorem dX9_holds_480 : decode cX9_holds 480 = .ok (.aload_n 0, 1) := dk_42 (dk_at dksX9_holds_14 7 rfl rfl)
theorem dX9_holds_481 : decode cX9_holds 481 = .ok (.iload_n 2, 1) := dk_28 (dk_at dksX9_holds_14 8 rfl rfl)
theorem dX9_holds_482 : decode cX9_holds 482 = .ok (.iload_n 3, 1) := dk_29 (dk_at dksX9_holds_14 9 rfl rfl)
theorem dX9_holds_483 : decode cX9_holds 483 = .ok (.iload 4, 2) := dk_21 4 (dk_at dksX9_holds_14 10 rfl rfl)
theorem dX9_holds_485 : decode cX9_holds 485 = .ok (.invokevirtual 177, 3) := dk_182 0 177 (dk_at dksX9_holds_14 12 rfl rfl)
theorem dX9_holds_488 : decode cX9_holds 488 = .ok (.ifCond .eq 7, 3) := dk_153 0 7 (dk_at dksX9_holds_14 15 rfl rfl)
theorem dX9_holds_491 : decode cX9_holds 491 = .ok (.iconst 1, 1) := dk_4 (dk_at dksX9_holds_14 18 rfl rfl)
theorem dX9_holds_492 : decode cX9_holds 492 = .ok (.goto 4, 3) := dk_167 0 4 (dk_at dksX9_holds_14 19 rfl rfl)
theorem dX9_holds_495 : decode cX9_holds 495 = .ok (.iconst 0, 1) := dk_3 (dk_at dksX9_holds_14 22 rfl rfl)
theorem dX9_holds_496 : decode cX9_holds 496 = .ok (.ireturn, 1) := dk_172 (dk_at dksX9_holds_14 23 rfl rfl)
abbrev cX9_ownHolds : ByteArray := prog_31_method_8_code
def yX9_ownHolds : MethodName := ⟨RX9, "ownHolds", "(III)Z"⟩
def dkwX9_ownHolds_5 : List UInt8 := [167, 255, 146, 21, 4, 172]
abbrev dktX9_ownHolds_5 : List UInt8 := dkwX9_ownHolds_5 ++ []
def dkwX9_ownHolds_4 : List UInt8 := [180, 0, 27, 21, 5, 46, 4, 160, 0, 7, 4, 167, 0, 4, 3, 160, 0, 5, 3, 172, 132, 5, 1]
abbrev dktX9_ownHolds_4 : List UInt8 := dkwX9_ownHolds_4 ++ dktX9_ownHolds_5
def dkwX9_ownHolds_3 : List UInt8 := [22, 6, 42, 180, 0, 21, 21, 5, 46, 133, 42, 180, 0, 24, 21, 5, 46, 133, 184, 0, 143, 42]
abbrev dktX9_ownHolds_3 : List UInt8 := dkwX9_ownHolds_3 ++ dktX9_ownHolds_4
def dkwX9_ownHolds_2 : List UInt8 := [21, 5, 46, 154, 0, 8, 22, 6, 167, 0, 14, 22, 6, 42, 180, 0, 18, 21, 5, 46, 133, 113, 55, 6]
abbrev dktX9_ownHolds_2 : List UInt8 := dkwX9_ownHolds_2 ++ dktX9_ownHolds_3
def dkwX9_ownHolds_1 : List UInt8 := [160, 0, 90, 4, 54, 4, 28, 29, 42, 180, 0, 15, 21, 5, 46, 184, 0, 149, 55, 6, 42, 180, 0, 18]
abbrev dktX9_ownHolds_1 : List UInt8 := dkwX9_ownHolds_1 ++ dktX9_ownHolds_2
def dkwX9_ownHolds_0 : List UInt8 := [3, 54, 4, 3, 54, 5, 21, 5, 42, 180, 0, 157, 162, 0, 107, 42, 180, 0, 9, 21, 5, 46, 27]
abbrev dktX9_ownHolds_0 : List UInt8 := dkwX9_ownHolds_0 ++ dktX9_ownHolds_1
theorem dksX9_ownHolds_0 : cX9_ownHolds.data.toList.drop 0 = dktX9_ownHolds_0 := by decide +kernel
theorem dksX9_ownHolds_1 : cX9_ownHolds.data.toList.drop 23 = dktX9_ownHolds_1 := dk_seg dksX9_ownHolds_0 23 rfl rfl
theorem dksX9_ownHolds_2 : cX9_ownHolds.data.toList.drop 47 = dktX9_ownHolds_2 := dk_seg dksX9_ownHolds_1 24 rfl rfl
theorem dksX9_ownHolds_3 : cX9_ownHolds.data.toList.drop 71 = dktX9_ownHolds_3 := dk_seg dksX9_ownHolds_2 24 rfl rfl
theorem dksX9_ownHolds_4 : cX9_ownHolds.data.toList.drop 93 = dktX9_ownHolds_4 := dk_seg dksX9_ownHolds_3 22 rfl rfl
theorem dksX9_ownHolds_5 : cX9_ownHolds.data.toList.drop 116 = dktX9_ownHolds_5 := dk_seg dksX9_ownHolds_4 23 rfl rfl
theorem dX9_ownHolds_0 : decode cX9_ownHolds 0 = .ok (.iconst 0, 1) := dk_3 (dk_at dksX9_ownHolds_0 0 rfl rfl)
theorem dX9_ownHolds_1 : decode cX9_ownHolds 1 = .ok (.istore 4, 2) := dk_54 4 (dk_at dksX9_ownHolds_0 1 rfl rfl)
theorem dX9_ownHolds_3 : decode cX9_ownHolds 3 = .ok (.iconst 0, 1) := dk_3 (dk_at dksX9_ownHolds_0 3 rfl rfl)
theorem dX9_ownHolds_4 : decode cX9_ownHolds 4 = .ok (.istore 5, 2) := dk_54 5 (dk_at dksX9_ownHolds_0 4 rfl rfl)
theorem dX9_ownHolds_6 : decode cX9_ownHolds 6 = .ok (.iload 5, 2) := dk_21 5 (dk_at dksX9_ownHolds_0 6 rfl rfl)
theorem dX9_ownHolds_8 : decode cX9_ownHolds 8 = .ok (.aload_n 0, 1) := dk_42 (dk_at dksX9_ownHolds_0 8 rfl rfl)
theorem dX9_ownHolds_9 : decode cX9_ownHolds 9 = .ok (.getfield 157, 3) := dk_180 0 157 (dk_at dksX9_ownHolds_0 9 rfl rfl)
theorem dX9_ownHolds_12 : decode cX9_ownHolds 12 = .ok (.if_icmp .ge 107, 3) := dk_162 0 107 (dk_at dksX9_ownHolds_0 12 rfl rfl)
theorem dX9_ownHolds_15 : decode cX9_ownHolds 15 = .ok (.aload_n 0, 1) := dk_42 (dk_at dksX9_ownHolds_0 15 rfl rfl)
theorem dX9_ownHolds_16 : decode cX9_ownHolds 16 = .ok (.getfield 9, 3) := dk_180 0 9 (dk_at dksX9_ownHolds_0 16 rfl rfl)
theorem dX9_ownHolds_19 : decode cX9_ownHolds 19 = .ok (.iload 5, 2) := dk_21 5 (dk_at dksX9_ownHolds_0 19 rfl rfl)
theorem dX9_ownHolds_21 : decode cX9_ownHolds 21 = .ok (.iaload, 1) := dk_46 (dk_at dksX9_ownHolds_0 21 rfl rfl)
theorem dX9_ownHolds_22 : decode cX9_ownHolds 22 = .ok (.iload_n 1, 1) := dk_27 (dk_at dksX9_ownHolds_0 22 rfl rfl)
theorem dX9_ownHolds_23 : decode cX9_ownHolds 23 = .ok (.if_icmp .ne 90, 3) := dk_160 0 90 (dk_at dksX9_ownHolds_1 0 rfl rfl)
theorem dX9_ownHolds_26 : decode cX9_ownHolds 26 = .ok (.iconst 1, 1) := dk_4 (dk_at dksX9_ownHolds_1 3 rfl rfl)
theorem dX9_ownHolds_27 : decode cX9_ownHolds 27 = .ok (.istore 4, 2) := dk_54 4 (dk_at dksX9_ownHolds_1 4 rfl rfl)
theorem dX9_ownHolds_29 : decode cX9_ownHolds 29 = .ok (.iload_n 2, 1) := dk_28 (dk_at dksX9_ownHolds_1 6 rfl rfl)
theorem dX9_ownHolds_30 : decode cX9_ownHolds 30 = .ok (.iload_n 3, 1) := dk_29 (dk_at dksX9_ownHolds_1 7 rfl rfl)
theorem dX9_ownHolds_31 : decode cX9_ownHolds 31 = .ok (.aload_n 0, 1) := dk_42 (dk_at dksX9_ownHolds_1 8 rfl rfl)
theorem dX9_ownHolds_32 : decode cX9_ownHolds 32 = .ok (.getfield 15, 3) := dk_180 0 15 (dk_at dksX9_ownHolds_1 9 rfl rfl)
theorem dX9_ownHolds_35 : decode cX9_ownHolds 35 = .ok (.iload 5, 2) := dk_21 5 (dk_at dksX9_ownHolds_1 12 rfl rfl)
theorem dX9_ownHolds_37 : decode cX9_ownHolds 37 = .ok (.iaload, 1) := dk_46 (dk_at dksX9_ownHolds_1 14 rfl rfl)
theorem dX9_ownHolds_38 : decode cX9_ownHolds 38 = .ok (.invokestatic 149, 3) := dk_184 0 149 (dk_at dksX9_ownHolds_1 15 rfl rfl)
theorem dX9_ownHolds_41 : decode cX9_ownHolds 41 = .ok (.lstore 6, 2) := dk_55 6 (dk_at dksX9_ownHolds_1 18 rfl rfl)
theorem dX9_ownHolds_43 : decode cX9_ownHolds 43 = .ok (.aload_n 0, 1) := dk_42 (dk_at dksX9_ownHolds_1 20 rfl rfl)
theorem dX9_ownHolds_44 : decode cX9_ownHolds 44 = .ok (.getfield 18, 3) := dk_180 0 18 (dk_at dksX9_ownHolds_1 21 rfl rfl)
theorem dX9_ownHolds_47 : decode cX9_ownHolds 47 = .ok (.iload 5, 2) := dk_21 5 (dk_at dksX9_ownHolds_2 0 rfl rfl)
theorem dX9_ownHolds_49 : decode cX9_ownHolds 49 = .ok (.iaload, 1) := dk_46 (dk_at dksX9_ownHolds_2 2 rfl rfl)
theorem dX9_ownHolds_50 : decode cX9_ownHolds 50 = .ok (.ifCond .ne 8, 3) := dk_154 0 8 (dk_at dksX9_ownHolds_2 3 rfl rfl)
theorem dX9_ownHolds_53 : decode cX9_ownHolds 53 = .ok (.lload 6, 2) := dk_22 6 (dk_at dksX9_ownHolds_2 6 rfl rfl)
theorem dX9_ownHolds_55 : decode cX9_ownHolds 55 = .ok (.goto 14, 3) := dk_167 0 14 (dk_at dksX9_ownHolds_2 8 rfl rfl)
theorem dX9_ownHolds_58 : decode cX9_ownHolds 58 = .ok (.lload 6, 2) := dk_22 6 (dk_at dksX9_ownHolds_2 11 rfl rfl)
theorem dX9_ownHolds_60 : decode cX9_ownHolds 60 = .ok (.aload_n 0, 1) := dk_42 (dk_at dksX9_ownHolds_2 13 rfl rfl)
theorem dX9_ownHolds_61 : decode cX9_ownHolds 61 = .ok (.getfield 18, 3) := dk_180 0 18 (dk_at dksX9_ownHolds_2 14 rfl rfl)
theorem dX9_ownHolds_64 : decode cX9_ownHolds 64 = .ok (.iload 5, 2) := dk_21 5 (dk_at dksX9_ownHolds_2 17 rfl rfl)
theorem dX9_ownHolds_66 : decode cX9_ownHolds 66 = .ok (.iaload, 1) := dk_46 (dk_at dksX9_ownHolds_2 19 rfl rfl)
theorem dX9_ownHolds_67 : decode cX9_ownHolds 67 = .ok (.i2l, 1) := dk_133 (dk_at dksX9_ownHolds_2 20 rfl rfl)
theorem dX9_ownHolds_68 : decode cX9_ownHolds 68 = .ok (.lrem, 1) := dk_113 (dk_at dksX9_ownHolds_2 21 rfl rfl)
theorem dX9_ownHolds_69 : decode cX9_ownHolds 69 = .ok (.lstore 6, 2) := dk_55 6 (dk_at dksX9_ownHolds_2 22 rfl rfl)
theorem dX9_ownHolds_71 : decode cX9_ownHolds 71 = .ok (.lload 6, 2) := dk_22 6 (dk_at dksX9_ownHolds_3 0 rfl rfl)
theorem dX9_ownHolds_73 : decode cX9_ownHolds 73 = .ok (.aload_n 0, 1) := dk_42 (dk_at dksX9_ownHolds_3 2 rfl rfl)
theorem dX9_ownHolds_74 : decode cX9_ownHolds 74 = .ok (.getfield 21, 3) := dk_180 0 21 (dk_at dksX9_ownHolds_3 3 rfl rfl)
theorem dX9_ownHolds_77 : decode cX9_ownHolds 77 = .ok (.iload 5, 2) := dk_21 5 (dk_at dksX9_ownHolds_3 6 rfl rfl)
theorem dX9_ownHolds_79 : decode cX9_ownHolds 79 = .ok (.iaload, 1) := dk_46 (dk_at dksX9_ownHolds_3 8 rfl rfl)
theorem dX9_ownHolds_80 : decode cX9_ownHolds 80 = .ok (.i2l, 1) := dk_133 (dk_at dksX9_ownHolds_3 9 rfl rfl)
theorem dX9_ownHolds_81 : decode cX9_ownHolds 81 = .ok (.aload_n 0, 1) := dk_42 (dk_at dksX9_ownHolds_3 10 rfl rfl)
theorem dX9_ownHolds_82 : decode cX9_ownHolds 82 = .ok (.getfield 24, 3) := dk_180 0 24 (dk_at dksX9_ownHolds_3 11 rfl rfl)
theorem dX9_ownHolds_85 : decode cX9_ownHolds 85 = .ok (.iload 5, 2) := dk_21 5 (dk_at dksX9_ownHolds_3 14 rfl rfl)
theorem dX9_ownHolds_87 : decode cX9_ownHolds 87 = .ok (.iaload, 1) := dk_46 (dk_at dksX9_ownHolds_3 16 rfl rfl)
theorem dX9_ownHolds_88 : decode cX9_ownHolds 88 = .ok (.i2l, 1) := dk_133 (dk_at dksX9_ownHolds_3 17 rfl rfl)
theorem dX9_ownHolds_89 : decode cX9_ownHolds 89 = .ok (.invokestatic 143, 3) := dk_184 0 143 (dk_at dksX9_ownHolds_3 18 rfl rfl)
theorem dX9_ownHolds_92 : decode cX9_ownHolds 92 = .ok (.aload_n 0, 1) := dk_42 (dk_at dksX9_ownHolds_3 21 rfl rfl)
theorem dX9_ownHolds_93 : decode cX9_ownHolds 93 = .ok (.getfield 27, 3) := dk_180 0 27 (dk_at dksX9_ownHolds_4 0 rfl rfl)
theorem dX9_ownHolds_96 : decode cX9_ownHolds 96 = .ok (.iload 5, 2) := dk_21 5 (dk_at dksX9_ownHolds_4 3 rfl rfl)
theorem dX9_ownHolds_98 : decode cX9_ownHolds 98 = .ok (.iaload, 1) := dk_46 (dk_at dksX9_ownHolds_4 5 rfl rfl)
theorem dX9_ownHolds_99 : decode cX9_ownHolds 99 = .ok (.iconst 1, 1) := dk_4 (dk_at dksX9_ownHolds_4 6 rfl rfl)
theorem dX9_ownHolds_100 : decode cX9_ownHolds 100 = .ok (.if_icmp .ne 7, 3) := dk_160 0 7 (dk_at dksX9_ownHolds_4 7 rfl rfl)
theorem dX9_ownHolds_103 : decode cX9_ownHolds 103 = .ok (.iconst 1, 1) := dk_4 (dk_at dksX9_ownHolds_4 10 rfl rfl)
theorem dX9_ownHolds_104 : decode cX9_ownHolds 104 = .ok (.goto 4, 3) := dk_167 0 4 (dk_at dksX9_ownHolds_4 11 rfl rfl)
theorem dX9_ownHolds_107 : decode cX9_ownHolds 107 = .ok (.iconst 0, 1) := dk_3 (dk_at dksX9_ownHolds_4 14 rfl rfl)
theorem dX9_ownHolds_108 : decode cX9_ownHolds 108 = .ok (.if_icmp .ne 5, 3) := dk_160 0 5 (dk_at dksX9_ownHolds_4 15 rfl rfl)
theorem dX9_ownHolds_111 : decode cX9_ownHolds 111 = .ok (.iconst 0, 1) := dk_3 (dk_at dksX9_ownHolds_4 18 rfl rfl)
theorem dX9_ownHolds_112 : decode cX9_ownHolds 112 = .ok (.ireturn, 1) := dk_172 (dk_at dksX9_ownHolds_4 19 rfl rfl)
theorem dX9_ownHolds_113 : decode cX9_ownHolds 113 = .ok (.iinc 5 1, 3) := dk_132 5 1 (dk_at dksX9_ownHolds_4 20 rfl rfl)
theorem dX9_ownHolds_116 : decode cX9_ownHolds 116 = .ok (.goto (-110), 3) := dk_167 255 146 (dk_at dksX9_ownHolds_5 0 rfl rfl)
theorem dX9_ownHolds_119 : decode cX9_ownHolds 119 = .ok (.iload 4, 2) := dk_21 4 (dk_at dksX9_ownHolds_5 3 rfl rfl)
theorem dX9_ownHolds_121 : decode cX9_ownHolds 121 = .ok (.ireturn, 1) := dk_172 (dk_at dksX9_ownHolds_5 5 rfl rfl)
abbrev cX9_used : ByteArray := prog_31_method_14_code
def yX9_used : MethodName := ⟨RX9, "used", "(I)I"⟩
def dkwX9_used_0 : List UInt8 := [27, 184, 0, 185, 153, 0, 11, 42, 27, 182, 0, 193, 167, 0, 4, 2, 172]
abbrev dktX9_used_0 : List UInt8 := dkwX9_used_0 ++ []
theorem dksX9_used_0 : cX9_used.data.toList.drop 0 = dktX9_used_0 := by decide +kernel
theorem dX9_used_0 : decode cX9_used 0 = .ok (.iload_n 1, 1) := dk_27 (dk_at dksX9_used_0 0 rfl rfl)
theorem dX9_used_1 : decode cX9_used 1 = .ok (.invokestatic 185, 3) := dk_184 0 185 (dk_at dksX9_used_0 1 rfl rfl)
theorem dX9_used_4 : decode cX9_used 4 = .ok (.ifCond .eq 11, 3) := dk_153 0 11 (dk_at dksX9_used_0 4 rfl rfl)
theorem dX9_used_7 : decode cX9_used 7 = .ok (.aload_n 0, 1) := dk_42 (dk_at dksX9_used_0 7 rfl rfl)
theorem dX9_used_8 : decode cX9_used 8 = .ok (.iload_n 1, 1) := dk_27 (dk_at dksX9_used_0 8 rfl rfl)
theorem dX9_used_9 : decode cX9_used 9 = .ok (.invokevirtual 193, 3) := dk_182 0 193 (dk_at dksX9_used_0 9 rfl rfl)
theorem dX9_used_12 : decode cX9_used 12 = .ok (.goto 4, 3) := dk_167 0 4 (dk_at dksX9_used_0 12 rfl rfl)
theorem dX9_used_15 : decode cX9_used 15 = .ok (.iconst (-1), 1) := dk_2 (dk_at dksX9_used_0 15 rfl rfl)
theorem dX9_used_16 : decode cX9_used 16 = .ok (.ireturn, 1) := dk_172 (dk_at dksX9_used_0 16 rfl rfl)
abbrev cX9_usedBy : ByteArray := prog_31_method_13_code
def yX9_usedBy : MethodName := ⟨RX9, "usedBy", "(I)I"⟩
def dkwX9_usedBy_1 : List UInt8 := [29, 4, 182, 0, 189, 120, 128, 128, 61, 132, 3, 1, 167, 255, 224, 28, 172]
abbrev dktX9_usedBy_1 : List UInt8 := dkwX9_usedBy_1 ++ []
def dkwX9_usedBy_0 : List UInt8 := [3, 61, 3, 62, 29, 17, 0, 210, 163, 0, 31, 28, 4, 42, 27, 29, 3, 182, 0, 189, 120, 4, 42, 27]
abbrev dktX9_usedBy_0 : List UInt8 := dkwX9_usedBy_0 ++ dktX9_usedBy_1
theorem dksX9_usedBy_0 : cX9_usedBy.data.toList.drop 0 = dktX9_usedBy_0 := by decide +kernel
theorem dksX9_usedBy_1 : cX9_usedBy.data.toList.drop 24 = dktX9_usedBy_1 := dk_seg dksX9_usedBy_0 24 rfl rfl
theorem dX9_usedBy_0 : decode cX9_usedBy 0 = .ok (.iconst 0, 1) := dk_3 (dk_at dksX9_usedBy_0 0 rfl rfl)
theorem dX9_usedBy_1 : decode cX9_usedBy 1 = .ok (.istore_n 2, 1) := dk_61 (dk_at dksX9_usedBy_0 1 rfl rfl)
theorem dX9_usedBy_2 : decode cX9_usedBy 2 = .ok (.iconst 0, 1) := dk_3 (dk_at dksX9_usedBy_0 2 rfl rfl)
theorem dX9_usedBy_3 : decode cX9_usedBy 3 = .ok (.istore_n 3, 1) := dk_62 (dk_at dksX9_usedBy_0 3 rfl rfl)
theorem dX9_usedBy_4 : decode cX9_usedBy 4 = .ok (.iload_n 3, 1) := dk_29 (dk_at dksX9_usedBy_0 4 rfl rfl)
theorem dX9_usedBy_5 : decode cX9_usedBy 5 = .ok (.sipush 210, 3) := dk_17 0 210 (dk_at dksX9_usedBy_0 5 rfl rfl)
theorem dX9_usedBy_8 : decode cX9_usedBy 8 = .ok (.if_icmp .gt 31, 3) := dk_163 0 31 (dk_at dksX9_usedBy_0 8 rfl rfl)
theorem dX9_usedBy_11 : decode cX9_usedBy 11 = .ok (.iload_n 2, 1) := dk_28 (dk_at dksX9_usedBy_0 11 rfl rfl)
theorem dX9_usedBy_12 : decode cX9_usedBy 12 = .ok (.iconst 1, 1) := dk_4 (dk_at dksX9_usedBy_0 12 rfl rfl)
theorem dX9_usedBy_13 : decode cX9_usedBy 13 = .ok (.aload_n 0, 1) := dk_42 (dk_at dksX9_usedBy_0 13 rfl rfl)
theorem dX9_usedBy_14 : decode cX9_usedBy 14 = .ok (.iload_n 1, 1) := dk_27 (dk_at dksX9_usedBy_0 14 rfl rfl)
theorem dX9_usedBy_15 : decode cX9_usedBy 15 = .ok (.iload_n 3, 1) := dk_29 (dk_at dksX9_usedBy_0 15 rfl rfl)
theorem dX9_usedBy_16 : decode cX9_usedBy 16 = .ok (.iconst 0, 1) := dk_3 (dk_at dksX9_usedBy_0 16 rfl rfl)
theorem dX9_usedBy_17 : decode cX9_usedBy 17 = .ok (.invokevirtual 189, 3) := dk_182 0 189 (dk_at dksX9_usedBy_0 17 rfl rfl)
theorem dX9_usedBy_20 : decode cX9_usedBy 20 = .ok (.ishl, 1) := dk_120 (dk_at dksX9_usedBy_0 20 rfl rfl)
theorem dX9_usedBy_21 : decode cX9_usedBy 21 = .ok (.iconst 1, 1) := dk_4 (dk_at dksX9_usedBy_0 21 rfl rfl)
theorem dX9_usedBy_22 : decode cX9_usedBy 22 = .ok (.aload_n 0, 1) := dk_42 (dk_at dksX9_usedBy_0 22 rfl rfl)
theorem dX9_usedBy_23 : decode cX9_usedBy 23 = .ok (.iload_n 1, 1) := dk_27 (dk_at dksX9_usedBy_0 23 rfl rfl)
theorem dX9_usedBy_24 : decode cX9_usedBy 24 = .ok (.iload_n 3, 1) := dk_29 (dk_at dksX9_usedBy_1 0 rfl rfl)
theorem dX9_usedBy_25 : decode cX9_usedBy 25 = .ok (.iconst 1, 1) := dk_4 (dk_at dksX9_usedBy_1 1 rfl rfl)
theorem dX9_usedBy_26 : decode cX9_usedBy 26 = .ok (.invokevirtual 189, 3) := dk_182 0 189 (dk_at dksX9_usedBy_1 2 rfl rfl)
theorem dX9_usedBy_29 : decode cX9_usedBy 29 = .ok (.ishl, 1) := dk_120 (dk_at dksX9_usedBy_1 5 rfl rfl)
theorem dX9_usedBy_30 : decode cX9_usedBy 30 = .ok (.ior, 1) := dk_128 (dk_at dksX9_usedBy_1 6 rfl rfl)
theorem dX9_usedBy_31 : decode cX9_usedBy 31 = .ok (.ior, 1) := dk_128 (dk_at dksX9_usedBy_1 7 rfl rfl)
theorem dX9_usedBy_32 : decode cX9_usedBy 32 = .ok (.istore_n 2, 1) := dk_61 (dk_at dksX9_usedBy_1 8 rfl rfl)
theorem dX9_usedBy_33 : decode cX9_usedBy 33 = .ok (.iinc 3 1, 3) := dk_132 3 1 (dk_at dksX9_usedBy_1 9 rfl rfl)
theorem dX9_usedBy_36 : decode cX9_usedBy 36 = .ok (.goto (-32), 3) := dk_167 255 224 (dk_at dksX9_usedBy_1 12 rfl rfl)
theorem dX9_usedBy_39 : decode cX9_usedBy 39 = .ok (.iload_n 2, 1) := dk_28 (dk_at dksX9_usedBy_1 15 rfl rfl)
theorem dX9_usedBy_40 : decode cX9_usedBy 40 = .ok (.ireturn, 1) := dk_172 (dk_at dksX9_usedBy_1 16 rfl rfl)
abbrev cX9_feed : ByteArray := prog_31_method_15_code
def yX9_feed : MethodName := ⟨RX9, "feed", "(I)I"⟩
def dkwX9_feed_2 : List UInt8 := [180, 0, 199, 172]
abbrev dktX9_feed_2 : List UInt8 := dkwX9_feed_2 ++ []
def dkwX9_feed_1 : List UInt8 := [16, 253, 172, 42, 180, 0, 30, 42, 180, 0, 199, 27, 79, 42, 89, 180, 0, 199, 4, 96, 181, 0, 199, 42]
abbrev dktX9_feed_1 : List UInt8 := dkwX9_feed_1 ++ dktX9_feed_2
def dkwX9_feed_0 : List UInt8 := [27, 133, 9, 20, 0, 197, 184, 0, 143, 154, 0, 5, 2, 172, 42, 180, 0, 199, 16, 120, 160, 0, 6]
abbrev dktX9_feed_0 : List UInt8 := dkwX9_feed_0 ++ dktX9_feed_1
theorem dksX9_feed_0 : cX9_feed.data.toList.drop 0 = dktX9_feed_0 := by decide +kernel
theorem dksX9_feed_1 : cX9_feed.data.toList.drop 23 = dktX9_feed_1 := dk_seg dksX9_feed_0 23 rfl rfl
theorem dksX9_feed_2 : cX9_feed.data.toList.drop 47 = dktX9_feed_2 := dk_seg dksX9_feed_1 24 rfl rfl
theorem dX9_feed_0 : decode cX9_feed 0 = .ok (.iload_n 1, 1) := dk_27 (dk_at dksX9_feed_0 0 rfl rfl)
theorem dX9_feed_1 : decode cX9_feed 1 = .ok (.i2l, 1) := dk_133 (dk_at dksX9_feed_0 1 rfl rfl)
theorem dX9_feed_2 : decode cX9_feed 2 = .ok (.lconst 0, 1) := dk_9 (dk_at dksX9_feed_0 2 rfl rfl)
theorem dX9_feed_3 : decode cX9_feed 3 = .ok (.ldc2_w 197, 3) := dk_20 0 197 (dk_at dksX9_feed_0 3 rfl rfl)
theorem dX9_feed_6 : decode cX9_feed 6 = .ok (.invokestatic 143, 3) := dk_184 0 143 (dk_at dksX9_feed_0 6 rfl rfl)
theorem dX9_feed_9 : decode cX9_feed 9 = .ok (.ifCond .ne 5, 3) := dk_154 0 5 (dk_at dksX9_feed_0 9 rfl rfl)
theorem dX9_feed_12 : decode cX9_feed 12 = .ok (.iconst (-1), 1) := dk_2 (dk_at dksX9_feed_0 12 rfl rfl)
theorem dX9_feed_13 : decode cX9_feed 13 = .ok (.ireturn, 1) := dk_172 (dk_at dksX9_feed_0 13 rfl rfl)
theorem dX9_feed_14 : decode cX9_feed 14 = .ok (.aload_n 0, 1) := dk_42 (dk_at dksX9_feed_0 14 rfl rfl)
theorem dX9_feed_15 : decode cX9_feed 15 = .ok (.getfield 199, 3) := dk_180 0 199 (dk_at dksX9_feed_0 15 rfl rfl)
theorem dX9_feed_18 : decode cX9_feed 18 = .ok (.bipush 120, 2) := dk_16 120 (dk_at dksX9_feed_0 18 rfl rfl)
theorem dX9_feed_20 : decode cX9_feed 20 = .ok (.if_icmp .ne 6, 3) := dk_160 0 6 (dk_at dksX9_feed_0 20 rfl rfl)
theorem dX9_feed_23 : decode cX9_feed 23 = .ok (.bipush (-3), 2) := dk_16 253 (dk_at dksX9_feed_1 0 rfl rfl)
theorem dX9_feed_25 : decode cX9_feed 25 = .ok (.ireturn, 1) := dk_172 (dk_at dksX9_feed_1 2 rfl rfl)
theorem dX9_feed_26 : decode cX9_feed 26 = .ok (.aload_n 0, 1) := dk_42 (dk_at dksX9_feed_1 3 rfl rfl)
theorem dX9_feed_27 : decode cX9_feed 27 = .ok (.getfield 30, 3) := dk_180 0 30 (dk_at dksX9_feed_1 4 rfl rfl)
theorem dX9_feed_30 : decode cX9_feed 30 = .ok (.aload_n 0, 1) := dk_42 (dk_at dksX9_feed_1 7 rfl rfl)
theorem dX9_feed_31 : decode cX9_feed 31 = .ok (.getfield 199, 3) := dk_180 0 199 (dk_at dksX9_feed_1 8 rfl rfl)
theorem dX9_feed_34 : decode cX9_feed 34 = .ok (.iload_n 1, 1) := dk_27 (dk_at dksX9_feed_1 11 rfl rfl)
theorem dX9_feed_35 : decode cX9_feed 35 = .ok (.iastore, 1) := dk_79 (dk_at dksX9_feed_1 12 rfl rfl)
theorem dX9_feed_36 : decode cX9_feed 36 = .ok (.aload_n 0, 1) := dk_42 (dk_at dksX9_feed_1 13 rfl rfl)
theorem dX9_feed_37 : decode cX9_feed 37 = .ok (.dup, 1) := dk_89 (dk_at dksX9_feed_1 14 rfl rfl)
theorem dX9_feed_38 : decode cX9_feed 38 = .ok (.getfield 199, 3) := dk_180 0 199 (dk_at dksX9_feed_1 15 rfl rfl)
theorem dX9_feed_41 : decode cX9_feed 41 = .ok (.iconst 1, 1) := dk_4 (dk_at dksX9_feed_1 18 rfl rfl)
theorem dX9_feed_42 : decode cX9_feed 42 = .ok (.iadd, 1) := dk_96 (dk_at dksX9_feed_1 19 rfl rfl)
theorem dX9_feed_43 : decode cX9_feed 43 = .ok (.putfield 199, 3) := dk_181 0 199 (dk_at dksX9_feed_1 20 rfl rfl)
theorem dX9_feed_46 : decode cX9_feed 46 = .ok (.aload_n 0, 1) := dk_42 (dk_at dksX9_feed_1 23 rfl rfl)
theorem dX9_feed_47 : decode cX9_feed 47 = .ok (.getfield 199, 3) := dk_180 0 199 (dk_at dksX9_feed_2 0 rfl rfl)
theorem dX9_feed_50 : decode cX9_feed 50 = .ok (.ireturn, 1) := dk_172 (dk_at dksX9_feed_2 3 rfl rfl)
abbrev cX9_wipe : ByteArray := prog_31_method_16_code
def yX9_wipe : MethodName := ⟨RX9, "wipe", "()I"⟩
def dkwX9_wipe_0 : List UInt8 := [42, 180, 0, 199, 60, 42, 3, 181, 0, 199, 27, 172]
abbrev dktX9_wipe_0 : List UInt8 := dkwX9_wipe_0 ++ []
theorem dksX9_wipe_0 : cX9_wipe.data.toList.drop 0 = dktX9_wipe_0 := by decide +kernel
theorem dX9_wipe_0 : decode cX9_wipe 0 = .ok (.aload_n 0, 1) := dk_42 (dk_at dksX9_wipe_0 0 rfl rfl)
theorem dX9_wipe_1 : decode cX9_wipe 1 = .ok (.getfield 199, 3) := dk_180 0 199 (dk_at dksX9_wipe_0 1 rfl rfl)
theorem dX9_wipe_4 : decode cX9_wipe 4 = .ok (.istore_n 1, 1) := dk_60 (dk_at dksX9_wipe_0 4 rfl rfl)
theorem dX9_wipe_5 : decode cX9_wipe 5 = .ok (.aload_n 0, 1) := dk_42 (dk_at dksX9_wipe_0 5 rfl rfl)
theorem dX9_wipe_6 : decode cX9_wipe 6 = .ok (.iconst 0, 1) := dk_3 (dk_at dksX9_wipe_0 6 rfl rfl)
theorem dX9_wipe_7 : decode cX9_wipe 7 = .ok (.putfield 199, 3) := dk_181 0 199 (dk_at dksX9_wipe_0 7 rfl rfl)
theorem dX9_wipe_10 : decode cX9_wipe 10 = .ok (.iload_n 1, 1) := dk_27 (dk_at dksX9_wipe_0 10 rfl rfl)
theorem dX9_wipe_11 : decode cX9_wipe 11 = .ok (.ireturn, 1) := dk_172 (dk_at dksX9_wipe_0 11 rfl rfl)
abbrev cX9_read : ByteArray := prog_31_method_30_code
def yX9_read : MethodName := ⟨RX9, "read", "(I)I"⟩
def dkwX9_read_17 : List UInt8 := [180, 0, 93, 21, 4, 46, 79, 132, 4, 1, 167, 255, 208, 42, 180, 0, 248, 172]
abbrev dktX9_read_17 : List UInt8 := dkwX9_read_17 ++ []
def dkwX9_read_16 : List UInt8 := [21, 4, 96, 42, 180, 0, 90, 21, 4, 46, 79, 42, 180, 0, 69, 16, 80, 27, 104, 21, 4, 96, 42]
abbrev dktX9_read_16 : List UInt8 := dkwX9_read_16 ++ dktX9_read_17
def dkwX9_read_15 : List UInt8 := [132, 4, 1, 167, 255, 151, 3, 54, 4, 21, 4, 16, 80, 162, 0, 47, 42, 180, 0, 66, 16, 80, 27, 104]
abbrev dktX9_read_15 : List UInt8 := dkwX9_read_15 ++ dktX9_read_16
def dkwX9_read_14 : List UInt8 := [21, 4, 46, 79, 42, 180, 0, 72, 16, 8, 27, 104, 21, 4, 96, 42, 180, 0, 96, 21, 4, 46, 79]
abbrev dktX9_read_14 : List UInt8 := dkwX9_read_14 ++ dktX9_read_15
def dkwX9_read_13 : List UInt8 := [42, 180, 0, 84, 21, 4, 46, 79, 42, 180, 0, 63, 16, 8, 27, 104, 21, 4, 96, 42, 180, 0, 87]
abbrev dktX9_read_13 : List UInt8 := dkwX9_read_13 ++ dktX9_read_14
def dkwX9_read_12 : List UInt8 := [27, 104, 21, 4, 96, 42, 180, 0, 81, 21, 4, 46, 79, 42, 180, 0, 60, 16, 8, 27, 104, 21, 4, 96]
abbrev dktX9_read_12 : List UInt8 := dkwX9_read_12 ++ dktX9_read_13
def dkwX9_read_11 : List UInt8 := [180, 0, 54, 16, 8, 27, 104, 21, 4, 96, 42, 180, 0, 78, 21, 4, 46, 79, 42, 180, 0, 57, 16, 8]
abbrev dktX9_read_11 : List UInt8 := dkwX9_read_11 ++ dktX9_read_12
def dkwX9_read_10 : List UInt8 := [180, 0, 75, 21, 4, 46, 79, 132, 4, 1, 167, 255, 229, 3, 54, 4, 21, 4, 16, 8, 162, 0, 104, 42]
abbrev dktX9_read_10 : List UInt8 := dkwX9_read_10 ++ dktX9_read_11
def dkwX9_read_9 : List UInt8 := [180, 0, 226, 79, 3, 54, 4, 21, 4, 8, 162, 0, 27, 42, 180, 0, 51, 8, 27, 104, 21, 4, 96, 42]
abbrev dktX9_read_9 : List UInt8 := dkwX9_read_9 ++ dktX9_read_10
def dkwX9_read_8 : List UInt8 := [27, 42, 180, 0, 248, 79, 42, 180, 0, 45, 27, 42, 180, 0, 251, 79, 42, 180, 0, 48, 27, 42]
abbrev dktX9_read_8 : List UInt8 := dkwX9_read_8 ++ dktX9_read_9
def dkwX9_read_7 : List UInt8 := [21, 4, 46, 79, 132, 4, 1, 167, 255, 228, 42, 180, 0, 39, 27, 42, 180, 0, 223, 79, 42, 180, 0, 42]
abbrev dktX9_read_7 : List UInt8 := dkwX9_read_7 ++ dktX9_read_8
def dkwX9_read_6 : List UInt8 := [54, 4, 21, 4, 29, 162, 0, 28, 42, 180, 0, 36, 16, 120, 27, 104, 21, 4, 96, 42, 180, 0, 30]
abbrev dktX9_read_6 : List UInt8 := dkwX9_read_6 ++ dktX9_read_7
def dkwX9_read_5 : List UInt8 := [180, 0, 205, 100, 167, 0, 11, 17, 252, 24, 42, 180, 0, 202, 100, 172, 42, 180, 0, 33, 27, 29, 79, 3]
abbrev dktX9_read_5 : List UInt8 := dkwX9_read_5 ++ dktX9_read_6
def dkwX9_read_4 : List UInt8 := [181, 0, 199, 28, 153, 0, 10, 42, 180, 0, 205, 155, 0, 27, 28, 153, 0, 14, 17, 248, 48, 42]
abbrev dktX9_read_4 : List UInt8 := dkwX9_read_4 ++ dktX9_read_5
def dkwX9_read_3 : List UInt8 := [180, 0, 202, 42, 180, 0, 199, 160, 0, 7, 4, 167, 0, 4, 3, 61, 42, 180, 0, 199, 62, 42, 3]
abbrev dktX9_read_3 : List UInt8 := dkwX9_read_3 ++ dktX9_read_4
def dkwX9_read_2 : List UInt8 := [180, 0, 75, 28, 3, 79, 132, 2, 1, 167, 255, 241, 42, 3, 3, 182, 1, 28, 153, 0, 18, 42]
abbrev dktX9_read_2 : List UInt8 := dkwX9_read_2 ++ dktX9_read_3
def dkwX9_read_1 : List UInt8 := [42, 3, 181, 0, 251, 42, 3, 181, 0, 226, 42, 2, 181, 0, 205, 3, 61, 28, 8, 162, 0, 16, 42]
abbrev dktX9_read_1 : List UInt8 := dkwX9_read_1 ++ dktX9_read_2
def dkwX9_read_0 : List UInt8 := [27, 184, 1, 31, 154, 0, 5, 2, 172, 42, 3, 181, 0, 202, 42, 3, 181, 0, 223, 42, 3, 181, 0, 248]
abbrev dktX9_read_0 : List UInt8 := dkwX9_read_0 ++ dktX9_read_1
theorem dksX9_read_0 : cX9_read.data.toList.drop 0 = dktX9_read_0 := by decide +kernel
theorem dksX9_read_1 : cX9_read.data.toList.drop 24 = dktX9_read_1 := dk_seg dksX9_read_0 24 rfl rfl
theorem dksX9_read_2 : cX9_read.data.toList.drop 47 = dktX9_read_2 := dk_seg dksX9_read_1 23 rfl rfl
theorem dksX9_read_3 : cX9_read.data.toList.drop 69 = dktX9_read_3 := dk_seg dksX9_read_2 22 rfl rfl
theorem dksX9_read_4 : cX9_read.data.toList.drop 92 = dktX9_read_4 := dk_seg dksX9_read_3 23 rfl rfl
theorem dksX9_read_5 : cX9_read.data.toList.drop 114 = dktX9_read_5 := dk_seg dksX9_read_4 22 rfl rfl
theorem dksX9_read_6 : cX9_read.data.toList.drop 138 = dktX9_read_6 := dk_seg dksX9_read_5 24 rfl rfl
theorem dksX9_read_7 : cX9_read.data.toList.drop 161 = dktX9_read_7 := dk_seg dksX9_read_6 23 rfl rfl
theorem dksX9_read_8 : cX9_read.data.toList.drop 185 = dktX9_read_8 := dk_seg dksX9_read_7 24 rfl rfl
theorem dksX9_read_9 : cX9_read.data.toList.drop 207 = dktX9_read_9 := dk_seg dksX9_read_8 22 rfl rfl
theorem dksX9_read_10 : cX9_read.data.toList.drop 231 = dktX9_read_10 := dk_seg dksX9_read_9 24 rfl rfl
theorem dksX9_read_11 : cX9_read.data.toList.drop 255 = dktX9_read_11 := dk_seg dksX9_read_10 24 rfl rfl
theorem dksX9_read_12 : cX9_read.data.toList.drop 279 = dktX9_read_12 := dk_seg dksX9_read_11 24 rfl rfl
theorem dksX9_read_13 : cX9_read.data.toList.drop 303 = dktX9_read_13 := dk_seg dksX9_read_12 24 rfl rfl
theorem dksX9_read_14 : cX9_read.data.toList.drop 326 = dktX9_read_14 := dk_seg dksX9_read_13 23 rfl rfl
theorem dksX9_read_15 : cX9_read.data.toList.drop 349 = dktX9_read_15 := dk_seg dksX9_read_14 23 rfl rfl
theorem dksX9_read_16 : cX9_read.data.toList.drop 373 = dktX9_read_16 := dk_seg dksX9_read_15 24 rfl rfl
theorem dksX9_read_17 : cX9_read.data.toList.drop 396 = dktX9_read_17 := dk_seg dksX9_read_16 23 rfl rfl
theorem dX9_read_0 : decode cX9_read 0 = .ok (.iload_n 1, 1) := dk_27 (dk_at dksX9_read_0 0 rfl rfl)
theorem dX9_read_1 : decode cX9_read 1 = .ok (.invokestatic 287, 3) := dk_184 1 31 (dk_at dksX9_read_0 1 rfl rfl)
theorem dX9_read_4 : decode cX9_read 4 = .ok (.ifCond .ne 5, 3) := dk_154 0 5 (dk_at dksX9_read_0 4 rfl rfl)
theorem dX9_read_7 : decode cX9_read 7 = .ok (.iconst (-1), 1) := dk_2 (dk_at dksX9_read_0 7 rfl rfl)
theorem dX9_read_8 : decode cX9_read 8 = .ok (.ireturn, 1) := dk_172 (dk_at dksX9_read_0 8 rfl rfl)
theorem dX9_read_9 : decode cX9_read 9 = .ok (.aload_n 0, 1) := dk_42 (dk_at dksX9_read_0 9 rfl rfl)
theorem dX9_read_10 : decode cX9_read 10 = .ok (.iconst 0, 1) := dk_3 (dk_at dksX9_read_0 10 rfl rfl)
theorem dX9_read_11 : decode cX9_read 11 = .ok (.putfield 202, 3) := dk_181 0 202 (dk_at dksX9_read_0 11 rfl rfl)
theorem dX9_read_14 : decode cX9_read 14 = .ok (.aload_n 0, 1) := dk_42 (dk_at dksX9_read_0 14 rfl rfl)
theorem dX9_read_15 : decode cX9_read 15 = .ok (.iconst 0, 1) := dk_3 (dk_at dksX9_read_0 15 rfl rfl)
theorem dX9_read_16 : decode cX9_read 16 = .ok (.putfield 223, 3) := dk_181 0 223 (dk_at dksX9_read_0 16 rfl rfl)
theorem dX9_read_19 : decode cX9_read 19 = .ok (.aload_n 0, 1) := dk_42 (dk_at dksX9_read_0 19 rfl rfl)
theorem dX9_read_20 : decode cX9_read 20 = .ok (.iconst 0, 1) := dk_3 (dk_at dksX9_read_0 20 rfl rfl)
theorem dX9_read_21 : decode cX9_read 21 = .ok (.putfield 248, 3) := dk_181 0 248 (dk_at dksX9_read_0 21 rfl rfl)
theorem dX9_read_24 : decode cX9_read 24 = .ok (.aload_n 0, 1) := dk_42 (dk_at dksX9_read_1 0 rfl rfl)
theorem dX9_read_25 : decode cX9_read 25 = .ok (.iconst 0, 1) := dk_3 (dk_at dksX9_read_1 1 rfl rfl)
theorem dX9_read_26 : decode cX9_read 26 = .ok (.putfield 251, 3) := dk_181 0 251 (dk_at dksX9_read_1 2 rfl rfl)
theorem dX9_read_29 : decode cX9_read 29 = .ok (.aload_n 0, 1) := dk_42 (dk_at dksX9_read_1 5 rfl rfl)
theorem dX9_read_30 : decode cX9_read 30 = .ok (.iconst 0, 1) := dk_3 (dk_at dksX9_read_1 6 rfl rfl)
theorem dX9_read_31 : decode cX9_read 31 = .ok (.putfield 226, 3) := dk_181 0 226 (dk_at dksX9_read_1 7 rfl rfl)
theorem dX9_read_34 : decode cX9_read 34 = .ok (.aload_n 0, 1) := dk_42 (dk_at dksX9_read_1 10 rfl rfl)
theorem dX9_read_35 : decode cX9_read 35 = .ok (.iconst (-1), 1) := dk_2 (dk_at dksX9_read_1 11 rfl rfl)
theorem dX9_read_36 : decode cX9_read 36 = .ok (.putfield 205, 3) := dk_181 0 205 (dk_at dksX9_read_1 12 rfl rfl)
theorem dX9_read_39 : decode cX9_read 39 = .ok (.iconst 0, 1) := dk_3 (dk_at dksX9_read_1 15 rfl rfl)
theorem dX9_read_40 : decode cX9_read 40 = .ok (.istore_n 2, 1) := dk_61 (dk_at dksX9_read_1 16 rfl rfl)
theorem dX9_read_41 : decode cX9_read 41 = .ok (.iload_n 2, 1) := dk_28 (dk_at dksX9_read_1 17 rfl rfl)
theorem dX9_read_42 : decode cX9_read 42 = .ok (.iconst 5, 1) := dk_8 (dk_at dksX9_read_1 18 rfl rfl)
theorem dX9_read_43 : decode cX9_read 43 = .ok (.if_icmp .ge 16, 3) := dk_162 0 16 (dk_at dksX9_read_1 19 rfl rfl)
theorem dX9_read_46 : decode cX9_read 46 = .ok (.aload_n 0, 1) := dk_42 (dk_at dksX9_read_1 22 rfl rfl)
theorem dX9_read_47 : decode cX9_read 47 = .ok (.getfield 75, 3) := dk_180 0 75 (dk_at dksX9_read_2 0 rfl rfl)
theorem dX9_read_50 : decode cX9_read 50 = .ok (.iload_n 2, 1) := dk_28 (dk_at dksX9_read_2 3 rfl rfl)
theorem dX9_read_51 : decode cX9_read 51 = .ok (.iconst 0, 1) := dk_3 (dk_at dksX9_read_2 4 rfl rfl)
theorem dX9_read_52 : decode cX9_read 52 = .ok (.iastore, 1) := dk_79 (dk_at dksX9_read_2 5 rfl rfl)
theorem dX9_read_53 : decode cX9_read 53 = .ok (.iinc 2 1, 3) := dk_132 2 1 (dk_at dksX9_read_2 6 rfl rfl)
theorem dX9_read_56 : decode cX9_read 56 = .ok (.goto (-15), 3) := dk_167 255 241 (dk_at dksX9_read_2 9 rfl rfl)
theorem dX9_read_59 : decode cX9_read 59 = .ok (.aload_n 0, 1) := dk_42 (dk_at dksX9_read_2 12 rfl rfl)
theorem dX9_read_60 : decode cX9_read 60 = .ok (.iconst 0, 1) := dk_3 (dk_at dksX9_read_2 13 rfl rfl)
theorem dX9_read_61 : decode cX9_read 61 = .ok (.iconst 0, 1) := dk_3 (dk_at dksX9_read_2 14 rfl rfl)
theorem dX9_read_62 : decode cX9_read 62 = .ok (.invokevirtual 284, 3) := dk_182 1 28 (dk_at dksX9_read_2 15 rfl rfl)
theorem dX9_read_65 : decode cX9_read 65 = .ok (.ifCond .eq 18, 3) := dk_153 0 18 (dk_at dksX9_read_2 18 rfl rfl)
theorem dX9_read_68 : decode cX9_read 68 = .ok (.aload_n 0, 1) := dk_42 (dk_at dksX9_read_2 21 rfl rfl)
theorem dX9_read_69 : decode cX9_read 69 = .ok (.getfield 202, 3) := dk_180 0 202 (dk_at dksX9_read_3 0 rfl rfl)
theorem dX9_read_72 : decode cX9_read 72 = .ok (.aload_n 0, 1) := dk_42 (dk_at dksX9_read_3 3 rfl rfl)
theorem dX9_read_73 : decode cX9_read 73 = .ok (.getfield 199, 3) := dk_180 0 199 (dk_at dksX9_read_3 4 rfl rfl)
theorem dX9_read_76 : decode cX9_read 76 = .ok (.if_icmp .ne 7, 3) := dk_160 0 7 (dk_at dksX9_read_3 7 rfl rfl)
theorem dX9_read_79 : decode cX9_read 79 = .ok (.iconst 1, 1) := dk_4 (dk_at dksX9_read_3 10 rfl rfl)
theorem dX9_read_80 : decode cX9_read 80 = .ok (.goto 4, 3) := dk_167 0 4 (dk_at dksX9_read_3 11 rfl rfl)
theorem dX9_read_83 : decode cX9_read 83 = .ok (.iconst 0, 1) := dk_3 (dk_at dksX9_read_3 14 rfl rfl)
theorem dX9_read_84 : decode cX9_read 84 = .ok (.istore_n 2, 1) := dk_61 (dk_at dksX9_read_3 15 rfl rfl)
theorem dX9_read_85 : decode cX9_read 85 = .ok (.aload_n 0, 1) := dk_42 (dk_at dksX9_read_3 16 rfl rfl)
theorem dX9_read_86 : decode cX9_read 86 = .ok (.getfield 199, 3) := dk_180 0 199 (dk_at dksX9_read_3 17 rfl rfl)
theorem dX9_read_89 : decode cX9_read 89 = .ok (.istore_n 3, 1) := dk_62 (dk_at dksX9_read_3 20 rfl rfl)
theorem dX9_read_90 : decode cX9_read 90 = .ok (.aload_n 0, 1) := dk_42 (dk_at dksX9_read_3 21 rfl rfl)
theorem dX9_read_91 : decode cX9_read 91 = .ok (.iconst 0, 1) := dk_3 (dk_at dksX9_read_3 22 rfl rfl)
theorem dX9_read_92 : decode cX9_read 92 = .ok (.putfield 199, 3) := dk_181 0 199 (dk_at dksX9_read_4 0 rfl rfl)
theorem dX9_read_95 : decode cX9_read 95 = .ok (.iload_n 2, 1) := dk_28 (dk_at dksX9_read_4 3 rfl rfl)
theorem dX9_read_96 : decode cX9_read 96 = .ok (.ifCond .eq 10, 3) := dk_153 0 10 (dk_at dksX9_read_4 4 rfl rfl)
theorem dX9_read_99 : decode cX9_read 99 = .ok (.aload_n 0, 1) := dk_42 (dk_at dksX9_read_4 7 rfl rfl)
theorem dX9_read_100 : decode cX9_read 100 = .ok (.getfield 205, 3) := dk_180 0 205 (dk_at dksX9_read_4 8 rfl rfl)
theorem dX9_read_103 : decode cX9_read 103 = .ok (.ifCond .lt 27, 3) := dk_155 0 27 (dk_at dksX9_read_4 11 rfl rfl)
theorem dX9_read_106 : decode cX9_read 106 = .ok (.iload_n 2, 1) := dk_28 (dk_at dksX9_read_4 14 rfl rfl)
theorem dX9_read_107 : decode cX9_read 107 = .ok (.ifCond .eq 14, 3) := dk_153 0 14 (dk_at dksX9_read_4 15 rfl rfl)
theorem dX9_read_110 : decode cX9_read 110 = .ok (.sipush (-2000), 3) := dk_17 248 48 (dk_at dksX9_read_4 18 rfl rfl)
theorem dX9_read_113 : decode cX9_read 113 = .ok (.aload_n 0, 1) := dk_42 (dk_at dksX9_read_4 21 rfl rfl)
theorem dX9_read_114 : decode cX9_read 114 = .ok (.getfield 205, 3) := dk_180 0 205 (dk_at dksX9_read_5 0 rfl rfl)
theorem dX9_read_117 : decode cX9_read 117 = .ok (.isub, 1) := dk_100 (dk_at dksX9_read_5 3 rfl rfl)
theorem dX9_read_118 : decode cX9_read 118 = .ok (.goto 11, 3) := dk_167 0 11 (dk_at dksX9_read_5 4 rfl rfl)
theorem dX9_read_121 : decode cX9_read 121 = .ok (.sipush (-1000), 3) := dk_17 252 24 (dk_at dksX9_read_5 7 rfl rfl)
theorem dX9_read_124 : decode cX9_read 124 = .ok (.aload_n 0, 1) := dk_42 (dk_at dksX9_read_5 10 rfl rfl)
theorem dX9_read_125 : decode cX9_read 125 = .ok (.getfield 202, 3) := dk_180 0 202 (dk_at dksX9_read_5 11 rfl rfl)
theorem dX9_read_128 : decode cX9_read 128 = .ok (.isub, 1) := dk_100 (dk_at dksX9_read_5 14 rfl rfl)
theorem dX9_read_129 : decode cX9_read 129 = .ok (.ireturn, 1) := dk_172 (dk_at dksX9_read_5 15 rfl rfl)
theorem dX9_read_130 : decode cX9_read 130 = .ok (.aload_n 0, 1) := dk_42 (dk_at dksX9_read_5 16 rfl rfl)
theorem dX9_read_131 : decode cX9_read 131 = .ok (.getfield 33, 3) := dk_180 0 33 (dk_at dksX9_read_5 17 rfl rfl)
theorem dX9_read_134 : decode cX9_read 134 = .ok (.iload_n 1, 1) := dk_27 (dk_at dksX9_read_5 20 rfl rfl)
theorem dX9_read_135 : decode cX9_read 135 = .ok (.iload_n 3, 1) := dk_29 (dk_at dksX9_read_5 21 rfl rfl)
theorem dX9_read_136 : decode cX9_read 136 = .ok (.iastore, 1) := dk_79 (dk_at dksX9_read_5 22 rfl rfl)
theorem dX9_read_137 : decode cX9_read 137 = .ok (.iconst 0, 1) := dk_3 (dk_at dksX9_read_5 23 rfl rfl)
theorem dX9_read_138 : decode cX9_read 138 = .ok (.istore 4, 2) := dk_54 4 (dk_at dksX9_read_6 0 rfl rfl)
theorem dX9_read_140 : decode cX9_read 140 = .ok (.iload 4, 2) := dk_21 4 (dk_at dksX9_read_6 2 rfl rfl)
theorem dX9_read_142 : decode cX9_read 142 = .ok (.iload_n 3, 1) := dk_29 (dk_at dksX9_read_6 4 rfl rfl)
theorem dX9_read_143 : decode cX9_read 143 = .ok (.if_icmp .ge 28, 3) := dk_162 0 28 (dk_at dksX9_read_6 5 rfl rfl)
theorem dX9_read_146 : decode cX9_read 146 = .ok (.aload_n 0, 1) := dk_42 (dk_at dksX9_read_6 8 rfl rfl)
theorem dX9_read_147 : decode cX9_read 147 = .ok (.getfield 36, 3) := dk_180 0 36 (dk_at dksX9_read_6 9 rfl rfl)
theorem dX9_read_150 : decode cX9_read 150 = .ok (.bipush 120, 2) := dk_16 120 (dk_at dksX9_read_6 12 rfl rfl)
theorem dX9_read_152 : decode cX9_read 152 = .ok (.iload_n 1, 1) := dk_27 (dk_at dksX9_read_6 14 rfl rfl)
theorem dX9_read_153 : decode cX9_read 153 = .ok (.imul, 1) := dk_104 (dk_at dksX9_read_6 15 rfl rfl)
theorem dX9_read_154 : decode cX9_read 154 = .ok (.iload 4, 2) := dk_21 4 (dk_at dksX9_read_6 16 rfl rfl)
theorem dX9_read_156 : decode cX9_read 156 = .ok (.iadd, 1) := dk_96 (dk_at dksX9_read_6 18 rfl rfl)
theorem dX9_read_157 : decode cX9_read 157 = .ok (.aload_n 0, 1) := dk_42 (dk_at dksX9_read_6 19 rfl rfl)
theorem dX9_read_158 : decode cX9_read 158 = .ok (.getfield 30, 3) := dk_180 0 30 (dk_at dksX9_read_6 20 rfl rfl)
theorem dX9_read_161 : decode cX9_read 161 = .ok (.iload 4, 2) := dk_21 4 (dk_at dksX9_read_7 0 rfl rfl)
theorem dX9_read_163 : decode cX9_read 163 = .ok (.iaload, 1) := dk_46 (dk_at dksX9_read_7 2 rfl rfl)
theorem dX9_read_164 : decode cX9_read 164 = .ok (.iastore, 1) := dk_79 (dk_at dksX9_read_7 3 rfl rfl)
theorem dX9_read_165 : decode cX9_read 165 = .ok (.iinc 4 1, 3) := dk_132 4 1 (dk_at dksX9_read_7 4 rfl rfl)
theorem dX9_read_168 : decode cX9_read 168 = .ok (.goto (-28), 3) := dk_167 255 228 (dk_at dksX9_read_7 7 rfl rfl)
theorem dX9_read_171 : decode cX9_read 171 = .ok (.aload_n 0, 1) := dk_42 (dk_at dksX9_read_7 10 rfl rfl)
theorem dX9_read_172 : decode cX9_read 172 = .ok (.getfield 39, 3) := dk_180 0 39 (dk_at dksX9_read_7 11 rfl rfl)
theorem dX9_read_175 : decode cX9_read 175 = .ok (.iload_n 1, 1) := dk_27 (dk_at dksX9_read_7 14 rfl rfl)
theorem dX9_read_176 : decode cX9_read 176 = .ok (.aload_n 0, 1) := dk_42 (dk_at dksX9_read_7 15 rfl rfl)
theorem dX9_read_177 : decode cX9_read 177 = .ok (.getfield 223, 3) := dk_180 0 223 (dk_at dksX9_read_7 16 rfl rfl)
theorem dX9_read_180 : decode cX9_read 180 = .ok (.iastore, 1) := dk_79 (dk_at dksX9_read_7 19 rfl rfl)
theorem dX9_read_181 : decode cX9_read 181 = .ok (.aload_n 0, 1) := dk_42 (dk_at dksX9_read_7 20 rfl rfl)
theorem dX9_read_182 : decode cX9_read 182 = .ok (.getfield 42, 3) := dk_180 0 42 (dk_at dksX9_read_7 21 rfl rfl)
theorem dX9_read_185 : decode cX9_read 185 = .ok (.iload_n 1, 1) := dk_27 (dk_at dksX9_read_8 0 rfl rfl)
theorem dX9_read_186 : decode cX9_read 186 = .ok (.aload_n 0, 1) := dk_42 (dk_at dksX9_read_8 1 rfl rfl)
theorem dX9_read_187 : decode cX9_read 187 = .ok (.getfield 248, 3) := dk_180 0 248 (dk_at dksX9_read_8 2 rfl rfl)
theorem dX9_read_190 : decode cX9_read 190 = .ok (.iastore, 1) := dk_79 (dk_at dksX9_read_8 5 rfl rfl)
theorem dX9_read_191 : decode cX9_read 191 = .ok (.aload_n 0, 1) := dk_42 (dk_at dksX9_read_8 6 rfl rfl)
theorem dX9_read_192 : decode cX9_read 192 = .ok (.getfield 45, 3) := dk_180 0 45 (dk_at dksX9_read_8 7 rfl rfl)
theorem dX9_read_195 : decode cX9_read 195 = .ok (.iload_n 1, 1) := dk_27 (dk_at dksX9_read_8 10 rfl rfl)
theorem dX9_read_196 : decode cX9_read 196 = .ok (.aload_n 0, 1) := dk_42 (dk_at dksX9_read_8 11 rfl rfl)
theorem dX9_read_197 : decode cX9_read 197 = .ok (.getfield 251, 3) := dk_180 0 251 (dk_at dksX9_read_8 12 rfl rfl)
theorem dX9_read_200 : decode cX9_read 200 = .ok (.iastore, 1) := dk_79 (dk_at dksX9_read_8 15 rfl rfl)
theorem dX9_read_201 : decode cX9_read 201 = .ok (.aload_n 0, 1) := dk_42 (dk_at dksX9_read_8 16 rfl rfl)
theorem dX9_read_202 : decode cX9_read 202 = .ok (.getfield 48, 3) := dk_180 0 48 (dk_at dksX9_read_8 17 rfl rfl)
theorem dX9_read_205 : decode cX9_read 205 = .ok (.iload_n 1, 1) := dk_27 (dk_at dksX9_read_8 20 rfl rfl)
theorem dX9_read_206 : decode cX9_read 206 = .ok (.aload_n 0, 1) := dk_42 (dk_at dksX9_read_8 21 rfl rfl)
theorem dX9_read_207 : decode cX9_read 207 = .ok (.getfield 226, 3) := dk_180 0 226 (dk_at dksX9_read_9 0 rfl rfl)
theorem dX9_read_210 : decode cX9_read 210 = .ok (.iastore, 1) := dk_79 (dk_at dksX9_read_9 3 rfl rfl)
theorem dX9_read_211 : decode cX9_read 211 = .ok (.iconst 0, 1) := dk_3 (dk_at dksX9_read_9 4 rfl rfl)
theorem dX9_read_212 : decode cX9_read 212 = .ok (.istore 4, 2) := dk_54 4 (dk_at dksX9_read_9 5 rfl rfl)
theorem dX9_read_214 : decode cX9_read 214 = .ok (.iload 4, 2) := dk_21 4 (dk_at dksX9_read_9 7 rfl rfl)
theorem dX9_read_216 : decode cX9_read 216 = .ok (.iconst 5, 1) := dk_8 (dk_at dksX9_read_9 9 rfl rfl)
theorem dX9_read_217 : decode cX9_read 217 = .ok (.if_icmp .ge 27, 3) := dk_162 0 27 (dk_at dksX9_read_9 10 rfl rfl)
theorem dX9_read_220 : decode cX9_read 220 = .ok (.aload_n 0, 1) := dk_42 (dk_at dksX9_read_9 13 rfl rfl)
theorem dX9_read_221 : decode cX9_read 221 = .ok (.getfield 51, 3) := dk_180 0 51 (dk_at dksX9_read_9 14 rfl rfl)
theorem dX9_read_224 : decode cX9_read 224 = .ok (.iconst 5, 1) := dk_8 (dk_at dksX9_read_9 17 rfl rfl)
theorem dX9_read_225 : decode cX9_read 225 = .ok (.iload_n 1, 1) := dk_27 (dk_at dksX9_read_9 18 rfl rfl)
theorem dX9_read_226 : decode cX9_read 226 = .ok (.imul, 1) := dk_104 (dk_at dksX9_read_9 19 rfl rfl)
theorem dX9_read_227 : decode cX9_read 227 = .ok (.iload 4, 2) := dk_21 4 (dk_at dksX9_read_9 20 rfl rfl)
theorem dX9_read_229 : decode cX9_read 229 = .ok (.iadd, 1) := dk_96 (dk_at dksX9_read_9 22 rfl rfl)
theorem dX9_read_230 : decode cX9_read 230 = .ok (.aload_n 0, 1) := dk_42 (dk_at dksX9_read_9 23 rfl rfl)
theorem dX9_read_231 : decode cX9_read 231 = .ok (.getfield 75, 3) := dk_180 0 75 (dk_at dksX9_read_10 0 rfl rfl)
theorem dX9_read_234 : decode cX9_read 234 = .ok (.iload 4, 2) := dk_21 4 (dk_at dksX9_read_10 3 rfl rfl)
theorem dX9_read_236 : decode cX9_read 236 = .ok (.iaload, 1) := dk_46 (dk_at dksX9_read_10 5 rfl rfl)
theorem dX9_read_237 : decode cX9_read 237 = .ok (.iastore, 1) := dk_79 (dk_at dksX9_read_10 6 rfl rfl)
theorem dX9_read_238 : decode cX9_read 238 = .ok (.iinc 4 1, 3) := dk_132 4 1 (dk_at dksX9_read_10 7 rfl rfl)
theorem dX9_read_241 : decode cX9_read 241 = .ok (.goto (-27), 3) := dk_167 255 229 (dk_at dksX9_read_10 10 rfl rfl)
theorem dX9_read_244 : decode cX9_read 244 = .ok (.iconst 0, 1) := dk_3 (dk_at dksX9_read_10 13 rfl rfl)
theorem dX9_read_245 : decode cX9_read 245 = .ok (.istore 4, 2) := dk_54 4 (dk_at dksX9_read_10 14 rfl rfl)
theorem dX9_read_247 : decode cX9_read 247 = .ok (.iload 4, 2) := dk_21 4 (dk_at dksX9_read_10 16 rfl rfl)
theorem dX9_read_249 : decode cX9_read 249 = .ok (.bipush 8, 2) := dk_16 8 (dk_at dksX9_read_10 18 rfl rfl)
theorem dX9_read_251 : decode cX9_read 251 = .ok (.if_icmp .ge 104, 3) := dk_162 0 104 (dk_at dksX9_read_10 20 rfl rfl)
theorem dX9_read_254 : decode cX9_read 254 = .ok (.aload_n 0, 1) := dk_42 (dk_at dksX9_read_10 23 rfl rfl)
theorem dX9_read_255 : decode cX9_read 255 = .ok (.getfield 54, 3) := dk_180 0 54 (dk_at dksX9_read_11 0 rfl rfl)
theorem dX9_read_258 : decode cX9_read 258 = .ok (.bipush 8, 2) := dk_16 8 (dk_at dksX9_read_11 3 rfl rfl)
theorem dX9_read_260 : decode cX9_read 260 = .ok (.iload_n 1, 1) := dk_27 (dk_at dksX9_read_11 5 rfl rfl)
theorem dX9_read_261 : decode cX9_read 261 = .ok (.imul, 1) := dk_104 (dk_at dksX9_read_11 6 rfl rfl)
theorem dX9_read_262 : decode cX9_read 262 = .ok (.iload 4, 2) := dk_21 4 (dk_at dksX9_read_11 7 rfl rfl)
theorem dX9_read_264 : decode cX9_read 264 = .ok (.iadd, 1) := dk_96 (dk_at dksX9_read_11 9 rfl rfl)
theorem dX9_read_265 : decode cX9_read 265 = .ok (.aload_n 0, 1) := dk_42 (dk_at dksX9_read_11 10 rfl rfl)
theorem dX9_read_266 : decode cX9_read 266 = .ok (.getfield 78, 3) := dk_180 0 78 (dk_at dksX9_read_11 11 rfl rfl)
theorem dX9_read_269 : decode cX9_read 269 = .ok (.iload 4, 2) := dk_21 4 (dk_at dksX9_read_11 14 rfl rfl)
theorem dX9_read_271 : decode cX9_read 271 = .ok (.iaload, 1) := dk_46 (dk_at dksX9_read_11 16 rfl rfl)
theorem dX9_read_272 : decode cX9_read 272 = .ok (.iastore, 1) := dk_79 (dk_at dksX9_read_11 17 rfl rfl)
theorem dX9_read_273 : decode cX9_read 273 = .ok (.aload_n 0, 1) := dk_42 (dk_at dksX9_read_11 18 rfl rfl)
theorem dX9_read_274 : decode cX9_read 274 = .ok (.getfield 57, 3) := dk_180 0 57 (dk_at dksX9_read_11 19 rfl rfl)
theorem dX9_read_277 : decode cX9_read 277 = .ok (.bipush 8, 2) := dk_16 8 (dk_at dksX9_read_11 22 rfl rfl)
theorem dX9_read_279 : decode cX9_read 279 = .ok (.iload_n 1, 1) := dk_27 (dk_at dksX9_read_12 0 rfl rfl)
theorem dX9_read_280 : decode cX9_read 280 = .ok (.imul, 1) := dk_104 (dk_at dksX9_read_12 1 rfl rfl)
theorem dX9_read_281 : decode cX9_read 281 = .ok (.iload 4, 2) := dk_21 4 (dk_at dksX9_read_12 2 rfl rfl)
theorem dX9_read_283 : decode cX9_read 283 = .ok (.iadd, 1) := dk_96 (dk_at dksX9_read_12 4 rfl rfl)
theorem dX9_read_284 : decode cX9_read 284 = .ok (.aload_n 0, 1) := dk_42 (dk_at dksX9_read_12 5 rfl rfl)
theorem dX9_read_285 : decode cX9_read 285 = .ok (.getfield 81, 3) := dk_180 0 81 (dk_at dksX9_read_12 6 rfl rfl)
theorem dX9_read_288 : decode cX9_read 288 = .ok (.iload 4, 2) := dk_21 4 (dk_at dksX9_read_12 9 rfl rfl)
theorem dX9_read_290 : decode cX9_read 290 = .ok (.iaload, 1) := dk_46 (dk_at dksX9_read_12 11 rfl rfl)
theorem dX9_read_291 : decode cX9_read 291 = .ok (.iastore, 1) := dk_79 (dk_at dksX9_read_12 12 rfl rfl)
theorem dX9_read_292 : decode cX9_read 292 = .ok (.aload_n 0, 1) := dk_42 (dk_at dksX9_read_12 13 rfl rfl)
theorem dX9_read_293 : decode cX9_read 293 = .ok (.getfield 60, 3) := dk_180 0 60 (dk_at dksX9_read_12 14 rfl rfl)
theorem dX9_read_296 : decode cX9_read 296 = .ok (.bipush 8, 2) := dk_16 8 (dk_at dksX9_read_12 17 rfl rfl)
theorem dX9_read_298 : decode cX9_read 298 = .ok (.iload_n 1, 1) := dk_27 (dk_at dksX9_read_12 19 rfl rfl)
theorem dX9_read_299 : decode cX9_read 299 = .ok (.imul, 1) := dk_104 (dk_at dksX9_read_12 20 rfl rfl)
theorem dX9_read_300 : decode cX9_read 300 = .ok (.iload 4, 2) := dk_21 4 (dk_at dksX9_read_12 21 rfl rfl)
theorem dX9_read_302 : decode cX9_read 302 = .ok (.iadd, 1) := dk_96 (dk_at dksX9_read_12 23 rfl rfl)
theorem dX9_read_303 : decode cX9_read 303 = .ok (.aload_n 0, 1) := dk_42 (dk_at dksX9_read_13 0 rfl rfl)
theorem dX9_read_304 : decode cX9_read 304 = .ok (.getfield 84, 3) := dk_180 0 84 (dk_at dksX9_read_13 1 rfl rfl)
theorem dX9_read_307 : decode cX9_read 307 = .ok (.iload 4, 2) := dk_21 4 (dk_at dksX9_read_13 4 rfl rfl)
theorem dX9_read_309 : decode cX9_read 309 = .ok (.iaload, 1) := dk_46 (dk_at dksX9_read_13 6 rfl rfl)
theorem dX9_read_310 : decode cX9_read 310 = .ok (.iastore, 1) := dk_79 (dk_at dksX9_read_13 7 rfl rfl)
theorem dX9_read_311 : decode cX9_read 311 = .ok (.aload_n 0, 1) := dk_42 (dk_at dksX9_read_13 8 rfl rfl)
theorem dX9_read_312 : decode cX9_read 312 = .ok (.getfield 63, 3) := dk_180 0 63 (dk_at dksX9_read_13 9 rfl rfl)
theorem dX9_read_315 : decode cX9_read 315 = .ok (.bipush 8, 2) := dk_16 8 (dk_at dksX9_read_13 12 rfl rfl)
theorem dX9_read_317 : decode cX9_read 317 = .ok (.iload_n 1, 1) := dk_27 (dk_at dksX9_read_13 14 rfl rfl)
theorem dX9_read_318 : decode cX9_read 318 = .ok (.imul, 1) := dk_104 (dk_at dksX9_read_13 15 rfl rfl)
theorem dX9_read_319 : decode cX9_read 319 = .ok (.iload 4, 2) := dk_21 4 (dk_at dksX9_read_13 16 rfl rfl)
theorem dX9_read_321 : decode cX9_read 321 = .ok (.iadd, 1) := dk_96 (dk_at dksX9_read_13 18 rfl rfl)
theorem dX9_read_322 : decode cX9_read 322 = .ok (.aload_n 0, 1) := dk_42 (dk_at dksX9_read_13 19 rfl rfl)
theorem dX9_read_323 : decode cX9_read 323 = .ok (.getfield 87, 3) := dk_180 0 87 (dk_at dksX9_read_13 20 rfl rfl)
theorem dX9_read_326 : decode cX9_read 326 = .ok (.iload 4, 2) := dk_21 4 (dk_at dksX9_read_14 0 rfl rfl)
theorem dX9_read_328 : decode cX9_read 328 = .ok (.iaload, 1) := dk_46 (dk_at dksX9_read_14 2 rfl rfl)
theorem dX9_read_329 : decode cX9_read 329 = .ok (.iastore, 1) := dk_79 (dk_at dksX9_read_14 3 rfl rfl)
theorem dX9_read_330 : decode cX9_read 330 = .ok (.aload_n 0, 1) := dk_42 (dk_at dksX9_read_14 4 rfl rfl)
theorem dX9_read_331 : decode cX9_read 331 = .ok (.getfield 72, 3) := dk_180 0 72 (dk_at dksX9_read_14 5 rfl rfl)
theorem dX9_read_334 : decode cX9_read 334 = .ok (.bipush 8, 2) := dk_16 8 (dk_at dksX9_read_14 8 rfl rfl)
theorem dX9_read_336 : decode cX9_read 336 = .ok (.iload_n 1, 1) := dk_27 (dk_at dksX9_read_14 10 rfl rfl)
theorem dX9_read_337 : decode cX9_read 337 = .ok (.imul, 1) := dk_104 (dk_at dksX9_read_14 11 rfl rfl)
theorem dX9_read_338 : decode cX9_read 338 = .ok (.iload 4, 2) := dk_21 4 (dk_at dksX9_read_14 12 rfl rfl)
theorem dX9_read_340 : decode cX9_read 340 = .ok (.iadd, 1) := dk_96 (dk_at dksX9_read_14 14 rfl rfl)
theorem dX9_read_341 : decode cX9_read 341 = .ok (.aload_n 0, 1) := dk_42 (dk_at dksX9_read_14 15 rfl rfl)
theorem dX9_read_342 : decode cX9_read 342 = .ok (.getfield 96, 3) := dk_180 0 96 (dk_at dksX9_read_14 16 rfl rfl)
theorem dX9_read_345 : decode cX9_read 345 = .ok (.iload 4, 2) := dk_21 4 (dk_at dksX9_read_14 19 rfl rfl)
theorem dX9_read_347 : decode cX9_read 347 = .ok (.iaload, 1) := dk_46 (dk_at dksX9_read_14 21 rfl rfl)
theorem dX9_read_348 : decode cX9_read 348 = .ok (.iastore, 1) := dk_79 (dk_at dksX9_read_14 22 rfl rfl)
theorem dX9_read_349 : decode cX9_read 349 = .ok (.iinc 4 1, 3) := dk_132 4 1 (dk_at dksX9_read_15 0 rfl rfl)
theorem dX9_read_352 : decode cX9_read 352 = .ok (.goto (-105), 3) := dk_167 255 151 (dk_at dksX9_read_15 3 rfl rfl)
theorem dX9_read_355 : decode cX9_read 355 = .ok (.iconst 0, 1) := dk_3 (dk_at dksX9_read_15 6 rfl rfl)
theorem dX9_read_356 : decode cX9_read 356 = .ok (.istore 4, 2) := dk_54 4 (dk_at dksX9_read_15 7 rfl rfl)
theorem dX9_read_358 : decode cX9_read 358 = .ok (.iload 4, 2) := dk_21 4 (dk_at dksX9_read_15 9 rfl rfl)
theorem dX9_read_360 : decode cX9_read 360 = .ok (.bipush 80, 2) := dk_16 80 (dk_at dksX9_read_15 11 rfl rfl)
theorem dX9_read_362 : decode cX9_read 362 = .ok (.if_icmp .ge 47, 3) := dk_162 0 47 (dk_at dksX9_read_15 13 rfl rfl)
theorem dX9_read_365 : decode cX9_read 365 = .ok (.aload_n 0, 1) := dk_42 (dk_at dksX9_read_15 16 rfl rfl)
theorem dX9_read_366 : decode cX9_read 366 = .ok (.getfield 66, 3) := dk_180 0 66 (dk_at dksX9_read_15 17 rfl rfl)
theorem dX9_read_369 : decode cX9_read 369 = .ok (.bipush 80, 2) := dk_16 80 (dk_at dksX9_read_15 20 rfl rfl)
theorem dX9_read_371 : decode cX9_read 371 = .ok (.iload_n 1, 1) := dk_27 (dk_at dksX9_read_15 22 rfl rfl)
theorem dX9_read_372 : decode cX9_read 372 = .ok (.imul, 1) := dk_104 (dk_at dksX9_read_15 23 rfl rfl)
theorem dX9_read_373 : decode cX9_read 373 = .ok (.iload 4, 2) := dk_21 4 (dk_at dksX9_read_16 0 rfl rfl)
theorem dX9_read_375 : decode cX9_read 375 = .ok (.iadd, 1) := dk_96 (dk_at dksX9_read_16 2 rfl rfl)
theorem dX9_read_376 : decode cX9_read 376 = .ok (.aload_n 0, 1) := dk_42 (dk_at dksX9_read_16 3 rfl rfl)
theorem dX9_read_377 : decode cX9_read 377 = .ok (.getfield 90, 3) := dk_180 0 90 (dk_at dksX9_read_16 4 rfl rfl)
theorem dX9_read_380 : decode cX9_read 380 = .ok (.iload 4, 2) := dk_21 4 (dk_at dksX9_read_16 7 rfl rfl)
theorem dX9_read_382 : decode cX9_read 382 = .ok (.iaload, 1) := dk_46 (dk_at dksX9_read_16 9 rfl rfl)
theorem dX9_read_383 : decode cX9_read 383 = .ok (.iastore, 1) := dk_79 (dk_at dksX9_read_16 10 rfl rfl)
theorem dX9_read_384 : decode cX9_read 384 = .ok (.aload_n 0, 1) := dk_42 (dk_at dksX9_read_16 11 rfl rfl)
theorem dX9_read_385 : decode cX9_read 385 = .ok (.getfield 69, 3) := dk_180 0 69 (dk_at dksX9_read_16 12 rfl rfl)
theorem dX9_read_388 : decode cX9_read 388 = .ok (.bipush 80, 2) := dk_16 80 (dk_at dksX9_read_16 15 rfl rfl)
theorem dX9_read_390 : decode cX9_read 390 = .ok (.iload_n 1, 1) := dk_27 (dk_at dksX9_read_16 17 rfl rfl)
theorem dX9_read_391 : decode cX9_read 391 = .ok (.imul, 1) := dk_104 (dk_at dksX9_read_16 18 rfl rfl)
theorem dX9_read_392 : decode cX9_read 392 = .ok (.iload 4, 2) := dk_21 4 (dk_at dksX9_read_16 19 rfl rfl)
theorem dX9_read_394 : decode cX9_read 394 = .ok (.iadd, 1) := dk_96 (dk_at dksX9_read_16 21 rfl rfl)
theorem dX9_read_395 : decode cX9_read 395 = .ok (.aload_n 0, 1) := dk_42 (dk_at dksX9_read_16 22 rfl rfl)
theorem dX9_read_396 : decode cX9_read 396 = .ok (.getfield 93, 3) := dk_180 0 93 (dk_at dksX9_read_17 0 rfl rfl)
theorem dX9_read_399 : decode cX9_read 399 = .ok (.iload 4, 2) := dk_21 4 (dk_at dksX9_read_17 3 rfl rfl)
theorem dX9_read_401 : decode cX9_read 401 = .ok (.iaload, 1) := dk_46 (dk_at dksX9_read_17 5 rfl rfl)
theorem dX9_read_402 : decode cX9_read 402 = .ok (.iastore, 1) := dk_79 (dk_at dksX9_read_17 6 rfl rfl)
theorem dX9_read_403 : decode cX9_read 403 = .ok (.iinc 4 1, 3) := dk_132 4 1 (dk_at dksX9_read_17 7 rfl rfl)
theorem dX9_read_406 : decode cX9_read 406 = .ok (.goto (-48), 3) := dk_167 255 208 (dk_at dksX9_read_17 10 rfl rfl)
theorem dX9_read_409 : decode cX9_read 409 = .ok (.aload_n 0, 1) := dk_42 (dk_at dksX9_read_17 13 rfl rfl)
theorem dX9_read_410 : decode cX9_read 410 = .ok (.getfield 248, 3) := dk_180 0 248 (dk_at dksX9_read_17 14 rfl rfl)
theorem dX9_read_413 : decode cX9_read 413 = .ok (.ireturn, 1) := dk_172 (dk_at dksX9_read_17 17 rfl rfl)
abbrev cX9_isSlot : ByteArray := prog_31_method_29_code
def yX9_isSlot : MethodName := ⟨RX9, "isSlot", "(I)Z"⟩
def dkwX9_isSlot_0 : List UInt8 := [26, 133, 9, 20, 0, 173, 184, 0, 143, 172]
abbrev dktX9_isSlot_0 : List UInt8 := dkwX9_isSlot_0 ++ []
theorem dksX9_isSlot_0 : cX9_isSlot.data.toList.drop 0 = dktX9_isSlot_0 := by decide +kernel
theorem dX9_isSlot_0 : decode cX9_isSlot 0 = .ok (.iload_n 0, 1) := dk_26 (dk_at dksX9_isSlot_0 0 rfl rfl)
theorem dX9_isSlot_1 : decode cX9_isSlot 1 = .ok (.i2l, 1) := dk_133 (dk_at dksX9_isSlot_0 1 rfl rfl)
theorem dX9_isSlot_2 : decode cX9_isSlot 2 = .ok (.lconst 0, 1) := dk_9 (dk_at dksX9_isSlot_0 2 rfl rfl)
theorem dX9_isSlot_3 : decode cX9_isSlot 3 = .ok (.ldc2_w 173, 3) := dk_20 0 173 (dk_at dksX9_isSlot_0 3 rfl rfl)
theorem dX9_isSlot_6 : decode cX9_isSlot 6 = .ok (.invokestatic 143, 3) := dk_184 0 143 (dk_at dksX9_isSlot_0 6 rfl rfl)
theorem dX9_isSlot_9 : decode cX9_isSlot 9 = .ok (.ireturn, 1) := dk_172 (dk_at dksX9_isSlot_0 9 rfl rfl)
abbrev cX9_readsMessage : ByteArray := prog_31_method_21_code
def yX9_readsMessage : MethodName := ⟨RX9, "readsMessage", "(IZ)Z"⟩
def dkwX9_readsMessage_2 : List UInt8 := [154, 0, 7, 3, 172, 4, 172, 42, 89, 180, 0, 223, 4, 96, 181, 0, 223, 167, 255, 192]
abbrev dktX9_readsMessage_2 : List UInt8 := dkwX9_readsMessage_2 ++ []
def dkwX9_readsMessage_1 : List UInt8 := [180, 0, 202, 4, 96, 181, 0, 202, 167, 0, 22, 29, 16, 123, 160, 0, 14, 42, 27, 28, 182, 0, 219]
abbrev dktX9_readsMessage_1 : List UInt8 := dkwX9_readsMessage_1 ++ dktX9_readsMessage_2
def dkwX9_readsMessage_0 : List UInt8 := [42, 182, 0, 208, 62, 29, 184, 0, 216, 154, 0, 13, 29, 16, 35, 160, 0, 20, 28, 153, 0, 16, 42, 89]
abbrev dktX9_readsMessage_0 : List UInt8 := dkwX9_readsMessage_0 ++ dktX9_readsMessage_1
theorem dksX9_readsMessage_0 : cX9_readsMessage.data.toList.drop 0 = dktX9_readsMessage_0 := by decide +kernel
theorem dksX9_readsMessage_1 : cX9_readsMessage.data.toList.drop 24 = dktX9_readsMessage_1 := dk_seg dksX9_readsMessage_0 24 rfl rfl
theorem dksX9_readsMessage_2 : cX9_readsMessage.data.toList.drop 47 = dktX9_readsMessage_2 := dk_seg dksX9_readsMessage_1 23 rfl rfl
theorem dX9_readsMessage_0 : decode cX9_readsMessage 0 = .ok (.aload_n 0, 1) := dk_42 (dk_at dksX9_readsMessage_0 0 rfl rfl)
theorem dX9_readsMessage_1 : decode cX9_readsMessage 1 = .ok (.invokevirtual 208, 3) := dk_182 0 208 (dk_at dksX9_readsMessage_0 1 rfl rfl)
theorem dX9_readsMessage_4 : decode cX9_readsMessage 4 = .ok (.istore_n 3, 1) := dk_62 (dk_at dksX9_readsMessage_0 4 rfl rfl)
theorem dX9_readsMessage_5 : decode cX9_readsMessage 5 = .ok (.iload_n 3, 1) := dk_29 (dk_at dksX9_readsMessage_0 5 rfl rfl)
theorem dX9_readsMessage_6 : decode cX9_readsMessage 6 = .ok (.invokestatic 216, 3) := dk_184 0 216 (dk_at dksX9_readsMessage_0 6 rfl rfl)
theorem dX9_readsMessage_9 : decode cX9_readsMessage 9 = .ok (.ifCond .ne 13, 3) := dk_154 0 13 (dk_at dksX9_readsMessage_0 9 rfl rfl)
theorem dX9_readsMessage_12 : decode cX9_readsMessage 12 = .ok (.iload_n 3, 1) := dk_29 (dk_at dksX9_readsMessage_0 12 rfl rfl)
theorem dX9_readsMessage_13 : decode cX9_readsMessage 13 = .ok (.bipush 35, 2) := dk_16 35 (dk_at dksX9_readsMessage_0 13 rfl rfl)
theorem dX9_readsMessage_15 : decode cX9_readsMessage 15 = .ok (.if_icmp .ne 20, 3) := dk_160 0 20 (dk_at dksX9_readsMessage_0 15 rfl rfl)
theorem dX9_readsMessage_18 : decode cX9_readsMessage 18 = .ok (.iload_n 2, 1) := dk_28 (dk_at dksX9_readsMessage_0 18 rfl rfl)
theorem dX9_readsMessage_19 : decode cX9_readsMessage 19 = .ok (.ifCond .eq 16, 3) := dk_153 0 16 (dk_at dksX9_readsMessage_0 19 rfl rfl)
theorem dX9_readsMessage_22 : decode cX9_readsMessage 22 = .ok (.aload_n 0, 1) := dk_42 (dk_at dksX9_readsMessage_0 22 rfl rfl)
theorem dX9_readsMessage_23 : decode cX9_readsMessage 23 = .ok (.dup, 1) := dk_89 (dk_at dksX9_readsMessage_0 23 rfl rfl)
theorem dX9_readsMessage_24 : decode cX9_readsMessage 24 = .ok (.getfield 202, 3) := dk_180 0 202 (dk_at dksX9_readsMessage_1 0 rfl rfl)
theorem dX9_readsMessage_27 : decode cX9_readsMessage 27 = .ok (.iconst 1, 1) := dk_4 (dk_at dksX9_readsMessage_1 3 rfl rfl)
theorem dX9_readsMessage_28 : decode cX9_readsMessage 28 = .ok (.iadd, 1) := dk_96 (dk_at dksX9_readsMessage_1 4 rfl rfl)
theorem dX9_readsMessage_29 : decode cX9_readsMessage 29 = .ok (.putfield 202, 3) := dk_181 0 202 (dk_at dksX9_readsMessage_1 5 rfl rfl)
theorem dX9_readsMessage_32 : decode cX9_readsMessage 32 = .ok (.goto 22, 3) := dk_167 0 22 (dk_at dksX9_readsMessage_1 8 rfl rfl)
theorem dX9_readsMessage_35 : decode cX9_readsMessage 35 = .ok (.iload_n 3, 1) := dk_29 (dk_at dksX9_readsMessage_1 11 rfl rfl)
theorem dX9_readsMessage_36 : decode cX9_readsMessage 36 = .ok (.bipush 123, 2) := dk_16 123 (dk_at dksX9_readsMessage_1 12 rfl rfl)
theorem dX9_readsMessage_38 : decode cX9_readsMessage 38 = .ok (.if_icmp .ne 14, 3) := dk_160 0 14 (dk_at dksX9_readsMessage_1 14 rfl rfl)
theorem dX9_readsMessage_41 : decode cX9_readsMessage 41 = .ok (.aload_n 0, 1) := dk_42 (dk_at dksX9_readsMessage_1 17 rfl rfl)
theorem dX9_readsMessage_42 : decode cX9_readsMessage 42 = .ok (.iload_n 1, 1) := dk_27 (dk_at dksX9_readsMessage_1 18 rfl rfl)
theorem dX9_readsMessage_43 : decode cX9_readsMessage 43 = .ok (.iload_n 2, 1) := dk_28 (dk_at dksX9_readsMessage_1 19 rfl rfl)
theorem dX9_readsMessage_44 : decode cX9_readsMessage 44 = .ok (.invokevirtual 219, 3) := dk_182 0 219 (dk_at dksX9_readsMessage_1 20 rfl rfl)
theorem dX9_readsMessage_47 : decode cX9_readsMessage 47 = .ok (.ifCond .ne 7, 3) := dk_154 0 7 (dk_at dksX9_readsMessage_2 0 rfl rfl)
theorem dX9_readsMessage_50 : decode cX9_readsMessage 50 = .ok (.iconst 0, 1) := dk_3 (dk_at dksX9_readsMessage_2 3 rfl rfl)
theorem dX9_readsMessage_51 : decode cX9_readsMessage 51 = .ok (.ireturn, 1) := dk_172 (dk_at dksX9_readsMessage_2 4 rfl rfl)
theorem dX9_readsMessage_52 : decode cX9_readsMessage 52 = .ok (.iconst 1, 1) := dk_4 (dk_at dksX9_readsMessage_2 5 rfl rfl)
theorem dX9_readsMessage_53 : decode cX9_readsMessage 53 = .ok (.ireturn, 1) := dk_172 (dk_at dksX9_readsMessage_2 6 rfl rfl)
theorem dX9_readsMessage_54 : decode cX9_readsMessage 54 = .ok (.aload_n 0, 1) := dk_42 (dk_at dksX9_readsMessage_2 7 rfl rfl)
theorem dX9_readsMessage_55 : decode cX9_readsMessage 55 = .ok (.dup, 1) := dk_89 (dk_at dksX9_readsMessage_2 8 rfl rfl)
theorem dX9_readsMessage_56 : decode cX9_readsMessage 56 = .ok (.getfield 223, 3) := dk_180 0 223 (dk_at dksX9_readsMessage_2 9 rfl rfl)
theorem dX9_readsMessage_59 : decode cX9_readsMessage 59 = .ok (.iconst 1, 1) := dk_4 (dk_at dksX9_readsMessage_2 12 rfl rfl)
theorem dX9_readsMessage_60 : decode cX9_readsMessage 60 = .ok (.iadd, 1) := dk_96 (dk_at dksX9_readsMessage_2 13 rfl rfl)
theorem dX9_readsMessage_61 : decode cX9_readsMessage 61 = .ok (.putfield 223, 3) := dk_181 0 223 (dk_at dksX9_readsMessage_2 14 rfl rfl)
theorem dX9_readsMessage_64 : decode cX9_readsMessage 64 = .ok (.goto (-64), 3) := dk_167 255 192 (dk_at dksX9_readsMessage_2 17 rfl rfl)
abbrev cX9_here : ByteArray := prog_31_method_17_code
def yX9_here : MethodName := ⟨RX9, "here", "()I"⟩
def dkwX9_here_1 : List UInt8 := [172]
abbrev dktX9_here_1 : List UInt8 := dkwX9_here_1 ++ []
def dkwX9_here_0 : List UInt8 := [42, 180, 0, 202, 42, 180, 0, 199, 162, 0, 15, 42, 180, 0, 30, 42, 180, 0, 202, 46, 167, 0, 4, 2]
abbrev dktX9_here_0 : List UInt8 := dkwX9_here_0 ++ dktX9_here_1
theorem dksX9_here_0 : cX9_here.data.toList.drop 0 = dktX9_here_0 := by decide +kernel
theorem dksX9_here_1 : cX9_here.data.toList.drop 24 = dktX9_here_1 := dk_seg dksX9_here_0 24 rfl rfl
theorem dX9_here_0 : decode cX9_here 0 = .ok (.aload_n 0, 1) := dk_42 (dk_at dksX9_here_0 0 rfl rfl)
theorem dX9_here_1 : decode cX9_here 1 = .ok (.getfield 202, 3) := dk_180 0 202 (dk_at dksX9_here_0 1 rfl rfl)
theorem dX9_here_4 : decode cX9_here 4 = .ok (.aload_n 0, 1) := dk_42 (dk_at dksX9_here_0 4 rfl rfl)
theorem dX9_here_5 : decode cX9_here 5 = .ok (.getfield 199, 3) := dk_180 0 199 (dk_at dksX9_here_0 5 rfl rfl)
theorem dX9_here_8 : decode cX9_here 8 = .ok (.if_icmp .ge 15, 3) := dk_162 0 15 (dk_at dksX9_here_0 8 rfl rfl)
theorem dX9_here_11 : decode cX9_here 11 = .ok (.aload_n 0, 1) := dk_42 (dk_at dksX9_here_0 11 rfl rfl)
theorem dX9_here_12 : decode cX9_here 12 = .ok (.getfield 30, 3) := dk_180 0 30 (dk_at dksX9_here_0 12 rfl rfl)
theorem dX9_here_15 : decode cX9_here 15 = .ok (.aload_n 0, 1) := dk_42 (dk_at dksX9_here_0 15 rfl rfl)
theorem dX9_here_16 : decode cX9_here 16 = .ok (.getfield 202, 3) := dk_180 0 202 (dk_at dksX9_here_0 16 rfl rfl)
theorem dX9_here_19 : decode cX9_here 19 = .ok (.iaload, 1) := dk_46 (dk_at dksX9_here_0 19 rfl rfl)
theorem dX9_here_20 : decode cX9_here 20 = .ok (.goto 4, 3) := dk_167 0 4 (dk_at dksX9_here_0 20 rfl rfl)
theorem dX9_here_23 : decode cX9_here 23 = .ok (.iconst (-1), 1) := dk_2 (dk_at dksX9_here_0 23 rfl rfl)
theorem dX9_here_24 : decode cX9_here 24 = .ok (.ireturn, 1) := dk_172 (dk_at dksX9_here_1 0 rfl rfl)
abbrev cX9_isSign : ByteArray := prog_31_method_20_code
def yX9_isSign : MethodName := ⟨RX9, "isSign", "(I)Z"⟩
def dkwX9_isSign_1 : List UInt8 := [159, 0, 9, 26, 16, 46, 160, 0, 7, 4, 167, 0, 4, 3, 172]
abbrev dktX9_isSign_1 : List UInt8 := dkwX9_isSign_1 ++ []
def dkwX9_isSign_0 : List UInt8 := [26, 133, 20, 0, 212, 20, 0, 214, 184, 0, 143, 154, 0, 21, 26, 16, 32, 159, 0, 15, 26, 16, 44]
abbrev dktX9_isSign_0 : List UInt8 := dkwX9_isSign_0 ++ dktX9_isSign_1
theorem dksX9_isSign_0 : cX9_isSign.data.toList.drop 0 = dktX9_isSign_0 := by decide +kernel
theorem dksX9_isSign_1 : cX9_isSign.data.toList.drop 23 = dktX9_isSign_1 := dk_seg dksX9_isSign_0 23 rfl rfl
theorem dX9_isSign_0 : decode cX9_isSign 0 = .ok (.iload_n 0, 1) := dk_26 (dk_at dksX9_isSign_0 0 rfl rfl)
theorem dX9_isSign_1 : decode cX9_isSign 1 = .ok (.i2l, 1) := dk_133 (dk_at dksX9_isSign_0 1 rfl rfl)
theorem dX9_isSign_2 : decode cX9_isSign 2 = .ok (.ldc2_w 212, 3) := dk_20 0 212 (dk_at dksX9_isSign_0 2 rfl rfl)
theorem dX9_isSign_5 : decode cX9_isSign 5 = .ok (.ldc2_w 214, 3) := dk_20 0 214 (dk_at dksX9_isSign_0 5 rfl rfl)
theorem dX9_isSign_8 : decode cX9_isSign 8 = .ok (.invokestatic 143, 3) := dk_184 0 143 (dk_at dksX9_isSign_0 8 rfl rfl)
theorem dX9_isSign_11 : decode cX9_isSign 11 = .ok (.ifCond .ne 21, 3) := dk_154 0 21 (dk_at dksX9_isSign_0 11 rfl rfl)
theorem dX9_isSign_14 : decode cX9_isSign 14 = .ok (.iload_n 0, 1) := dk_26 (dk_at dksX9_isSign_0 14 rfl rfl)
theorem dX9_isSign_15 : decode cX9_isSign 15 = .ok (.bipush 32, 2) := dk_16 32 (dk_at dksX9_isSign_0 15 rfl rfl)
theorem dX9_isSign_17 : decode cX9_isSign 17 = .ok (.if_icmp .eq 15, 3) := dk_159 0 15 (dk_at dksX9_isSign_0 17 rfl rfl)
theorem dX9_isSign_20 : decode cX9_isSign 20 = .ok (.iload_n 0, 1) := dk_26 (dk_at dksX9_isSign_0 20 rfl rfl)
theorem dX9_isSign_21 : decode cX9_isSign 21 = .ok (.bipush 44, 2) := dk_16 44 (dk_at dksX9_isSign_0 21 rfl rfl)
theorem dX9_isSign_23 : decode cX9_isSign 23 = .ok (.if_icmp .eq 9, 3) := dk_159 0 9 (dk_at dksX9_isSign_1 0 rfl rfl)
theorem dX9_isSign_26 : decode cX9_isSign 26 = .ok (.iload_n 0, 1) := dk_26 (dk_at dksX9_isSign_1 3 rfl rfl)
theorem dX9_isSign_27 : decode cX9_isSign 27 = .ok (.bipush 46, 2) := dk_16 46 (dk_at dksX9_isSign_1 4 rfl rfl)
theorem dX9_isSign_29 : decode cX9_isSign 29 = .ok (.if_icmp .ne 7, 3) := dk_160 0 7 (dk_at dksX9_isSign_1 6 rfl rfl)
theorem dX9_isSign_32 : decode cX9_isSign 32 = .ok (.iconst 1, 1) := dk_4 (dk_at dksX9_isSign_1 9 rfl rfl)
theorem dX9_isSign_33 : decode cX9_isSign 33 = .ok (.goto 4, 3) := dk_167 0 4 (dk_at dksX9_isSign_1 10 rfl rfl)
theorem dX9_isSign_36 : decode cX9_isSign 36 = .ok (.iconst 0, 1) := dk_3 (dk_at dksX9_isSign_1 13 rfl rfl)
theorem dX9_isSign_37 : decode cX9_isSign 37 = .ok (.ireturn, 1) := dk_172 (dk_at dksX9_isSign_1 14 rfl rfl)
abbrev cX9_readsBrace : ByteArray := prog_31_method_23_code
def yX9_readsBrace : MethodName := ⟨RX9, "readsBrace", "(IZ)Z"⟩
def dkwX9_readsBrace_15 : List UInt8 := [182, 0, 254, 172]
abbrev dktX9_readsBrace_15 : List UInt8 := dkwX9_readsBrace_15 ++ []
def dkwX9_readsBrace_14 : List UInt8 := [42, 21, 7, 27, 4, 96, 28, 154, 0, 10, 21, 6, 16, 112, 160, 0, 7, 4, 167, 0, 4, 3]
abbrev dktX9_readsBrace_14 : List UInt8 := dkwX9_readsBrace_14 ++ dktX9_readsBrace_15
def dkwX9_readsBrace_13 : List UInt8 := [42, 180, 0, 84, 21, 7, 27, 79, 42, 180, 0, 87, 21, 7, 3, 79, 42, 180, 0, 96, 21, 7, 29, 79]
abbrev dktX9_readsBrace_13 : List UInt8 := dkwX9_readsBrace_13 ++ dktX9_readsBrace_14
def dkwX9_readsBrace_12 : List UInt8 := [21, 7, 21, 4, 79, 42, 180, 0, 81, 21, 7, 21, 6, 16, 112, 160, 0, 7, 4, 167, 0, 4, 5, 79]
abbrev dktX9_readsBrace_12 : List UInt8 := dkwX9_readsBrace_12 ++ dktX9_readsBrace_13
def dkwX9_readsBrace_11 : List UInt8 := [180, 0, 251, 164, 0, 9, 27, 4, 96, 167, 0, 7, 42, 180, 0, 251, 181, 0, 251, 42, 180, 0, 78]
abbrev dktX9_readsBrace_11 : List UInt8 := dkwX9_readsBrace_11 ++ dktX9_readsBrace_12
def dkwX9_readsBrace_10 : List UInt8 := [181, 0, 202, 42, 180, 0, 248, 54, 7, 42, 89, 180, 0, 248, 4, 96, 181, 0, 248, 42, 27, 4, 96, 42]
abbrev dktX9_readsBrace_10 : List UInt8 := dkwX9_readsBrace_10 ++ dktX9_readsBrace_11
def dkwX9_readsBrace_9 : List UInt8 := [21, 6, 16, 112, 160, 0, 7, 4, 167, 0, 4, 5, 182, 0, 237, 42, 89, 180, 0, 202, 4, 96]
abbrev dktX9_readsBrace_9 : List UInt8 := dkwX9_readsBrace_9 ++ dktX9_readsBrace_10
def dkwX9_readsBrace_8 : List UInt8 := [160, 0, 17, 27, 6, 159, 0, 12, 42, 180, 0, 248, 16, 8, 160, 0, 5, 3, 172, 42, 21, 4, 21, 5]
abbrev dktX9_readsBrace_8 : List UInt8 := dkwX9_readsBrace_8 ++ dktX9_readsBrace_9
def dkwX9_readsBrace_7 : List UInt8 := [182, 0, 241, 153, 0, 7, 4, 167, 0, 4, 3, 172, 21, 6, 16, 112, 159, 0, 10, 21, 6, 16, 103]
abbrev dktX9_readsBrace_7 : List UInt8 := dkwX9_readsBrace_7 ++ dktX9_readsBrace_8
def dkwX9_readsBrace_6 : List UInt8 := [182, 0, 237, 42, 89, 180, 0, 202, 4, 96, 181, 0, 202, 42, 182, 0, 244, 153, 0, 16, 42, 16, 125]
abbrev dktX9_readsBrace_6 : List UInt8 := dkwX9_readsBrace_6 ++ dktX9_readsBrace_7
def dkwX9_readsBrace_5 : List UInt8 := [181, 0, 202, 42, 16, 125, 182, 0, 241, 172, 21, 6, 16, 110, 160, 0, 44, 42, 21, 4, 21, 5, 4]
abbrev dktX9_readsBrace_5 : List UInt8 := dkwX9_readsBrace_5 ++ dktX9_readsBrace_6
def dkwX9_readsBrace_4 : List UInt8 := [21, 6, 16, 108, 160, 0, 29, 42, 21, 4, 21, 5, 6, 182, 0, 237, 42, 89, 180, 0, 202, 4, 96]
abbrev dktX9_readsBrace_4 : List UInt8 := dkwX9_readsBrace_4 ++ dktX9_readsBrace_5
def dkwX9_readsBrace_3 : List UInt8 := [160, 0, 24, 42, 21, 4, 21, 5, 3, 182, 0, 237, 42, 89, 180, 0, 202, 4, 96, 181, 0, 202, 4, 172]
abbrev dktX9_readsBrace_3 : List UInt8 := dkwX9_readsBrace_3 ++ dktX9_readsBrace_4
def dkwX9_readsBrace_2 : List UInt8 := [54, 5, 42, 89, 180, 0, 202, 4, 96, 181, 0, 202, 42, 182, 0, 208, 54, 6, 21, 6, 16, 125]
abbrev dktX9_readsBrace_2 : List UInt8 := dkwX9_readsBrace_2 ++ dktX9_readsBrace_3
def dkwX9_readsBrace_1 : List UInt8 := [20, 0, 235, 184, 0, 143, 154, 0, 5, 3, 172, 42, 182, 0, 208, 16, 65, 100, 54, 4, 42, 180, 0, 202]
abbrev dktX9_readsBrace_1 : List UInt8 := dkwX9_readsBrace_1 ++ dktX9_readsBrace_2
def dkwX9_readsBrace_0 : List UInt8 := [42, 180, 0, 202, 62, 42, 89, 180, 0, 202, 4, 96, 181, 0, 202, 42, 182, 0, 208, 133, 20, 0, 233]
abbrev dktX9_readsBrace_0 : List UInt8 := dkwX9_readsBrace_0 ++ dktX9_readsBrace_1
theorem dksX9_readsBrace_0 : cX9_readsBrace.data.toList.drop 0 = dktX9_readsBrace_0 := by decide +kernel
theorem dksX9_readsBrace_1 : cX9_readsBrace.data.toList.drop 23 = dktX9_readsBrace_1 := dk_seg dksX9_readsBrace_0 23 rfl rfl
theorem dksX9_readsBrace_2 : cX9_readsBrace.data.toList.drop 47 = dktX9_readsBrace_2 := dk_seg dksX9_readsBrace_1 24 rfl rfl
theorem dksX9_readsBrace_3 : cX9_readsBrace.data.toList.drop 69 = dktX9_readsBrace_3 := dk_seg dksX9_readsBrace_2 22 rfl rfl
theorem dksX9_readsBrace_4 : cX9_readsBrace.data.toList.drop 93 = dktX9_readsBrace_4 := dk_seg dksX9_readsBrace_3 24 rfl rfl
theorem dksX9_readsBrace_5 : cX9_readsBrace.data.toList.drop 116 = dktX9_readsBrace_5 := dk_seg dksX9_readsBrace_4 23 rfl rfl
theorem dksX9_readsBrace_6 : cX9_readsBrace.data.toList.drop 139 = dktX9_readsBrace_6 := dk_seg dksX9_readsBrace_5 23 rfl rfl
theorem dksX9_readsBrace_7 : cX9_readsBrace.data.toList.drop 162 = dktX9_readsBrace_7 := dk_seg dksX9_readsBrace_6 23 rfl rfl
theorem dksX9_readsBrace_8 : cX9_readsBrace.data.toList.drop 185 = dktX9_readsBrace_8 := dk_seg dksX9_readsBrace_7 23 rfl rfl
theorem dksX9_readsBrace_9 : cX9_readsBrace.data.toList.drop 209 = dktX9_readsBrace_9 := dk_seg dksX9_readsBrace_8 24 rfl rfl
theorem dksX9_readsBrace_10 : cX9_readsBrace.data.toList.drop 231 = dktX9_readsBrace_10 := dk_seg dksX9_readsBrace_9 22 rfl rfl
theorem dksX9_readsBrace_11 : cX9_readsBrace.data.toList.drop 255 = dktX9_readsBrace_11 := dk_seg dksX9_readsBrace_10 24 rfl rfl
theorem dksX9_readsBrace_12 : cX9_readsBrace.data.toList.drop 278 = dktX9_readsBrace_12 := dk_seg dksX9_readsBrace_11 23 rfl rfl
theorem dksX9_readsBrace_13 : cX9_readsBrace.data.toList.drop 302 = dktX9_readsBrace_13 := dk_seg dksX9_readsBrace_12 24 rfl rfl
theorem dksX9_readsBrace_14 : cX9_readsBrace.data.toList.drop 326 = dktX9_readsBrace_14 := dk_seg dksX9_readsBrace_13 24 rfl rfl
theorem dksX9_readsBrace_15 : cX9_readsBrace.data.toList.drop 348 = dktX9_readsBrace_15 := dk_seg dksX9_readsBrace_14 22 rfl rfl
theorem dX9_readsBrace_0 : decode cX9_readsBrace 0 = .ok (.aload_n 0, 1) := dk_42 (dk_at dksX9_readsBrace_0 0 rfl rfl)
theorem dX9_readsBrace_1 : decode cX9_readsBrace 1 = .ok (.getfield 202, 3) := dk_180 0 202 (dk_at dksX9_readsBrace_0 1 rfl rfl)
theorem dX9_readsBrace_4 : decode cX9_readsBrace 4 = .ok (.istore_n 3, 1) := dk_62 (dk_at dksX9_readsBrace_0 4 rfl rfl)
theorem dX9_readsBrace_5 : decode cX9_readsBrace 5 = .ok (.aload_n 0, 1) := dk_42 (dk_at dksX9_readsBrace_0 5 rfl rfl)
theorem dX9_readsBrace_6 : decode cX9_readsBrace 6 = .ok (.dup, 1) := dk_89 (dk_at dksX9_readsBrace_0 6 rfl rfl)
theorem dX9_readsBrace_7 : decode cX9_readsBrace 7 = .ok (.getfield 202, 3) := dk_180 0 202 (dk_at dksX9_readsBrace_0 7 rfl rfl)
theorem dX9_readsBrace_10 : decode cX9_readsBrace 10 = .ok (.iconst 1, 1) := dk_4 (dk_at dksX9_readsBrace_0 10 rfl rfl)
theorem dX9_readsBrace_11 : decode cX9_readsBrace 11 = .ok (.iadd, 1) := dk_96 (dk_at dksX9_readsBrace_0 11 rfl rfl)
theorem dX9_readsBrace_12 : decode cX9_readsBrace 12 = .ok (.putfield 202, 3) := dk_181 0 202 (dk_at dksX9_readsBrace_0 12 rfl rfl)
theorem dX9_readsBrace_15 : decode cX9_readsBrace 15 = .ok (.aload_n 0, 1) := dk_42 (dk_at dksX9_readsBrace_0 15 rfl rfl)
theorem dX9_readsBrace_16 : decode cX9_readsBrace 16 = .ok (.invokevirtual 208, 3) := dk_182 0 208 (dk_at dksX9_readsBrace_0 16 rfl rfl)
theorem dX9_readsBrace_19 : decode cX9_readsBrace 19 = .ok (.i2l, 1) := dk_133 (dk_at dksX9_readsBrace_0 19 rfl rfl)
theorem dX9_readsBrace_20 : decode cX9_readsBrace 20 = .ok (.ldc2_w 233, 3) := dk_20 0 233 (dk_at dksX9_readsBrace_0 20 rfl rfl)
theorem dX9_readsBrace_23 : decode cX9_readsBrace 23 = .ok (.ldc2_w 235, 3) := dk_20 0 235 (dk_at dksX9_readsBrace_1 0 rfl rfl)
theorem dX9_readsBrace_26 : decode cX9_readsBrace 26 = .ok (.invokestatic 143, 3) := dk_184 0 143 (dk_at dksX9_readsBrace_1 3 rfl rfl)
theorem dX9_readsBrace_29 : decode cX9_readsBrace 29 = .ok (.ifCond .ne 5, 3) := dk_154 0 5 (dk_at dksX9_readsBrace_1 6 rfl rfl)
theorem dX9_readsBrace_32 : decode cX9_readsBrace 32 = .ok (.iconst 0, 1) := dk_3 (dk_at dksX9_readsBrace_1 9 rfl rfl)
theorem dX9_readsBrace_33 : decode cX9_readsBrace 33 = .ok (.ireturn, 1) := dk_172 (dk_at dksX9_readsBrace_1 10 rfl rfl)
theorem dX9_readsBrace_34 : decode cX9_readsBrace 34 = .ok (.aload_n 0, 1) := dk_42 (dk_at dksX9_readsBrace_1 11 rfl rfl)
theorem dX9_readsBrace_35 : decode cX9_readsBrace 35 = .ok (.invokevirtual 208, 3) := dk_182 0 208 (dk_at dksX9_readsBrace_1 12 rfl rfl)
theorem dX9_readsBrace_38 : decode cX9_readsBrace 38 = .ok (.bipush 65, 2) := dk_16 65 (dk_at dksX9_readsBrace_1 15 rfl rfl)
theorem dX9_readsBrace_40 : decode cX9_readsBrace 40 = .ok (.isub, 1) := dk_100 (dk_at dksX9_readsBrace_1 17 rfl rfl)
theorem dX9_readsBrace_41 : decode cX9_readsBrace 41 = .ok (.istore 4, 2) := dk_54 4 (dk_at dksX9_readsBrace_1 18 rfl rfl)
theorem dX9_readsBrace_43 : decode cX9_readsBrace 43 = .ok (.aload_n 0, 1) := dk_42 (dk_at dksX9_readsBrace_1 20 rfl rfl)
theorem dX9_readsBrace_44 : decode cX9_readsBrace 44 = .ok (.getfield 202, 3) := dk_180 0 202 (dk_at dksX9_readsBrace_1 21 rfl rfl)
theorem dX9_readsBrace_47 : decode cX9_readsBrace 47 = .ok (.istore 5, 2) := dk_54 5 (dk_at dksX9_readsBrace_2 0 rfl rfl)
theorem dX9_readsBrace_49 : decode cX9_readsBrace 49 = .ok (.aload_n 0, 1) := dk_42 (dk_at dksX9_readsBrace_2 2 rfl rfl)
theorem dX9_readsBrace_50 : decode cX9_readsBrace 50 = .ok (.dup, 1) := dk_89 (dk_at dksX9_readsBrace_2 3 rfl rfl)
theorem dX9_readsBrace_51 : decode cX9_readsBrace 51 = .ok (.getfield 202, 3) := dk_180 0 202 (dk_at dksX9_readsBrace_2 4 rfl rfl)
theorem dX9_readsBrace_54 : decode cX9_readsBrace 54 = .ok (.iconst 1, 1) := dk_4 (dk_at dksX9_readsBrace_2 7 rfl rfl)
theorem dX9_readsBrace_55 : decode cX9_readsBrace 55 = .ok (.iadd, 1) := dk_96 (dk_at dksX9_readsBrace_2 8 rfl rfl)
theorem dX9_readsBrace_56 : decode cX9_readsBrace 56 = .ok (.putfield 202, 3) := dk_181 0 202 (dk_at dksX9_readsBrace_2 9 rfl rfl)
theorem dX9_readsBrace_59 : decode cX9_readsBrace 59 = .ok (.aload_n 0, 1) := dk_42 (dk_at dksX9_readsBrace_2 12 rfl rfl)
theorem dX9_readsBrace_60 : decode cX9_readsBrace 60 = .ok (.invokevirtual 208, 3) := dk_182 0 208 (dk_at dksX9_readsBrace_2 13 rfl rfl)
theorem dX9_readsBrace_63 : decode cX9_readsBrace 63 = .ok (.istore 6, 2) := dk_54 6 (dk_at dksX9_readsBrace_2 16 rfl rfl)
theorem dX9_readsBrace_65 : decode cX9_readsBrace 65 = .ok (.iload 6, 2) := dk_21 6 (dk_at dksX9_readsBrace_2 18 rfl rfl)
theorem dX9_readsBrace_67 : decode cX9_readsBrace 67 = .ok (.bipush 125, 2) := dk_16 125 (dk_at dksX9_readsBrace_2 20 rfl rfl)
theorem dX9_readsBrace_69 : decode cX9_readsBrace 69 = .ok (.if_icmp .ne 24, 3) := dk_160 0 24 (dk_at dksX9_readsBrace_3 0 rfl rfl)
theorem dX9_readsBrace_72 : decode cX9_readsBrace 72 = .ok (.aload_n 0, 1) := dk_42 (dk_at dksX9_readsBrace_3 3 rfl rfl)
theorem dX9_readsBrace_73 : decode cX9_readsBrace 73 = .ok (.iload 4, 2) := dk_21 4 (dk_at dksX9_readsBrace_3 4 rfl rfl)
theorem dX9_readsBrace_75 : decode cX9_readsBrace 75 = .ok (.iload 5, 2) := dk_21 5 (dk_at dksX9_readsBrace_3 6 rfl rfl)
theorem dX9_readsBrace_77 : decode cX9_readsBrace 77 = .ok (.iconst 0, 1) := dk_3 (dk_at dksX9_readsBrace_3 8 rfl rfl)
theorem dX9_readsBrace_78 : decode cX9_readsBrace 78 = .ok (.invokevirtual 237, 3) := dk_182 0 237 (dk_at dksX9_readsBrace_3 9 rfl rfl)
theorem dX9_readsBrace_81 : decode cX9_readsBrace 81 = .ok (.aload_n 0, 1) := dk_42 (dk_at dksX9_readsBrace_3 12 rfl rfl)
theorem dX9_readsBrace_82 : decode cX9_readsBrace 82 = .ok (.dup, 1) := dk_89 (dk_at dksX9_readsBrace_3 13 rfl rfl)
theorem dX9_readsBrace_83 : decode cX9_readsBrace 83 = .ok (.getfield 202, 3) := dk_180 0 202 (dk_at dksX9_readsBrace_3 14 rfl rfl)
theorem dX9_readsBrace_86 : decode cX9_readsBrace 86 = .ok (.iconst 1, 1) := dk_4 (dk_at dksX9_readsBrace_3 17 rfl rfl)
theorem dX9_readsBrace_87 : decode cX9_readsBrace 87 = .ok (.iadd, 1) := dk_96 (dk_at dksX9_readsBrace_3 18 rfl rfl)
theorem dX9_readsBrace_88 : decode cX9_readsBrace 88 = .ok (.putfield 202, 3) := dk_181 0 202 (dk_at dksX9_readsBrace_3 19 rfl rfl)
theorem dX9_readsBrace_91 : decode cX9_readsBrace 91 = .ok (.iconst 1, 1) := dk_4 (dk_at dksX9_readsBrace_3 22 rfl rfl)
theorem dX9_readsBrace_92 : decode cX9_readsBrace 92 = .ok (.ireturn, 1) := dk_172 (dk_at dksX9_readsBrace_3 23 rfl rfl)
theorem dX9_readsBrace_93 : decode cX9_readsBrace 93 = .ok (.iload 6, 2) := dk_21 6 (dk_at dksX9_readsBrace_4 0 rfl rfl)
theorem dX9_readsBrace_95 : decode cX9_readsBrace 95 = .ok (.bipush 108, 2) := dk_16 108 (dk_at dksX9_readsBrace_4 2 rfl rfl)
theorem dX9_readsBrace_97 : decode cX9_readsBrace 97 = .ok (.if_icmp .ne 29, 3) := dk_160 0 29 (dk_at dksX9_readsBrace_4 4 rfl rfl)
theorem dX9_readsBrace_100 : decode cX9_readsBrace 100 = .ok (.aload_n 0, 1) := dk_42 (dk_at dksX9_readsBrace_4 7 rfl rfl)
theorem dX9_readsBrace_101 : decode cX9_readsBrace 101 = .ok (.iload 4, 2) := dk_21 4 (dk_at dksX9_readsBrace_4 8 rfl rfl)
theorem dX9_readsBrace_103 : decode cX9_readsBrace 103 = .ok (.iload 5, 2) := dk_21 5 (dk_at dksX9_readsBrace_4 10 rfl rfl)
theorem dX9_readsBrace_105 : decode cX9_readsBrace 105 = .ok (.iconst 3, 1) := dk_6 (dk_at dksX9_readsBrace_4 12 rfl rfl)
theorem dX9_readsBrace_106 : decode cX9_readsBrace 106 = .ok (.invokevirtual 237, 3) := dk_182 0 237 (dk_at dksX9_readsBrace_4 13 rfl rfl)
theorem dX9_readsBrace_109 : decode cX9_readsBrace 109 = .ok (.aload_n 0, 1) := dk_42 (dk_at dksX9_readsBrace_4 16 rfl rfl)
theorem dX9_readsBrace_110 : decode cX9_readsBrace 110 = .ok (.dup, 1) := dk_89 (dk_at dksX9_readsBrace_4 17 rfl rfl)
theorem dX9_readsBrace_111 : decode cX9_readsBrace 111 = .ok (.getfield 202, 3) := dk_180 0 202 (dk_at dksX9_readsBrace_4 18 rfl rfl)
theorem dX9_readsBrace_114 : decode cX9_readsBrace 114 = .ok (.iconst 1, 1) := dk_4 (dk_at dksX9_readsBrace_4 21 rfl rfl)
theorem dX9_readsBrace_115 : decode cX9_readsBrace 115 = .ok (.iadd, 1) := dk_96 (dk_at dksX9_readsBrace_4 22 rfl rfl)
theorem dX9_readsBrace_116 : decode cX9_readsBrace 116 = .ok (.putfield 202, 3) := dk_181 0 202 (dk_at dksX9_readsBrace_5 0 rfl rfl)
theorem dX9_readsBrace_119 : decode cX9_readsBrace 119 = .ok (.aload_n 0, 1) := dk_42 (dk_at dksX9_readsBrace_5 3 rfl rfl)
theorem dX9_readsBrace_120 : decode cX9_readsBrace 120 = .ok (.bipush 125, 2) := dk_16 125 (dk_at dksX9_readsBrace_5 4 rfl rfl)
theorem dX9_readsBrace_122 : decode cX9_readsBrace 122 = .ok (.invokevirtual 241, 3) := dk_182 0 241 (dk_at dksX9_readsBrace_5 6 rfl rfl)
theorem dX9_readsBrace_125 : decode cX9_readsBrace 125 = .ok (.ireturn, 1) := dk_172 (dk_at dksX9_readsBrace_5 9 rfl rfl)
theorem dX9_readsBrace_126 : decode cX9_readsBrace 126 = .ok (.iload 6, 2) := dk_21 6 (dk_at dksX9_readsBrace_5 10 rfl rfl)
theorem dX9_readsBrace_128 : decode cX9_readsBrace 128 = .ok (.bipush 110, 2) := dk_16 110 (dk_at dksX9_readsBrace_5 12 rfl rfl)
theorem dX9_readsBrace_130 : decode cX9_readsBrace 130 = .ok (.if_icmp .ne 44, 3) := dk_160 0 44 (dk_at dksX9_readsBrace_5 14 rfl rfl)
theorem dX9_readsBrace_133 : decode cX9_readsBrace 133 = .ok (.aload_n 0, 1) := dk_42 (dk_at dksX9_readsBrace_5 17 rfl rfl)
theorem dX9_readsBrace_134 : decode cX9_readsBrace 134 = .ok (.iload 4, 2) := dk_21 4 (dk_at dksX9_readsBrace_5 18 rfl rfl)
theorem dX9_readsBrace_136 : decode cX9_readsBrace 136 = .ok (.iload 5, 2) := dk_21 5 (dk_at dksX9_readsBrace_5 20 rfl rfl)
theorem dX9_readsBrace_138 : decode cX9_readsBrace 138 = .ok (.iconst 1, 1) := dk_4 (dk_at dksX9_readsBrace_5 22 rfl rfl)
theorem dX9_readsBrace_139 : decode cX9_readsBrace 139 = .ok (.invokevirtual 237, 3) := dk_182 0 237 (dk_at dksX9_readsBrace_6 0 rfl rfl)
theorem dX9_readsBrace_142 : decode cX9_readsBrace 142 = .ok (.aload_n 0, 1) := dk_42 (dk_at dksX9_readsBrace_6 3 rfl rfl)
theorem dX9_readsBrace_143 : decode cX9_readsBrace 143 = .ok (.dup, 1) := dk_89 (dk_at dksX9_readsBrace_6 4 rfl rfl)
theorem dX9_readsBrace_144 : decode cX9_readsBrace 144 = .ok (.getfield 202, 3) := dk_180 0 202 (dk_at dksX9_readsBrace_6 5 rfl rfl)
theorem dX9_readsBrace_147 : decode cX9_readsBrace 147 = .ok (.iconst 1, 1) := dk_4 (dk_at dksX9_readsBrace_6 8 rfl rfl)
theorem dX9_readsBrace_148 : decode cX9_readsBrace 148 = .ok (.iadd, 1) := dk_96 (dk_at dksX9_readsBrace_6 9 rfl rfl)
theorem dX9_readsBrace_149 : decode cX9_readsBrace 149 = .ok (.putfield 202, 3) := dk_181 0 202 (dk_at dksX9_readsBrace_6 10 rfl rfl)
theorem dX9_readsBrace_152 : decode cX9_readsBrace 152 = .ok (.aload_n 0, 1) := dk_42 (dk_at dksX9_readsBrace_6 13 rfl rfl)
theorem dX9_readsBrace_153 : decode cX9_readsBrace 153 = .ok (.invokevirtual 244, 3) := dk_182 0 244 (dk_at dksX9_readsBrace_6 14 rfl rfl)
theorem dX9_readsBrace_156 : decode cX9_readsBrace 156 = .ok (.ifCond .eq 16, 3) := dk_153 0 16 (dk_at dksX9_readsBrace_6 17 rfl rfl)
theorem dX9_readsBrace_159 : decode cX9_readsBrace 159 = .ok (.aload_n 0, 1) := dk_42 (dk_at dksX9_readsBrace_6 20 rfl rfl)
theorem dX9_readsBrace_160 : decode cX9_readsBrace 160 = .ok (.bipush 125, 2) := dk_16 125 (dk_at dksX9_readsBrace_6 21 rfl rfl)
theorem dX9_readsBrace_162 : decode cX9_readsBrace 162 = .ok (.invokevirtual 241, 3) := dk_182 0 241 (dk_at dksX9_readsBrace_7 0 rfl rfl)
theorem dX9_readsBrace_165 : decode cX9_readsBrace 165 = .ok (.ifCond .eq 7, 3) := dk_153 0 7 (dk_at dksX9_readsBrace_7 3 rfl rfl)
theorem dX9_readsBrace_168 : decode cX9_readsBrace 168 = .ok (.iconst 1, 1) := dk_4 (dk_at dksX9_readsBrace_7 6 rfl rfl)
theorem dX9_readsBrace_169 : decode cX9_readsBrace 169 = .ok (.goto 4, 3) := dk_167 0 4 (dk_at dksX9_readsBrace_7 7 rfl rfl)
theorem dX9_readsBrace_172 : decode cX9_readsBrace 172 = .ok (.iconst 0, 1) := dk_3 (dk_at dksX9_readsBrace_7 10 rfl rfl)
theorem dX9_readsBrace_173 : decode cX9_readsBrace 173 = .ok (.ireturn, 1) := dk_172 (dk_at dksX9_readsBrace_7 11 rfl rfl)
theorem dX9_readsBrace_174 : decode cX9_readsBrace 174 = .ok (.iload 6, 2) := dk_21 6 (dk_at dksX9_readsBrace_7 12 rfl rfl)
theorem dX9_readsBrace_176 : decode cX9_readsBrace 176 = .ok (.bipush 112, 2) := dk_16 112 (dk_at dksX9_readsBrace_7 14 rfl rfl)
theorem dX9_readsBrace_178 : decode cX9_readsBrace 178 = .ok (.if_icmp .eq 10, 3) := dk_159 0 10 (dk_at dksX9_readsBrace_7 16 rfl rfl)
theorem dX9_readsBrace_181 : decode cX9_readsBrace 181 = .ok (.iload 6, 2) := dk_21 6 (dk_at dksX9_readsBrace_7 19 rfl rfl)
theorem dX9_readsBrace_183 : decode cX9_readsBrace 183 = .ok (.bipush 103, 2) := dk_16 103 (dk_at dksX9_readsBrace_7 21 rfl rfl)
theorem dX9_readsBrace_185 : decode cX9_readsBrace 185 = .ok (.if_icmp .ne 17, 3) := dk_160 0 17 (dk_at dksX9_readsBrace_8 0 rfl rfl)
theorem dX9_readsBrace_188 : decode cX9_readsBrace 188 = .ok (.iload_n 1, 1) := dk_27 (dk_at dksX9_readsBrace_8 3 rfl rfl)
theorem dX9_readsBrace_189 : decode cX9_readsBrace 189 = .ok (.iconst 3, 1) := dk_6 (dk_at dksX9_readsBrace_8 4 rfl rfl)
theorem dX9_readsBrace_190 : decode cX9_readsBrace 190 = .ok (.if_icmp .eq 12, 3) := dk_159 0 12 (dk_at dksX9_readsBrace_8 5 rfl rfl)
theorem dX9_readsBrace_193 : decode cX9_readsBrace 193 = .ok (.aload_n 0, 1) := dk_42 (dk_at dksX9_readsBrace_8 8 rfl rfl)
theorem dX9_readsBrace_194 : decode cX9_readsBrace 194 = .ok (.getfield 248, 3) := dk_180 0 248 (dk_at dksX9_readsBrace_8 9 rfl rfl)
theorem dX9_readsBrace_197 : decode cX9_readsBrace 197 = .ok (.bipush 8, 2) := dk_16 8 (dk_at dksX9_readsBrace_8 12 rfl rfl)
theorem dX9_readsBrace_199 : decode cX9_readsBrace 199 = .ok (.if_icmp .ne 5, 3) := dk_160 0 5 (dk_at dksX9_readsBrace_8 14 rfl rfl)
theorem dX9_readsBrace_202 : decode cX9_readsBrace 202 = .ok (.iconst 0, 1) := dk_3 (dk_at dksX9_readsBrace_8 17 rfl rfl)
theorem dX9_readsBrace_203 : decode cX9_readsBrace 203 = .ok (.ireturn, 1) := dk_172 (dk_at dksX9_readsBrace_8 18 rfl rfl)
theorem dX9_readsBrace_204 : decode cX9_readsBrace 204 = .ok (.aload_n 0, 1) := dk_42 (dk_at dksX9_readsBrace_8 19 rfl rfl)
theorem dX9_readsBrace_205 : decode cX9_readsBrace 205 = .ok (.iload 4, 2) := dk_21 4 (dk_at dksX9_readsBrace_8 20 rfl rfl)
theorem dX9_readsBrace_207 : decode cX9_readsBrace 207 = .ok (.iload 5, 2) := dk_21 5 (dk_at dksX9_readsBrace_8 22 rfl rfl)
theorem dX9_readsBrace_209 : decode cX9_readsBrace 209 = .ok (.iload 6, 2) := dk_21 6 (dk_at dksX9_readsBrace_9 0 rfl rfl)
theorem dX9_readsBrace_211 : decode cX9_readsBrace 211 = .ok (.bipush 112, 2) := dk_16 112 (dk_at dksX9_readsBrace_9 2 rfl rfl)
theorem dX9_readsBrace_213 : decode cX9_readsBrace 213 = .ok (.if_icmp .ne 7, 3) := dk_160 0 7 (dk_at dksX9_readsBrace_9 4 rfl rfl)
theorem dX9_readsBrace_216 : decode cX9_readsBrace 216 = .ok (.iconst 1, 1) := dk_4 (dk_at dksX9_readsBrace_9 7 rfl rfl)
theorem dX9_readsBrace_217 : decode cX9_readsBrace 217 = .ok (.goto 4, 3) := dk_167 0 4 (dk_at dksX9_readsBrace_9 8 rfl rfl)
theorem dX9_readsBrace_220 : decode cX9_readsBrace 220 = .ok (.iconst 2, 1) := dk_5 (dk_at dksX9_readsBrace_9 11 rfl rfl)
theorem dX9_readsBrace_221 : decode cX9_readsBrace 221 = .ok (.invokevirtual 237, 3) := dk_182 0 237 (dk_at dksX9_readsBrace_9 12 rfl rfl)
theorem dX9_readsBrace_224 : decode cX9_readsBrace 224 = .ok (.aload_n 0, 1) := dk_42 (dk_at dksX9_readsBrace_9 15 rfl rfl)
theorem dX9_readsBrace_225 : decode cX9_readsBrace 225 = .ok (.dup, 1) := dk_89 (dk_at dksX9_readsBrace_9 16 rfl rfl)
theorem dX9_readsBrace_226 : decode cX9_readsBrace 226 = .ok (.getfield 202, 3) := dk_180 0 202 (dk_at dksX9_readsBrace_9 17 rfl rfl)
theorem dX9_readsBrace_229 : decode cX9_readsBrace 229 = .ok (.iconst 1, 1) := dk_4 (dk_at dksX9_readsBrace_9 20 rfl rfl)
theorem dX9_readsBrace_230 : decode cX9_readsBrace 230 = .ok (.iadd, 1) := dk_96 (dk_at dksX9_readsBrace_9 21 rfl rfl)
theorem dX9_readsBrace_231 : decode cX9_readsBrace 231 = .ok (.putfield 202, 3) := dk_181 0 202 (dk_at dksX9_readsBrace_10 0 rfl rfl)
theorem dX9_readsBrace_234 : decode cX9_readsBrace 234 = .ok (.aload_n 0, 1) := dk_42 (dk_at dksX9_readsBrace_10 3 rfl rfl)
theorem dX9_readsBrace_235 : decode cX9_readsBrace 235 = .ok (.getfield 248, 3) := dk_180 0 248 (dk_at dksX9_readsBrace_10 4 rfl rfl)
theorem dX9_readsBrace_238 : decode cX9_readsBrace 238 = .ok (.istore 7, 2) := dk_54 7 (dk_at dksX9_readsBrace_10 7 rfl rfl)
theorem dX9_readsBrace_240 : decode cX9_readsBrace 240 = .ok (.aload_n 0, 1) := dk_42 (dk_at dksX9_readsBrace_10 9 rfl rfl)
theorem dX9_readsBrace_241 : decode cX9_readsBrace 241 = .ok (.dup, 1) := dk_89 (dk_at dksX9_readsBrace_10 10 rfl rfl)
theorem dX9_readsBrace_242 : decode cX9_readsBrace 242 = .ok (.getfield 248, 3) := dk_180 0 248 (dk_at dksX9_readsBrace_10 11 rfl rfl)
theorem dX9_readsBrace_245 : decode cX9_readsBrace 245 = .ok (.iconst 1, 1) := dk_4 (dk_at dksX9_readsBrace_10 14 rfl rfl)
theorem dX9_readsBrace_246 : decode cX9_readsBrace 246 = .ok (.iadd, 1) := dk_96 (dk_at dksX9_readsBrace_10 15 rfl rfl)
theorem dX9_readsBrace_247 : decode cX9_readsBrace 247 = .ok (.putfield 248, 3) := dk_181 0 248 (dk_at dksX9_readsBrace_10 16 rfl rfl)
theorem dX9_readsBrace_250 : decode cX9_readsBrace 250 = .ok (.aload_n 0, 1) := dk_42 (dk_at dksX9_readsBrace_10 19 rfl rfl)
theorem dX9_readsBrace_251 : decode cX9_readsBrace 251 = .ok (.iload_n 1, 1) := dk_27 (dk_at dksX9_readsBrace_10 20 rfl rfl)
theorem dX9_readsBrace_252 : decode cX9_readsBrace 252 = .ok (.iconst 1, 1) := dk_4 (dk_at dksX9_readsBrace_10 21 rfl rfl)
theorem dX9_readsBrace_253 : decode cX9_readsBrace 253 = .ok (.iadd, 1) := dk_96 (dk_at dksX9_readsBrace_10 22 rfl rfl)
theorem dX9_readsBrace_254 : decode cX9_readsBrace 254 = .ok (.aload_n 0, 1) := dk_42 (dk_at dksX9_readsBrace_10 23 rfl rfl)
theorem dX9_readsBrace_255 : decode cX9_readsBrace 255 = .ok (.getfield 251, 3) := dk_180 0 251 (dk_at dksX9_readsBrace_11 0 rfl rfl)
theorem dX9_readsBrace_258 : decode cX9_readsBrace 258 = .ok (.if_icmp .le 9, 3) := dk_164 0 9 (dk_at dksX9_readsBrace_11 3 rfl rfl)
theorem dX9_readsBrace_261 : decode cX9_readsBrace 261 = .ok (.iload_n 1, 1) := dk_27 (dk_at dksX9_readsBrace_11 6 rfl rfl)
theorem dX9_readsBrace_262 : decode cX9_readsBrace 262 = .ok (.iconst 1, 1) := dk_4 (dk_at dksX9_readsBrace_11 7 rfl rfl)
theorem dX9_readsBrace_263 : decode cX9_readsBrace 263 = .ok (.iadd, 1) := dk_96 (dk_at dksX9_readsBrace_11 8 rfl rfl)
theorem dX9_readsBrace_264 : decode cX9_readsBrace 264 = .ok (.goto 7, 3) := dk_167 0 7 (dk_at dksX9_readsBrace_11 9 rfl rfl)
theorem dX9_readsBrace_267 : decode cX9_readsBrace 267 = .ok (.aload_n 0, 1) := dk_42 (dk_at dksX9_readsBrace_11 12 rfl rfl)
theorem dX9_readsBrace_268 : decode cX9_readsBrace 268 = .ok (.getfield 251, 3) := dk_180 0 251 (dk_at dksX9_readsBrace_11 13 rfl rfl)
theorem dX9_readsBrace_271 : decode cX9_readsBrace 271 = .ok (.putfield 251, 3) := dk_181 0 251 (dk_at dksX9_readsBrace_11 16 rfl rfl)
theorem dX9_readsBrace_274 : decode cX9_readsBrace 274 = .ok (.aload_n 0, 1) := dk_42 (dk_at dksX9_readsBrace_11 19 rfl rfl)
theorem dX9_readsBrace_275 : decode cX9_readsBrace 275 = .ok (.getfield 78, 3) := dk_180 0 78 (dk_at dksX9_readsBrace_11 20 rfl rfl)
theorem dX9_readsBrace_278 : decode cX9_readsBrace 278 = .ok (.iload 7, 2) := dk_21 7 (dk_at dksX9_readsBrace_12 0 rfl rfl)
theorem dX9_readsBrace_280 : decode cX9_readsBrace 280 = .ok (.iload 4, 2) := dk_21 4 (dk_at dksX9_readsBrace_12 2 rfl rfl)
theorem dX9_readsBrace_282 : decode cX9_readsBrace 282 = .ok (.iastore, 1) := dk_79 (dk_at dksX9_readsBrace_12 4 rfl rfl)
theorem dX9_readsBrace_283 : decode cX9_readsBrace 283 = .ok (.aload_n 0, 1) := dk_42 (dk_at dksX9_readsBrace_12 5 rfl rfl)
theorem dX9_readsBrace_284 : decode cX9_readsBrace 284 = .ok (.getfield 81, 3) := dk_180 0 81 (dk_at dksX9_readsBrace_12 6 rfl rfl)
theorem dX9_readsBrace_287 : decode cX9_readsBrace 287 = .ok (.iload 7, 2) := dk_21 7 (dk_at dksX9_readsBrace_12 9 rfl rfl)
theorem dX9_readsBrace_289 : decode cX9_readsBrace 289 = .ok (.iload 6, 2) := dk_21 6 (dk_at dksX9_readsBrace_12 11 rfl rfl)
theorem dX9_readsBrace_291 : decode cX9_readsBrace 291 = .ok (.bipush 112, 2) := dk_16 112 (dk_at dksX9_readsBrace_12 13 rfl rfl)
theorem dX9_readsBrace_293 : decode cX9_readsBrace 293 = .ok (.if_icmp .ne 7, 3) := dk_160 0 7 (dk_at dksX9_readsBrace_12 15 rfl rfl)
theorem dX9_readsBrace_296 : decode cX9_readsBrace 296 = .ok (.iconst 1, 1) := dk_4 (dk_at dksX9_readsBrace_12 18 rfl rfl)
theorem dX9_readsBrace_297 : decode cX9_readsBrace 297 = .ok (.goto 4, 3) := dk_167 0 4 (dk_at dksX9_readsBrace_12 19 rfl rfl)
theorem dX9_readsBrace_300 : decode cX9_readsBrace 300 = .ok (.iconst 2, 1) := dk_5 (dk_at dksX9_readsBrace_12 22 rfl rfl)
theorem dX9_readsBrace_301 : decode cX9_readsBrace 301 = .ok (.iastore, 1) := dk_79 (dk_at dksX9_readsBrace_12 23 rfl rfl)
theorem dX9_readsBrace_302 : decode cX9_readsBrace 302 = .ok (.aload_n 0, 1) := dk_42 (dk_at dksX9_readsBrace_13 0 rfl rfl)
theorem dX9_readsBrace_303 : decode cX9_readsBrace 303 = .ok (.getfield 84, 3) := dk_180 0 84 (dk_at dksX9_readsBrace_13 1 rfl rfl)
theorem dX9_readsBrace_306 : decode cX9_readsBrace 306 = .ok (.iload 7, 2) := dk_21 7 (dk_at dksX9_readsBrace_13 4 rfl rfl)
theorem dX9_readsBrace_308 : decode cX9_readsBrace 308 = .ok (.iload_n 1, 1) := dk_27 (dk_at dksX9_readsBrace_13 6 rfl rfl)
theorem dX9_readsBrace_309 : decode cX9_readsBrace 309 = .ok (.iastore, 1) := dk_79 (dk_at dksX9_readsBrace_13 7 rfl rfl)
theorem dX9_readsBrace_310 : decode cX9_readsBrace 310 = .ok (.aload_n 0, 1) := dk_42 (dk_at dksX9_readsBrace_13 8 rfl rfl)
theorem dX9_readsBrace_311 : decode cX9_readsBrace 311 = .ok (.getfield 87, 3) := dk_180 0 87 (dk_at dksX9_readsBrace_13 9 rfl rfl)
theorem dX9_readsBrace_314 : decode cX9_readsBrace 314 = .ok (.iload 7, 2) := dk_21 7 (dk_at dksX9_readsBrace_13 12 rfl rfl)
theorem dX9_readsBrace_316 : decode cX9_readsBrace 316 = .ok (.iconst 0, 1) := dk_3 (dk_at dksX9_readsBrace_13 14 rfl rfl)
theorem dX9_readsBrace_317 : decode cX9_readsBrace 317 = .ok (.iastore, 1) := dk_79 (dk_at dksX9_readsBrace_13 15 rfl rfl)
theorem dX9_readsBrace_318 : decode cX9_readsBrace 318 = .ok (.aload_n 0, 1) := dk_42 (dk_at dksX9_readsBrace_13 16 rfl rfl)
theorem dX9_readsBrace_319 : decode cX9_readsBrace 319 = .ok (.getfield 96, 3) := dk_180 0 96 (dk_at dksX9_readsBrace_13 17 rfl rfl)
theorem dX9_readsBrace_322 : decode cX9_readsBrace 322 = .ok (.iload 7, 2) := dk_21 7 (dk_at dksX9_readsBrace_13 20 rfl rfl)
theorem dX9_readsBrace_324 : decode cX9_readsBrace 324 = .ok (.iload_n 3, 1) := dk_29 (dk_at dksX9_readsBrace_13 22 rfl rfl)
theorem dX9_readsBrace_325 : decode cX9_readsBrace 325 = .ok (.iastore, 1) := dk_79 (dk_at dksX9_readsBrace_13 23 rfl rfl)
theorem dX9_readsBrace_326 : decode cX9_readsBrace 326 = .ok (.aload_n 0, 1) := dk_42 (dk_at dksX9_readsBrace_14 0 rfl rfl)
theorem dX9_readsBrace_327 : decode cX9_readsBrace 327 = .ok (.iload 7, 2) := dk_21 7 (dk_at dksX9_readsBrace_14 1 rfl rfl)
theorem dX9_readsBrace_329 : decode cX9_readsBrace 329 = .ok (.iload_n 1, 1) := dk_27 (dk_at dksX9_readsBrace_14 3 rfl rfl)
theorem dX9_readsBrace_330 : decode cX9_readsBrace 330 = .ok (.iconst 1, 1) := dk_4 (dk_at dksX9_readsBrace_14 4 rfl rfl)
theorem dX9_readsBrace_331 : decode cX9_readsBrace 331 = .ok (.iadd, 1) := dk_96 (dk_at dksX9_readsBrace_14 5 rfl rfl)
theorem dX9_readsBrace_332 : decode cX9_readsBrace 332 = .ok (.iload_n 2, 1) := dk_28 (dk_at dksX9_readsBrace_14 6 rfl rfl)
theorem dX9_readsBrace_333 : decode cX9_readsBrace 333 = .ok (.ifCond .ne 10, 3) := dk_154 0 10 (dk_at dksX9_readsBrace_14 7 rfl rfl)
theorem dX9_readsBrace_336 : decode cX9_readsBrace 336 = .ok (.iload 6, 2) := dk_21 6 (dk_at dksX9_readsBrace_14 10 rfl rfl)
theorem dX9_readsBrace_338 : decode cX9_readsBrace 338 = .ok (.bipush 112, 2) := dk_16 112 (dk_at dksX9_readsBrace_14 12 rfl rfl)
theorem dX9_readsBrace_340 : decode cX9_readsBrace 340 = .ok (.if_icmp .ne 7, 3) := dk_160 0 7 (dk_at dksX9_readsBrace_14 14 rfl rfl)
theorem dX9_readsBrace_343 : decode cX9_readsBrace 343 = .ok (.iconst 1, 1) := dk_4 (dk_at dksX9_readsBrace_14 17 rfl rfl)
theorem dX9_readsBrace_344 : decode cX9_readsBrace 344 = .ok (.goto 4, 3) := dk_167 0 4 (dk_at dksX9_readsBrace_14 18 rfl rfl)
theorem dX9_readsBrace_347 : decode cX9_readsBrace 347 = .ok (.iconst 0, 1) := dk_3 (dk_at dksX9_readsBrace_14 21 rfl rfl)
theorem dX9_readsBrace_348 : decode cX9_readsBrace 348 = .ok (.invokevirtual 254, 3) := dk_182 0 254 (dk_at dksX9_readsBrace_15 0 rfl rfl)
theorem dX9_readsBrace_351 : decode cX9_readsBrace 351 = .ok (.ireturn, 1) := dk_172 (dk_at dksX9_readsBrace_15 3 rfl rfl)
abbrev cX9_uses : ByteArray := prog_31_method_22_code
def yX9_uses : MethodName := ⟨RX9, "uses", "(III)V"⟩
def dkwX9_uses_2 : List UInt8 := [28, 182, 0, 229, 177]
abbrev dktX9_uses_2 : List UInt8 := dkwX9_uses_2 ++ []
def dkwX9_uses_1 : List UInt8 := [154, 0, 13, 42, 180, 0, 75, 27, 29, 79, 167, 0, 18, 42, 180, 0, 75, 27, 46, 29, 159, 0, 8, 42]
abbrev dktX9_uses_1 : List UInt8 := dkwX9_uses_1 ++ dktX9_uses_2
def dkwX9_uses_0 : List UInt8 := [42, 89, 180, 0, 226, 4, 27, 120, 128, 181, 0, 226, 29, 153, 0, 37, 42, 180, 0, 75, 27, 46]
abbrev dktX9_uses_0 : List UInt8 := dkwX9_uses_0 ++ dktX9_uses_1
theorem dksX9_uses_0 : cX9_uses.data.toList.drop 0 = dktX9_uses_0 := by decide +kernel
theorem dksX9_uses_1 : cX9_uses.data.toList.drop 22 = dktX9_uses_1 := dk_seg dksX9_uses_0 22 rfl rfl
theorem dksX9_uses_2 : cX9_uses.data.toList.drop 46 = dktX9_uses_2 := dk_seg dksX9_uses_1 24 rfl rfl
theorem dX9_uses_0 : decode cX9_uses 0 = .ok (.aload_n 0, 1) := dk_42 (dk_at dksX9_uses_0 0 rfl rfl)
theorem dX9_uses_1 : decode cX9_uses 1 = .ok (.dup, 1) := dk_89 (dk_at dksX9_uses_0 1 rfl rfl)
theorem dX9_uses_2 : decode cX9_uses 2 = .ok (.getfield 226, 3) := dk_180 0 226 (dk_at dksX9_uses_0 2 rfl rfl)
theorem dX9_uses_5 : decode cX9_uses 5 = .ok (.iconst 1, 1) := dk_4 (dk_at dksX9_uses_0 5 rfl rfl)
theorem dX9_uses_6 : decode cX9_uses 6 = .ok (.iload_n 1, 1) := dk_27 (dk_at dksX9_uses_0 6 rfl rfl)
theorem dX9_uses_7 : decode cX9_uses 7 = .ok (.ishl, 1) := dk_120 (dk_at dksX9_uses_0 7 rfl rfl)
theorem dX9_uses_8 : decode cX9_uses 8 = .ok (.ior, 1) := dk_128 (dk_at dksX9_uses_0 8 rfl rfl)
theorem dX9_uses_9 : decode cX9_uses 9 = .ok (.putfield 226, 3) := dk_181 0 226 (dk_at dksX9_uses_0 9 rfl rfl)
theorem dX9_uses_12 : decode cX9_uses 12 = .ok (.iload_n 3, 1) := dk_29 (dk_at dksX9_uses_0 12 rfl rfl)
theorem dX9_uses_13 : decode cX9_uses 13 = .ok (.ifCond .eq 37, 3) := dk_153 0 37 (dk_at dksX9_uses_0 13 rfl rfl)
theorem dX9_uses_16 : decode cX9_uses 16 = .ok (.aload_n 0, 1) := dk_42 (dk_at dksX9_uses_0 16 rfl rfl)
theorem dX9_uses_17 : decode cX9_uses 17 = .ok (.getfield 75, 3) := dk_180 0 75 (dk_at dksX9_uses_0 17 rfl rfl)
theorem dX9_uses_20 : decode cX9_uses 20 = .ok (.iload_n 1, 1) := dk_27 (dk_at dksX9_uses_0 20 rfl rfl)
theorem dX9_uses_21 : decode cX9_uses 21 = .ok (.iaload, 1) := dk_46 (dk_at dksX9_uses_0 21 rfl rfl)
theorem dX9_uses_22 : decode cX9_uses 22 = .ok (.ifCond .ne 13, 3) := dk_154 0 13 (dk_at dksX9_uses_1 0 rfl rfl)
theorem dX9_uses_25 : decode cX9_uses 25 = .ok (.aload_n 0, 1) := dk_42 (dk_at dksX9_uses_1 3 rfl rfl)
theorem dX9_uses_26 : decode cX9_uses 26 = .ok (.getfield 75, 3) := dk_180 0 75 (dk_at dksX9_uses_1 4 rfl rfl)
theorem dX9_uses_29 : decode cX9_uses 29 = .ok (.iload_n 1, 1) := dk_27 (dk_at dksX9_uses_1 7 rfl rfl)
theorem dX9_uses_30 : decode cX9_uses 30 = .ok (.iload_n 3, 1) := dk_29 (dk_at dksX9_uses_1 8 rfl rfl)
theorem dX9_uses_31 : decode cX9_uses 31 = .ok (.iastore, 1) := dk_79 (dk_at dksX9_uses_1 9 rfl rfl)
theorem dX9_uses_32 : decode cX9_uses 32 = .ok (.goto 18, 3) := dk_167 0 18 (dk_at dksX9_uses_1 10 rfl rfl)
theorem dX9_uses_35 : decode cX9_uses 35 = .ok (.aload_n 0, 1) := dk_42 (dk_at dksX9_uses_1 13 rfl rfl)
theorem dX9_uses_36 : decode cX9_uses 36 = .ok (.getfield 75, 3) := dk_180 0 75 (dk_at dksX9_uses_1 14 rfl rfl)
theorem dX9_uses_39 : decode cX9_uses 39 = .ok (.iload_n 1, 1) := dk_27 (dk_at dksX9_uses_1 17 rfl rfl)
theorem dX9_uses_40 : decode cX9_uses 40 = .ok (.iaload, 1) := dk_46 (dk_at dksX9_uses_1 18 rfl rfl)
theorem dX9_uses_41 : decode cX9_uses 41 = .ok (.iload_n 3, 1) := dk_29 (dk_at dksX9_uses_1 19 rfl rfl)
theorem dX9_uses_42 : decode cX9_uses 42 = .ok (.if_icmp .eq 8, 3) := dk_159 0 8 (dk_at dksX9_uses_1 20 rfl rfl)
theorem dX9_uses_45 : decode cX9_uses 45 = .ok (.aload_n 0, 1) := dk_42 (dk_at dksX9_uses_1 23 rfl rfl)
theorem dX9_uses_46 : decode cX9_uses 46 = .ok (.iload_n 2, 1) := dk_28 (dk_at dksX9_uses_2 0 rfl rfl)
theorem dX9_uses_47 : decode cX9_uses 47 = .ok (.invokevirtual 229, 3) := dk_182 0 229 (dk_at dksX9_uses_2 1 rfl rfl)
theorem dX9_uses_50 : decode cX9_uses 50 = .ok (.return_, 1) := dk_177 (dk_at dksX9_uses_2 4 rfl rfl)
abbrev cX9_isWrong : ByteArray := prog_31_method_18_code
def yX9_isWrong : MethodName := ⟨RX9, "isWrong", "(I)V"⟩
def dkwX9_isWrong_1 : List UInt8 := [181, 0, 205, 177]
abbrev dktX9_isWrong_1 : List UInt8 := dkwX9_isWrong_1 ++ []
def dkwX9_isWrong_0 : List UInt8 := [42, 42, 180, 0, 205, 155, 0, 11, 27, 42, 180, 0, 205, 162, 0, 7, 27, 167, 0, 7, 42, 180, 0, 205]
abbrev dktX9_isWrong_0 : List UInt8 := dkwX9_isWrong_0 ++ dktX9_isWrong_1
theorem dksX9_isWrong_0 : cX9_isWrong.data.toList.drop 0 = dktX9_isWrong_0 := by decide +kernel
theorem dksX9_isWrong_1 : cX9_isWrong.data.toList.drop 24 = dktX9_isWrong_1 := dk_seg dksX9_isWrong_0 24 rfl rfl
theorem dX9_isWrong_0 : decode cX9_isWrong 0 = .ok (.aload_n 0, 1) := dk_42 (dk_at dksX9_isWrong_0 0 rfl rfl)
theorem dX9_isWrong_1 : decode cX9_isWrong 1 = .ok (.aload_n 0, 1) := dk_42 (dk_at dksX9_isWrong_0 1 rfl rfl)
theorem dX9_isWrong_2 : decode cX9_isWrong 2 = .ok (.getfield 205, 3) := dk_180 0 205 (dk_at dksX9_isWrong_0 2 rfl rfl)
theorem dX9_isWrong_5 : decode cX9_isWrong 5 = .ok (.ifCond .lt 11, 3) := dk_155 0 11 (dk_at dksX9_isWrong_0 5 rfl rfl)
theorem dX9_isWrong_8 : decode cX9_isWrong 8 = .ok (.iload_n 1, 1) := dk_27 (dk_at dksX9_isWrong_0 8 rfl rfl)
theorem dX9_isWrong_9 : decode cX9_isWrong 9 = .ok (.aload_n 0, 1) := dk_42 (dk_at dksX9_isWrong_0 9 rfl rfl)
theorem dX9_isWrong_10 : decode cX9_isWrong 10 = .ok (.getfield 205, 3) := dk_180 0 205 (dk_at dksX9_isWrong_0 10 rfl rfl)
theorem dX9_isWrong_13 : decode cX9_isWrong 13 = .ok (.if_icmp .ge 7, 3) := dk_162 0 7 (dk_at dksX9_isWrong_0 13 rfl rfl)
theorem dX9_isWrong_16 : decode cX9_isWrong 16 = .ok (.iload_n 1, 1) := dk_27 (dk_at dksX9_isWrong_0 16 rfl rfl)
theorem dX9_isWrong_17 : decode cX9_isWrong 17 = .ok (.goto 7, 3) := dk_167 0 7 (dk_at dksX9_isWrong_0 17 rfl rfl)
theorem dX9_isWrong_20 : decode cX9_isWrong 20 = .ok (.aload_n 0, 1) := dk_42 (dk_at dksX9_isWrong_0 20 rfl rfl)
theorem dX9_isWrong_21 : decode cX9_isWrong 21 = .ok (.getfield 205, 3) := dk_180 0 205 (dk_at dksX9_isWrong_0 21 rfl rfl)
theorem dX9_isWrong_24 : decode cX9_isWrong 24 = .ok (.putfield 205, 3) := dk_181 0 205 (dk_at dksX9_isWrong_1 0 rfl rfl)
theorem dX9_isWrong_27 : decode cX9_isWrong 27 = .ok (.return_, 1) := dk_177 (dk_at dksX9_isWrong_1 3 rfl rfl)
abbrev cX9_takes : ByteArray := prog_31_method_19_code
def yX9_takes : MethodName := ⟨RX9, "takes", "(I)Z"⟩
def dkwX9_takes_0 : List UInt8 := [42, 182, 0, 208, 27, 159, 0, 5, 3, 172, 42, 89, 180, 0, 202, 4, 96, 181, 0, 202, 4, 172]
abbrev dktX9_takes_0 : List UInt8 := dkwX9_takes_0 ++ []
theorem dksX9_takes_0 : cX9_takes.data.toList.drop 0 = dktX9_takes_0 := by decide +kernel
theorem dX9_takes_0 : decode cX9_takes 0 = .ok (.aload_n 0, 1) := dk_42 (dk_at dksX9_takes_0 0 rfl rfl)
theorem dX9_takes_1 : decode cX9_takes 1 = .ok (.invokevirtual 208, 3) := dk_182 0 208 (dk_at dksX9_takes_0 1 rfl rfl)
theorem dX9_takes_4 : decode cX9_takes 4 = .ok (.iload_n 1, 1) := dk_27 (dk_at dksX9_takes_0 4 rfl rfl)
theorem dX9_takes_5 : decode cX9_takes 5 = .ok (.if_icmp .eq 5, 3) := dk_159 0 5 (dk_at dksX9_takes_0 5 rfl rfl)
theorem dX9_takes_8 : decode cX9_takes 8 = .ok (.iconst 0, 1) := dk_3 (dk_at dksX9_takes_0 8 rfl rfl)
theorem dX9_takes_9 : decode cX9_takes 9 = .ok (.ireturn, 1) := dk_172 (dk_at dksX9_takes_0 9 rfl rfl)
theorem dX9_takes_10 : decode cX9_takes 10 = .ok (.aload_n 0, 1) := dk_42 (dk_at dksX9_takes_0 10 rfl rfl)
theorem dX9_takes_11 : decode cX9_takes 11 = .ok (.dup, 1) := dk_89 (dk_at dksX9_takes_0 11 rfl rfl)
theorem dX9_takes_12 : decode cX9_takes 12 = .ok (.getfield 202, 3) := dk_180 0 202 (dk_at dksX9_takes_0 12 rfl rfl)
theorem dX9_takes_15 : decode cX9_takes 15 = .ok (.iconst 1, 1) := dk_4 (dk_at dksX9_takes_0 15 rfl rfl)
theorem dX9_takes_16 : decode cX9_takes 16 = .ok (.iadd, 1) := dk_96 (dk_at dksX9_takes_0 16 rfl rfl)
theorem dX9_takes_17 : decode cX9_takes 17 = .ok (.putfield 202, 3) := dk_181 0 202 (dk_at dksX9_takes_0 17 rfl rfl)
theorem dX9_takes_20 : decode cX9_takes 20 = .ok (.iconst 1, 1) := dk_4 (dk_at dksX9_takes_0 20 rfl rfl)
theorem dX9_takes_21 : decode cX9_takes 21 = .ok (.ireturn, 1) := dk_172 (dk_at dksX9_takes_0 21 rfl rfl)
abbrev cX9_readsPattern : ByteArray := prog_31_method_25_code
def yX9_readsPattern : MethodName := ⟨RX9, "readsPattern", "()Z"⟩
def dkwX9_readsPattern_4 : List UInt8 := [167, 0, 4, 3, 172, 4, 172]
abbrev dktX9_readsPattern_4 : List UInt8 := dkwX9_readsPattern_4 ++ []
def dkwX9_readsPattern_3 : List UInt8 := [180, 1, 12, 42, 16, 35, 6, 182, 1, 5, 96, 181, 1, 15, 42, 180, 1, 15, 158, 0, 7, 4]
abbrev dktX9_readsPattern_3 : List UInt8 := dkwX9_readsPattern_3 ++ dktX9_readsPattern_4
def dkwX9_readsPattern_2 : List UInt8 := [172, 42, 16, 46, 182, 0, 241, 153, 0, 43, 42, 42, 16, 48, 6, 182, 1, 5, 181, 1, 12, 42, 42]
abbrev dktX9_readsPattern_2 : List UInt8 := dkwX9_readsPattern_2 ++ dktX9_readsPattern_3
def dkwX9_readsPattern_1 : List UInt8 := [182, 1, 5, 181, 1, 9, 42, 3, 181, 1, 12, 42, 3, 181, 1, 15, 42, 180, 1, 9, 154, 0, 5, 3]
abbrev dktX9_readsPattern_1 : List UInt8 := dkwX9_readsPattern_1 ++ dktX9_readsPattern_2
def dkwX9_readsPattern_0 : List UInt8 := [42, 42, 16, 44, 182, 0, 241, 153, 0, 7, 4, 167, 0, 4, 3, 181, 1, 2, 42, 42, 16, 48, 7]
abbrev dktX9_readsPattern_0 : List UInt8 := dkwX9_readsPattern_0 ++ dktX9_readsPattern_1
theorem dksX9_readsPattern_0 : cX9_readsPattern.data.toList.drop 0 = dktX9_readsPattern_0 := by decide +kernel
theorem dksX9_readsPattern_1 : cX9_readsPattern.data.toList.drop 23 = dktX9_readsPattern_1 := dk_seg dksX9_readsPattern_0 23 rfl rfl
theorem dksX9_readsPattern_2 : cX9_readsPattern.data.toList.drop 47 = dktX9_readsPattern_2 := dk_seg dksX9_readsPattern_1 24 rfl rfl
theorem dksX9_readsPattern_3 : cX9_readsPattern.data.toList.drop 70 = dktX9_readsPattern_3 := dk_seg dksX9_readsPattern_2 23 rfl rfl
theorem dksX9_readsPattern_4 : cX9_readsPattern.data.toList.drop 92 = dktX9_readsPattern_4 := dk_seg dksX9_readsPattern_3 22 rfl rfl
theorem dX9_readsPattern_0 : decode cX9_readsPattern 0 = .ok (.aload_n 0, 1) := dk_42 (dk_at dksX9_readsPattern_0 0 rfl rfl)
theorem dX9_readsPattern_1 : decode cX9_readsPattern 1 = .ok (.aload_n 0, 1) := dk_42 (dk_at dksX9_readsPattern_0 1 rfl rfl)
theorem dX9_readsPattern_2 : decode cX9_readsPattern 2 = .ok (.bipush 44, 2) := dk_16 44 (dk_at dksX9_readsPattern_0 2 rfl rfl)
theorem dX9_readsPattern_4 : decode cX9_readsPattern 4 = .ok (.invokevirtual 241, 3) := dk_182 0 241 (dk_at dksX9_readsPattern_0 4 rfl rfl)
theorem dX9_readsPattern_7 : decode cX9_readsPattern 7 = .ok (.ifCond .eq 7, 3) := dk_153 0 7 (dk_at dksX9_readsPattern_0 7 rfl rfl)
theorem dX9_readsPattern_10 : decode cX9_readsPattern 10 = .ok (.iconst 1, 1) := dk_4 (dk_at dksX9_readsPattern_0 10 rfl rfl)
theorem dX9_readsPattern_11 : decode cX9_readsPattern 11 = .ok (.goto 4, 3) := dk_167 0 4 (dk_at dksX9_readsPattern_0 11 rfl rfl)
theorem dX9_readsPattern_14 : decode cX9_readsPattern 14 = .ok (.iconst 0, 1) := dk_3 (dk_at dksX9_readsPattern_0 14 rfl rfl)
theorem dX9_readsPattern_15 : decode cX9_readsPattern 15 = .ok (.putfield 258, 3) := dk_181 1 2 (dk_at dksX9_readsPattern_0 15 rfl rfl)
theorem dX9_readsPattern_18 : decode cX9_readsPattern 18 = .ok (.aload_n 0, 1) := dk_42 (dk_at dksX9_readsPattern_0 18 rfl rfl)
theorem dX9_readsPattern_19 : decode cX9_readsPattern 19 = .ok (.aload_n 0, 1) := dk_42 (dk_at dksX9_readsPattern_0 19 rfl rfl)
theorem dX9_readsPattern_20 : decode cX9_readsPattern 20 = .ok (.bipush 48, 2) := dk_16 48 (dk_at dksX9_readsPattern_0 20 rfl rfl)
theorem dX9_readsPattern_22 : decode cX9_readsPattern 22 = .ok (.iconst 4, 1) := dk_7 (dk_at dksX9_readsPattern_0 22 rfl rfl)
theorem dX9_readsPattern_23 : decode cX9_readsPattern 23 = .ok (.invokevirtual 261, 3) := dk_182 1 5 (dk_at dksX9_readsPattern_1 0 rfl rfl)
theorem dX9_readsPattern_26 : decode cX9_readsPattern 26 = .ok (.putfield 265, 3) := dk_181 1 9 (dk_at dksX9_readsPattern_1 3 rfl rfl)
theorem dX9_readsPattern_29 : decode cX9_readsPattern 29 = .ok (.aload_n 0, 1) := dk_42 (dk_at dksX9_readsPattern_1 6 rfl rfl)
theorem dX9_readsPattern_30 : decode cX9_readsPattern 30 = .ok (.iconst 0, 1) := dk_3 (dk_at dksX9_readsPattern_1 7 rfl rfl)
theorem dX9_readsPattern_31 : decode cX9_readsPattern 31 = .ok (.putfield 268, 3) := dk_181 1 12 (dk_at dksX9_readsPattern_1 8 rfl rfl)
theorem dX9_readsPattern_34 : decode cX9_readsPattern 34 = .ok (.aload_n 0, 1) := dk_42 (dk_at dksX9_readsPattern_1 11 rfl rfl)
theorem dX9_readsPattern_35 : decode cX9_readsPattern 35 = .ok (.iconst 0, 1) := dk_3 (dk_at dksX9_readsPattern_1 12 rfl rfl)
theorem dX9_readsPattern_36 : decode cX9_readsPattern 36 = .ok (.putfield 271, 3) := dk_181 1 15 (dk_at dksX9_readsPattern_1 13 rfl rfl)
theorem dX9_readsPattern_39 : decode cX9_readsPattern 39 = .ok (.aload_n 0, 1) := dk_42 (dk_at dksX9_readsPattern_1 16 rfl rfl)
theorem dX9_readsPattern_40 : decode cX9_readsPattern 40 = .ok (.getfield 265, 3) := dk_180 1 9 (dk_at dksX9_readsPattern_1 17 rfl rfl)
theorem dX9_readsPattern_43 : decode cX9_readsPattern 43 = .ok (.ifCond .ne 5, 3) := dk_154 0 5 (dk_at dksX9_readsPattern_1 20 rfl rfl)
theorem dX9_readsPattern_46 : decode cX9_readsPattern 46 = .ok (.iconst 0, 1) := dk_3 (dk_at dksX9_readsPattern_1 23 rfl rfl)
theorem dX9_readsPattern_47 : decode cX9_readsPattern 47 = .ok (.ireturn, 1) := dk_172 (dk_at dksX9_readsPattern_2 0 rfl rfl)
theorem dX9_readsPattern_48 : decode cX9_readsPattern 48 = .ok (.aload_n 0, 1) := dk_42 (dk_at dksX9_readsPattern_2 1 rfl rfl)
theorem dX9_readsPattern_49 : decode cX9_readsPattern 49 = .ok (.bipush 46, 2) := dk_16 46 (dk_at dksX9_readsPattern_2 2 rfl rfl)
theorem dX9_readsPattern_51 : decode cX9_readsPattern 51 = .ok (.invokevirtual 241, 3) := dk_182 0 241 (dk_at dksX9_readsPattern_2 4 rfl rfl)
theorem dX9_readsPattern_54 : decode cX9_readsPattern 54 = .ok (.ifCond .eq 43, 3) := dk_153 0 43 (dk_at dksX9_readsPattern_2 7 rfl rfl)
theorem dX9_readsPattern_57 : decode cX9_readsPattern 57 = .ok (.aload_n 0, 1) := dk_42 (dk_at dksX9_readsPattern_2 10 rfl rfl)
theorem dX9_readsPattern_58 : decode cX9_readsPattern 58 = .ok (.aload_n 0, 1) := dk_42 (dk_at dksX9_readsPattern_2 11 rfl rfl)
theorem dX9_readsPattern_59 : decode cX9_readsPattern 59 = .ok (.bipush 48, 2) := dk_16 48 (dk_at dksX9_readsPattern_2 12 rfl rfl)
theorem dX9_readsPattern_61 : decode cX9_readsPattern 61 = .ok (.iconst 3, 1) := dk_6 (dk_at dksX9_readsPattern_2 14 rfl rfl)
theorem dX9_readsPattern_62 : decode cX9_readsPattern 62 = .ok (.invokevirtual 261, 3) := dk_182 1 5 (dk_at dksX9_readsPattern_2 15 rfl rfl)
theorem dX9_readsPattern_65 : decode cX9_readsPattern 65 = .ok (.putfield 268, 3) := dk_181 1 12 (dk_at dksX9_readsPattern_2 18 rfl rfl)
theorem dX9_readsPattern_68 : decode cX9_readsPattern 68 = .ok (.aload_n 0, 1) := dk_42 (dk_at dksX9_readsPattern_2 21 rfl rfl)
theorem dX9_readsPattern_69 : decode cX9_readsPattern 69 = .ok (.aload_n 0, 1) := dk_42 (dk_at dksX9_readsPattern_2 22 rfl rfl)
theorem dX9_readsPattern_70 : decode cX9_readsPattern 70 = .ok (.getfield 268, 3) := dk_180 1 12 (dk_at dksX9_readsPattern_3 0 rfl rfl)
theorem dX9_readsPattern_73 : decode cX9_readsPattern 73 = .ok (.aload_n 0, 1) := dk_42 (dk_at dksX9_readsPattern_3 3 rfl rfl)
theorem dX9_readsPattern_74 : decode cX9_readsPattern 74 = .ok (.bipush 35, 2) := dk_16 35 (dk_at dksX9_readsPattern_3 4 rfl rfl)
theorem dX9_readsPattern_76 : decode cX9_readsPattern 76 = .ok (.iconst 3, 1) := dk_6 (dk_at dksX9_readsPattern_3 6 rfl rfl)
theorem dX9_readsPattern_77 : decode cX9_readsPattern 77 = .ok (.invokevirtual 261, 3) := dk_182 1 5 (dk_at dksX9_readsPattern_3 7 rfl rfl)
theorem dX9_readsPattern_80 : decode cX9_readsPattern 80 = .ok (.iadd, 1) := dk_96 (dk_at dksX9_readsPattern_3 10 rfl rfl)
theorem dX9_readsPattern_81 : decode cX9_readsPattern 81 = .ok (.putfield 271, 3) := dk_181 1 15 (dk_at dksX9_readsPattern_3 11 rfl rfl)
theorem dX9_readsPattern_84 : decode cX9_readsPattern 84 = .ok (.aload_n 0, 1) := dk_42 (dk_at dksX9_readsPattern_3 14 rfl rfl)
theorem dX9_readsPattern_85 : decode cX9_readsPattern 85 = .ok (.getfield 271, 3) := dk_180 1 15 (dk_at dksX9_readsPattern_3 15 rfl rfl)
theorem dX9_readsPattern_88 : decode cX9_readsPattern 88 = .ok (.ifCond .le 7, 3) := dk_158 0 7 (dk_at dksX9_readsPattern_3 18 rfl rfl)
theorem dX9_readsPattern_91 : decode cX9_readsPattern 91 = .ok (.iconst 1, 1) := dk_4 (dk_at dksX9_readsPattern_3 21 rfl rfl)
theorem dX9_readsPattern_92 : decode cX9_readsPattern 92 = .ok (.goto 4, 3) := dk_167 0 4 (dk_at dksX9_readsPattern_4 0 rfl rfl)
theorem dX9_readsPattern_95 : decode cX9_readsPattern 95 = .ok (.iconst 0, 1) := dk_3 (dk_at dksX9_readsPattern_4 3 rfl rfl)
theorem dX9_readsPattern_96 : decode cX9_readsPattern 96 = .ok (.ireturn, 1) := dk_172 (dk_at dksX9_readsPattern_4 4 rfl rfl)
theorem dX9_readsPattern_97 : decode cX9_readsPattern 97 = .ok (.iconst 1, 1) := dk_4 (dk_at dksX9_readsPattern_4 5 rfl rfl)
theorem dX9_readsPattern_98 : decode cX9_readsPattern 98 = .ok (.ireturn, 1) := dk_172 (dk_at dksX9_readsPattern_4 6 rfl rfl)
abbrev cX9_zeros : ByteArray := prog_31_method_24_code
def yX9_zeros : MethodName := ⟨RX9, "zeros", "(II)I"⟩
def dkwX9_zeros_1 : List UInt8 := [181, 0, 202, 132, 3, 1, 167, 255, 230, 29, 172]
abbrev dktX9_zeros_1 : List UInt8 := dkwX9_zeros_1 ++ []
def dkwX9_zeros_0 : List UInt8 := [3, 62, 29, 28, 162, 0, 27, 42, 182, 0, 208, 27, 160, 0, 19, 42, 89, 180, 0, 202, 4, 96]
abbrev dktX9_zeros_0 : List UInt8 := dkwX9_zeros_0 ++ dktX9_zeros_1
theorem dksX9_zeros_0 : cX9_zeros.data.toList.drop 0 = dktX9_zeros_0 := by decide +kernel
theorem dksX9_zeros_1 : cX9_zeros.data.toList.drop 22 = dktX9_zeros_1 := dk_seg dksX9_zeros_0 22 rfl rfl
theorem dX9_zeros_0 : decode cX9_zeros 0 = .ok (.iconst 0, 1) := dk_3 (dk_at dksX9_zeros_0 0 rfl rfl)
theorem dX9_zeros_1 : decode cX9_zeros 1 = .ok (.istore_n 3, 1) := dk_62 (dk_at dksX9_zeros_0 1 rfl rfl)
theorem dX9_zeros_2 : decode cX9_zeros 2 = .ok (.iload_n 3, 1) := dk_29 (dk_at dksX9_zeros_0 2 rfl rfl)
theorem dX9_zeros_3 : decode cX9_zeros 3 = .ok (.iload_n 2, 1) := dk_28 (dk_at dksX9_zeros_0 3 rfl rfl)
theorem dX9_zeros_4 : decode cX9_zeros 4 = .ok (.if_icmp .ge 27, 3) := dk_162 0 27 (dk_at dksX9_zeros_0 4 rfl rfl)
theorem dX9_zeros_7 : decode cX9_zeros 7 = .ok (.aload_n 0, 1) := dk_42 (dk_at dksX9_zeros_0 7 rfl rfl)
theorem dX9_zeros_8 : decode cX9_zeros 8 = .ok (.invokevirtual 208, 3) := dk_182 0 208 (dk_at dksX9_zeros_0 8 rfl rfl)
theorem dX9_zeros_11 : decode cX9_zeros 11 = .ok (.iload_n 1, 1) := dk_27 (dk_at dksX9_zeros_0 11 rfl rfl)
theorem dX9_zeros_12 : decode cX9_zeros 12 = .ok (.if_icmp .ne 19, 3) := dk_160 0 19 (dk_at dksX9_zeros_0 12 rfl rfl)
theorem dX9_zeros_15 : decode cX9_zeros 15 = .ok (.aload_n 0, 1) := dk_42 (dk_at dksX9_zeros_0 15 rfl rfl)
theorem dX9_zeros_16 : decode cX9_zeros 16 = .ok (.dup, 1) := dk_89 (dk_at dksX9_zeros_0 16 rfl rfl)
theorem dX9_zeros_17 : decode cX9_zeros 17 = .ok (.getfield 202, 3) := dk_180 0 202 (dk_at dksX9_zeros_0 17 rfl rfl)
theorem dX9_zeros_20 : decode cX9_zeros 20 = .ok (.iconst 1, 1) := dk_4 (dk_at dksX9_zeros_0 20 rfl rfl)
theorem dX9_zeros_21 : decode cX9_zeros 21 = .ok (.iadd, 1) := dk_96 (dk_at dksX9_zeros_0 21 rfl rfl)
theorem dX9_zeros_22 : decode cX9_zeros 22 = .ok (.putfield 202, 3) := dk_181 0 202 (dk_at dksX9_zeros_1 0 rfl rfl)
theorem dX9_zeros_25 : decode cX9_zeros 25 = .ok (.iinc 3 1, 3) := dk_132 3 1 (dk_at dksX9_zeros_1 3 rfl rfl)
theorem dX9_zeros_28 : decode cX9_zeros 28 = .ok (.goto (-26), 3) := dk_167 255 230 (dk_at dksX9_zeros_1 6 rfl rfl)
theorem dX9_zeros_31 : decode cX9_zeros 31 = .ok (.iload_n 3, 1) := dk_29 (dk_at dksX9_zeros_1 9 rfl rfl)
theorem dX9_zeros_32 : decode cX9_zeros 32 = .ok (.ireturn, 1) := dk_172 (dk_at dksX9_zeros_1 10 rfl rfl)
abbrev cX9_readsBranches : ByteArray := prog_31_method_28_code
def yX9_readsBranches : MethodName := ⟨RX9, "readsBranches", "(IIZ)Z"⟩
def dkwX9_readsBranches_10 : List UInt8 := [181, 0, 202, 4, 172]
abbrev dktX9_readsBranches_10 : List UInt8 := dkwX9_readsBranches_10 ++ []
def dkwX9_readsBranches_9 : List UInt8 := [172, 167, 255, 48, 21, 4, 154, 0, 11, 42, 42, 180, 0, 202, 182, 0, 229, 42, 89, 180, 0, 202, 4, 96]
abbrev dktX9_readsBranches_9 : List UInt8 := dkwX9_readsBranches_9 ++ dktX9_readsBranches_10
def dkwX9_readsBranches_8 : List UInt8 := [92, 46, 4, 96, 79, 42, 28, 29, 182, 1, 28, 153, 0, 12, 42, 16, 41, 182, 0, 241, 154, 0, 5, 3]
abbrev dktX9_readsBranches_8 : List UInt8 := dkwX9_readsBranches_8 ++ dktX9_readsBranches_9
def dkwX9_readsBranches_7 : List UInt8 := [180, 0, 93, 16, 10, 27, 104, 42, 180, 0, 87, 27, 46, 96, 42, 180, 0, 202, 79, 42, 180, 0, 87, 27]
abbrev dktX9_readsBranches_7 : List UInt8 := dkwX9_readsBranches_7 ++ dktX9_readsBranches_8
def dkwX9_readsBranches_6 : List UInt8 := [3, 54, 4, 42, 180, 0, 90, 16, 10, 27, 104, 42, 180, 0, 87, 27, 46, 96, 21, 6, 79, 42]
abbrev dktX9_readsBranches_6 : List UInt8 := dkwX9_readsBranches_6 ++ dktX9_readsBranches_7
def dkwX9_readsBranches_5 : List UInt8 := [21, 6, 42, 180, 0, 81, 27, 46, 4, 160, 0, 7, 8, 167, 0, 4, 6, 160, 0, 7, 4, 167, 0, 4]
abbrev dktX9_readsBranches_5 : List UInt8 := dkwX9_readsBranches_5 ++ dktX9_readsBranches_6
def dkwX9_readsBranches_4 : List UInt8 := [46, 21, 6, 160, 0, 9, 42, 21, 5, 182, 0, 229, 132, 7, 1, 167, 255, 219, 21, 4, 154, 0, 23]
abbrev dktX9_readsBranches_4 : List UInt8 := dkwX9_readsBranches_4 ++ dktX9_readsBranches_5
def dkwX9_readsBranches_3 : List UInt8 := [54, 7, 21, 7, 42, 180, 0, 87, 27, 46, 162, 0, 32, 42, 180, 0, 90, 16, 10, 27, 104, 21, 7, 96]
abbrev dktX9_readsBranches_3 : List UInt8 := dkwX9_readsBranches_3 ++ dktX9_readsBranches_4
def dkwX9_readsBranches_2 : List UInt8 := [46, 182, 1, 25, 54, 6, 21, 6, 155, 0, 12, 42, 16, 40, 182, 0, 241, 154, 0, 5, 3, 172, 3]
abbrev dktX9_readsBranches_2 : List UInt8 := dkwX9_readsBranches_2 ++ dktX9_readsBranches_3
def dkwX9_readsBranches_1 : List UInt8 := [180, 0, 87, 27, 46, 16, 10, 160, 0, 5, 3, 172, 42, 180, 0, 202, 54, 5, 42, 42, 180, 0, 81, 27]
abbrev dktX9_readsBranches_1 : List UInt8 := dkwX9_readsBranches_1 ++ dktX9_readsBranches_2
def dkwX9_readsBranches_0 : List UInt8 := [3, 54, 4, 42, 180, 0, 87, 27, 46, 153, 0, 12, 42, 182, 0, 208, 16, 125, 159, 0, 196, 42]
abbrev dktX9_readsBranches_0 : List UInt8 := dkwX9_readsBranches_0 ++ dktX9_readsBranches_1
theorem dksX9_readsBranches_0 : cX9_readsBranches.data.toList.drop 0 = dktX9_readsBranches_0 := by decide +kernel
theorem dksX9_readsBranches_1 : cX9_readsBranches.data.toList.drop 22 = dktX9_readsBranches_1 := dk_seg dksX9_readsBranches_0 22 rfl rfl
theorem dksX9_readsBranches_2 : cX9_readsBranches.data.toList.drop 46 = dktX9_readsBranches_2 := dk_seg dksX9_readsBranches_1 24 rfl rfl
theorem dksX9_readsBranches_3 : cX9_readsBranches.data.toList.drop 69 = dktX9_readsBranches_3 := dk_seg dksX9_readsBranches_2 23 rfl rfl
theorem dksX9_readsBranches_4 : cX9_readsBranches.data.toList.drop 93 = dktX9_readsBranches_4 := dk_seg dksX9_readsBranches_3 24 rfl rfl
theorem dksX9_readsBranches_5 : cX9_readsBranches.data.toList.drop 116 = dktX9_readsBranches_5 := dk_seg dksX9_readsBranches_4 23 rfl rfl
theorem dksX9_readsBranches_6 : cX9_readsBranches.data.toList.drop 140 = dktX9_readsBranches_6 := dk_seg dksX9_readsBranches_5 24 rfl rfl
theorem dksX9_readsBranches_7 : cX9_readsBranches.data.toList.drop 162 = dktX9_readsBranches_7 := dk_seg dksX9_readsBranches_6 22 rfl rfl
theorem dksX9_readsBranches_8 : cX9_readsBranches.data.toList.drop 186 = dktX9_readsBranches_8 := dk_seg dksX9_readsBranches_7 24 rfl rfl
theorem dksX9_readsBranches_9 : cX9_readsBranches.data.toList.drop 210 = dktX9_readsBranches_9 := dk_seg dksX9_readsBranches_8 24 rfl rfl
theorem dksX9_readsBranches_10 : cX9_readsBranches.data.toList.drop 234 = dktX9_readsBranches_10 := dk_seg dksX9_readsBranches_9 24 rfl rfl
theorem dX9_readsBranches_0 : decode cX9_readsBranches 0 = .ok (.iconst 0, 1) := dk_3 (dk_at dksX9_readsBranches_0 0 rfl rfl)
theorem dX9_readsBranches_1 : decode cX9_readsBranches 1 = .ok (.istore 4, 2) := dk_54 4 (dk_at dksX9_readsBranches_0 1 rfl rfl)
theorem dX9_readsBranches_3 : decode cX9_readsBranches 3 = .ok (.aload_n 0, 1) := dk_42 (dk_at dksX9_readsBranches_0 3 rfl rfl)
theorem dX9_readsBranches_4 : decode cX9_readsBranches 4 = .ok (.getfield 87, 3) := dk_180 0 87 (dk_at dksX9_readsBranches_0 4 rfl rfl)
theorem dX9_readsBranches_7 : decode cX9_readsBranches 7 = .ok (.iload_n 1, 1) := dk_27 (dk_at dksX9_readsBranches_0 7 rfl rfl)
theorem dX9_readsBranches_8 : decode cX9_readsBranches 8 = .ok (.iaload, 1) := dk_46 (dk_at dksX9_readsBranches_0 8 rfl rfl)
theorem dX9_readsBranches_9 : decode cX9_readsBranches 9 = .ok (.ifCond .eq 12, 3) := dk_153 0 12 (dk_at dksX9_readsBranches_0 9 rfl rfl)
theorem dX9_readsBranches_12 : decode cX9_readsBranches 12 = .ok (.aload_n 0, 1) := dk_42 (dk_at dksX9_readsBranches_0 12 rfl rfl)
theorem dX9_readsBranches_13 : decode cX9_readsBranches 13 = .ok (.invokevirtual 208, 3) := dk_182 0 208 (dk_at dksX9_readsBranches_0 13 rfl rfl)
theorem dX9_readsBranches_16 : decode cX9_readsBranches 16 = .ok (.bipush 125, 2) := dk_16 125 (dk_at dksX9_readsBranches_0 16 rfl rfl)
theorem dX9_readsBranches_18 : decode cX9_readsBranches 18 = .ok (.if_icmp .eq 196, 3) := dk_159 0 196 (dk_at dksX9_readsBranches_0 18 rfl rfl)
theorem dX9_readsBranches_21 : decode cX9_readsBranches 21 = .ok (.aload_n 0, 1) := dk_42 (dk_at dksX9_readsBranches_0 21 rfl rfl)
theorem dX9_readsBranches_22 : decode cX9_readsBranches 22 = .ok (.getfield 87, 3) := dk_180 0 87 (dk_at dksX9_readsBranches_1 0 rfl rfl)
theorem dX9_readsBranches_25 : decode cX9_readsBranches 25 = .ok (.iload_n 1, 1) := dk_27 (dk_at dksX9_readsBranches_1 3 rfl rfl)
theorem dX9_readsBranches_26 : decode cX9_readsBranches 26 = .ok (.iaload, 1) := dk_46 (dk_at dksX9_readsBranches_1 4 rfl rfl)
theorem dX9_readsBranches_27 : decode cX9_readsBranches 27 = .ok (.bipush 10, 2) := dk_16 10 (dk_at dksX9_readsBranches_1 5 rfl rfl)
theorem dX9_readsBranches_29 : decode cX9_readsBranches 29 = .ok (.if_icmp .ne 5, 3) := dk_160 0 5 (dk_at dksX9_readsBranches_1 7 rfl rfl)
theorem dX9_readsBranches_32 : decode cX9_readsBranches 32 = .ok (.iconst 0, 1) := dk_3 (dk_at dksX9_readsBranches_1 10 rfl rfl)
theorem dX9_readsBranches_33 : decode cX9_readsBranches 33 = .ok (.ireturn, 1) := dk_172 (dk_at dksX9_readsBranches_1 11 rfl rfl)
theorem dX9_readsBranches_34 : decode cX9_readsBranches 34 = .ok (.aload_n 0, 1) := dk_42 (dk_at dksX9_readsBranches_1 12 rfl rfl)
theorem dX9_readsBranches_35 : decode cX9_readsBranches 35 = .ok (.getfield 202, 3) := dk_180 0 202 (dk_at dksX9_readsBranches_1 13 rfl rfl)
theorem dX9_readsBranches_38 : decode cX9_readsBranches 38 = .ok (.istore 5, 2) := dk_54 5 (dk_at dksX9_readsBranches_1 16 rfl rfl)
theorem dX9_readsBranches_40 : decode cX9_readsBranches 40 = .ok (.aload_n 0, 1) := dk_42 (dk_at dksX9_readsBranches_1 18 rfl rfl)
theorem dX9_readsBranches_41 : decode cX9_readsBranches 41 = .ok (.aload_n 0, 1) := dk_42 (dk_at dksX9_readsBranches_1 19 rfl rfl)
theorem dX9_readsBranches_42 : decode cX9_readsBranches 42 = .ok (.getfield 81, 3) := dk_180 0 81 (dk_at dksX9_readsBranches_1 20 rfl rfl)
theorem dX9_readsBranches_45 : decode cX9_readsBranches 45 = .ok (.iload_n 1, 1) := dk_27 (dk_at dksX9_readsBranches_1 23 rfl rfl)
theorem dX9_readsBranches_46 : decode cX9_readsBranches 46 = .ok (.iaload, 1) := dk_46 (dk_at dksX9_readsBranches_2 0 rfl rfl)
theorem dX9_readsBranches_47 : decode cX9_readsBranches 47 = .ok (.invokevirtual 281, 3) := dk_182 1 25 (dk_at dksX9_readsBranches_2 1 rfl rfl)
theorem dX9_readsBranches_50 : decode cX9_readsBranches 50 = .ok (.istore 6, 2) := dk_54 6 (dk_at dksX9_readsBranches_2 4 rfl rfl)
theorem dX9_readsBranches_52 : decode cX9_readsBranches 52 = .ok (.iload 6, 2) := dk_21 6 (dk_at dksX9_readsBranches_2 6 rfl rfl)
theorem dX9_readsBranches_54 : decode cX9_readsBranches 54 = .ok (.ifCond .lt 12, 3) := dk_155 0 12 (dk_at dksX9_readsBranches_2 8 rfl rfl)
theorem dX9_readsBranches_57 : decode cX9_readsBranches 57 = .ok (.aload_n 0, 1) := dk_42 (dk_at dksX9_readsBranches_2 11 rfl rfl)
theorem dX9_readsBranches_58 : decode cX9_readsBranches 58 = .ok (.bipush 40, 2) := dk_16 40 (dk_at dksX9_readsBranches_2 12 rfl rfl)
theorem dX9_readsBranches_60 : decode cX9_readsBranches 60 = .ok (.invokevirtual 241, 3) := dk_182 0 241 (dk_at dksX9_readsBranches_2 14 rfl rfl)
theorem dX9_readsBranches_63 : decode cX9_readsBranches 63 = .ok (.ifCond .ne 5, 3) := dk_154 0 5 (dk_at dksX9_readsBranches_2 17 rfl rfl)
theorem dX9_readsBranches_66 : decode cX9_readsBranches 66 = .ok (.iconst 0, 1) := dk_3 (dk_at dksX9_readsBranches_2 20 rfl rfl)
theorem dX9_readsBranches_67 : decode cX9_readsBranches 67 = .ok (.ireturn, 1) := dk_172 (dk_at dksX9_readsBranches_2 21 rfl rfl)
theorem dX9_readsBranches_68 : decode cX9_readsBranches 68 = .ok (.iconst 0, 1) := dk_3 (dk_at dksX9_readsBranches_2 22 rfl rfl)
theorem dX9_readsBranches_69 : decode cX9_readsBranches 69 = .ok (.istore 7, 2) := dk_54 7 (dk_at dksX9_readsBranches_3 0 rfl rfl)
theorem dX9_readsBranches_71 : decode cX9_readsBranches 71 = .ok (.iload 7, 2) := dk_21 7 (dk_at dksX9_readsBranches_3 2 rfl rfl)
theorem dX9_readsBranches_73 : decode cX9_readsBranches 73 = .ok (.aload_n 0, 1) := dk_42 (dk_at dksX9_readsBranches_3 4 rfl rfl)
theorem dX9_readsBranches_74 : decode cX9_readsBranches 74 = .ok (.getfield 87, 3) := dk_180 0 87 (dk_at dksX9_readsBranches_3 5 rfl rfl)
theorem dX9_readsBranches_77 : decode cX9_readsBranches 77 = .ok (.iload_n 1, 1) := dk_27 (dk_at dksX9_readsBranches_3 8 rfl rfl)
theorem dX9_readsBranches_78 : decode cX9_readsBranches 78 = .ok (.iaload, 1) := dk_46 (dk_at dksX9_readsBranches_3 9 rfl rfl)
theorem dX9_readsBranches_79 : decode cX9_readsBranches 79 = .ok (.if_icmp .ge 32, 3) := dk_162 0 32 (dk_at dksX9_readsBranches_3 10 rfl rfl)
theorem dX9_readsBranches_82 : decode cX9_readsBranches 82 = .ok (.aload_n 0, 1) := dk_42 (dk_at dksX9_readsBranches_3 13 rfl rfl)
theorem dX9_readsBranches_83 : decode cX9_readsBranches 83 = .ok (.getfield 90, 3) := dk_180 0 90 (dk_at dksX9_readsBranches_3 14 rfl rfl)
theorem dX9_readsBranches_86 : decode cX9_readsBranches 86 = .ok (.bipush 10, 2) := dk_16 10 (dk_at dksX9_readsBranches_3 17 rfl rfl)
theorem dX9_readsBranches_88 : decode cX9_readsBranches 88 = .ok (.iload_n 1, 1) := dk_27 (dk_at dksX9_readsBranches_3 19 rfl rfl)
theorem dX9_readsBranches_89 : decode cX9_readsBranches 89 = .ok (.imul, 1) := dk_104 (dk_at dksX9_readsBranches_3 20 rfl rfl)
theorem dX9_readsBranches_90 : decode cX9_readsBranches 90 = .ok (.iload 7, 2) := dk_21 7 (dk_at dksX9_readsBranches_3 21 rfl rfl)
theorem dX9_readsBranches_92 : decode cX9_readsBranches 92 = .ok (.iadd, 1) := dk_96 (dk_at dksX9_readsBranches_3 23 rfl rfl)
theorem dX9_readsBranches_93 : decode cX9_readsBranches 93 = .ok (.iaload, 1) := dk_46 (dk_at dksX9_readsBranches_4 0 rfl rfl)
theorem dX9_readsBranches_94 : decode cX9_readsBranches 94 = .ok (.iload 6, 2) := dk_21 6 (dk_at dksX9_readsBranches_4 1 rfl rfl)
theorem dX9_readsBranches_96 : decode cX9_readsBranches 96 = .ok (.if_icmp .ne 9, 3) := dk_160 0 9 (dk_at dksX9_readsBranches_4 3 rfl rfl)
theorem dX9_readsBranches_99 : decode cX9_readsBranches 99 = .ok (.aload_n 0, 1) := dk_42 (dk_at dksX9_readsBranches_4 6 rfl rfl)
theorem dX9_readsBranches_100 : decode cX9_readsBranches 100 = .ok (.iload 5, 2) := dk_21 5 (dk_at dksX9_readsBranches_4 7 rfl rfl)
theorem dX9_readsBranches_102 : decode cX9_readsBranches 102 = .ok (.invokevirtual 229, 3) := dk_182 0 229 (dk_at dksX9_readsBranches_4 9 rfl rfl)
theorem dX9_readsBranches_105 : decode cX9_readsBranches 105 = .ok (.iinc 7 1, 3) := dk_132 7 1 (dk_at dksX9_readsBranches_4 12 rfl rfl)
theorem dX9_readsBranches_108 : decode cX9_readsBranches 108 = .ok (.goto (-37), 3) := dk_167 255 219 (dk_at dksX9_readsBranches_4 15 rfl rfl)
theorem dX9_readsBranches_111 : decode cX9_readsBranches 111 = .ok (.iload 4, 2) := dk_21 4 (dk_at dksX9_readsBranches_4 18 rfl rfl)
theorem dX9_readsBranches_113 : decode cX9_readsBranches 113 = .ok (.ifCond .ne 23, 3) := dk_154 0 23 (dk_at dksX9_readsBranches_4 20 rfl rfl)
theorem dX9_readsBranches_116 : decode cX9_readsBranches 116 = .ok (.iload 6, 2) := dk_21 6 (dk_at dksX9_readsBranches_5 0 rfl rfl)
theorem dX9_readsBranches_118 : decode cX9_readsBranches 118 = .ok (.aload_n 0, 1) := dk_42 (dk_at dksX9_readsBranches_5 2 rfl rfl)
theorem dX9_readsBranches_119 : decode cX9_readsBranches 119 = .ok (.getfield 81, 3) := dk_180 0 81 (dk_at dksX9_readsBranches_5 3 rfl rfl)
theorem dX9_readsBranches_122 : decode cX9_readsBranches 122 = .ok (.iload_n 1, 1) := dk_27 (dk_at dksX9_readsBranches_5 6 rfl rfl)
theorem dX9_readsBranches_123 : decode cX9_readsBranches 123 = .ok (.iaload, 1) := dk_46 (dk_at dksX9_readsBranches_5 7 rfl rfl)
theorem dX9_readsBranches_124 : decode cX9_readsBranches 124 = .ok (.iconst 1, 1) := dk_4 (dk_at dksX9_readsBranches_5 8 rfl rfl)
theorem dX9_readsBranches_125 : decode cX9_readsBranches 125 = .ok (.if_icmp .ne 7, 3) := dk_160 0 7 (dk_at dksX9_readsBranches_5 9 rfl rfl)
theorem dX9_readsBranches_128 : decode cX9_readsBranches 128 = .ok (.iconst 5, 1) := dk_8 (dk_at dksX9_readsBranches_5 12 rfl rfl)
theorem dX9_readsBranches_129 : decode cX9_readsBranches 129 = .ok (.goto 4, 3) := dk_167 0 4 (dk_at dksX9_readsBranches_5 13 rfl rfl)
theorem dX9_readsBranches_132 : decode cX9_readsBranches 132 = .ok (.iconst 3, 1) := dk_6 (dk_at dksX9_readsBranches_5 16 rfl rfl)
theorem dX9_readsBranches_133 : decode cX9_readsBranches 133 = .ok (.if_icmp .ne 7, 3) := dk_160 0 7 (dk_at dksX9_readsBranches_5 17 rfl rfl)
theorem dX9_readsBranches_136 : decode cX9_readsBranches 136 = .ok (.iconst 1, 1) := dk_4 (dk_at dksX9_readsBranches_5 20 rfl rfl)
theorem dX9_readsBranches_137 : decode cX9_readsBranches 137 = .ok (.goto 4, 3) := dk_167 0 4 (dk_at dksX9_readsBranches_5 21 rfl rfl)
theorem dX9_readsBranches_140 : decode cX9_readsBranches 140 = .ok (.iconst 0, 1) := dk_3 (dk_at dksX9_readsBranches_6 0 rfl rfl)
theorem dX9_readsBranches_141 : decode cX9_readsBranches 141 = .ok (.istore 4, 2) := dk_54 4 (dk_at dksX9_readsBranches_6 1 rfl rfl)
theorem dX9_readsBranches_143 : decode cX9_readsBranches 143 = .ok (.aload_n 0, 1) := dk_42 (dk_at dksX9_readsBranches_6 3 rfl rfl)
theorem dX9_readsBranches_144 : decode cX9_readsBranches 144 = .ok (.getfield 90, 3) := dk_180 0 90 (dk_at dksX9_readsBranches_6 4 rfl rfl)
theorem dX9_readsBranches_147 : decode cX9_readsBranches 147 = .ok (.bipush 10, 2) := dk_16 10 (dk_at dksX9_readsBranches_6 7 rfl rfl)
theorem dX9_readsBranches_149 : decode cX9_readsBranches 149 = .ok (.iload_n 1, 1) := dk_27 (dk_at dksX9_readsBranches_6 9 rfl rfl)
theorem dX9_readsBranches_150 : decode cX9_readsBranches 150 = .ok (.imul, 1) := dk_104 (dk_at dksX9_readsBranches_6 10 rfl rfl)
theorem dX9_readsBranches_151 : decode cX9_readsBranches 151 = .ok (.aload_n 0, 1) := dk_42 (dk_at dksX9_readsBranches_6 11 rfl rfl)
theorem dX9_readsBranches_152 : decode cX9_readsBranches 152 = .ok (.getfield 87, 3) := dk_180 0 87 (dk_at dksX9_readsBranches_6 12 rfl rfl)
theorem dX9_readsBranches_155 : decode cX9_readsBranches 155 = .ok (.iload_n 1, 1) := dk_27 (dk_at dksX9_readsBranches_6 15 rfl rfl)
theorem dX9_readsBranches_156 : decode cX9_readsBranches 156 = .ok (.iaload, 1) := dk_46 (dk_at dksX9_readsBranches_6 16 rfl rfl)
theorem dX9_readsBranches_157 : decode cX9_readsBranches 157 = .ok (.iadd, 1) := dk_96 (dk_at dksX9_readsBranches_6 17 rfl rfl)
theorem dX9_readsBranches_158 : decode cX9_readsBranches 158 = .ok (.iload 6, 2) := dk_21 6 (dk_at dksX9_readsBranches_6 18 rfl rfl)
theorem dX9_readsBranches_160 : decode cX9_readsBranches 160 = .ok (.iastore, 1) := dk_79 (dk_at dksX9_readsBranches_6 20 rfl rfl)
theorem dX9_readsBranches_161 : decode cX9_readsBranches 161 = .ok (.aload_n 0, 1) := dk_42 (dk_at dksX9_readsBranches_6 21 rfl rfl)
theorem dX9_readsBranches_162 : decode cX9_readsBranches 162 = .ok (.getfield 93, 3) := dk_180 0 93 (dk_at dksX9_readsBranches_7 0 rfl rfl)
theorem dX9_readsBranches_165 : decode cX9_readsBranches 165 = .ok (.bipush 10, 2) := dk_16 10 (dk_at dksX9_readsBranches_7 3 rfl rfl)
theorem dX9_readsBranches_167 : decode cX9_readsBranches 167 = .ok (.iload_n 1, 1) := dk_27 (dk_at dksX9_readsBranches_7 5 rfl rfl)
theorem dX9_readsBranches_168 : decode cX9_readsBranches 168 = .ok (.imul, 1) := dk_104 (dk_at dksX9_readsBranches_7 6 rfl rfl)
theorem dX9_readsBranches_169 : decode cX9_readsBranches 169 = .ok (.aload_n 0, 1) := dk_42 (dk_at dksX9_readsBranches_7 7 rfl rfl)
theorem dX9_readsBranches_170 : decode cX9_readsBranches 170 = .ok (.getfield 87, 3) := dk_180 0 87 (dk_at dksX9_readsBranches_7 8 rfl rfl)
theorem dX9_readsBranches_173 : decode cX9_readsBranches 173 = .ok (.iload_n 1, 1) := dk_27 (dk_at dksX9_readsBranches_7 11 rfl rfl)
theorem dX9_readsBranches_174 : decode cX9_readsBranches 174 = .ok (.iaload, 1) := dk_46 (dk_at dksX9_readsBranches_7 12 rfl rfl)
theorem dX9_readsBranches_175 : decode cX9_readsBranches 175 = .ok (.iadd, 1) := dk_96 (dk_at dksX9_readsBranches_7 13 rfl rfl)
theorem dX9_readsBranches_176 : decode cX9_readsBranches 176 = .ok (.aload_n 0, 1) := dk_42 (dk_at dksX9_readsBranches_7 14 rfl rfl)
theorem dX9_readsBranches_177 : decode cX9_readsBranches 177 = .ok (.getfield 202, 3) := dk_180 0 202 (dk_at dksX9_readsBranches_7 15 rfl rfl)
theorem dX9_readsBranches_180 : decode cX9_readsBranches 180 = .ok (.iastore, 1) := dk_79 (dk_at dksX9_readsBranches_7 18 rfl rfl)
theorem dX9_readsBranches_181 : decode cX9_readsBranches 181 = .ok (.aload_n 0, 1) := dk_42 (dk_at dksX9_readsBranches_7 19 rfl rfl)
theorem dX9_readsBranches_182 : decode cX9_readsBranches 182 = .ok (.getfield 87, 3) := dk_180 0 87 (dk_at dksX9_readsBranches_7 20 rfl rfl)
theorem dX9_readsBranches_185 : decode cX9_readsBranches 185 = .ok (.iload_n 1, 1) := dk_27 (dk_at dksX9_readsBranches_7 23 rfl rfl)
theorem dX9_readsBranches_186 : decode cX9_readsBranches 186 = .ok (.dup2, 1) := dk_92 (dk_at dksX9_readsBranches_8 0 rfl rfl)
theorem dX9_readsBranches_187 : decode cX9_readsBranches 187 = .ok (.iaload, 1) := dk_46 (dk_at dksX9_readsBranches_8 1 rfl rfl)
theorem dX9_readsBranches_188 : decode cX9_readsBranches 188 = .ok (.iconst 1, 1) := dk_4 (dk_at dksX9_readsBranches_8 2 rfl rfl)
theorem dX9_readsBranches_189 : decode cX9_readsBranches 189 = .ok (.iadd, 1) := dk_96 (dk_at dksX9_readsBranches_8 3 rfl rfl)
theorem dX9_readsBranches_190 : decode cX9_readsBranches 190 = .ok (.iastore, 1) := dk_79 (dk_at dksX9_readsBranches_8 4 rfl rfl)
theorem dX9_readsBranches_191 : decode cX9_readsBranches 191 = .ok (.aload_n 0, 1) := dk_42 (dk_at dksX9_readsBranches_8 5 rfl rfl)
theorem dX9_readsBranches_192 : decode cX9_readsBranches 192 = .ok (.iload_n 2, 1) := dk_28 (dk_at dksX9_readsBranches_8 6 rfl rfl)
theorem dX9_readsBranches_193 : decode cX9_readsBranches 193 = .ok (.iload_n 3, 1) := dk_29 (dk_at dksX9_readsBranches_8 7 rfl rfl)
theorem dX9_readsBranches_194 : decode cX9_readsBranches 194 = .ok (.invokevirtual 284, 3) := dk_182 1 28 (dk_at dksX9_readsBranches_8 8 rfl rfl)
theorem dX9_readsBranches_197 : decode cX9_readsBranches 197 = .ok (.ifCond .eq 12, 3) := dk_153 0 12 (dk_at dksX9_readsBranches_8 11 rfl rfl)
theorem dX9_readsBranches_200 : decode cX9_readsBranches 200 = .ok (.aload_n 0, 1) := dk_42 (dk_at dksX9_readsBranches_8 14 rfl rfl)
theorem dX9_readsBranches_201 : decode cX9_readsBranches 201 = .ok (.bipush 41, 2) := dk_16 41 (dk_at dksX9_readsBranches_8 15 rfl rfl)
theorem dX9_readsBranches_203 : decode cX9_readsBranches 203 = .ok (.invokevirtual 241, 3) := dk_182 0 241 (dk_at dksX9_readsBranches_8 17 rfl rfl)
theorem dX9_readsBranches_206 : decode cX9_readsBranches 206 = .ok (.ifCond .ne 5, 3) := dk_154 0 5 (dk_at dksX9_readsBranches_8 20 rfl rfl)
theorem dX9_readsBranches_209 : decode cX9_readsBranches 209 = .ok (.iconst 0, 1) := dk_3 (dk_at dksX9_readsBranches_8 23 rfl rfl)
theorem dX9_readsBranches_210 : decode cX9_readsBranches 210 = .ok (.ireturn, 1) := dk_172 (dk_at dksX9_readsBranches_9 0 rfl rfl)
theorem dX9_readsBranches_211 : decode cX9_readsBranches 211 = .ok (.goto (-208), 3) := dk_167 255 48 (dk_at dksX9_readsBranches_9 1 rfl rfl)
theorem dX9_readsBranches_214 : decode cX9_readsBranches 214 = .ok (.iload 4, 2) := dk_21 4 (dk_at dksX9_readsBranches_9 4 rfl rfl)
theorem dX9_readsBranches_216 : decode cX9_readsBranches 216 = .ok (.ifCond .ne 11, 3) := dk_154 0 11 (dk_at dksX9_readsBranches_9 6 rfl rfl)
theorem dX9_readsBranches_219 : decode cX9_readsBranches 219 = .ok (.aload_n 0, 1) := dk_42 (dk_at dksX9_readsBranches_9 9 rfl rfl)
theorem dX9_readsBranches_220 : decode cX9_readsBranches 220 = .ok (.aload_n 0, 1) := dk_42 (dk_at dksX9_readsBranches_9 10 rfl rfl)
theorem dX9_readsBranches_221 : decode cX9_readsBranches 221 = .ok (.getfield 202, 3) := dk_180 0 202 (dk_at dksX9_readsBranches_9 11 rfl rfl)
theorem dX9_readsBranches_224 : decode cX9_readsBranches 224 = .ok (.invokevirtual 229, 3) := dk_182 0 229 (dk_at dksX9_readsBranches_9 14 rfl rfl)
theorem dX9_readsBranches_227 : decode cX9_readsBranches 227 = .ok (.aload_n 0, 1) := dk_42 (dk_at dksX9_readsBranches_9 17 rfl rfl)
theorem dX9_readsBranches_228 : decode cX9_readsBranches 228 = .ok (.dup, 1) := dk_89 (dk_at dksX9_readsBranches_9 18 rfl rfl)
theorem dX9_readsBranches_229 : decode cX9_readsBranches 229 = .ok (.getfield 202, 3) := dk_180 0 202 (dk_at dksX9_readsBranches_9 19 rfl rfl)
theorem dX9_readsBranches_232 : decode cX9_readsBranches 232 = .ok (.iconst 1, 1) := dk_4 (dk_at dksX9_readsBranches_9 22 rfl rfl)
theorem dX9_readsBranches_233 : decode cX9_readsBranches 233 = .ok (.iadd, 1) := dk_96 (dk_at dksX9_readsBranches_9 23 rfl rfl)
theorem dX9_readsBranches_234 : decode cX9_readsBranches 234 = .ok (.putfield 202, 3) := dk_181 0 202 (dk_at dksX9_readsBranches_10 0 rfl rfl)
theorem dX9_readsBranches_237 : decode cX9_readsBranches 237 = .ok (.iconst 1, 1) := dk_4 (dk_at dksX9_readsBranches_10 3 rfl rfl)
theorem dX9_readsBranches_238 : decode cX9_readsBranches 238 = .ok (.ireturn, 1) := dk_172 (dk_at dksX9_readsBranches_10 4 rfl rfl)
abbrev cX9_readsKey : ByteArray := prog_31_method_27_code
def yX9_readsKey : MethodName := ⟨RX9, "readsKey", "(I)I"⟩
def dkwX9_readsKey_5 : List UInt8 := [96, 172]
abbrev dktX9_readsKey_5 : List UInt8 := dkwX9_readsKey_5 ++ []
def dkwX9_readsKey_4 : List UInt8 := [96, 16, 48, 100, 62, 42, 89, 180, 0, 202, 4, 96, 181, 0, 202, 132, 4, 1, 167, 255, 207, 16, 10, 29]
abbrev dktX9_readsKey_4 : List UInt8 := dkwX9_readsKey_4 ++ dktX9_readsKey_5
def dkwX9_readsKey_3 : List UInt8 := [182, 0, 208, 133, 20, 1, 21, 20, 1, 23, 184, 0, 143, 153, 0, 32, 16, 10, 29, 104, 42, 182, 0, 208]
abbrev dktX9_readsKey_3 : List UInt8 := dkwX9_readsKey_3 ++ dktX9_readsKey_4
def dkwX9_readsKey_2 : List UInt8 := [20, 1, 23, 184, 0, 143, 154, 0, 5, 2, 172, 3, 62, 3, 54, 4, 21, 4, 6, 162, 0, 49, 42]
abbrev dktX9_readsKey_2 : List UInt8 := dkwX9_readsKey_2 ++ dktX9_readsKey_3
def dkwX9_readsKey_1 : List UInt8 := [172, 27, 4, 160, 0, 29, 42, 16, 61, 182, 0, 241, 153, 0, 20, 42, 182, 0, 208, 133, 20, 1, 21]
abbrev dktX9_readsKey_1 : List UInt8 := dkwX9_readsKey_1 ++ dktX9_readsKey_2
def dkwX9_readsKey_0 : List UInt8 := [27, 42, 182, 0, 208, 184, 1, 18, 61, 28, 155, 0, 15, 42, 89, 180, 0, 202, 4, 96, 181, 0, 202, 28]
abbrev dktX9_readsKey_0 : List UInt8 := dkwX9_readsKey_0 ++ dktX9_readsKey_1
theorem dksX9_readsKey_0 : cX9_readsKey.data.toList.drop 0 = dktX9_readsKey_0 := by decide +kernel
theorem dksX9_readsKey_1 : cX9_readsKey.data.toList.drop 24 = dktX9_readsKey_1 := dk_seg dksX9_readsKey_0 24 rfl rfl
theorem dksX9_readsKey_2 : cX9_readsKey.data.toList.drop 47 = dktX9_readsKey_2 := dk_seg dksX9_readsKey_1 23 rfl rfl
theorem dksX9_readsKey_3 : cX9_readsKey.data.toList.drop 70 = dktX9_readsKey_3 := dk_seg dksX9_readsKey_2 23 rfl rfl
theorem dksX9_readsKey_4 : cX9_readsKey.data.toList.drop 94 = dktX9_readsKey_4 := dk_seg dksX9_readsKey_3 24 rfl rfl
theorem dksX9_readsKey_5 : cX9_readsKey.data.toList.drop 118 = dktX9_readsKey_5 := dk_seg dksX9_readsKey_4 24 rfl rfl
theorem dX9_readsKey_0 : decode cX9_readsKey 0 = .ok (.iload_n 1, 1) := dk_27 (dk_at dksX9_readsKey_0 0 rfl rfl)
theorem dX9_readsKey_1 : decode cX9_readsKey 1 = .ok (.aload_n 0, 1) := dk_42 (dk_at dksX9_readsKey_0 1 rfl rfl)
theorem dX9_readsKey_2 : decode cX9_readsKey 2 = .ok (.invokevirtual 208, 3) := dk_182 0 208 (dk_at dksX9_readsKey_0 2 rfl rfl)
theorem dX9_readsKey_5 : decode cX9_readsKey 5 = .ok (.invokestatic 274, 3) := dk_184 1 18 (dk_at dksX9_readsKey_0 5 rfl rfl)
theorem dX9_readsKey_8 : decode cX9_readsKey 8 = .ok (.istore_n 2, 1) := dk_61 (dk_at dksX9_readsKey_0 8 rfl rfl)
theorem dX9_readsKey_9 : decode cX9_readsKey 9 = .ok (.iload_n 2, 1) := dk_28 (dk_at dksX9_readsKey_0 9 rfl rfl)
theorem dX9_readsKey_10 : decode cX9_readsKey 10 = .ok (.ifCond .lt 15, 3) := dk_155 0 15 (dk_at dksX9_readsKey_0 10 rfl rfl)
theorem dX9_readsKey_13 : decode cX9_readsKey 13 = .ok (.aload_n 0, 1) := dk_42 (dk_at dksX9_readsKey_0 13 rfl rfl)
theorem dX9_readsKey_14 : decode cX9_readsKey 14 = .ok (.dup, 1) := dk_89 (dk_at dksX9_readsKey_0 14 rfl rfl)
theorem dX9_readsKey_15 : decode cX9_readsKey 15 = .ok (.getfield 202, 3) := dk_180 0 202 (dk_at dksX9_readsKey_0 15 rfl rfl)
theorem dX9_readsKey_18 : decode cX9_readsKey 18 = .ok (.iconst 1, 1) := dk_4 (dk_at dksX9_readsKey_0 18 rfl rfl)
theorem dX9_readsKey_19 : decode cX9_readsKey 19 = .ok (.iadd, 1) := dk_96 (dk_at dksX9_readsKey_0 19 rfl rfl)
theorem dX9_readsKey_20 : decode cX9_readsKey 20 = .ok (.putfield 202, 3) := dk_181 0 202 (dk_at dksX9_readsKey_0 20 rfl rfl)
theorem dX9_readsKey_23 : decode cX9_readsKey 23 = .ok (.iload_n 2, 1) := dk_28 (dk_at dksX9_readsKey_0 23 rfl rfl)
theorem dX9_readsKey_24 : decode cX9_readsKey 24 = .ok (.ireturn, 1) := dk_172 (dk_at dksX9_readsKey_1 0 rfl rfl)
theorem dX9_readsKey_25 : decode cX9_readsKey 25 = .ok (.iload_n 1, 1) := dk_27 (dk_at dksX9_readsKey_1 1 rfl rfl)
theorem dX9_readsKey_26 : decode cX9_readsKey 26 = .ok (.iconst 1, 1) := dk_4 (dk_at dksX9_readsKey_1 2 rfl rfl)
theorem dX9_readsKey_27 : decode cX9_readsKey 27 = .ok (.if_icmp .ne 29, 3) := dk_160 0 29 (dk_at dksX9_readsKey_1 3 rfl rfl)
theorem dX9_readsKey_30 : decode cX9_readsKey 30 = .ok (.aload_n 0, 1) := dk_42 (dk_at dksX9_readsKey_1 6 rfl rfl)
theorem dX9_readsKey_31 : decode cX9_readsKey 31 = .ok (.bipush 61, 2) := dk_16 61 (dk_at dksX9_readsKey_1 7 rfl rfl)
theorem dX9_readsKey_33 : decode cX9_readsKey 33 = .ok (.invokevirtual 241, 3) := dk_182 0 241 (dk_at dksX9_readsKey_1 9 rfl rfl)
theorem dX9_readsKey_36 : decode cX9_readsKey 36 = .ok (.ifCond .eq 20, 3) := dk_153 0 20 (dk_at dksX9_readsKey_1 12 rfl rfl)
theorem dX9_readsKey_39 : decode cX9_readsKey 39 = .ok (.aload_n 0, 1) := dk_42 (dk_at dksX9_readsKey_1 15 rfl rfl)
theorem dX9_readsKey_40 : decode cX9_readsKey 40 = .ok (.invokevirtual 208, 3) := dk_182 0 208 (dk_at dksX9_readsKey_1 16 rfl rfl)
theorem dX9_readsKey_43 : decode cX9_readsKey 43 = .ok (.i2l, 1) := dk_133 (dk_at dksX9_readsKey_1 19 rfl rfl)
theorem dX9_readsKey_44 : decode cX9_readsKey 44 = .ok (.ldc2_w 277, 3) := dk_20 1 21 (dk_at dksX9_readsKey_1 20 rfl rfl)
theorem dX9_readsKey_47 : decode cX9_readsKey 47 = .ok (.ldc2_w 279, 3) := dk_20 1 23 (dk_at dksX9_readsKey_2 0 rfl rfl)
theorem dX9_readsKey_50 : decode cX9_readsKey 50 = .ok (.invokestatic 143, 3) := dk_184 0 143 (dk_at dksX9_readsKey_2 3 rfl rfl)
theorem dX9_readsKey_53 : decode cX9_readsKey 53 = .ok (.ifCond .ne 5, 3) := dk_154 0 5 (dk_at dksX9_readsKey_2 6 rfl rfl)
theorem dX9_readsKey_56 : decode cX9_readsKey 56 = .ok (.iconst (-1), 1) := dk_2 (dk_at dksX9_readsKey_2 9 rfl rfl)
theorem dX9_readsKey_57 : decode cX9_readsKey 57 = .ok (.ireturn, 1) := dk_172 (dk_at dksX9_readsKey_2 10 rfl rfl)
theorem dX9_readsKey_58 : decode cX9_readsKey 58 = .ok (.iconst 0, 1) := dk_3 (dk_at dksX9_readsKey_2 11 rfl rfl)
theorem dX9_readsKey_59 : decode cX9_readsKey 59 = .ok (.istore_n 3, 1) := dk_62 (dk_at dksX9_readsKey_2 12 rfl rfl)
theorem dX9_readsKey_60 : decode cX9_readsKey 60 = .ok (.iconst 0, 1) := dk_3 (dk_at dksX9_readsKey_2 13 rfl rfl)
theorem dX9_readsKey_61 : decode cX9_readsKey 61 = .ok (.istore 4, 2) := dk_54 4 (dk_at dksX9_readsKey_2 14 rfl rfl)
theorem dX9_readsKey_63 : decode cX9_readsKey 63 = .ok (.iload 4, 2) := dk_21 4 (dk_at dksX9_readsKey_2 16 rfl rfl)
theorem dX9_readsKey_65 : decode cX9_readsKey 65 = .ok (.iconst 3, 1) := dk_6 (dk_at dksX9_readsKey_2 18 rfl rfl)
theorem dX9_readsKey_66 : decode cX9_readsKey 66 = .ok (.if_icmp .ge 49, 3) := dk_162 0 49 (dk_at dksX9_readsKey_2 19 rfl rfl)
theorem dX9_readsKey_69 : decode cX9_readsKey 69 = .ok (.aload_n 0, 1) := dk_42 (dk_at dksX9_readsKey_2 22 rfl rfl)
theorem dX9_readsKey_70 : decode cX9_readsKey 70 = .ok (.invokevirtual 208, 3) := dk_182 0 208 (dk_at dksX9_readsKey_3 0 rfl rfl)
theorem dX9_readsKey_73 : decode cX9_readsKey 73 = .ok (.i2l, 1) := dk_133 (dk_at dksX9_readsKey_3 3 rfl rfl)
theorem dX9_readsKey_74 : decode cX9_readsKey 74 = .ok (.ldc2_w 277, 3) := dk_20 1 21 (dk_at dksX9_readsKey_3 4 rfl rfl)
theorem dX9_readsKey_77 : decode cX9_readsKey 77 = .ok (.ldc2_w 279, 3) := dk_20 1 23 (dk_at dksX9_readsKey_3 7 rfl rfl)
theorem dX9_readsKey_80 : decode cX9_readsKey 80 = .ok (.invokestatic 143, 3) := dk_184 0 143 (dk_at dksX9_readsKey_3 10 rfl rfl)
theorem dX9_readsKey_83 : decode cX9_readsKey 83 = .ok (.ifCond .eq 32, 3) := dk_153 0 32 (dk_at dksX9_readsKey_3 13 rfl rfl)
theorem dX9_readsKey_86 : decode cX9_readsKey 86 = .ok (.bipush 10, 2) := dk_16 10 (dk_at dksX9_readsKey_3 16 rfl rfl)
theorem dX9_readsKey_88 : decode cX9_readsKey 88 = .ok (.iload_n 3, 1) := dk_29 (dk_at dksX9_readsKey_3 18 rfl rfl)
theorem dX9_readsKey_89 : decode cX9_readsKey 89 = .ok (.imul, 1) := dk_104 (dk_at dksX9_readsKey_3 19 rfl rfl)
theorem dX9_readsKey_90 : decode cX9_readsKey 90 = .ok (.aload_n 0, 1) := dk_42 (dk_at dksX9_readsKey_3 20 rfl rfl)
theorem dX9_readsKey_91 : decode cX9_readsKey 91 = .ok (.invokevirtual 208, 3) := dk_182 0 208 (dk_at dksX9_readsKey_3 21 rfl rfl)
theorem dX9_readsKey_94 : decode cX9_readsKey 94 = .ok (.iadd, 1) := dk_96 (dk_at dksX9_readsKey_4 0 rfl rfl)
theorem dX9_readsKey_95 : decode cX9_readsKey 95 = .ok (.bipush 48, 2) := dk_16 48 (dk_at dksX9_readsKey_4 1 rfl rfl)
theorem dX9_readsKey_97 : decode cX9_readsKey 97 = .ok (.isub, 1) := dk_100 (dk_at dksX9_readsKey_4 3 rfl rfl)
theorem dX9_readsKey_98 : decode cX9_readsKey 98 = .ok (.istore_n 3, 1) := dk_62 (dk_at dksX9_readsKey_4 4 rfl rfl)
theorem dX9_readsKey_99 : decode cX9_readsKey 99 = .ok (.aload_n 0, 1) := dk_42 (dk_at dksX9_readsKey_4 5 rfl rfl)
theorem dX9_readsKey_100 : decode cX9_readsKey 100 = .ok (.dup, 1) := dk_89 (dk_at dksX9_readsKey_4 6 rfl rfl)
theorem dX9_readsKey_101 : decode cX9_readsKey 101 = .ok (.getfield 202, 3) := dk_180 0 202 (dk_at dksX9_readsKey_4 7 rfl rfl)
theorem dX9_readsKey_104 : decode cX9_readsKey 104 = .ok (.iconst 1, 1) := dk_4 (dk_at dksX9_readsKey_4 10 rfl rfl)
theorem dX9_readsKey_105 : decode cX9_readsKey 105 = .ok (.iadd, 1) := dk_96 (dk_at dksX9_readsKey_4 11 rfl rfl)
theorem dX9_readsKey_106 : decode cX9_readsKey 106 = .ok (.putfield 202, 3) := dk_181 0 202 (dk_at dksX9_readsKey_4 12 rfl rfl)
theorem dX9_readsKey_109 : decode cX9_readsKey 109 = .ok (.iinc 4 1, 3) := dk_132 4 1 (dk_at dksX9_readsKey_4 15 rfl rfl)
theorem dX9_readsKey_112 : decode cX9_readsKey 112 = .ok (.goto (-49), 3) := dk_167 255 207 (dk_at dksX9_readsKey_4 18 rfl rfl)
theorem dX9_readsKey_115 : decode cX9_readsKey 115 = .ok (.bipush 10, 2) := dk_16 10 (dk_at dksX9_readsKey_4 21 rfl rfl)
theorem dX9_readsKey_117 : decode cX9_readsKey 117 = .ok (.iload_n 3, 1) := dk_29 (dk_at dksX9_readsKey_4 23 rfl rfl)
theorem dX9_readsKey_118 : decode cX9_readsKey 118 = .ok (.iadd, 1) := dk_96 (dk_at dksX9_readsKey_5 0 rfl rfl)
theorem dX9_readsKey_119 : decode cX9_readsKey 119 = .ok (.ireturn, 1) := dk_172 (dk_at dksX9_readsKey_5 1 rfl rfl)
abbrev cX9_keyOf : ByteArray := prog_31_method_26_code
def yX9_keyOf : MethodName := ⟨RX9, "keyOf", "(II)I"⟩
def dkwX9_keyOf_4 : List UInt8 := [167, 0, 14, 27, 16, 120, 160, 0, 7, 6, 167, 0, 4, 2, 172]
abbrev dktX9_keyOf_4 : List UInt8 := dkwX9_keyOf_4 ++ []
def dkwX9_keyOf_3 : List UInt8 := [160, 0, 7, 3, 167, 0, 34, 27, 16, 102, 160, 0, 7, 4, 167, 0, 24, 27, 16, 110, 160, 0, 7, 5]
abbrev dktX9_keyOf_3 : List UInt8 := dkwX9_keyOf_3 ++ dktX9_keyOf_4
def dkwX9_keyOf_2 : List UInt8 := [16, 109, 160, 0, 7, 7, 167, 0, 14, 27, 16, 120, 160, 0, 7, 8, 167, 0, 4, 2, 172, 27, 16, 109]
abbrev dktX9_keyOf_2 : List UInt8 := dkwX9_keyOf_2 ++ dktX9_keyOf_3
def dkwX9_keyOf_1 : List UInt8 := [167, 0, 44, 27, 16, 116, 160, 0, 7, 5, 167, 0, 34, 27, 16, 102, 160, 0, 7, 6, 167, 0, 24, 27]
abbrev dktX9_keyOf_1 : List UInt8 := dkwX9_keyOf_1 ++ dktX9_keyOf_2
def dkwX9_keyOf_0 : List UInt8 := [26, 4, 160, 0, 65, 27, 16, 122, 160, 0, 7, 3, 167, 0, 54, 27, 16, 111, 160, 0, 7, 4]
abbrev dktX9_keyOf_0 : List UInt8 := dkwX9_keyOf_0 ++ dktX9_keyOf_1
theorem dksX9_keyOf_0 : cX9_keyOf.data.toList.drop 0 = dktX9_keyOf_0 := by decide +kernel
theorem dksX9_keyOf_1 : cX9_keyOf.data.toList.drop 22 = dktX9_keyOf_1 := dk_seg dksX9_keyOf_0 22 rfl rfl
theorem dksX9_keyOf_2 : cX9_keyOf.data.toList.drop 46 = dktX9_keyOf_2 := dk_seg dksX9_keyOf_1 24 rfl rfl
theorem dksX9_keyOf_3 : cX9_keyOf.data.toList.drop 70 = dktX9_keyOf_3 := dk_seg dksX9_keyOf_2 24 rfl rfl
theorem dksX9_keyOf_4 : cX9_keyOf.data.toList.drop 94 = dktX9_keyOf_4 := dk_seg dksX9_keyOf_3 24 rfl rfl
theorem dX9_keyOf_0 : decode cX9_keyOf 0 = .ok (.iload_n 0, 1) := dk_26 (dk_at dksX9_keyOf_0 0 rfl rfl)
theorem dX9_keyOf_1 : decode cX9_keyOf 1 = .ok (.iconst 1, 1) := dk_4 (dk_at dksX9_keyOf_0 1 rfl rfl)
theorem dX9_keyOf_2 : decode cX9_keyOf 2 = .ok (.if_icmp .ne 65, 3) := dk_160 0 65 (dk_at dksX9_keyOf_0 2 rfl rfl)
theorem dX9_keyOf_5 : decode cX9_keyOf 5 = .ok (.iload_n 1, 1) := dk_27 (dk_at dksX9_keyOf_0 5 rfl rfl)
theorem dX9_keyOf_6 : decode cX9_keyOf 6 = .ok (.bipush 122, 2) := dk_16 122 (dk_at dksX9_keyOf_0 6 rfl rfl)
theorem dX9_keyOf_8 : decode cX9_keyOf 8 = .ok (.if_icmp .ne 7, 3) := dk_160 0 7 (dk_at dksX9_keyOf_0 8 rfl rfl)
theorem dX9_keyOf_11 : decode cX9_keyOf 11 = .ok (.iconst 0, 1) := dk_3 (dk_at dksX9_keyOf_0 11 rfl rfl)
theorem dX9_keyOf_12 : decode cX9_keyOf 12 = .ok (.goto 54, 3) := dk_167 0 54 (dk_at dksX9_keyOf_0 12 rfl rfl)
theorem dX9_keyOf_15 : decode cX9_keyOf 15 = .ok (.iload_n 1, 1) := dk_27 (dk_at dksX9_keyOf_0 15 rfl rfl)
theorem dX9_keyOf_16 : decode cX9_keyOf 16 = .ok (.bipush 111, 2) := dk_16 111 (dk_at dksX9_keyOf_0 16 rfl rfl)
theorem dX9_keyOf_18 : decode cX9_keyOf 18 = .ok (.if_icmp .ne 7, 3) := dk_160 0 7 (dk_at dksX9_keyOf_0 18 rfl rfl)
theorem dX9_keyOf_21 : decode cX9_keyOf 21 = .ok (.iconst 1, 1) := dk_4 (dk_at dksX9_keyOf_0 21 rfl rfl)
theorem dX9_keyOf_22 : decode cX9_keyOf 22 = .ok (.goto 44, 3) := dk_167 0 44 (dk_at dksX9_keyOf_1 0 rfl rfl)
theorem dX9_keyOf_25 : decode cX9_keyOf 25 = .ok (.iload_n 1, 1) := dk_27 (dk_at dksX9_keyOf_1 3 rfl rfl)
theorem dX9_keyOf_26 : decode cX9_keyOf 26 = .ok (.bipush 116, 2) := dk_16 116 (dk_at dksX9_keyOf_1 4 rfl rfl)
theorem dX9_keyOf_28 : decode cX9_keyOf 28 = .ok (.if_icmp .ne 7, 3) := dk_160 0 7 (dk_at dksX9_keyOf_1 6 rfl rfl)
theorem dX9_keyOf_31 : decode cX9_keyOf 31 = .ok (.iconst 2, 1) := dk_5 (dk_at dksX9_keyOf_1 9 rfl rfl)
theorem dX9_keyOf_32 : decode cX9_keyOf 32 = .ok (.goto 34, 3) := dk_167 0 34 (dk_at dksX9_keyOf_1 10 rfl rfl)
theorem dX9_keyOf_35 : decode cX9_keyOf 35 = .ok (.iload_n 1, 1) := dk_27 (dk_at dksX9_keyOf_1 13 rfl rfl)
theorem dX9_keyOf_36 : decode cX9_keyOf 36 = .ok (.bipush 102, 2) := dk_16 102 (dk_at dksX9_keyOf_1 14 rfl rfl)
theorem dX9_keyOf_38 : decode cX9_keyOf 38 = .ok (.if_icmp .ne 7, 3) := dk_160 0 7 (dk_at dksX9_keyOf_1 16 rfl rfl)
theorem dX9_keyOf_41 : decode cX9_keyOf 41 = .ok (.iconst 3, 1) := dk_6 (dk_at dksX9_keyOf_1 19 rfl rfl)
theorem dX9_keyOf_42 : decode cX9_keyOf 42 = .ok (.goto 24, 3) := dk_167 0 24 (dk_at dksX9_keyOf_1 20 rfl rfl)
theorem dX9_keyOf_45 : decode cX9_keyOf 45 = .ok (.iload_n 1, 1) := dk_27 (dk_at dksX9_keyOf_1 23 rfl rfl)
theorem dX9_keyOf_46 : decode cX9_keyOf 46 = .ok (.bipush 109, 2) := dk_16 109 (dk_at dksX9_keyOf_2 0 rfl rfl)
theorem dX9_keyOf_48 : decode cX9_keyOf 48 = .ok (.if_icmp .ne 7, 3) := dk_160 0 7 (dk_at dksX9_keyOf_2 2 rfl rfl)
theorem dX9_keyOf_51 : decode cX9_keyOf 51 = .ok (.iconst 4, 1) := dk_7 (dk_at dksX9_keyOf_2 5 rfl rfl)
theorem dX9_keyOf_52 : decode cX9_keyOf 52 = .ok (.goto 14, 3) := dk_167 0 14 (dk_at dksX9_keyOf_2 6 rfl rfl)
theorem dX9_keyOf_55 : decode cX9_keyOf 55 = .ok (.iload_n 1, 1) := dk_27 (dk_at dksX9_keyOf_2 9 rfl rfl)
theorem dX9_keyOf_56 : decode cX9_keyOf 56 = .ok (.bipush 120, 2) := dk_16 120 (dk_at dksX9_keyOf_2 10 rfl rfl)
theorem dX9_keyOf_58 : decode cX9_keyOf 58 = .ok (.if_icmp .ne 7, 3) := dk_160 0 7 (dk_at dksX9_keyOf_2 12 rfl rfl)
theorem dX9_keyOf_61 : decode cX9_keyOf 61 = .ok (.iconst 5, 1) := dk_8 (dk_at dksX9_keyOf_2 15 rfl rfl)
theorem dX9_keyOf_62 : decode cX9_keyOf 62 = .ok (.goto 4, 3) := dk_167 0 4 (dk_at dksX9_keyOf_2 16 rfl rfl)
theorem dX9_keyOf_65 : decode cX9_keyOf 65 = .ok (.iconst (-1), 1) := dk_2 (dk_at dksX9_keyOf_2 19 rfl rfl)
theorem dX9_keyOf_66 : decode cX9_keyOf 66 = .ok (.ireturn, 1) := dk_172 (dk_at dksX9_keyOf_2 20 rfl rfl)
theorem dX9_keyOf_67 : decode cX9_keyOf 67 = .ok (.iload_n 1, 1) := dk_27 (dk_at dksX9_keyOf_2 21 rfl rfl)
theorem dX9_keyOf_68 : decode cX9_keyOf 68 = .ok (.bipush 109, 2) := dk_16 109 (dk_at dksX9_keyOf_2 22 rfl rfl)
theorem dX9_keyOf_70 : decode cX9_keyOf 70 = .ok (.if_icmp .ne 7, 3) := dk_160 0 7 (dk_at dksX9_keyOf_3 0 rfl rfl)
theorem dX9_keyOf_73 : decode cX9_keyOf 73 = .ok (.iconst 0, 1) := dk_3 (dk_at dksX9_keyOf_3 3 rfl rfl)
theorem dX9_keyOf_74 : decode cX9_keyOf 74 = .ok (.goto 34, 3) := dk_167 0 34 (dk_at dksX9_keyOf_3 4 rfl rfl)
theorem dX9_keyOf_77 : decode cX9_keyOf 77 = .ok (.iload_n 1, 1) := dk_27 (dk_at dksX9_keyOf_3 7 rfl rfl)
theorem dX9_keyOf_78 : decode cX9_keyOf 78 = .ok (.bipush 102, 2) := dk_16 102 (dk_at dksX9_keyOf_3 8 rfl rfl)
theorem dX9_keyOf_80 : decode cX9_keyOf 80 = .ok (.if_icmp .ne 7, 3) := dk_160 0 7 (dk_at dksX9_keyOf_3 10 rfl rfl)
theorem dX9_keyOf_83 : decode cX9_keyOf 83 = .ok (.iconst 1, 1) := dk_4 (dk_at dksX9_keyOf_3 13 rfl rfl)
theorem dX9_keyOf_84 : decode cX9_keyOf 84 = .ok (.goto 24, 3) := dk_167 0 24 (dk_at dksX9_keyOf_3 14 rfl rfl)
theorem dX9_keyOf_87 : decode cX9_keyOf 87 = .ok (.iload_n 1, 1) := dk_27 (dk_at dksX9_keyOf_3 17 rfl rfl)
theorem dX9_keyOf_88 : decode cX9_keyOf 88 = .ok (.bipush 110, 2) := dk_16 110 (dk_at dksX9_keyOf_3 18 rfl rfl)
theorem dX9_keyOf_90 : decode cX9_keyOf 90 = .ok (.if_icmp .ne 7, 3) := dk_160 0 7 (dk_at dksX9_keyOf_3 20 rfl rfl)
theorem dX9_keyOf_93 : decode cX9_keyOf 93 = .ok (.iconst 2, 1) := dk_5 (dk_at dksX9_keyOf_3 23 rfl rfl)
theorem dX9_keyOf_94 : decode cX9_keyOf 94 = .ok (.goto 14, 3) := dk_167 0 14 (dk_at dksX9_keyOf_4 0 rfl rfl)
theorem dX9_keyOf_97 : decode cX9_keyOf 97 = .ok (.iload_n 1, 1) := dk_27 (dk_at dksX9_keyOf_4 3 rfl rfl)
theorem dX9_keyOf_98 : decode cX9_keyOf 98 = .ok (.bipush 120, 2) := dk_16 120 (dk_at dksX9_keyOf_4 4 rfl rfl)
theorem dX9_keyOf_100 : decode cX9_keyOf 100 = .ok (.if_icmp .ne 7, 3) := dk_160 0 7 (dk_at dksX9_keyOf_4 6 rfl rfl)
theorem dX9_keyOf_103 : decode cX9_keyOf 103 = .ok (.iconst 3, 1) := dk_6 (dk_at dksX9_keyOf_4 9 rfl rfl)
theorem dX9_keyOf_104 : decode cX9_keyOf 104 = .ok (.goto 4, 3) := dk_167 0 4 (dk_at dksX9_keyOf_4 10 rfl rfl)
theorem dX9_keyOf_107 : decode cX9_keyOf 107 = .ok (.iconst (-1), 1) := dk_2 (dk_at dksX9_keyOf_4 13 rfl rfl)
theorem dX9_keyOf_108 : decode cX9_keyOf 108 = .ok (.ireturn, 1) := dk_172 (dk_at dksX9_keyOf_4 14 rfl rfl)
abbrev cX9_copy : ByteArray := prog_31_method_31_code
def yX9_copy : MethodName := ⟨RX9, "copy", "(II)I"⟩
def dkwX9_copy_14 : List UInt8 := [180, 0, 69, 16, 80, 28, 104, 29, 96, 46, 79, 132, 3, 1, 167, 255, 203, 42, 180, 0, 39, 27, 46, 172]
abbrev dktX9_copy_14 : List UInt8 := dkwX9_copy_14 ++ []
def dkwX9_copy_13 : List UInt8 := [180, 0, 66, 16, 80, 28, 104, 29, 96, 46, 79, 42, 180, 0, 69, 16, 80, 27, 104, 29, 96, 42]
abbrev dktX9_copy_13 : List UInt8 := dkwX9_copy_13 ++ dktX9_copy_14
def dkwX9_copy_12 : List UInt8 := [167, 255, 137, 3, 62, 29, 16, 80, 162, 0, 53, 42, 180, 0, 66, 16, 80, 27, 104, 29, 96, 42]
abbrev dktX9_copy_12 : List UInt8 := dkwX9_copy_12 ++ dktX9_copy_13
def dkwX9_copy_11 : List UInt8 := [180, 0, 72, 16, 8, 27, 104, 29, 96, 42, 180, 0, 72, 16, 8, 28, 104, 29, 96, 46, 79, 132, 3, 1]
abbrev dktX9_copy_11 : List UInt8 := dkwX9_copy_11 ++ dktX9_copy_12
def dkwX9_copy_10 : List UInt8 := [180, 0, 63, 16, 8, 27, 104, 29, 96, 42, 180, 0, 63, 16, 8, 28, 104, 29, 96, 46, 79, 42]
abbrev dktX9_copy_10 : List UInt8 := dkwX9_copy_10 ++ dktX9_copy_11
def dkwX9_copy_9 : List UInt8 := [180, 0, 60, 16, 8, 27, 104, 29, 96, 42, 180, 0, 60, 16, 8, 28, 104, 29, 96, 46, 79, 42]
abbrev dktX9_copy_9 : List UInt8 := dkwX9_copy_9 ++ dktX9_copy_10
def dkwX9_copy_8 : List UInt8 := [180, 0, 57, 16, 8, 27, 104, 29, 96, 42, 180, 0, 57, 16, 8, 28, 104, 29, 96, 46, 79, 42]
abbrev dktX9_copy_8 : List UInt8 := dkwX9_copy_8 ++ dktX9_copy_9
def dkwX9_copy_7 : List UInt8 := [42, 180, 0, 54, 16, 8, 27, 104, 29, 96, 42, 180, 0, 54, 16, 8, 28, 104, 29, 96, 46, 79, 42]
abbrev dktX9_copy_7 : List UInt8 := dkwX9_copy_7 ++ dktX9_copy_8
def dkwX9_copy_6 : List UInt8 := [180, 0, 51, 8, 28, 104, 29, 96, 46, 79, 132, 3, 1, 167, 255, 228, 3, 62, 29, 16, 8, 162, 0, 119]
abbrev dktX9_copy_6 : List UInt8 := dkwX9_copy_6 ++ dktX9_copy_7
def dkwX9_copy_5 : List UInt8 := [79, 132, 3, 1, 167, 255, 225, 3, 62, 29, 8, 162, 0, 29, 42, 180, 0, 51, 8, 27, 104, 29, 96, 42]
abbrev dktX9_copy_5 : List UInt8 := dkwX9_copy_5 ++ dktX9_copy_6
def dkwX9_copy_4 : List UInt8 := [162, 0, 31, 42, 180, 0, 36, 16, 120, 27, 104, 29, 96, 42, 180, 0, 36, 16, 120, 28, 104, 29, 96, 46]
abbrev dktX9_copy_4 : List UInt8 := dkwX9_copy_4 ++ dktX9_copy_5
def dkwX9_copy_3 : List UInt8 := [180, 0, 45, 28, 46, 79, 42, 180, 0, 48, 27, 42, 180, 0, 48, 28, 46, 79, 3, 62, 29, 16, 120]
abbrev dktX9_copy_3 : List UInt8 := dkwX9_copy_3 ++ dktX9_copy_4
def dkwX9_copy_2 : List UInt8 := [180, 0, 39, 28, 46, 79, 42, 180, 0, 42, 27, 42, 180, 0, 42, 28, 46, 79, 42, 180, 0, 45, 27, 42]
abbrev dktX9_copy_2 : List UInt8 := dkwX9_copy_2 ++ dktX9_copy_3
def dkwX9_copy_1 : List UInt8 := [156, 0, 6, 16, 254, 172, 42, 180, 0, 33, 27, 42, 180, 0, 33, 28, 46, 79, 42, 180, 0, 39, 27, 42]
abbrev dktX9_copy_1 : List UInt8 := dkwX9_copy_1 ++ dktX9_copy_2
def dkwX9_copy_0 : List UInt8 := [27, 184, 1, 31, 153, 0, 10, 28, 184, 1, 31, 154, 0, 5, 2, 172, 42, 180, 0, 33, 28, 46]
abbrev dktX9_copy_0 : List UInt8 := dkwX9_copy_0 ++ dktX9_copy_1
theorem dksX9_copy_0 : cX9_copy.data.toList.drop 0 = dktX9_copy_0 := by decide +kernel
theorem dksX9_copy_1 : cX9_copy.data.toList.drop 22 = dktX9_copy_1 := dk_seg dksX9_copy_0 22 rfl rfl
theorem dksX9_copy_2 : cX9_copy.data.toList.drop 46 = dktX9_copy_2 := dk_seg dksX9_copy_1 24 rfl rfl
theorem dksX9_copy_3 : cX9_copy.data.toList.drop 70 = dktX9_copy_3 := dk_seg dksX9_copy_2 24 rfl rfl
theorem dksX9_copy_4 : cX9_copy.data.toList.drop 93 = dktX9_copy_4 := dk_seg dksX9_copy_3 23 rfl rfl
theorem dksX9_copy_5 : cX9_copy.data.toList.drop 117 = dktX9_copy_5 := dk_seg dksX9_copy_4 24 rfl rfl
theorem dksX9_copy_6 : cX9_copy.data.toList.drop 141 = dktX9_copy_6 := dk_seg dksX9_copy_5 24 rfl rfl
theorem dksX9_copy_7 : cX9_copy.data.toList.drop 165 = dktX9_copy_7 := dk_seg dksX9_copy_6 24 rfl rfl
theorem dksX9_copy_8 : cX9_copy.data.toList.drop 188 = dktX9_copy_8 := dk_seg dksX9_copy_7 23 rfl rfl
theorem dksX9_copy_9 : cX9_copy.data.toList.drop 210 = dktX9_copy_9 := dk_seg dksX9_copy_8 22 rfl rfl
theorem dksX9_copy_10 : cX9_copy.data.toList.drop 232 = dktX9_copy_10 := dk_seg dksX9_copy_9 22 rfl rfl
theorem dksX9_copy_11 : cX9_copy.data.toList.drop 254 = dktX9_copy_11 := dk_seg dksX9_copy_10 22 rfl rfl
theorem dksX9_copy_12 : cX9_copy.data.toList.drop 278 = dktX9_copy_12 := dk_seg dksX9_copy_11 24 rfl rfl
theorem dksX9_copy_13 : cX9_copy.data.toList.drop 300 = dktX9_copy_13 := dk_seg dksX9_copy_12 22 rfl rfl
theorem dksX9_copy_14 : cX9_copy.data.toList.drop 322 = dktX9_copy_14 := dk_seg dksX9_copy_13 22 rfl rfl
theorem dX9_copy_0 : decode cX9_copy 0 = .ok (.iload_n 1, 1) := dk_27 (dk_at dksX9_copy_0 0 rfl rfl)
theorem dX9_copy_1 : decode cX9_copy 1 = .ok (.invokestatic 287, 3) := dk_184 1 31 (dk_at dksX9_copy_0 1 rfl rfl)
theorem dX9_copy_4 : decode cX9_copy 4 = .ok (.ifCond .eq 10, 3) := dk_153 0 10 (dk_at dksX9_copy_0 4 rfl rfl)
theorem dX9_copy_7 : decode cX9_copy 7 = .ok (.iload_n 2, 1) := dk_28 (dk_at dksX9_copy_0 7 rfl rfl)
theorem dX9_copy_8 : decode cX9_copy 8 = .ok (.invokestatic 287, 3) := dk_184 1 31 (dk_at dksX9_copy_0 8 rfl rfl)
theorem dX9_copy_11 : decode cX9_copy 11 = .ok (.ifCond .ne 5, 3) := dk_154 0 5 (dk_at dksX9_copy_0 11 rfl rfl)
theorem dX9_copy_14 : decode cX9_copy 14 = .ok (.iconst (-1), 1) := dk_2 (dk_at dksX9_copy_0 14 rfl rfl)
theorem dX9_copy_15 : decode cX9_copy 15 = .ok (.ireturn, 1) := dk_172 (dk_at dksX9_copy_0 15 rfl rfl)
theorem dX9_copy_16 : decode cX9_copy 16 = .ok (.aload_n 0, 1) := dk_42 (dk_at dksX9_copy_0 16 rfl rfl)
theorem dX9_copy_17 : decode cX9_copy 17 = .ok (.getfield 33, 3) := dk_180 0 33 (dk_at dksX9_copy_0 17 rfl rfl)
theorem dX9_copy_20 : decode cX9_copy 20 = .ok (.iload_n 2, 1) := dk_28 (dk_at dksX9_copy_0 20 rfl rfl)
theorem dX9_copy_21 : decode cX9_copy 21 = .ok (.iaload, 1) := dk_46 (dk_at dksX9_copy_0 21 rfl rfl)
theorem dX9_copy_22 : decode cX9_copy 22 = .ok (.ifCond .ge 6, 3) := dk_156 0 6 (dk_at dksX9_copy_1 0 rfl rfl)
theorem dX9_copy_25 : decode cX9_copy 25 = .ok (.bipush (-2), 2) := dk_16 254 (dk_at dksX9_copy_1 3 rfl rfl)
theorem dX9_copy_27 : decode cX9_copy 27 = .ok (.ireturn, 1) := dk_172 (dk_at dksX9_copy_1 5 rfl rfl)
theorem dX9_copy_28 : decode cX9_copy 28 = .ok (.aload_n 0, 1) := dk_42 (dk_at dksX9_copy_1 6 rfl rfl)
theorem dX9_copy_29 : decode cX9_copy 29 = .ok (.getfield 33, 3) := dk_180 0 33 (dk_at dksX9_copy_1 7 rfl rfl)
theorem dX9_copy_32 : decode cX9_copy 32 = .ok (.iload_n 1, 1) := dk_27 (dk_at dksX9_copy_1 10 rfl rfl)
theorem dX9_copy_33 : decode cX9_copy 33 = .ok (.aload_n 0, 1) := dk_42 (dk_at dksX9_copy_1 11 rfl rfl)
theorem dX9_copy_34 : decode cX9_copy 34 = .ok (.getfield 33, 3) := dk_180 0 33 (dk_at dksX9_copy_1 12 rfl rfl)
theorem dX9_copy_37 : decode cX9_copy 37 = .ok (.iload_n 2, 1) := dk_28 (dk_at dksX9_copy_1 15 rfl rfl)
theorem dX9_copy_38 : decode cX9_copy 38 = .ok (.iaload, 1) := dk_46 (dk_at dksX9_copy_1 16 rfl rfl)
theorem dX9_copy_39 : decode cX9_copy 39 = .ok (.iastore, 1) := dk_79 (dk_at dksX9_copy_1 17 rfl rfl)
theorem dX9_copy_40 : decode cX9_copy 40 = .ok (.aload_n 0, 1) := dk_42 (dk_at dksX9_copy_1 18 rfl rfl)
theorem dX9_copy_41 : decode cX9_copy 41 = .ok (.getfield 39, 3) := dk_180 0 39 (dk_at dksX9_copy_1 19 rfl rfl)
theorem dX9_copy_44 : decode cX9_copy 44 = .ok (.iload_n 1, 1) := dk_27 (dk_at dksX9_copy_1 22 rfl rfl)
theorem dX9_copy_45 : decode cX9_copy 45 = .ok (.aload_n 0, 1) := dk_42 (dk_at dksX9_copy_1 23 rfl rfl)
theorem dX9_copy_46 : decode cX9_copy 46 = .ok (.getfield 39, 3) := dk_180 0 39 (dk_at dksX9_copy_2 0 rfl rfl)
theorem dX9_copy_49 : decode cX9_copy 49 = .ok (.iload_n 2, 1) := dk_28 (dk_at dksX9_copy_2 3 rfl rfl)
theorem dX9_copy_50 : decode cX9_copy 50 = .ok (.iaload, 1) := dk_46 (dk_at dksX9_copy_2 4 rfl rfl)
theorem dX9_copy_51 : decode cX9_copy 51 = .ok (.iastore, 1) := dk_79 (dk_at dksX9_copy_2 5 rfl rfl)
theorem dX9_copy_52 : decode cX9_copy 52 = .ok (.aload_n 0, 1) := dk_42 (dk_at dksX9_copy_2 6 rfl rfl)
theorem dX9_copy_53 : decode cX9_copy 53 = .ok (.getfield 42, 3) := dk_180 0 42 (dk_at dksX9_copy_2 7 rfl rfl)
theorem dX9_copy_56 : decode cX9_copy 56 = .ok (.iload_n 1, 1) := dk_27 (dk_at dksX9_copy_2 10 rfl rfl)
theorem dX9_copy_57 : decode cX9_copy 57 = .ok (.aload_n 0, 1) := dk_42 (dk_at dksX9_copy_2 11 rfl rfl)
theorem dX9_copy_58 : decode cX9_copy 58 = .ok (.getfield 42, 3) := dk_180 0 42 (dk_at dksX9_copy_2 12 rfl rfl)
theorem dX9_copy_61 : decode cX9_copy 61 = .ok (.iload_n 2, 1) := dk_28 (dk_at dksX9_copy_2 15 rfl rfl)
theorem dX9_copy_62 : decode cX9_copy 62 = .ok (.iaload, 1) := dk_46 (dk_at dksX9_copy_2 16 rfl rfl)
theorem dX9_copy_63 : decode cX9_copy 63 = .ok (.iastore, 1) := dk_79 (dk_at dksX9_copy_2 17 rfl rfl)
theorem dX9_copy_64 : decode cX9_copy 64 = .ok (.aload_n 0, 1) := dk_42 (dk_at dksX9_copy_2 18 rfl rfl)
theorem dX9_copy_65 : decode cX9_copy 65 = .ok (.getfield 45, 3) := dk_180 0 45 (dk_at dksX9_copy_2 19 rfl rfl)
theorem dX9_copy_68 : decode cX9_copy 68 = .ok (.iload_n 1, 1) := dk_27 (dk_at dksX9_copy_2 22 rfl rfl)
theorem dX9_copy_69 : decode cX9_copy 69 = .ok (.aload_n 0, 1) := dk_42 (dk_at dksX9_copy_2 23 rfl rfl)
theorem dX9_copy_70 : decode cX9_copy 70 = .ok (.getfield 45, 3) := dk_180 0 45 (dk_at dksX9_copy_3 0 rfl rfl)
theorem dX9_copy_73 : decode cX9_copy 73 = .ok (.iload_n 2, 1) := dk_28 (dk_at dksX9_copy_3 3 rfl rfl)
theorem dX9_copy_74 : decode cX9_copy 74 = .ok (.iaload, 1) := dk_46 (dk_at dksX9_copy_3 4 rfl rfl)
theorem dX9_copy_75 : decode cX9_copy 75 = .ok (.iastore, 1) := dk_79 (dk_at dksX9_copy_3 5 rfl rfl)
theorem dX9_copy_76 : decode cX9_copy 76 = .ok (.aload_n 0, 1) := dk_42 (dk_at dksX9_copy_3 6 rfl rfl)
theorem dX9_copy_77 : decode cX9_copy 77 = .ok (.getfield 48, 3) := dk_180 0 48 (dk_at dksX9_copy_3 7 rfl rfl)
theorem dX9_copy_80 : decode cX9_copy 80 = .ok (.iload_n 1, 1) := dk_27 (dk_at dksX9_copy_3 10 rfl rfl)
theorem dX9_copy_81 : decode cX9_copy 81 = .ok (.aload_n 0, 1) := dk_42 (dk_at dksX9_copy_3 11 rfl rfl)
theorem dX9_copy_82 : decode cX9_copy 82 = .ok (.getfield 48, 3) := dk_180 0 48 (dk_at dksX9_copy_3 12 rfl rfl)
theorem dX9_copy_85 : decode cX9_copy 85 = .ok (.iload_n 2, 1) := dk_28 (dk_at dksX9_copy_3 15 rfl rfl)
theorem dX9_copy_86 : decode cX9_copy 86 = .ok (.iaload, 1) := dk_46 (dk_at dksX9_copy_3 16 rfl rfl)
theorem dX9_copy_87 : decode cX9_copy 87 = .ok (.iastore, 1) := dk_79 (dk_at dksX9_copy_3 17 rfl rfl)
theorem dX9_copy_88 : decode cX9_copy 88 = .ok (.iconst 0, 1) := dk_3 (dk_at dksX9_copy_3 18 rfl rfl)
theorem dX9_copy_89 : decode cX9_copy 89 = .ok (.istore_n 3, 1) := dk_62 (dk_at dksX9_copy_3 19 rfl rfl)
theorem dX9_copy_90 : decode cX9_copy 90 = .ok (.iload_n 3, 1) := dk_29 (dk_at dksX9_copy_3 20 rfl rfl)
theorem dX9_copy_91 : decode cX9_copy 91 = .ok (.bipush 120, 2) := dk_16 120 (dk_at dksX9_copy_3 21 rfl rfl)
theorem dX9_copy_93 : decode cX9_copy 93 = .ok (.if_icmp .ge 31, 3) := dk_162 0 31 (dk_at dksX9_copy_4 0 rfl rfl)
theorem dX9_copy_96 : decode cX9_copy 96 = .ok (.aload_n 0, 1) := dk_42 (dk_at dksX9_copy_4 3 rfl rfl)
theorem dX9_copy_97 : decode cX9_copy 97 = .ok (.getfield 36, 3) := dk_180 0 36 (dk_at dksX9_copy_4 4 rfl rfl)
theorem dX9_copy_100 : decode cX9_copy 100 = .ok (.bipush 120, 2) := dk_16 120 (dk_at dksX9_copy_4 7 rfl rfl)
theorem dX9_copy_102 : decode cX9_copy 102 = .ok (.iload_n 1, 1) := dk_27 (dk_at dksX9_copy_4 9 rfl rfl)
theorem dX9_copy_103 : decode cX9_copy 103 = .ok (.imul, 1) := dk_104 (dk_at dksX9_copy_4 10 rfl rfl)
theorem dX9_copy_104 : decode cX9_copy 104 = .ok (.iload_n 3, 1) := dk_29 (dk_at dksX9_copy_4 11 rfl rfl)
theorem dX9_copy_105 : decode cX9_copy 105 = .ok (.iadd, 1) := dk_96 (dk_at dksX9_copy_4 12 rfl rfl)
theorem dX9_copy_106 : decode cX9_copy 106 = .ok (.aload_n 0, 1) := dk_42 (dk_at dksX9_copy_4 13 rfl rfl)
theorem dX9_copy_107 : decode cX9_copy 107 = .ok (.getfield 36, 3) := dk_180 0 36 (dk_at dksX9_copy_4 14 rfl rfl)
theorem dX9_copy_110 : decode cX9_copy 110 = .ok (.bipush 120, 2) := dk_16 120 (dk_at dksX9_copy_4 17 rfl rfl)
theorem dX9_copy_112 : decode cX9_copy 112 = .ok (.iload_n 2, 1) := dk_28 (dk_at dksX9_copy_4 19 rfl rfl)
theorem dX9_copy_113 : decode cX9_copy 113 = .ok (.imul, 1) := dk_104 (dk_at dksX9_copy_4 20 rfl rfl)
theorem dX9_copy_114 : decode cX9_copy 114 = .ok (.iload_n 3, 1) := dk_29 (dk_at dksX9_copy_4 21 rfl rfl)
theorem dX9_copy_115 : decode cX9_copy 115 = .ok (.iadd, 1) := dk_96 (dk_at dksX9_copy_4 22 rfl rfl)
theorem dX9_copy_116 : decode cX9_copy 116 = .ok (.iaload, 1) := dk_46 (dk_at dksX9_copy_4 23 rfl rfl)
theorem dX9_copy_117 : decode cX9_copy 117 = .ok (.iastore, 1) := dk_79 (dk_at dksX9_copy_5 0 rfl rfl)
theorem dX9_copy_118 : decode cX9_copy 118 = .ok (.iinc 3 1, 3) := dk_132 3 1 (dk_at dksX9_copy_5 1 rfl rfl)
theorem dX9_copy_121 : decode cX9_copy 121 = .ok (.goto (-31), 3) := dk_167 255 225 (dk_at dksX9_copy_5 4 rfl rfl)
theorem dX9_copy_124 : decode cX9_copy 124 = .ok (.iconst 0, 1) := dk_3 (dk_at dksX9_copy_5 7 rfl rfl)
theorem dX9_copy_125 : decode cX9_copy 125 = .ok (.istore_n 3, 1) := dk_62 (dk_at dksX9_copy_5 8 rfl rfl)
theorem dX9_copy_126 : decode cX9_copy 126 = .ok (.iload_n 3, 1) := dk_29 (dk_at dksX9_copy_5 9 rfl rfl)
theorem dX9_copy_127 : decode cX9_copy 127 = .ok (.iconst 5, 1) := dk_8 (dk_at dksX9_copy_5 10 rfl rfl)
theorem dX9_copy_128 : decode cX9_copy 128 = .ok (.if_icmp .ge 29, 3) := dk_162 0 29 (dk_at dksX9_copy_5 11 rfl rfl)
theorem dX9_copy_131 : decode cX9_copy 131 = .ok (.aload_n 0, 1) := dk_42 (dk_at dksX9_copy_5 14 rfl rfl)
theorem dX9_copy_132 : decode cX9_copy 132 = .ok (.getfield 51, 3) := dk_180 0 51 (dk_at dksX9_copy_5 15 rfl rfl)
theorem dX9_copy_135 : decode cX9_copy 135 = .ok (.iconst 5, 1) := dk_8 (dk_at dksX9_copy_5 18 rfl rfl)
theorem dX9_copy_136 : decode cX9_copy 136 = .ok (.iload_n 1, 1) := dk_27 (dk_at dksX9_copy_5 19 rfl rfl)
theorem dX9_copy_137 : decode cX9_copy 137 = .ok (.imul, 1) := dk_104 (dk_at dksX9_copy_5 20 rfl rfl)
theorem dX9_copy_138 : decode cX9_copy 138 = .ok (.iload_n 3, 1) := dk_29 (dk_at dksX9_copy_5 21 rfl rfl)
theorem dX9_copy_139 : decode cX9_copy 139 = .ok (.iadd, 1) := dk_96 (dk_at dksX9_copy_5 22 rfl rfl)
theorem dX9_copy_140 : decode cX9_copy 140 = .ok (.aload_n 0, 1) := dk_42 (dk_at dksX9_copy_5 23 rfl rfl)
theorem dX9_copy_141 : decode cX9_copy 141 = .ok (.getfield 51, 3) := dk_180 0 51 (dk_at dksX9_copy_6 0 rfl rfl)
theorem dX9_copy_144 : decode cX9_copy 144 = .ok (.iconst 5, 1) := dk_8 (dk_at dksX9_copy_6 3 rfl rfl)
theorem dX9_copy_145 : decode cX9_copy 145 = .ok (.iload_n 2, 1) := dk_28 (dk_at dksX9_copy_6 4 rfl rfl)
theorem dX9_copy_146 : decode cX9_copy 146 = .ok (.imul, 1) := dk_104 (dk_at dksX9_copy_6 5 rfl rfl)
theorem dX9_copy_147 : decode cX9_copy 147 = .ok (.iload_n 3, 1) := dk_29 (dk_at dksX9_copy_6 6 rfl rfl)
theorem dX9_copy_148 : decode cX9_copy 148 = .ok (.iadd, 1) := dk_96 (dk_at dksX9_copy_6 7 rfl rfl)
theorem dX9_copy_149 : decode cX9_copy 149 = .ok (.iaload, 1) := dk_46 (dk_at dksX9_copy_6 8 rfl rfl)
theorem dX9_copy_150 : decode cX9_copy 150 = .ok (.iastore, 1) := dk_79 (dk_at dksX9_copy_6 9 rfl rfl)
theorem dX9_copy_151 : decode cX9_copy 151 = .ok (.iinc 3 1, 3) := dk_132 3 1 (dk_at dksX9_copy_6 10 rfl rfl)
theorem dX9_copy_154 : decode cX9_copy 154 = .ok (.goto (-28), 3) := dk_167 255 228 (dk_at dksX9_copy_6 13 rfl rfl)
theorem dX9_copy_157 : decode cX9_copy 157 = .ok (.iconst 0, 1) := dk_3 (dk_at dksX9_copy_6 16 rfl rfl)
theorem dX9_copy_158 : decode cX9_copy 158 = .ok (.istore_n 3, 1) := dk_62 (dk_at dksX9_copy_6 17 rfl rfl)
theorem dX9_copy_159 : decode cX9_copy 159 = .ok (.iload_n 3, 1) := dk_29 (dk_at dksX9_copy_6 18 rfl rfl)
theorem dX9_copy_160 : decode cX9_copy 160 = .ok (.bipush 8, 2) := dk_16 8 (dk_at dksX9_copy_6 19 rfl rfl)
theorem dX9_copy_162 : decode cX9_copy 162 = .ok (.if_icmp .ge 119, 3) := dk_162 0 119 (dk_at dksX9_copy_6 21 rfl rfl)
theorem dX9_copy_165 : decode cX9_copy 165 = .ok (.aload_n 0, 1) := dk_42 (dk_at dksX9_copy_7 0 rfl rfl)
theorem dX9_copy_166 : decode cX9_copy 166 = .ok (.getfield 54, 3) := dk_180 0 54 (dk_at dksX9_copy_7 1 rfl rfl)
theorem dX9_copy_169 : decode cX9_copy 169 = .ok (.bipush 8, 2) := dk_16 8 (dk_at dksX9_copy_7 4 rfl rfl)
theorem dX9_copy_171 : decode cX9_copy 171 = .ok (.iload_n 1, 1) := dk_27 (dk_at dksX9_copy_7 6 rfl rfl)
theorem dX9_copy_172 : decode cX9_copy 172 = .ok (.imul, 1) := dk_104 (dk_at dksX9_copy_7 7 rfl rfl)
theorem dX9_copy_173 : decode cX9_copy 173 = .ok (.iload_n 3, 1) := dk_29 (dk_at dksX9_copy_7 8 rfl rfl)
theorem dX9_copy_174 : decode cX9_copy 174 = .ok (.iadd, 1) := dk_96 (dk_at dksX9_copy_7 9 rfl rfl)
theorem dX9_copy_175 : decode cX9_copy 175 = .ok (.aload_n 0, 1) := dk_42 (dk_at dksX9_copy_7 10 rfl rfl)
theorem dX9_copy_176 : decode cX9_copy 176 = .ok (.getfield 54, 3) := dk_180 0 54 (dk_at dksX9_copy_7 11 rfl rfl)
theorem dX9_copy_179 : decode cX9_copy 179 = .ok (.bipush 8, 2) := dk_16 8 (dk_at dksX9_copy_7 14 rfl rfl)
theorem dX9_copy_181 : decode cX9_copy 181 = .ok (.iload_n 2, 1) := dk_28 (dk_at dksX9_copy_7 16 rfl rfl)
theorem dX9_copy_182 : decode cX9_copy 182 = .ok (.imul, 1) := dk_104 (dk_at dksX9_copy_7 17 rfl rfl)
theorem dX9_copy_183 : decode cX9_copy 183 = .ok (.iload_n 3, 1) := dk_29 (dk_at dksX9_copy_7 18 rfl rfl)
theorem dX9_copy_184 : decode cX9_copy 184 = .ok (.iadd, 1) := dk_96 (dk_at dksX9_copy_7 19 rfl rfl)
theorem dX9_copy_185 : decode cX9_copy 185 = .ok (.iaload, 1) := dk_46 (dk_at dksX9_copy_7 20 rfl rfl)
theorem dX9_copy_186 : decode cX9_copy 186 = .ok (.iastore, 1) := dk_79 (dk_at dksX9_copy_7 21 rfl rfl)
theorem dX9_copy_187 : decode cX9_copy 187 = .ok (.aload_n 0, 1) := dk_42 (dk_at dksX9_copy_7 22 rfl rfl)
theorem dX9_copy_188 : decode cX9_copy 188 = .ok (.getfield 57, 3) := dk_180 0 57 (dk_at dksX9_copy_8 0 rfl rfl)
theorem dX9_copy_191 : decode cX9_copy 191 = .ok (.bipush 8, 2) := dk_16 8 (dk_at dksX9_copy_8 3 rfl rfl)
theorem dX9_copy_193 : decode cX9_copy 193 = .ok (.iload_n 1, 1) := dk_27 (dk_at dksX9_copy_8 5 rfl rfl)
theorem dX9_copy_194 : decode cX9_copy 194 = .ok (.imul, 1) := dk_104 (dk_at dksX9_copy_8 6 rfl rfl)
theorem dX9_copy_195 : decode cX9_copy 195 = .ok (.iload_n 3, 1) := dk_29 (dk_at dksX9_copy_8 7 rfl rfl)
theorem dX9_copy_196 : decode cX9_copy 196 = .ok (.iadd, 1) := dk_96 (dk_at dksX9_copy_8 8 rfl rfl)
theorem dX9_copy_197 : decode cX9_copy 197 = .ok (.aload_n 0, 1) := dk_42 (dk_at dksX9_copy_8 9 rfl rfl)
theorem dX9_copy_198 : decode cX9_copy 198 = .ok (.getfield 57, 3) := dk_180 0 57 (dk_at dksX9_copy_8 10 rfl rfl)
theorem dX9_copy_201 : decode cX9_copy 201 = .ok (.bipush 8, 2) := dk_16 8 (dk_at dksX9_copy_8 13 rfl rfl)
theorem dX9_copy_203 : decode cX9_copy 203 = .ok (.iload_n 2, 1) := dk_28 (dk_at dksX9_copy_8 15 rfl rfl)
theorem dX9_copy_204 : decode cX9_copy 204 = .ok (.imul, 1) := dk_104 (dk_at dksX9_copy_8 16 rfl rfl)
theorem dX9_copy_205 : decode cX9_copy 205 = .ok (.iload_n 3, 1) := dk_29 (dk_at dksX9_copy_8 17 rfl rfl)
theorem dX9_copy_206 : decode cX9_copy 206 = .ok (.iadd, 1) := dk_96 (dk_at dksX9_copy_8 18 rfl rfl)
theorem dX9_copy_207 : decode cX9_copy 207 = .ok (.iaload, 1) := dk_46 (dk_at dksX9_copy_8 19 rfl rfl)
theorem dX9_copy_208 : decode cX9_copy 208 = .ok (.iastore, 1) := dk_79 (dk_at dksX9_copy_8 20 rfl rfl)
theorem dX9_copy_209 : decode cX9_copy 209 = .ok (.aload_n 0, 1) := dk_42 (dk_at dksX9_copy_8 21 rfl rfl)
theorem dX9_copy_210 : decode cX9_copy 210 = .ok (.getfield 60, 3) := dk_180 0 60 (dk_at dksX9_copy_9 0 rfl rfl)
theorem dX9_copy_213 : decode cX9_copy 213 = .ok (.bipush 8, 2) := dk_16 8 (dk_at dksX9_copy_9 3 rfl rfl)
theorem dX9_copy_215 : decode cX9_copy 215 = .ok (.iload_n 1, 1) := dk_27 (dk_at dksX9_copy_9 5 rfl rfl)
theorem dX9_copy_216 : decode cX9_copy 216 = .ok (.imul, 1) := dk_104 (dk_at dksX9_copy_9 6 rfl rfl)
theorem dX9_copy_217 : decode cX9_copy 217 = .ok (.iload_n 3, 1) := dk_29 (dk_at dksX9_copy_9 7 rfl rfl)
theorem dX9_copy_218 : decode cX9_copy 218 = .ok (.iadd, 1) := dk_96 (dk_at dksX9_copy_9 8 rfl rfl)
theorem dX9_copy_219 : decode cX9_copy 219 = .ok (.aload_n 0, 1) := dk_42 (dk_at dksX9_copy_9 9 rfl rfl)
theorem dX9_copy_220 : decode cX9_copy 220 = .ok (.getfield 60, 3) := dk_180 0 60 (dk_at dksX9_copy_9 10 rfl rfl)
theorem dX9_copy_223 : decode cX9_copy 223 = .ok (.bipush 8, 2) := dk_16 8 (dk_at dksX9_copy_9 13 rfl rfl)
theorem dX9_copy_225 : decode cX9_copy 225 = .ok (.iload_n 2, 1) := dk_28 (dk_at dksX9_copy_9 15 rfl rfl)
theorem dX9_copy_226 : decode cX9_copy 226 = .ok (.imul, 1) := dk_104 (dk_at dksX9_copy_9 16 rfl rfl)
theorem dX9_copy_227 : decode cX9_copy 227 = .ok (.iload_n 3, 1) := dk_29 (dk_at dksX9_copy_9 17 rfl rfl)
theorem dX9_copy_228 : decode cX9_copy 228 = .ok (.iadd, 1) := dk_96 (dk_at dksX9_copy_9 18 rfl rfl)
theorem dX9_copy_229 : decode cX9_copy 229 = .ok (.iaload, 1) := dk_46 (dk_at dksX9_copy_9 19 rfl rfl)
theorem dX9_copy_230 : decode cX9_copy 230 = .ok (.iastore, 1) := dk_79 (dk_at dksX9_copy_9 20 rfl rfl)
theorem dX9_copy_231 : decode cX9_copy 231 = .ok (.aload_n 0, 1) := dk_42 (dk_at dksX9_copy_9 21 rfl rfl)
theorem dX9_copy_232 : decode cX9_copy 232 = .ok (.getfield 63, 3) := dk_180 0 63 (dk_at dksX9_copy_10 0 rfl rfl)
theorem dX9_copy_235 : decode cX9_copy 235 = .ok (.bipush 8, 2) := dk_16 8 (dk_at dksX9_copy_10 3 rfl rfl)
theorem dX9_copy_237 : decode cX9_copy 237 = .ok (.iload_n 1, 1) := dk_27 (dk_at dksX9_copy_10 5 rfl rfl)
theorem dX9_copy_238 : decode cX9_copy 238 = .ok (.imul, 1) := dk_104 (dk_at dksX9_copy_10 6 rfl rfl)
theorem dX9_copy_239 : decode cX9_copy 239 = .ok (.iload_n 3, 1) := dk_29 (dk_at dksX9_copy_10 7 rfl rfl)
theorem dX9_copy_240 : decode cX9_copy 240 = .ok (.iadd, 1) := dk_96 (dk_at dksX9_copy_10 8 rfl rfl)
theorem dX9_copy_241 : decode cX9_copy 241 = .ok (.aload_n 0, 1) := dk_42 (dk_at dksX9_copy_10 9 rfl rfl)
theorem dX9_copy_242 : decode cX9_copy 242 = .ok (.getfield 63, 3) := dk_180 0 63 (dk_at dksX9_copy_10 10 rfl rfl)
theorem dX9_copy_245 : decode cX9_copy 245 = .ok (.bipush 8, 2) := dk_16 8 (dk_at dksX9_copy_10 13 rfl rfl)
theorem dX9_copy_247 : decode cX9_copy 247 = .ok (.iload_n 2, 1) := dk_28 (dk_at dksX9_copy_10 15 rfl rfl)
theorem dX9_copy_248 : decode cX9_copy 248 = .ok (.imul, 1) := dk_104 (dk_at dksX9_copy_10 16 rfl rfl)
theorem dX9_copy_249 : decode cX9_copy 249 = .ok (.iload_n 3, 1) := dk_29 (dk_at dksX9_copy_10 17 rfl rfl)
theorem dX9_copy_250 : decode cX9_copy 250 = .ok (.iadd, 1) := dk_96 (dk_at dksX9_copy_10 18 rfl rfl)
theorem dX9_copy_251 : decode cX9_copy 251 = .ok (.iaload, 1) := dk_46 (dk_at dksX9_copy_10 19 rfl rfl)
theorem dX9_copy_252 : decode cX9_copy 252 = .ok (.iastore, 1) := dk_79 (dk_at dksX9_copy_10 20 rfl rfl)
theorem dX9_copy_253 : decode cX9_copy 253 = .ok (.aload_n 0, 1) := dk_42 (dk_at dksX9_copy_10 21 rfl rfl)
theorem dX9_copy_254 : decode cX9_copy 254 = .ok (.getfield 72, 3) := dk_180 0 72 (dk_at dksX9_copy_11 0 rfl rfl)
theorem dX9_copy_257 : decode cX9_copy 257 = .ok (.bipush 8, 2) := dk_16 8 (dk_at dksX9_copy_11 3 rfl rfl)
theorem dX9_copy_259 : decode cX9_copy 259 = .ok (.iload_n 1, 1) := dk_27 (dk_at dksX9_copy_11 5 rfl rfl)
theorem dX9_copy_260 : decode cX9_copy 260 = .ok (.imul, 1) := dk_104 (dk_at dksX9_copy_11 6 rfl rfl)
theorem dX9_copy_261 : decode cX9_copy 261 = .ok (.iload_n 3, 1) := dk_29 (dk_at dksX9_copy_11 7 rfl rfl)
theorem dX9_copy_262 : decode cX9_copy 262 = .ok (.iadd, 1) := dk_96 (dk_at dksX9_copy_11 8 rfl rfl)
theorem dX9_copy_263 : decode cX9_copy 263 = .ok (.aload_n 0, 1) := dk_42 (dk_at dksX9_copy_11 9 rfl rfl)
theorem dX9_copy_264 : decode cX9_copy 264 = .ok (.getfield 72, 3) := dk_180 0 72 (dk_at dksX9_copy_11 10 rfl rfl)
theorem dX9_copy_267 : decode cX9_copy 267 = .ok (.bipush 8, 2) := dk_16 8 (dk_at dksX9_copy_11 13 rfl rfl)
theorem dX9_copy_269 : decode cX9_copy 269 = .ok (.iload_n 2, 1) := dk_28 (dk_at dksX9_copy_11 15 rfl rfl)
theorem dX9_copy_270 : decode cX9_copy 270 = .ok (.imul, 1) := dk_104 (dk_at dksX9_copy_11 16 rfl rfl)
theorem dX9_copy_271 : decode cX9_copy 271 = .ok (.iload_n 3, 1) := dk_29 (dk_at dksX9_copy_11 17 rfl rfl)
theorem dX9_copy_272 : decode cX9_copy 272 = .ok (.iadd, 1) := dk_96 (dk_at dksX9_copy_11 18 rfl rfl)
theorem dX9_copy_273 : decode cX9_copy 273 = .ok (.iaload, 1) := dk_46 (dk_at dksX9_copy_11 19 rfl rfl)
theorem dX9_copy_274 : decode cX9_copy 274 = .ok (.iastore, 1) := dk_79 (dk_at dksX9_copy_11 20 rfl rfl)
theorem dX9_copy_275 : decode cX9_copy 275 = .ok (.iinc 3 1, 3) := dk_132 3 1 (dk_at dksX9_copy_11 21 rfl rfl)
theorem dX9_copy_278 : decode cX9_copy 278 = .ok (.goto (-119), 3) := dk_167 255 137 (dk_at dksX9_copy_12 0 rfl rfl)
theorem dX9_copy_281 : decode cX9_copy 281 = .ok (.iconst 0, 1) := dk_3 (dk_at dksX9_copy_12 3 rfl rfl)
theorem dX9_copy_282 : decode cX9_copy 282 = .ok (.istore_n 3, 1) := dk_62 (dk_at dksX9_copy_12 4 rfl rfl)
theorem dX9_copy_283 : decode cX9_copy 283 = .ok (.iload_n 3, 1) := dk_29 (dk_at dksX9_copy_12 5 rfl rfl)
theorem dX9_copy_284 : decode cX9_copy 284 = .ok (.bipush 80, 2) := dk_16 80 (dk_at dksX9_copy_12 6 rfl rfl)
theorem dX9_copy_286 : decode cX9_copy 286 = .ok (.if_icmp .ge 53, 3) := dk_162 0 53 (dk_at dksX9_copy_12 8 rfl rfl)
theorem dX9_copy_289 : decode cX9_copy 289 = .ok (.aload_n 0, 1) := dk_42 (dk_at dksX9_copy_12 11 rfl rfl)
theorem dX9_copy_290 : decode cX9_copy 290 = .ok (.getfield 66, 3) := dk_180 0 66 (dk_at dksX9_copy_12 12 rfl rfl)
theorem dX9_copy_293 : decode cX9_copy 293 = .ok (.bipush 80, 2) := dk_16 80 (dk_at dksX9_copy_12 15 rfl rfl)
theorem dX9_copy_295 : decode cX9_copy 295 = .ok (.iload_n 1, 1) := dk_27 (dk_at dksX9_copy_12 17 rfl rfl)
theorem dX9_copy_296 : decode cX9_copy 296 = .ok (.imul, 1) := dk_104 (dk_at dksX9_copy_12 18 rfl rfl)
theorem dX9_copy_297 : decode cX9_copy 297 = .ok (.iload_n 3, 1) := dk_29 (dk_at dksX9_copy_12 19 rfl rfl)
theorem dX9_copy_298 : decode cX9_copy 298 = .ok (.iadd, 1) := dk_96 (dk_at dksX9_copy_12 20 rfl rfl)
theorem dX9_copy_299 : decode cX9_copy 299 = .ok (.aload_n 0, 1) := dk_42 (dk_at dksX9_copy_12 21 rfl rfl)
theorem dX9_copy_300 : decode cX9_copy 300 = .ok (.getfield 66, 3) := dk_180 0 66 (dk_at dksX9_copy_13 0 rfl rfl)
theorem dX9_copy_303 : decode cX9_copy 303 = .ok (.bipush 80, 2) := dk_16 80 (dk_at dksX9_copy_13 3 rfl rfl)
theorem dX9_copy_305 : decode cX9_copy 305 = .ok (.iload_n 2, 1) := dk_28 (dk_at dksX9_copy_13 5 rfl rfl)
theorem dX9_copy_306 : decode cX9_copy 306 = .ok (.imul, 1) := dk_104 (dk_at dksX9_copy_13 6 rfl rfl)
theorem dX9_copy_307 : decode cX9_copy 307 = .ok (.iload_n 3, 1) := dk_29 (dk_at dksX9_copy_13 7 rfl rfl)
theorem dX9_copy_308 : decode cX9_copy 308 = .ok (.iadd, 1) := dk_96 (dk_at dksX9_copy_13 8 rfl rfl)
theorem dX9_copy_309 : decode cX9_copy 309 = .ok (.iaload, 1) := dk_46 (dk_at dksX9_copy_13 9 rfl rfl)
theorem dX9_copy_310 : decode cX9_copy 310 = .ok (.iastore, 1) := dk_79 (dk_at dksX9_copy_13 10 rfl rfl)
theorem dX9_copy_311 : decode cX9_copy 311 = .ok (.aload_n 0, 1) := dk_42 (dk_at dksX9_copy_13 11 rfl rfl)
theorem dX9_copy_312 : decode cX9_copy 312 = .ok (.getfield 69, 3) := dk_180 0 69 (dk_at dksX9_copy_13 12 rfl rfl)
theorem dX9_copy_315 : decode cX9_copy 315 = .ok (.bipush 80, 2) := dk_16 80 (dk_at dksX9_copy_13 15 rfl rfl)
theorem dX9_copy_317 : decode cX9_copy 317 = .ok (.iload_n 1, 1) := dk_27 (dk_at dksX9_copy_13 17 rfl rfl)
theorem dX9_copy_318 : decode cX9_copy 318 = .ok (.imul, 1) := dk_104 (dk_at dksX9_copy_13 18 rfl rfl)
theorem dX9_copy_319 : decode cX9_copy 319 = .ok (.iload_n 3, 1) := dk_29 (dk_at dksX9_copy_13 19 rfl rfl)
theorem dX9_copy_320 : decode cX9_copy 320 = .ok (.iadd, 1) := dk_96 (dk_at dksX9_copy_13 20 rfl rfl)
theorem dX9_copy_321 : decode cX9_copy 321 = .ok (.aload_n 0, 1) := dk_42 (dk_at dksX9_copy_13 21 rfl rfl)
theorem dX9_copy_322 : decode cX9_copy 322 = .ok (.getfield 69, 3) := dk_180 0 69 (dk_at dksX9_copy_14 0 rfl rfl)
theorem dX9_copy_325 : decode cX9_copy 325 = .ok (.bipush 80, 2) := dk_16 80 (dk_at dksX9_copy_14 3 rfl rfl)
theorem dX9_copy_327 : decode cX9_copy 327 = .ok (.iload_n 2, 1) := dk_28 (dk_at dksX9_copy_14 5 rfl rfl)
theorem dX9_copy_328 : decode cX9_copy 328 = .ok (.imul, 1) := dk_104 (dk_at dksX9_copy_14 6 rfl rfl)
theorem dX9_copy_329 : decode cX9_copy 329 = .ok (.iload_n 3, 1) := dk_29 (dk_at dksX9_copy_14 7 rfl rfl)
theorem dX9_copy_330 : decode cX9_copy 330 = .ok (.iadd, 1) := dk_96 (dk_at dksX9_copy_14 8 rfl rfl)
theorem dX9_copy_331 : decode cX9_copy 331 = .ok (.iaload, 1) := dk_46 (dk_at dksX9_copy_14 9 rfl rfl)
theorem dX9_copy_332 : decode cX9_copy 332 = .ok (.iastore, 1) := dk_79 (dk_at dksX9_copy_14 10 rfl rfl)
theorem dX9_copy_333 : decode cX9_copy 333 = .ok (.iinc 3 1, 3) := dk_132 3 1 (dk_at dksX9_copy_14 11 rfl rfl)
theorem dX9_copy_336 : decode cX9_copy 336 = .ok (.goto (-53), 3) := dk_167 255 203 (dk_at dksX9_copy_14 14 rfl rfl)
theorem dX9_copy_339 : decode cX9_copy 339 = .ok (.aload_n 0, 1) := dk_42 (dk_at dksX9_copy_14 17 rfl rfl)
theorem dX9_copy_340 : decode cX9_copy 340 = .ok (.getfield 39, 3) := dk_180 0 39 (dk_at dksX9_copy_14 18 rfl rfl)
theorem dX9_copy_343 : decode cX9_copy 343 = .ok (.iload_n 1, 1) := dk_27 (dk_at dksX9_copy_14 21 rfl rfl)
theorem dX9_copy_344 : decode cX9_copy 344 = .ok (.iaload, 1) := dk_46 (dk_at dksX9_copy_14 22 rfl rfl)
theorem dX9_copy_345 : decode cX9_copy 345 = .ok (.ireturn, 1) := dk_172 (dk_at dksX9_copy_14 23 rfl rfl)
abbrev cX9_told : ByteArray := prog_31_method_32_code
def yX9_told : MethodName := ⟨RX9, "told", "(II)I"⟩
def dkwX9_told_3 : List UInt8 := [46, 167, 0, 9, 42, 180, 0, 48, 27, 46, 172]
abbrev dktX9_told_3 : List UInt8 := dkwX9_told_3 ++ []
def dkwX9_told_2 : List UInt8 := [28, 4, 160, 0, 12, 42, 180, 0, 42, 27, 46, 167, 0, 23, 28, 5, 160, 0, 12, 42, 180, 0, 45, 27]
abbrev dktX9_told_2 : List UInt8 := dkwX9_told_2 ++ dktX9_told_3
def dkwX9_told_1 : List UInt8 := [180, 0, 33, 27, 46, 156, 0, 6, 16, 254, 172, 28, 154, 0, 12, 42, 180, 0, 39, 27, 46, 167, 0, 37]
abbrev dktX9_told_1 : List UInt8 := dkwX9_told_1 ++ dktX9_told_2
def dkwX9_told_0 : List UInt8 := [27, 184, 1, 31, 153, 0, 15, 28, 133, 9, 20, 0, 173, 184, 0, 143, 154, 0, 5, 2, 172, 42]
abbrev dktX9_told_0 : List UInt8 := dkwX9_told_0 ++ dktX9_told_1
theorem dksX9_told_0 : cX9_told.data.toList.drop 0 = dktX9_told_0 := by decide +kernel
theorem dksX9_told_1 : cX9_told.data.toList.drop 22 = dktX9_told_1 := dk_seg dksX9_told_0 22 rfl rfl
theorem dksX9_told_2 : cX9_told.data.toList.drop 46 = dktX9_told_2 := dk_seg dksX9_told_1 24 rfl rfl
theorem dksX9_told_3 : cX9_told.data.toList.drop 70 = dktX9_told_3 := dk_seg dksX9_told_2 24 rfl rfl
theorem dX9_told_0 : decode cX9_told 0 = .ok (.iload_n 1, 1) := dk_27 (dk_at dksX9_told_0 0 rfl rfl)
theorem dX9_told_1 : decode cX9_told 1 = .ok (.invokestatic 287, 3) := dk_184 1 31 (dk_at dksX9_told_0 1 rfl rfl)
theorem dX9_told_4 : decode cX9_told 4 = .ok (.ifCond .eq 15, 3) := dk_153 0 15 (dk_at dksX9_told_0 4 rfl rfl)
theorem dX9_told_7 : decode cX9_told 7 = .ok (.iload_n 2, 1) := dk_28 (dk_at dksX9_told_0 7 rfl rfl)
theorem dX9_told_8 : decode cX9_told 8 = .ok (.i2l, 1) := dk_133 (dk_at dksX9_told_0 8 rfl rfl)
theorem dX9_told_9 : decode cX9_told 9 = .ok (.lconst 0, 1) := dk_9 (dk_at dksX9_told_0 9 rfl rfl)
theorem dX9_told_10 : decode cX9_told 10 = .ok (.ldc2_w 173, 3) := dk_20 0 173 (dk_at dksX9_told_0 10 rfl rfl)
theorem dX9_told_13 : decode cX9_told 13 = .ok (.invokestatic 143, 3) := dk_184 0 143 (dk_at dksX9_told_0 13 rfl rfl)
theorem dX9_told_16 : decode cX9_told 16 = .ok (.ifCond .ne 5, 3) := dk_154 0 5 (dk_at dksX9_told_0 16 rfl rfl)
theorem dX9_told_19 : decode cX9_told 19 = .ok (.iconst (-1), 1) := dk_2 (dk_at dksX9_told_0 19 rfl rfl)
theorem dX9_told_20 : decode cX9_told 20 = .ok (.ireturn, 1) := dk_172 (dk_at dksX9_told_0 20 rfl rfl)
theorem dX9_told_21 : decode cX9_told 21 = .ok (.aload_n 0, 1) := dk_42 (dk_at dksX9_told_0 21 rfl rfl)
theorem dX9_told_22 : decode cX9_told 22 = .ok (.getfield 33, 3) := dk_180 0 33 (dk_at dksX9_told_1 0 rfl rfl)
theorem dX9_told_25 : decode cX9_told 25 = .ok (.iload_n 1, 1) := dk_27 (dk_at dksX9_told_1 3 rfl rfl)
theorem dX9_told_26 : decode cX9_told 26 = .ok (.iaload, 1) := dk_46 (dk_at dksX9_told_1 4 rfl rfl)
theorem dX9_told_27 : decode cX9_told 27 = .ok (.ifCond .ge 6, 3) := dk_156 0 6 (dk_at dksX9_told_1 5 rfl rfl)
theorem dX9_told_30 : decode cX9_told 30 = .ok (.bipush (-2), 2) := dk_16 254 (dk_at dksX9_told_1 8 rfl rfl)
theorem dX9_told_32 : decode cX9_told 32 = .ok (.ireturn, 1) := dk_172 (dk_at dksX9_told_1 10 rfl rfl)
theorem dX9_told_33 : decode cX9_told 33 = .ok (.iload_n 2, 1) := dk_28 (dk_at dksX9_told_1 11 rfl rfl)
theorem dX9_told_34 : decode cX9_told 34 = .ok (.ifCond .ne 12, 3) := dk_154 0 12 (dk_at dksX9_told_1 12 rfl rfl)
theorem dX9_told_37 : decode cX9_told 37 = .ok (.aload_n 0, 1) := dk_42 (dk_at dksX9_told_1 15 rfl rfl)
theorem dX9_told_38 : decode cX9_told 38 = .ok (.getfield 39, 3) := dk_180 0 39 (dk_at dksX9_told_1 16 rfl rfl)
theorem dX9_told_41 : decode cX9_told 41 = .ok (.iload_n 1, 1) := dk_27 (dk_at dksX9_told_1 19 rfl rfl)
theorem dX9_told_42 : decode cX9_told 42 = .ok (.iaload, 1) := dk_46 (dk_at dksX9_told_1 20 rfl rfl)
theorem dX9_told_43 : decode cX9_told 43 = .ok (.goto 37, 3) := dk_167 0 37 (dk_at dksX9_told_1 21 rfl rfl)
theorem dX9_told_46 : decode cX9_told 46 = .ok (.iload_n 2, 1) := dk_28 (dk_at dksX9_told_2 0 rfl rfl)
theorem dX9_told_47 : decode cX9_told 47 = .ok (.iconst 1, 1) := dk_4 (dk_at dksX9_told_2 1 rfl rfl)
theorem dX9_told_48 : decode cX9_told 48 = .ok (.if_icmp .ne 12, 3) := dk_160 0 12 (dk_at dksX9_told_2 2 rfl rfl)
theorem dX9_told_51 : decode cX9_told 51 = .ok (.aload_n 0, 1) := dk_42 (dk_at dksX9_told_2 5 rfl rfl)
theorem dX9_told_52 : decode cX9_told 52 = .ok (.getfield 42, 3) := dk_180 0 42 (dk_at dksX9_told_2 6 rfl rfl)
theorem dX9_told_55 : decode cX9_told 55 = .ok (.iload_n 1, 1) := dk_27 (dk_at dksX9_told_2 9 rfl rfl)
theorem dX9_told_56 : decode cX9_told 56 = .ok (.iaload, 1) := dk_46 (dk_at dksX9_told_2 10 rfl rfl)
theorem dX9_told_57 : decode cX9_told 57 = .ok (.goto 23, 3) := dk_167 0 23 (dk_at dksX9_told_2 11 rfl rfl)
theorem dX9_told_60 : decode cX9_told 60 = .ok (.iload_n 2, 1) := dk_28 (dk_at dksX9_told_2 14 rfl rfl)
theorem dX9_told_61 : decode cX9_told 61 = .ok (.iconst 2, 1) := dk_5 (dk_at dksX9_told_2 15 rfl rfl)
theorem dX9_told_62 : decode cX9_told 62 = .ok (.if_icmp .ne 12, 3) := dk_160 0 12 (dk_at dksX9_told_2 16 rfl rfl)
theorem dX9_told_65 : decode cX9_told 65 = .ok (.aload_n 0, 1) := dk_42 (dk_at dksX9_told_2 19 rfl rfl)
theorem dX9_told_66 : decode cX9_told 66 = .ok (.getfield 45, 3) := dk_180 0 45 (dk_at dksX9_told_2 20 rfl rfl)
theorem dX9_told_69 : decode cX9_told 69 = .ok (.iload_n 1, 1) := dk_27 (dk_at dksX9_told_2 23 rfl rfl)
theorem dX9_told_70 : decode cX9_told 70 = .ok (.iaload, 1) := dk_46 (dk_at dksX9_told_3 0 rfl rfl)
theorem dX9_told_71 : decode cX9_told 71 = .ok (.goto 9, 3) := dk_167 0 9 (dk_at dksX9_told_3 1 rfl rfl)
theorem dX9_told_74 : decode cX9_told 74 = .ok (.aload_n 0, 1) := dk_42 (dk_at dksX9_told_3 4 rfl rfl)
theorem dX9_told_75 : decode cX9_told 75 = .ok (.getfield 48, 3) := dk_180 0 48 (dk_at dksX9_told_3 5 rfl rfl)
theorem dX9_told_78 : decode cX9_told 78 = .ok (.iload_n 1, 1) := dk_27 (dk_at dksX9_told_3 8 rfl rfl)
theorem dX9_told_79 : decode cX9_told 79 = .ok (.iaload, 1) := dk_46 (dk_at dksX9_told_3 9 rfl rfl)
theorem dX9_told_80 : decode cX9_told 80 = .ok (.ireturn, 1) := dk_172 (dk_at dksX9_told_3 10 rfl rfl)
abbrev cX9_type : ByteArray := prog_31_method_34_code
def yX9_type : MethodName := ⟨RX9, "type", "(II)I"⟩
def dkwX9_type_1 : List UInt8 := [156, 0, 8, 16, 254, 167, 0, 13, 42, 180, 0, 51, 8, 27, 104, 28, 96, 46, 172]
abbrev dktX9_type_1 : List UInt8 := dkwX9_type_1 ++ []
def dkwX9_type_0 : List UInt8 := [27, 184, 1, 31, 153, 0, 10, 28, 184, 1, 34, 154, 0, 5, 2, 172, 42, 180, 0, 33, 27, 46]
abbrev dktX9_type_0 : List UInt8 := dkwX9_type_0 ++ dktX9_type_1
theorem dksX9_type_0 : cX9_type.data.toList.drop 0 = dktX9_type_0 := by decide +kernel
theorem dksX9_type_1 : cX9_type.data.toList.drop 22 = dktX9_type_1 := dk_seg dksX9_type_0 22 rfl rfl
theorem dX9_type_0 : decode cX9_type 0 = .ok (.iload_n 1, 1) := dk_27 (dk_at dksX9_type_0 0 rfl rfl)
theorem dX9_type_1 : decode cX9_type 1 = .ok (.invokestatic 287, 3) := dk_184 1 31 (dk_at dksX9_type_0 1 rfl rfl)
theorem dX9_type_4 : decode cX9_type 4 = .ok (.ifCond .eq 10, 3) := dk_153 0 10 (dk_at dksX9_type_0 4 rfl rfl)
theorem dX9_type_7 : decode cX9_type 7 = .ok (.iload_n 2, 1) := dk_28 (dk_at dksX9_type_0 7 rfl rfl)
theorem dX9_type_8 : decode cX9_type 8 = .ok (.invokestatic 290, 3) := dk_184 1 34 (dk_at dksX9_type_0 8 rfl rfl)
theorem dX9_type_11 : decode cX9_type 11 = .ok (.ifCond .ne 5, 3) := dk_154 0 5 (dk_at dksX9_type_0 11 rfl rfl)
theorem dX9_type_14 : decode cX9_type 14 = .ok (.iconst (-1), 1) := dk_2 (dk_at dksX9_type_0 14 rfl rfl)
theorem dX9_type_15 : decode cX9_type 15 = .ok (.ireturn, 1) := dk_172 (dk_at dksX9_type_0 15 rfl rfl)
theorem dX9_type_16 : decode cX9_type 16 = .ok (.aload_n 0, 1) := dk_42 (dk_at dksX9_type_0 16 rfl rfl)
theorem dX9_type_17 : decode cX9_type 17 = .ok (.getfield 33, 3) := dk_180 0 33 (dk_at dksX9_type_0 17 rfl rfl)
theorem dX9_type_20 : decode cX9_type 20 = .ok (.iload_n 1, 1) := dk_27 (dk_at dksX9_type_0 20 rfl rfl)
theorem dX9_type_21 : decode cX9_type 21 = .ok (.iaload, 1) := dk_46 (dk_at dksX9_type_0 21 rfl rfl)
theorem dX9_type_22 : decode cX9_type 22 = .ok (.ifCond .ge 8, 3) := dk_156 0 8 (dk_at dksX9_type_1 0 rfl rfl)
theorem dX9_type_25 : decode cX9_type 25 = .ok (.bipush (-2), 2) := dk_16 254 (dk_at dksX9_type_1 3 rfl rfl)
theorem dX9_type_27 : decode cX9_type 27 = .ok (.goto 13, 3) := dk_167 0 13 (dk_at dksX9_type_1 5 rfl rfl)
theorem dX9_type_30 : decode cX9_type 30 = .ok (.aload_n 0, 1) := dk_42 (dk_at dksX9_type_1 8 rfl rfl)
theorem dX9_type_31 : decode cX9_type 31 = .ok (.getfield 51, 3) := dk_180 0 51 (dk_at dksX9_type_1 9 rfl rfl)
theorem dX9_type_34 : decode cX9_type 34 = .ok (.iconst 5, 1) := dk_8 (dk_at dksX9_type_1 12 rfl rfl)
theorem dX9_type_35 : decode cX9_type 35 = .ok (.iload_n 1, 1) := dk_27 (dk_at dksX9_type_1 13 rfl rfl)
theorem dX9_type_36 : decode cX9_type 36 = .ok (.imul, 1) := dk_104 (dk_at dksX9_type_1 14 rfl rfl)
theorem dX9_type_37 : decode cX9_type 37 = .ok (.iload_n 2, 1) := dk_28 (dk_at dksX9_type_1 15 rfl rfl)
theorem dX9_type_38 : decode cX9_type 38 = .ok (.iadd, 1) := dk_96 (dk_at dksX9_type_1 16 rfl rfl)
theorem dX9_type_39 : decode cX9_type 39 = .ok (.iaload, 1) := dk_46 (dk_at dksX9_type_1 17 rfl rfl)
theorem dX9_type_40 : decode cX9_type 40 = .ok (.ireturn, 1) := dk_172 (dk_at dksX9_type_1 18 rfl rfl)
abbrev cX9_isArgument : ByteArray := prog_31_method_33_code
def yX9_isArgument : MethodName := ⟨RX9, "isArgument", "(I)Z"⟩
def dkwX9_isArgument_0 : List UInt8 := [26, 133, 9, 20, 0, 147, 184, 0, 143, 172]
abbrev dktX9_isArgument_0 : List UInt8 := dkwX9_isArgument_0 ++ []
theorem dksX9_isArgument_0 : cX9_isArgument.data.toList.drop 0 = dktX9_isArgument_0 := by decide +kernel
theorem dX9_isArgument_0 : decode cX9_isArgument 0 = .ok (.iload_n 0, 1) := dk_26 (dk_at dksX9_isArgument_0 0 rfl rfl)
theorem dX9_isArgument_1 : decode cX9_isArgument 1 = .ok (.i2l, 1) := dk_133 (dk_at dksX9_isArgument_0 1 rfl rfl)
theorem dX9_isArgument_2 : decode cX9_isArgument 2 = .ok (.lconst 0, 1) := dk_9 (dk_at dksX9_isArgument_0 2 rfl rfl)
theorem dX9_isArgument_3 : decode cX9_isArgument 3 = .ok (.ldc2_w 147, 3) := dk_20 0 147 (dk_at dksX9_isArgument_0 3 rfl rfl)
theorem dX9_isArgument_6 : decode cX9_isArgument 6 = .ok (.invokestatic 143, 3) := dk_184 0 143 (dk_at dksX9_isArgument_0 6 rfl rfl)
theorem dX9_isArgument_9 : decode cX9_isArgument 9 = .ok (.ireturn, 1) := dk_172 (dk_at dksX9_isArgument_0 9 rfl rfl)
abbrev cX9_choice : ByteArray := prog_31_method_36_code
def yX9_choice : MethodName := ⟨RX9, "choice", "(III)I"⟩
def dkwX9_choice_3 : List UInt8 := [29, 5, 160, 0, 13, 42, 180, 0, 57, 21, 4, 46, 167, 0, 10, 42, 180, 0, 60, 21, 4, 46, 172]
abbrev dktX9_choice_3 : List UInt8 := dkwX9_choice_3 ++ []
def dkwX9_choice_2 : List UInt8 := [180, 0, 54, 21, 4, 46, 167, 0, 40, 29, 4, 160, 0, 13, 42, 180, 0, 63, 21, 4, 46, 167, 0, 25]
abbrev dktX9_choice_2 : List UInt8 := dkwX9_choice_2 ++ dktX9_choice_3
def dkwX9_choice_1 : List UInt8 := [182, 1, 37, 154, 0, 6, 16, 254, 172, 16, 8, 27, 104, 28, 96, 54, 4, 29, 154, 0, 13, 42]
abbrev dktX9_choice_1 : List UInt8 := dkwX9_choice_1 ++ dktX9_choice_2
def dkwX9_choice_0 : List UInt8 := [27, 184, 1, 31, 153, 0, 15, 29, 133, 9, 20, 0, 173, 184, 0, 143, 154, 0, 5, 2, 172, 42, 27, 28]
abbrev dktX9_choice_0 : List UInt8 := dkwX9_choice_0 ++ dktX9_choice_1
theorem dksX9_choice_0 : cX9_choice.data.toList.drop 0 = dktX9_choice_0 := by decide +kernel
theorem dksX9_choice_1 : cX9_choice.data.toList.drop 24 = dktX9_choice_1 := dk_seg dksX9_choice_0 24 rfl rfl
theorem dksX9_choice_2 : cX9_choice.data.toList.drop 46 = dktX9_choice_2 := dk_seg dksX9_choice_1 22 rfl rfl
theorem dksX9_choice_3 : cX9_choice.data.toList.drop 70 = dktX9_choice_3 := dk_seg dksX9_choice_2 24 rfl rfl
theorem dX9_choice_0 : decode cX9_choice 0 = .ok (.iload_n 1, 1) := dk_27 (dk_at dksX9_choice_0 0 rfl rfl)
theorem dX9_choice_1 : decode cX9_choice 1 = .ok (.invokestatic 287, 3) := dk_184 1 31 (dk_at dksX9_choice_0 1 rfl rfl)
theorem dX9_choice_4 : decode cX9_choice 4 = .ok (.ifCond .eq 15, 3) := dk_153 0 15 (dk_at dksX9_choice_0 4 rfl rfl)
theorem dX9_choice_7 : decode cX9_choice 7 = .ok (.iload_n 3, 1) := dk_29 (dk_at dksX9_choice_0 7 rfl rfl)
theorem dX9_choice_8 : decode cX9_choice 8 = .ok (.i2l, 1) := dk_133 (dk_at dksX9_choice_0 8 rfl rfl)
theorem dX9_choice_9 : decode cX9_choice 9 = .ok (.lconst 0, 1) := dk_9 (dk_at dksX9_choice_0 9 rfl rfl)
theorem dX9_choice_10 : decode cX9_choice 10 = .ok (.ldc2_w 173, 3) := dk_20 0 173 (dk_at dksX9_choice_0 10 rfl rfl)
theorem dX9_choice_13 : decode cX9_choice 13 = .ok (.invokestatic 143, 3) := dk_184 0 143 (dk_at dksX9_choice_0 13 rfl rfl)
theorem dX9_choice_16 : decode cX9_choice 16 = .ok (.ifCond .ne 5, 3) := dk_154 0 5 (dk_at dksX9_choice_0 16 rfl rfl)
theorem dX9_choice_19 : decode cX9_choice 19 = .ok (.iconst (-1), 1) := dk_2 (dk_at dksX9_choice_0 19 rfl rfl)
theorem dX9_choice_20 : decode cX9_choice 20 = .ok (.ireturn, 1) := dk_172 (dk_at dksX9_choice_0 20 rfl rfl)
theorem dX9_choice_21 : decode cX9_choice 21 = .ok (.aload_n 0, 1) := dk_42 (dk_at dksX9_choice_0 21 rfl rfl)
theorem dX9_choice_22 : decode cX9_choice 22 = .ok (.iload_n 1, 1) := dk_27 (dk_at dksX9_choice_0 22 rfl rfl)
theorem dX9_choice_23 : decode cX9_choice 23 = .ok (.iload_n 2, 1) := dk_28 (dk_at dksX9_choice_0 23 rfl rfl)
theorem dX9_choice_24 : decode cX9_choice 24 = .ok (.invokevirtual 293, 3) := dk_182 1 37 (dk_at dksX9_choice_1 0 rfl rfl)
theorem dX9_choice_27 : decode cX9_choice 27 = .ok (.ifCond .ne 6, 3) := dk_154 0 6 (dk_at dksX9_choice_1 3 rfl rfl)
theorem dX9_choice_30 : decode cX9_choice 30 = .ok (.bipush (-2), 2) := dk_16 254 (dk_at dksX9_choice_1 6 rfl rfl)
theorem dX9_choice_32 : decode cX9_choice 32 = .ok (.ireturn, 1) := dk_172 (dk_at dksX9_choice_1 8 rfl rfl)
theorem dX9_choice_33 : decode cX9_choice 33 = .ok (.bipush 8, 2) := dk_16 8 (dk_at dksX9_choice_1 9 rfl rfl)
theorem dX9_choice_35 : decode cX9_choice 35 = .ok (.iload_n 1, 1) := dk_27 (dk_at dksX9_choice_1 11 rfl rfl)
theorem dX9_choice_36 : decode cX9_choice 36 = .ok (.imul, 1) := dk_104 (dk_at dksX9_choice_1 12 rfl rfl)
theorem dX9_choice_37 : decode cX9_choice 37 = .ok (.iload_n 2, 1) := dk_28 (dk_at dksX9_choice_1 13 rfl rfl)
theorem dX9_choice_38 : decode cX9_choice 38 = .ok (.iadd, 1) := dk_96 (dk_at dksX9_choice_1 14 rfl rfl)
theorem dX9_choice_39 : decode cX9_choice 39 = .ok (.istore 4, 2) := dk_54 4 (dk_at dksX9_choice_1 15 rfl rfl)
theorem dX9_choice_41 : decode cX9_choice 41 = .ok (.iload_n 3, 1) := dk_29 (dk_at dksX9_choice_1 17 rfl rfl)
theorem dX9_choice_42 : decode cX9_choice 42 = .ok (.ifCond .ne 13, 3) := dk_154 0 13 (dk_at dksX9_choice_1 18 rfl rfl)
theorem dX9_choice_45 : decode cX9_choice 45 = .ok (.aload_n 0, 1) := dk_42 (dk_at dksX9_choice_1 21 rfl rfl)
theorem dX9_choice_46 : decode cX9_choice 46 = .ok (.getfield 54, 3) := dk_180 0 54 (dk_at dksX9_choice_2 0 rfl rfl)
theorem dX9_choice_49 : decode cX9_choice 49 = .ok (.iload 4, 2) := dk_21 4 (dk_at dksX9_choice_2 3 rfl rfl)
theorem dX9_choice_51 : decode cX9_choice 51 = .ok (.iaload, 1) := dk_46 (dk_at dksX9_choice_2 5 rfl rfl)
theorem dX9_choice_52 : decode cX9_choice 52 = .ok (.goto 40, 3) := dk_167 0 40 (dk_at dksX9_choice_2 6 rfl rfl)
theorem dX9_choice_55 : decode cX9_choice 55 = .ok (.iload_n 3, 1) := dk_29 (dk_at dksX9_choice_2 9 rfl rfl)
theorem dX9_choice_56 : decode cX9_choice 56 = .ok (.iconst 1, 1) := dk_4 (dk_at dksX9_choice_2 10 rfl rfl)
theorem dX9_choice_57 : decode cX9_choice 57 = .ok (.if_icmp .ne 13, 3) := dk_160 0 13 (dk_at dksX9_choice_2 11 rfl rfl)
theorem dX9_choice_60 : decode cX9_choice 60 = .ok (.aload_n 0, 1) := dk_42 (dk_at dksX9_choice_2 14 rfl rfl)
theorem dX9_choice_61 : decode cX9_choice 61 = .ok (.getfield 63, 3) := dk_180 0 63 (dk_at dksX9_choice_2 15 rfl rfl)
theorem dX9_choice_64 : decode cX9_choice 64 = .ok (.iload 4, 2) := dk_21 4 (dk_at dksX9_choice_2 18 rfl rfl)
theorem dX9_choice_66 : decode cX9_choice 66 = .ok (.iaload, 1) := dk_46 (dk_at dksX9_choice_2 20 rfl rfl)
theorem dX9_choice_67 : decode cX9_choice 67 = .ok (.goto 25, 3) := dk_167 0 25 (dk_at dksX9_choice_2 21 rfl rfl)
theorem dX9_choice_70 : decode cX9_choice 70 = .ok (.iload_n 3, 1) := dk_29 (dk_at dksX9_choice_3 0 rfl rfl)
theorem dX9_choice_71 : decode cX9_choice 71 = .ok (.iconst 2, 1) := dk_5 (dk_at dksX9_choice_3 1 rfl rfl)
theorem dX9_choice_72 : decode cX9_choice 72 = .ok (.if_icmp .ne 13, 3) := dk_160 0 13 (dk_at dksX9_choice_3 2 rfl rfl)
theorem dX9_choice_75 : decode cX9_choice 75 = .ok (.aload_n 0, 1) := dk_42 (dk_at dksX9_choice_3 5 rfl rfl)
theorem dX9_choice_76 : decode cX9_choice 76 = .ok (.getfield 57, 3) := dk_180 0 57 (dk_at dksX9_choice_3 6 rfl rfl)
theorem dX9_choice_79 : decode cX9_choice 79 = .ok (.iload 4, 2) := dk_21 4 (dk_at dksX9_choice_3 9 rfl rfl)
theorem dX9_choice_81 : decode cX9_choice 81 = .ok (.iaload, 1) := dk_46 (dk_at dksX9_choice_3 11 rfl rfl)
theorem dX9_choice_82 : decode cX9_choice 82 = .ok (.goto 10, 3) := dk_167 0 10 (dk_at dksX9_choice_3 12 rfl rfl)
theorem dX9_choice_85 : decode cX9_choice 85 = .ok (.aload_n 0, 1) := dk_42 (dk_at dksX9_choice_3 15 rfl rfl)
theorem dX9_choice_86 : decode cX9_choice 86 = .ok (.getfield 60, 3) := dk_180 0 60 (dk_at dksX9_choice_3 16 rfl rfl)
theorem dX9_choice_89 : decode cX9_choice 89 = .ok (.iload 4, 2) := dk_21 4 (dk_at dksX9_choice_3 19 rfl rfl)
theorem dX9_choice_91 : decode cX9_choice 91 = .ok (.iaload, 1) := dk_46 (dk_at dksX9_choice_3 21 rfl rfl)
theorem dX9_choice_92 : decode cX9_choice 92 = .ok (.ireturn, 1) := dk_172 (dk_at dksX9_choice_3 22 rfl rfl)
abbrev cX9_isChoice : ByteArray := prog_31_method_35_code
def yX9_isChoice : MethodName := ⟨RX9, "isChoice", "(II)Z"⟩
def dkwX9_isChoice_1 : List UInt8 := [153, 0, 7, 4, 167, 0, 4, 3, 172]
abbrev dktX9_isChoice_1 : List UInt8 := dkwX9_isChoice_1 ++ []
def dkwX9_isChoice_0 : List UInt8 := [42, 180, 0, 33, 27, 46, 155, 0, 25, 28, 133, 9, 42, 180, 0, 42, 27, 46, 4, 100, 133, 184, 0, 143]
abbrev dktX9_isChoice_0 : List UInt8 := dkwX9_isChoice_0 ++ dktX9_isChoice_1
theorem dksX9_isChoice_0 : cX9_isChoice.data.toList.drop 0 = dktX9_isChoice_0 := by decide +kernel
theorem dksX9_isChoice_1 : cX9_isChoice.data.toList.drop 24 = dktX9_isChoice_1 := dk_seg dksX9_isChoice_0 24 rfl rfl
theorem dX9_isChoice_0 : decode cX9_isChoice 0 = .ok (.aload_n 0, 1) := dk_42 (dk_at dksX9_isChoice_0 0 rfl rfl)
theorem dX9_isChoice_1 : decode cX9_isChoice 1 = .ok (.getfield 33, 3) := dk_180 0 33 (dk_at dksX9_isChoice_0 1 rfl rfl)
theorem dX9_isChoice_4 : decode cX9_isChoice 4 = .ok (.iload_n 1, 1) := dk_27 (dk_at dksX9_isChoice_0 4 rfl rfl)
theorem dX9_isChoice_5 : decode cX9_isChoice 5 = .ok (.iaload, 1) := dk_46 (dk_at dksX9_isChoice_0 5 rfl rfl)
theorem dX9_isChoice_6 : decode cX9_isChoice 6 = .ok (.ifCond .lt 25, 3) := dk_155 0 25 (dk_at dksX9_isChoice_0 6 rfl rfl)
theorem dX9_isChoice_9 : decode cX9_isChoice 9 = .ok (.iload_n 2, 1) := dk_28 (dk_at dksX9_isChoice_0 9 rfl rfl)
theorem dX9_isChoice_10 : decode cX9_isChoice 10 = .ok (.i2l, 1) := dk_133 (dk_at dksX9_isChoice_0 10 rfl rfl)
theorem dX9_isChoice_11 : decode cX9_isChoice 11 = .ok (.lconst 0, 1) := dk_9 (dk_at dksX9_isChoice_0 11 rfl rfl)
theorem dX9_isChoice_12 : decode cX9_isChoice 12 = .ok (.aload_n 0, 1) := dk_42 (dk_at dksX9_isChoice_0 12 rfl rfl)
theorem dX9_isChoice_13 : decode cX9_isChoice 13 = .ok (.getfield 42, 3) := dk_180 0 42 (dk_at dksX9_isChoice_0 13 rfl rfl)
theorem dX9_isChoice_16 : decode cX9_isChoice 16 = .ok (.iload_n 1, 1) := dk_27 (dk_at dksX9_isChoice_0 16 rfl rfl)
theorem dX9_isChoice_17 : decode cX9_isChoice 17 = .ok (.iaload, 1) := dk_46 (dk_at dksX9_isChoice_0 17 rfl rfl)
theorem dX9_isChoice_18 : decode cX9_isChoice 18 = .ok (.iconst 1, 1) := dk_4 (dk_at dksX9_isChoice_0 18 rfl rfl)
theorem dX9_isChoice_19 : decode cX9_isChoice 19 = .ok (.isub, 1) := dk_100 (dk_at dksX9_isChoice_0 19 rfl rfl)
theorem dX9_isChoice_20 : decode cX9_isChoice 20 = .ok (.i2l, 1) := dk_133 (dk_at dksX9_isChoice_0 20 rfl rfl)
theorem dX9_isChoice_21 : decode cX9_isChoice 21 = .ok (.invokestatic 143, 3) := dk_184 0 143 (dk_at dksX9_isChoice_0 21 rfl rfl)
theorem dX9_isChoice_24 : decode cX9_isChoice 24 = .ok (.ifCond .eq 7, 3) := dk_153 0 7 (dk_at dksX9_isChoice_1 0 rfl rfl)
theorem dX9_isChoice_27 : decode cX9_isChoice 27 = .ok (.iconst 1, 1) := dk_4 (dk_at dksX9_isChoice_1 3 rfl rfl)
theorem dX9_isChoice_28 : decode cX9_isChoice 28 = .ok (.goto 4, 3) := dk_167 0 4 (dk_at dksX9_isChoice_1 4 rfl rfl)
theorem dX9_isChoice_31 : decode cX9_isChoice 31 = .ok (.iconst 0, 1) := dk_3 (dk_at dksX9_isChoice_1 7 rfl rfl)
theorem dX9_isChoice_32 : decode cX9_isChoice 32 = .ok (.ireturn, 1) := dk_172 (dk_at dksX9_isChoice_1 8 rfl rfl)
abbrev cX9_key : ByteArray := prog_31_method_38_code
def yX9_key : MethodName := ⟨RX9, "key", "(III)I"⟩
def dkwX9_key_2 : List UInt8 := [54, 4, 21, 4, 153, 0, 13, 42, 27, 28, 29, 182, 1, 41, 167, 0, 5, 16, 254, 172]
abbrev dktX9_key_2 : List UInt8 := dkwX9_key_2 ++ []
def dkwX9_key_1 : List UInt8 := [180, 0, 63, 16, 8, 27, 104, 28, 96, 46, 4, 100, 133, 184, 0, 143, 153, 0, 7, 4, 167, 0, 4, 3]
abbrev dktX9_key_1 : List UInt8 := dkwX9_key_1 ++ dktX9_key_2
def dkwX9_key_0 : List UInt8 := [27, 184, 1, 31, 154, 0, 5, 2, 172, 42, 27, 28, 182, 1, 37, 153, 0, 30, 29, 133, 9, 42]
abbrev dktX9_key_0 : List UInt8 := dkwX9_key_0 ++ dktX9_key_1
theorem dksX9_key_0 : cX9_key.data.toList.drop 0 = dktX9_key_0 := by decide +kernel
theorem dksX9_key_1 : cX9_key.data.toList.drop 22 = dktX9_key_1 := dk_seg dksX9_key_0 22 rfl rfl
theorem dksX9_key_2 : cX9_key.data.toList.drop 46 = dktX9_key_2 := dk_seg dksX9_key_1 24 rfl rfl
theorem dX9_key_0 : decode cX9_key 0 = .ok (.iload_n 1, 1) := dk_27 (dk_at dksX9_key_0 0 rfl rfl)
theorem dX9_key_1 : decode cX9_key 1 = .ok (.invokestatic 287, 3) := dk_184 1 31 (dk_at dksX9_key_0 1 rfl rfl)
theorem dX9_key_4 : decode cX9_key 4 = .ok (.ifCond .ne 5, 3) := dk_154 0 5 (dk_at dksX9_key_0 4 rfl rfl)
theorem dX9_key_7 : decode cX9_key 7 = .ok (.iconst (-1), 1) := dk_2 (dk_at dksX9_key_0 7 rfl rfl)
theorem dX9_key_8 : decode cX9_key 8 = .ok (.ireturn, 1) := dk_172 (dk_at dksX9_key_0 8 rfl rfl)
theorem dX9_key_9 : decode cX9_key 9 = .ok (.aload_n 0, 1) := dk_42 (dk_at dksX9_key_0 9 rfl rfl)
theorem dX9_key_10 : decode cX9_key 10 = .ok (.iload_n 1, 1) := dk_27 (dk_at dksX9_key_0 10 rfl rfl)
theorem dX9_key_11 : decode cX9_key 11 = .ok (.iload_n 2, 1) := dk_28 (dk_at dksX9_key_0 11 rfl rfl)
theorem dX9_key_12 : decode cX9_key 12 = .ok (.invokevirtual 293, 3) := dk_182 1 37 (dk_at dksX9_key_0 12 rfl rfl)
theorem dX9_key_15 : decode cX9_key 15 = .ok (.ifCond .eq 30, 3) := dk_153 0 30 (dk_at dksX9_key_0 15 rfl rfl)
theorem dX9_key_18 : decode cX9_key 18 = .ok (.iload_n 3, 1) := dk_29 (dk_at dksX9_key_0 18 rfl rfl)
theorem dX9_key_19 : decode cX9_key 19 = .ok (.i2l, 1) := dk_133 (dk_at dksX9_key_0 19 rfl rfl)
theorem dX9_key_20 : decode cX9_key 20 = .ok (.lconst 0, 1) := dk_9 (dk_at dksX9_key_0 20 rfl rfl)
theorem dX9_key_21 : decode cX9_key 21 = .ok (.aload_n 0, 1) := dk_42 (dk_at dksX9_key_0 21 rfl rfl)
theorem dX9_key_22 : decode cX9_key 22 = .ok (.getfield 63, 3) := dk_180 0 63 (dk_at dksX9_key_1 0 rfl rfl)
theorem dX9_key_25 : decode cX9_key 25 = .ok (.bipush 8, 2) := dk_16 8 (dk_at dksX9_key_1 3 rfl rfl)
theorem dX9_key_27 : decode cX9_key 27 = .ok (.iload_n 1, 1) := dk_27 (dk_at dksX9_key_1 5 rfl rfl)
theorem dX9_key_28 : decode cX9_key 28 = .ok (.imul, 1) := dk_104 (dk_at dksX9_key_1 6 rfl rfl)
theorem dX9_key_29 : decode cX9_key 29 = .ok (.iload_n 2, 1) := dk_28 (dk_at dksX9_key_1 7 rfl rfl)
theorem dX9_key_30 : decode cX9_key 30 = .ok (.iadd, 1) := dk_96 (dk_at dksX9_key_1 8 rfl rfl)
theorem dX9_key_31 : decode cX9_key 31 = .ok (.iaload, 1) := dk_46 (dk_at dksX9_key_1 9 rfl rfl)
theorem dX9_key_32 : decode cX9_key 32 = .ok (.iconst 1, 1) := dk_4 (dk_at dksX9_key_1 10 rfl rfl)
theorem dX9_key_33 : decode cX9_key 33 = .ok (.isub, 1) := dk_100 (dk_at dksX9_key_1 11 rfl rfl)
theorem dX9_key_34 : decode cX9_key 34 = .ok (.i2l, 1) := dk_133 (dk_at dksX9_key_1 12 rfl rfl)
theorem dX9_key_35 : decode cX9_key 35 = .ok (.invokestatic 143, 3) := dk_184 0 143 (dk_at dksX9_key_1 13 rfl rfl)
theorem dX9_key_38 : decode cX9_key 38 = .ok (.ifCond .eq 7, 3) := dk_153 0 7 (dk_at dksX9_key_1 16 rfl rfl)
theorem dX9_key_41 : decode cX9_key 41 = .ok (.iconst 1, 1) := dk_4 (dk_at dksX9_key_1 19 rfl rfl)
theorem dX9_key_42 : decode cX9_key 42 = .ok (.goto 4, 3) := dk_167 0 4 (dk_at dksX9_key_1 20 rfl rfl)
theorem dX9_key_45 : decode cX9_key 45 = .ok (.iconst 0, 1) := dk_3 (dk_at dksX9_key_1 23 rfl rfl)
theorem dX9_key_46 : decode cX9_key 46 = .ok (.istore 4, 2) := dk_54 4 (dk_at dksX9_key_2 0 rfl rfl)
theorem dX9_key_48 : decode cX9_key 48 = .ok (.iload 4, 2) := dk_21 4 (dk_at dksX9_key_2 2 rfl rfl)
theorem dX9_key_50 : decode cX9_key 50 = .ok (.ifCond .eq 13, 3) := dk_153 0 13 (dk_at dksX9_key_2 4 rfl rfl)
theorem dX9_key_53 : decode cX9_key 53 = .ok (.aload_n 0, 1) := dk_42 (dk_at dksX9_key_2 7 rfl rfl)
theorem dX9_key_54 : decode cX9_key 54 = .ok (.iload_n 1, 1) := dk_27 (dk_at dksX9_key_2 8 rfl rfl)
theorem dX9_key_55 : decode cX9_key 55 = .ok (.iload_n 2, 1) := dk_28 (dk_at dksX9_key_2 9 rfl rfl)
theorem dX9_key_56 : decode cX9_key 56 = .ok (.iload_n 3, 1) := dk_29 (dk_at dksX9_key_2 10 rfl rfl)
theorem dX9_key_57 : decode cX9_key 57 = .ok (.invokevirtual 297, 3) := dk_182 1 41 (dk_at dksX9_key_2 11 rfl rfl)
theorem dX9_key_60 : decode cX9_key 60 = .ok (.goto 5, 3) := dk_167 0 5 (dk_at dksX9_key_2 14 rfl rfl)
theorem dX9_key_63 : decode cX9_key 63 = .ok (.bipush (-2), 2) := dk_16 254 (dk_at dksX9_key_2 17 rfl rfl)
theorem dX9_key_65 : decode cX9_key 65 = .ok (.ireturn, 1) := dk_172 (dk_at dksX9_key_2 19 rfl rfl)
abbrev cX9_keyAt : ByteArray := prog_31_method_37_code
def yX9_keyAt : MethodName := ⟨RX9, "keyAt", "(III)I"⟩
def dkwX9_keyAt_0 : List UInt8 := [42, 180, 0, 66, 16, 10, 16, 8, 27, 104, 28, 96, 104, 29, 96, 46, 172]
abbrev dktX9_keyAt_0 : List UInt8 := dkwX9_keyAt_0 ++ []
theorem dksX9_keyAt_0 : cX9_keyAt.data.toList.drop 0 = dktX9_keyAt_0 := by decide +kernel
theorem dX9_keyAt_0 : decode cX9_keyAt 0 = .ok (.aload_n 0, 1) := dk_42 (dk_at dksX9_keyAt_0 0 rfl rfl)
theorem dX9_keyAt_1 : decode cX9_keyAt 1 = .ok (.getfield 66, 3) := dk_180 0 66 (dk_at dksX9_keyAt_0 1 rfl rfl)
theorem dX9_keyAt_4 : decode cX9_keyAt 4 = .ok (.bipush 10, 2) := dk_16 10 (dk_at dksX9_keyAt_0 4 rfl rfl)
theorem dX9_keyAt_6 : decode cX9_keyAt 6 = .ok (.bipush 8, 2) := dk_16 8 (dk_at dksX9_keyAt_0 6 rfl rfl)
theorem dX9_keyAt_8 : decode cX9_keyAt 8 = .ok (.iload_n 1, 1) := dk_27 (dk_at dksX9_keyAt_0 8 rfl rfl)
theorem dX9_keyAt_9 : decode cX9_keyAt 9 = .ok (.imul, 1) := dk_104 (dk_at dksX9_keyAt_0 9 rfl rfl)
theorem dX9_keyAt_10 : decode cX9_keyAt 10 = .ok (.iload_n 2, 1) := dk_28 (dk_at dksX9_keyAt_0 10 rfl rfl)
theorem dX9_keyAt_11 : decode cX9_keyAt 11 = .ok (.iadd, 1) := dk_96 (dk_at dksX9_keyAt_0 11 rfl rfl)
theorem dX9_keyAt_12 : decode cX9_keyAt 12 = .ok (.imul, 1) := dk_104 (dk_at dksX9_keyAt_0 12 rfl rfl)
theorem dX9_keyAt_13 : decode cX9_keyAt 13 = .ok (.iload_n 3, 1) := dk_29 (dk_at dksX9_keyAt_0 13 rfl rfl)
theorem dX9_keyAt_14 : decode cX9_keyAt 14 = .ok (.iadd, 1) := dk_96 (dk_at dksX9_keyAt_0 14 rfl rfl)
theorem dX9_keyAt_15 : decode cX9_keyAt 15 = .ok (.iaload, 1) := dk_46 (dk_at dksX9_keyAt_0 15 rfl rfl)
theorem dX9_keyAt_16 : decode cX9_keyAt 16 = .ok (.ireturn, 1) := dk_172 (dk_at dksX9_keyAt_0 16 rfl rfl)
abbrev cX9_lacks : ByteArray := prog_31_method_42_code
def yX9_lacks : MethodName := ⟨RX9, "lacks", "(IIII)I"⟩
def dkwX9_lacks_2 : List UInt8 := [28, 29, 182, 1, 47, 167, 0, 10, 42, 27, 28, 29, 182, 1, 50, 172]
abbrev dktX9_lacks_2 : List UInt8 := dkwX9_lacks_2 ++ []
def dkwX9_lacks_1 : List UInt8 := [154, 0, 5, 2, 172, 42, 27, 29, 182, 1, 37, 154, 0, 6, 16, 254, 172, 21, 4, 154, 0, 13, 42, 27]
abbrev dktX9_lacks_1 : List UInt8 := dkwX9_lacks_1 ++ dktX9_lacks_2
def dkwX9_lacks_0 : List UInt8 := [27, 184, 1, 31, 153, 0, 21, 28, 184, 0, 185, 153, 0, 14, 21, 4, 133, 9, 10, 184, 0, 143]
abbrev dktX9_lacks_0 : List UInt8 := dkwX9_lacks_0 ++ dktX9_lacks_1
theorem dksX9_lacks_0 : cX9_lacks.data.toList.drop 0 = dktX9_lacks_0 := by decide +kernel
theorem dksX9_lacks_1 : cX9_lacks.data.toList.drop 22 = dktX9_lacks_1 := dk_seg dksX9_lacks_0 22 rfl rfl
theorem dksX9_lacks_2 : cX9_lacks.data.toList.drop 46 = dktX9_lacks_2 := dk_seg dksX9_lacks_1 24 rfl rfl
theorem dX9_lacks_0 : decode cX9_lacks 0 = .ok (.iload_n 1, 1) := dk_27 (dk_at dksX9_lacks_0 0 rfl rfl)
theorem dX9_lacks_1 : decode cX9_lacks 1 = .ok (.invokestatic 287, 3) := dk_184 1 31 (dk_at dksX9_lacks_0 1 rfl rfl)
theorem dX9_lacks_4 : decode cX9_lacks 4 = .ok (.ifCond .eq 21, 3) := dk_153 0 21 (dk_at dksX9_lacks_0 4 rfl rfl)
theorem dX9_lacks_7 : decode cX9_lacks 7 = .ok (.iload_n 2, 1) := dk_28 (dk_at dksX9_lacks_0 7 rfl rfl)
theorem dX9_lacks_8 : decode cX9_lacks 8 = .ok (.invokestatic 185, 3) := dk_184 0 185 (dk_at dksX9_lacks_0 8 rfl rfl)
theorem dX9_lacks_11 : decode cX9_lacks 11 = .ok (.ifCond .eq 14, 3) := dk_153 0 14 (dk_at dksX9_lacks_0 11 rfl rfl)
theorem dX9_lacks_14 : decode cX9_lacks 14 = .ok (.iload 4, 2) := dk_21 4 (dk_at dksX9_lacks_0 14 rfl rfl)
theorem dX9_lacks_16 : decode cX9_lacks 16 = .ok (.i2l, 1) := dk_133 (dk_at dksX9_lacks_0 16 rfl rfl)
theorem dX9_lacks_17 : decode cX9_lacks 17 = .ok (.lconst 0, 1) := dk_9 (dk_at dksX9_lacks_0 17 rfl rfl)
theorem dX9_lacks_18 : decode cX9_lacks 18 = .ok (.lconst 1, 1) := dk_10 (dk_at dksX9_lacks_0 18 rfl rfl)
theorem dX9_lacks_19 : decode cX9_lacks 19 = .ok (.invokestatic 143, 3) := dk_184 0 143 (dk_at dksX9_lacks_0 19 rfl rfl)
theorem dX9_lacks_22 : decode cX9_lacks 22 = .ok (.ifCond .ne 5, 3) := dk_154 0 5 (dk_at dksX9_lacks_1 0 rfl rfl)
theorem dX9_lacks_25 : decode cX9_lacks 25 = .ok (.iconst (-1), 1) := dk_2 (dk_at dksX9_lacks_1 3 rfl rfl)
theorem dX9_lacks_26 : decode cX9_lacks 26 = .ok (.ireturn, 1) := dk_172 (dk_at dksX9_lacks_1 4 rfl rfl)
theorem dX9_lacks_27 : decode cX9_lacks 27 = .ok (.aload_n 0, 1) := dk_42 (dk_at dksX9_lacks_1 5 rfl rfl)
theorem dX9_lacks_28 : decode cX9_lacks 28 = .ok (.iload_n 1, 1) := dk_27 (dk_at dksX9_lacks_1 6 rfl rfl)
theorem dX9_lacks_29 : decode cX9_lacks 29 = .ok (.iload_n 3, 1) := dk_29 (dk_at dksX9_lacks_1 7 rfl rfl)
theorem dX9_lacks_30 : decode cX9_lacks 30 = .ok (.invokevirtual 293, 3) := dk_182 1 37 (dk_at dksX9_lacks_1 8 rfl rfl)
theorem dX9_lacks_33 : decode cX9_lacks 33 = .ok (.ifCond .ne 6, 3) := dk_154 0 6 (dk_at dksX9_lacks_1 11 rfl rfl)
theorem dX9_lacks_36 : decode cX9_lacks 36 = .ok (.bipush (-2), 2) := dk_16 254 (dk_at dksX9_lacks_1 14 rfl rfl)
theorem dX9_lacks_38 : decode cX9_lacks 38 = .ok (.ireturn, 1) := dk_172 (dk_at dksX9_lacks_1 16 rfl rfl)
theorem dX9_lacks_39 : decode cX9_lacks 39 = .ok (.iload 4, 2) := dk_21 4 (dk_at dksX9_lacks_1 17 rfl rfl)
theorem dX9_lacks_41 : decode cX9_lacks 41 = .ok (.ifCond .ne 13, 3) := dk_154 0 13 (dk_at dksX9_lacks_1 19 rfl rfl)
theorem dX9_lacks_44 : decode cX9_lacks 44 = .ok (.aload_n 0, 1) := dk_42 (dk_at dksX9_lacks_1 22 rfl rfl)
theorem dX9_lacks_45 : decode cX9_lacks 45 = .ok (.iload_n 1, 1) := dk_27 (dk_at dksX9_lacks_1 23 rfl rfl)
theorem dX9_lacks_46 : decode cX9_lacks 46 = .ok (.iload_n 2, 1) := dk_28 (dk_at dksX9_lacks_2 0 rfl rfl)
theorem dX9_lacks_47 : decode cX9_lacks 47 = .ok (.iload_n 3, 1) := dk_29 (dk_at dksX9_lacks_2 1 rfl rfl)
theorem dX9_lacks_48 : decode cX9_lacks 48 = .ok (.invokevirtual 303, 3) := dk_182 1 47 (dk_at dksX9_lacks_2 2 rfl rfl)
theorem dX9_lacks_51 : decode cX9_lacks 51 = .ok (.goto 10, 3) := dk_167 0 10 (dk_at dksX9_lacks_2 5 rfl rfl)
theorem dX9_lacks_54 : decode cX9_lacks 54 = .ok (.aload_n 0, 1) := dk_42 (dk_at dksX9_lacks_2 8 rfl rfl)
theorem dX9_lacks_55 : decode cX9_lacks 55 = .ok (.iload_n 1, 1) := dk_27 (dk_at dksX9_lacks_2 9 rfl rfl)
theorem dX9_lacks_56 : decode cX9_lacks 56 = .ok (.iload_n 2, 1) := dk_28 (dk_at dksX9_lacks_2 10 rfl rfl)
theorem dX9_lacks_57 : decode cX9_lacks 57 = .ok (.iload_n 3, 1) := dk_29 (dk_at dksX9_lacks_2 11 rfl rfl)
theorem dX9_lacks_58 : decode cX9_lacks 58 = .ok (.invokevirtual 306, 3) := dk_182 1 50 (dk_at dksX9_lacks_2 12 rfl rfl)
theorem dX9_lacks_61 : decode cX9_lacks 61 = .ok (.ireturn, 1) := dk_172 (dk_at dksX9_lacks_2 15 rfl rfl)
abbrev cX9_lacksOf : ByteArray := prog_31_method_40_code
def yX9_lacksOf : MethodName := ⟨RX9, "lacksOf", "(III)I"⟩
def dkwX9_lacksOf_3 : List UInt8 := [167, 0, 4, 2, 126, 54, 5, 132, 6, 1, 167, 255, 221, 21, 5, 172]
abbrev dktX9_lacksOf_3 : List UInt8 := dkwX9_lacksOf_3 ++ []
def dkwX9_lacksOf_2 : List UInt8 := [162, 0, 35, 21, 5, 42, 27, 29, 21, 6, 182, 1, 44, 155, 0, 12, 4, 21, 6, 120, 2, 130]
abbrev dktX9_lacksOf_2 : List UInt8 := dkwX9_lacksOf_2 ++ dktX9_lacksOf_3
def dkwX9_lacksOf_1 : List UInt8 := [153, 0, 14, 42, 28, 182, 0, 193, 16, 31, 126, 167, 0, 5, 16, 7, 54, 5, 3, 54, 6, 21, 6, 8]
abbrev dktX9_lacksOf_1 : List UInt8 := dkwX9_lacksOf_1 ++ dktX9_lacksOf_2
def dkwX9_lacksOf_0 : List UInt8 := [42, 180, 0, 57, 16, 8, 27, 104, 29, 96, 46, 4, 160, 0, 7, 4, 167, 0, 4, 3, 54, 4, 21, 4]
abbrev dktX9_lacksOf_0 : List UInt8 := dkwX9_lacksOf_0 ++ dktX9_lacksOf_1
theorem dksX9_lacksOf_0 : cX9_lacksOf.data.toList.drop 0 = dktX9_lacksOf_0 := by decide +kernel
theorem dksX9_lacksOf_1 : cX9_lacksOf.data.toList.drop 24 = dktX9_lacksOf_1 := dk_seg dksX9_lacksOf_0 24 rfl rfl
theorem dksX9_lacksOf_2 : cX9_lacksOf.data.toList.drop 48 = dktX9_lacksOf_2 := dk_seg dksX9_lacksOf_1 24 rfl rfl
theorem dksX9_lacksOf_3 : cX9_lacksOf.data.toList.drop 70 = dktX9_lacksOf_3 := dk_seg dksX9_lacksOf_2 22 rfl rfl
theorem dX9_lacksOf_0 : decode cX9_lacksOf 0 = .ok (.aload_n 0, 1) := dk_42 (dk_at dksX9_lacksOf_0 0 rfl rfl)
theorem dX9_lacksOf_1 : decode cX9_lacksOf 1 = .ok (.getfield 57, 3) := dk_180 0 57 (dk_at dksX9_lacksOf_0 1 rfl rfl)
theorem dX9_lacksOf_4 : decode cX9_lacksOf 4 = .ok (.bipush 8, 2) := dk_16 8 (dk_at dksX9_lacksOf_0 4 rfl rfl)
theorem dX9_lacksOf_6 : decode cX9_lacksOf 6 = .ok (.iload_n 1, 1) := dk_27 (dk_at dksX9_lacksOf_0 6 rfl rfl)
theorem dX9_lacksOf_7 : decode cX9_lacksOf 7 = .ok (.imul, 1) := dk_104 (dk_at dksX9_lacksOf_0 7 rfl rfl)
theorem dX9_lacksOf_8 : decode cX9_lacksOf 8 = .ok (.iload_n 3, 1) := dk_29 (dk_at dksX9_lacksOf_0 8 rfl rfl)
theorem dX9_lacksOf_9 : decode cX9_lacksOf 9 = .ok (.iadd, 1) := dk_96 (dk_at dksX9_lacksOf_0 9 rfl rfl)
theorem dX9_lacksOf_10 : decode cX9_lacksOf 10 = .ok (.iaload, 1) := dk_46 (dk_at dksX9_lacksOf_0 10 rfl rfl)
theorem dX9_lacksOf_11 : decode cX9_lacksOf 11 = .ok (.iconst 1, 1) := dk_4 (dk_at dksX9_lacksOf_0 11 rfl rfl)
theorem dX9_lacksOf_12 : decode cX9_lacksOf 12 = .ok (.if_icmp .ne 7, 3) := dk_160 0 7 (dk_at dksX9_lacksOf_0 12 rfl rfl)
theorem dX9_lacksOf_15 : decode cX9_lacksOf 15 = .ok (.iconst 1, 1) := dk_4 (dk_at dksX9_lacksOf_0 15 rfl rfl)
theorem dX9_lacksOf_16 : decode cX9_lacksOf 16 = .ok (.goto 4, 3) := dk_167 0 4 (dk_at dksX9_lacksOf_0 16 rfl rfl)
theorem dX9_lacksOf_19 : decode cX9_lacksOf 19 = .ok (.iconst 0, 1) := dk_3 (dk_at dksX9_lacksOf_0 19 rfl rfl)
theorem dX9_lacksOf_20 : decode cX9_lacksOf 20 = .ok (.istore 4, 2) := dk_54 4 (dk_at dksX9_lacksOf_0 20 rfl rfl)
theorem dX9_lacksOf_22 : decode cX9_lacksOf 22 = .ok (.iload 4, 2) := dk_21 4 (dk_at dksX9_lacksOf_0 22 rfl rfl)
theorem dX9_lacksOf_24 : decode cX9_lacksOf 24 = .ok (.ifCond .eq 14, 3) := dk_153 0 14 (dk_at dksX9_lacksOf_1 0 rfl rfl)
theorem dX9_lacksOf_27 : decode cX9_lacksOf 27 = .ok (.aload_n 0, 1) := dk_42 (dk_at dksX9_lacksOf_1 3 rfl rfl)
theorem dX9_lacksOf_28 : decode cX9_lacksOf 28 = .ok (.iload_n 2, 1) := dk_28 (dk_at dksX9_lacksOf_1 4 rfl rfl)
theorem dX9_lacksOf_29 : decode cX9_lacksOf 29 = .ok (.invokevirtual 193, 3) := dk_182 0 193 (dk_at dksX9_lacksOf_1 5 rfl rfl)
theorem dX9_lacksOf_32 : decode cX9_lacksOf 32 = .ok (.bipush 31, 2) := dk_16 31 (dk_at dksX9_lacksOf_1 8 rfl rfl)
theorem dX9_lacksOf_34 : decode cX9_lacksOf 34 = .ok (.iand, 1) := dk_126 (dk_at dksX9_lacksOf_1 10 rfl rfl)
theorem dX9_lacksOf_35 : decode cX9_lacksOf 35 = .ok (.goto 5, 3) := dk_167 0 5 (dk_at dksX9_lacksOf_1 11 rfl rfl)
theorem dX9_lacksOf_38 : decode cX9_lacksOf 38 = .ok (.bipush 7, 2) := dk_16 7 (dk_at dksX9_lacksOf_1 14 rfl rfl)
theorem dX9_lacksOf_40 : decode cX9_lacksOf 40 = .ok (.istore 5, 2) := dk_54 5 (dk_at dksX9_lacksOf_1 16 rfl rfl)
theorem dX9_lacksOf_42 : decode cX9_lacksOf 42 = .ok (.iconst 0, 1) := dk_3 (dk_at dksX9_lacksOf_1 18 rfl rfl)
theorem dX9_lacksOf_43 : decode cX9_lacksOf 43 = .ok (.istore 6, 2) := dk_54 6 (dk_at dksX9_lacksOf_1 19 rfl rfl)
theorem dX9_lacksOf_45 : decode cX9_lacksOf 45 = .ok (.iload 6, 2) := dk_21 6 (dk_at dksX9_lacksOf_1 21 rfl rfl)
theorem dX9_lacksOf_47 : decode cX9_lacksOf 47 = .ok (.iconst 5, 1) := dk_8 (dk_at dksX9_lacksOf_1 23 rfl rfl)
theorem dX9_lacksOf_48 : decode cX9_lacksOf 48 = .ok (.if_icmp .ge 35, 3) := dk_162 0 35 (dk_at dksX9_lacksOf_2 0 rfl rfl)
theorem dX9_lacksOf_51 : decode cX9_lacksOf 51 = .ok (.iload 5, 2) := dk_21 5 (dk_at dksX9_lacksOf_2 3 rfl rfl)
theorem dX9_lacksOf_53 : decode cX9_lacksOf 53 = .ok (.aload_n 0, 1) := dk_42 (dk_at dksX9_lacksOf_2 5 rfl rfl)
theorem dX9_lacksOf_54 : decode cX9_lacksOf 54 = .ok (.iload_n 1, 1) := dk_27 (dk_at dksX9_lacksOf_2 6 rfl rfl)
theorem dX9_lacksOf_55 : decode cX9_lacksOf 55 = .ok (.iload_n 3, 1) := dk_29 (dk_at dksX9_lacksOf_2 7 rfl rfl)
theorem dX9_lacksOf_56 : decode cX9_lacksOf 56 = .ok (.iload 6, 2) := dk_21 6 (dk_at dksX9_lacksOf_2 8 rfl rfl)
theorem dX9_lacksOf_58 : decode cX9_lacksOf 58 = .ok (.invokevirtual 300, 3) := dk_182 1 44 (dk_at dksX9_lacksOf_2 10 rfl rfl)
theorem dX9_lacksOf_61 : decode cX9_lacksOf 61 = .ok (.ifCond .lt 12, 3) := dk_155 0 12 (dk_at dksX9_lacksOf_2 13 rfl rfl)
theorem dX9_lacksOf_64 : decode cX9_lacksOf 64 = .ok (.iconst 1, 1) := dk_4 (dk_at dksX9_lacksOf_2 16 rfl rfl)
theorem dX9_lacksOf_65 : decode cX9_lacksOf 65 = .ok (.iload 6, 2) := dk_21 6 (dk_at dksX9_lacksOf_2 17 rfl rfl)
theorem dX9_lacksOf_67 : decode cX9_lacksOf 67 = .ok (.ishl, 1) := dk_120 (dk_at dksX9_lacksOf_2 19 rfl rfl)
theorem dX9_lacksOf_68 : decode cX9_lacksOf 68 = .ok (.iconst (-1), 1) := dk_2 (dk_at dksX9_lacksOf_2 20 rfl rfl)
theorem dX9_lacksOf_69 : decode cX9_lacksOf 69 = .ok (.ixor, 1) := dk_130 (dk_at dksX9_lacksOf_2 21 rfl rfl)
theorem dX9_lacksOf_70 : decode cX9_lacksOf 70 = .ok (.goto 4, 3) := dk_167 0 4 (dk_at dksX9_lacksOf_3 0 rfl rfl)
theorem dX9_lacksOf_73 : decode cX9_lacksOf 73 = .ok (.iconst (-1), 1) := dk_2 (dk_at dksX9_lacksOf_3 3 rfl rfl)
theorem dX9_lacksOf_74 : decode cX9_lacksOf 74 = .ok (.iand, 1) := dk_126 (dk_at dksX9_lacksOf_3 4 rfl rfl)
theorem dX9_lacksOf_75 : decode cX9_lacksOf 75 = .ok (.istore 5, 2) := dk_54 5 (dk_at dksX9_lacksOf_3 5 rfl rfl)
theorem dX9_lacksOf_77 : decode cX9_lacksOf 77 = .ok (.iinc 6 1, 3) := dk_132 6 1 (dk_at dksX9_lacksOf_3 7 rfl rfl)
theorem dX9_lacksOf_80 : decode cX9_lacksOf 80 = .ok (.goto (-35), 3) := dk_167 255 221 (dk_at dksX9_lacksOf_3 10 rfl rfl)
theorem dX9_lacksOf_83 : decode cX9_lacksOf 83 = .ok (.iload 5, 2) := dk_21 5 (dk_at dksX9_lacksOf_3 13 rfl rfl)
theorem dX9_lacksOf_85 : decode cX9_lacksOf 85 = .ok (.ireturn, 1) := dk_172 (dk_at dksX9_lacksOf_3 15 rfl rfl)
abbrev cX9_branchWith : ByteArray := prog_31_method_39_code
def yX9_branchWith : MethodName := ⟨RX9, "branchWith", "(III)I"⟩
def dkwX9_branchWith_1 : List UInt8 := [182, 1, 41, 29, 160, 0, 6, 21, 4, 172, 132, 4, 1, 167, 255, 222, 2, 172]
abbrev dktX9_branchWith_1 : List UInt8 := dkwX9_branchWith_1 ++ []
def dkwX9_branchWith_0 : List UInt8 := [3, 54, 4, 21, 4, 42, 180, 0, 63, 16, 8, 27, 104, 28, 96, 46, 162, 0, 24, 42, 27, 28, 21, 4]
abbrev dktX9_branchWith_0 : List UInt8 := dkwX9_branchWith_0 ++ dktX9_branchWith_1
theorem dksX9_branchWith_0 : cX9_branchWith.data.toList.drop 0 = dktX9_branchWith_0 := by decide +kernel
theorem dksX9_branchWith_1 : cX9_branchWith.data.toList.drop 24 = dktX9_branchWith_1 := dk_seg dksX9_branchWith_0 24 rfl rfl
theorem dX9_branchWith_0 : decode cX9_branchWith 0 = .ok (.iconst 0, 1) := dk_3 (dk_at dksX9_branchWith_0 0 rfl rfl)
theorem dX9_branchWith_1 : decode cX9_branchWith 1 = .ok (.istore 4, 2) := dk_54 4 (dk_at dksX9_branchWith_0 1 rfl rfl)
theorem dX9_branchWith_3 : decode cX9_branchWith 3 = .ok (.iload 4, 2) := dk_21 4 (dk_at dksX9_branchWith_0 3 rfl rfl)
theorem dX9_branchWith_5 : decode cX9_branchWith 5 = .ok (.aload_n 0, 1) := dk_42 (dk_at dksX9_branchWith_0 5 rfl rfl)
theorem dX9_branchWith_6 : decode cX9_branchWith 6 = .ok (.getfield 63, 3) := dk_180 0 63 (dk_at dksX9_branchWith_0 6 rfl rfl)
theorem dX9_branchWith_9 : decode cX9_branchWith 9 = .ok (.bipush 8, 2) := dk_16 8 (dk_at dksX9_branchWith_0 9 rfl rfl)
theorem dX9_branchWith_11 : decode cX9_branchWith 11 = .ok (.iload_n 1, 1) := dk_27 (dk_at dksX9_branchWith_0 11 rfl rfl)
theorem dX9_branchWith_12 : decode cX9_branchWith 12 = .ok (.imul, 1) := dk_104 (dk_at dksX9_branchWith_0 12 rfl rfl)
theorem dX9_branchWith_13 : decode cX9_branchWith 13 = .ok (.iload_n 2, 1) := dk_28 (dk_at dksX9_branchWith_0 13 rfl rfl)
theorem dX9_branchWith_14 : decode cX9_branchWith 14 = .ok (.iadd, 1) := dk_96 (dk_at dksX9_branchWith_0 14 rfl rfl)
theorem dX9_branchWith_15 : decode cX9_branchWith 15 = .ok (.iaload, 1) := dk_46 (dk_at dksX9_branchWith_0 15 rfl rfl)
theorem dX9_branchWith_16 : decode cX9_branchWith 16 = .ok (.if_icmp .ge 24, 3) := dk_162 0 24 (dk_at dksX9_branchWith_0 16 rfl rfl)
theorem dX9_branchWith_19 : decode cX9_branchWith 19 = .ok (.aload_n 0, 1) := dk_42 (dk_at dksX9_branchWith_0 19 rfl rfl)
theorem dX9_branchWith_20 : decode cX9_branchWith 20 = .ok (.iload_n 1, 1) := dk_27 (dk_at dksX9_branchWith_0 20 rfl rfl)
theorem dX9_branchWith_21 : decode cX9_branchWith 21 = .ok (.iload_n 2, 1) := dk_28 (dk_at dksX9_branchWith_0 21 rfl rfl)
theorem dX9_branchWith_22 : decode cX9_branchWith 22 = .ok (.iload 4, 2) := dk_21 4 (dk_at dksX9_branchWith_0 22 rfl rfl)
theorem dX9_branchWith_24 : decode cX9_branchWith 24 = .ok (.invokevirtual 297, 3) := dk_182 1 41 (dk_at dksX9_branchWith_1 0 rfl rfl)
theorem dX9_branchWith_27 : decode cX9_branchWith 27 = .ok (.iload_n 3, 1) := dk_29 (dk_at dksX9_branchWith_1 3 rfl rfl)
theorem dX9_branchWith_28 : decode cX9_branchWith 28 = .ok (.if_icmp .ne 6, 3) := dk_160 0 6 (dk_at dksX9_branchWith_1 4 rfl rfl)
theorem dX9_branchWith_31 : decode cX9_branchWith 31 = .ok (.iload 4, 2) := dk_21 4 (dk_at dksX9_branchWith_1 7 rfl rfl)
theorem dX9_branchWith_33 : decode cX9_branchWith 33 = .ok (.ireturn, 1) := dk_172 (dk_at dksX9_branchWith_1 9 rfl rfl)
theorem dX9_branchWith_34 : decode cX9_branchWith 34 = .ok (.iinc 4 1, 3) := dk_132 4 1 (dk_at dksX9_branchWith_1 10 rfl rfl)
theorem dX9_branchWith_37 : decode cX9_branchWith 37 = .ok (.goto (-34), 3) := dk_167 255 222 (dk_at dksX9_branchWith_1 13 rfl rfl)
theorem dX9_branchWith_40 : decode cX9_branchWith 40 = .ok (.iconst (-1), 1) := dk_2 (dk_at dksX9_branchWith_1 16 rfl rfl)
theorem dX9_branchWith_41 : decode cX9_branchWith 41 = .ok (.ireturn, 1) := dk_172 (dk_at dksX9_branchWith_1 17 rfl rfl)
abbrev cX9_deadOf : ByteArray := prog_31_method_41_code
def yX9_deadOf : MethodName := ⟨RX9, "deadOf", "(III)I"⟩
def dkwX9_deadOf_7 : List UInt8 := [172]
abbrev dktX9_deadOf_7 : List UInt8 := dkwX9_deadOf_7 ++ []
def dkwX9_deadOf_6 : List UInt8 := [4, 167, 0, 4, 3, 54, 8, 21, 8, 153, 0, 13, 21, 7, 4, 21, 6, 120, 128, 167, 0, 5, 21, 7]
abbrev dktX9_deadOf_6 : List UInt8 := dkwX9_deadOf_6 ++ dktX9_deadOf_7
def dkwX9_deadOf_5 : List UInt8 := [21, 4, 153, 0, 12, 21, 5, 8, 122, 4, 126, 154, 0, 17, 42, 27, 28, 29, 182, 1, 47, 154, 0, 7]
abbrev dktX9_deadOf_5 : List UInt8 := dkwX9_deadOf_5 ++ dktX9_deadOf_6
def dkwX9_deadOf_4 : List UInt8 := [122, 4, 126, 154, 0, 10, 4, 21, 9, 120, 167, 0, 4, 3, 128, 54, 7, 132, 8, 1, 167, 255, 204]
abbrev dktX9_deadOf_4 : List UInt8 := dkwX9_deadOf_4 ++ dktX9_deadOf_5
def dkwX9_deadOf_3 : List UInt8 := [153, 0, 47, 42, 27, 29, 21, 8, 182, 1, 44, 54, 9, 21, 7, 21, 9, 155, 0, 20, 21, 5, 21, 8]
abbrev dktX9_deadOf_3 : List UInt8 := dkwX9_deadOf_3 ++ dktX9_deadOf_4
def dkwX9_deadOf_2 : List UInt8 := [167, 0, 4, 6, 182, 1, 44, 54, 6, 3, 54, 7, 3, 54, 8, 21, 8, 8, 162, 0, 52, 21, 4]
abbrev dktX9_deadOf_2 : List UInt8 := dkwX9_deadOf_2 ++ dktX9_deadOf_3
def dkwX9_deadOf_1 : List UInt8 := [153, 0, 11, 42, 28, 182, 0, 193, 167, 0, 5, 16, 7, 54, 5, 42, 27, 29, 21, 4, 153, 0, 7, 8]
abbrev dktX9_deadOf_1 : List UInt8 := dkwX9_deadOf_1 ++ dktX9_deadOf_2
def dkwX9_deadOf_0 : List UInt8 := [42, 180, 0, 57, 16, 8, 27, 104, 29, 96, 46, 4, 160, 0, 7, 4, 167, 0, 4, 3, 54, 4, 21, 4]
abbrev dktX9_deadOf_0 : List UInt8 := dkwX9_deadOf_0 ++ dktX9_deadOf_1
theorem dksX9_deadOf_0 : cX9_deadOf.data.toList.drop 0 = dktX9_deadOf_0 := by decide +kernel
theorem dksX9_deadOf_1 : cX9_deadOf.data.toList.drop 24 = dktX9_deadOf_1 := dk_seg dksX9_deadOf_0 24 rfl rfl
theorem dksX9_deadOf_2 : cX9_deadOf.data.toList.drop 48 = dktX9_deadOf_2 := dk_seg dksX9_deadOf_1 24 rfl rfl
theorem dksX9_deadOf_3 : cX9_deadOf.data.toList.drop 71 = dktX9_deadOf_3 := dk_seg dksX9_deadOf_2 23 rfl rfl
theorem dksX9_deadOf_4 : cX9_deadOf.data.toList.drop 95 = dktX9_deadOf_4 := dk_seg dksX9_deadOf_3 24 rfl rfl
theorem dksX9_deadOf_5 : cX9_deadOf.data.toList.drop 118 = dktX9_deadOf_5 := dk_seg dksX9_deadOf_4 23 rfl rfl
theorem dksX9_deadOf_6 : cX9_deadOf.data.toList.drop 142 = dktX9_deadOf_6 := dk_seg dksX9_deadOf_5 24 rfl rfl
theorem dksX9_deadOf_7 : cX9_deadOf.data.toList.drop 166 = dktX9_deadOf_7 := dk_seg dksX9_deadOf_6 24 rfl rfl
theorem dX9_deadOf_0 : decode cX9_deadOf 0 = .ok (.aload_n 0, 1) := dk_42 (dk_at dksX9_deadOf_0 0 rfl rfl)
theorem dX9_deadOf_1 : decode cX9_deadOf 1 = .ok (.getfield 57, 3) := dk_180 0 57 (dk_at dksX9_deadOf_0 1 rfl rfl)
theorem dX9_deadOf_4 : decode cX9_deadOf 4 = .ok (.bipush 8, 2) := dk_16 8 (dk_at dksX9_deadOf_0 4 rfl rfl)
theorem dX9_deadOf_6 : decode cX9_deadOf 6 = .ok (.iload_n 1, 1) := dk_27 (dk_at dksX9_deadOf_0 6 rfl rfl)
theorem dX9_deadOf_7 : decode cX9_deadOf 7 = .ok (.imul, 1) := dk_104 (dk_at dksX9_deadOf_0 7 rfl rfl)
theorem dX9_deadOf_8 : decode cX9_deadOf 8 = .ok (.iload_n 3, 1) := dk_29 (dk_at dksX9_deadOf_0 8 rfl rfl)
theorem dX9_deadOf_9 : decode cX9_deadOf 9 = .ok (.iadd, 1) := dk_96 (dk_at dksX9_deadOf_0 9 rfl rfl)
theorem dX9_deadOf_10 : decode cX9_deadOf 10 = .ok (.iaload, 1) := dk_46 (dk_at dksX9_deadOf_0 10 rfl rfl)
theorem dX9_deadOf_11 : decode cX9_deadOf 11 = .ok (.iconst 1, 1) := dk_4 (dk_at dksX9_deadOf_0 11 rfl rfl)
theorem dX9_deadOf_12 : decode cX9_deadOf 12 = .ok (.if_icmp .ne 7, 3) := dk_160 0 7 (dk_at dksX9_deadOf_0 12 rfl rfl)
theorem dX9_deadOf_15 : decode cX9_deadOf 15 = .ok (.iconst 1, 1) := dk_4 (dk_at dksX9_deadOf_0 15 rfl rfl)
theorem dX9_deadOf_16 : decode cX9_deadOf 16 = .ok (.goto 4, 3) := dk_167 0 4 (dk_at dksX9_deadOf_0 16 rfl rfl)
theorem dX9_deadOf_19 : decode cX9_deadOf 19 = .ok (.iconst 0, 1) := dk_3 (dk_at dksX9_deadOf_0 19 rfl rfl)
theorem dX9_deadOf_20 : decode cX9_deadOf 20 = .ok (.istore 4, 2) := dk_54 4 (dk_at dksX9_deadOf_0 20 rfl rfl)
theorem dX9_deadOf_22 : decode cX9_deadOf 22 = .ok (.iload 4, 2) := dk_21 4 (dk_at dksX9_deadOf_0 22 rfl rfl)
theorem dX9_deadOf_24 : decode cX9_deadOf 24 = .ok (.ifCond .eq 11, 3) := dk_153 0 11 (dk_at dksX9_deadOf_1 0 rfl rfl)
theorem dX9_deadOf_27 : decode cX9_deadOf 27 = .ok (.aload_n 0, 1) := dk_42 (dk_at dksX9_deadOf_1 3 rfl rfl)
theorem dX9_deadOf_28 : decode cX9_deadOf 28 = .ok (.iload_n 2, 1) := dk_28 (dk_at dksX9_deadOf_1 4 rfl rfl)
theorem dX9_deadOf_29 : decode cX9_deadOf 29 = .ok (.invokevirtual 193, 3) := dk_182 0 193 (dk_at dksX9_deadOf_1 5 rfl rfl)
theorem dX9_deadOf_32 : decode cX9_deadOf 32 = .ok (.goto 5, 3) := dk_167 0 5 (dk_at dksX9_deadOf_1 8 rfl rfl)
theorem dX9_deadOf_35 : decode cX9_deadOf 35 = .ok (.bipush 7, 2) := dk_16 7 (dk_at dksX9_deadOf_1 11 rfl rfl)
theorem dX9_deadOf_37 : decode cX9_deadOf 37 = .ok (.istore 5, 2) := dk_54 5 (dk_at dksX9_deadOf_1 13 rfl rfl)
theorem dX9_deadOf_39 : decode cX9_deadOf 39 = .ok (.aload_n 0, 1) := dk_42 (dk_at dksX9_deadOf_1 15 rfl rfl)
theorem dX9_deadOf_40 : decode cX9_deadOf 40 = .ok (.iload_n 1, 1) := dk_27 (dk_at dksX9_deadOf_1 16 rfl rfl)
theorem dX9_deadOf_41 : decode cX9_deadOf 41 = .ok (.iload_n 3, 1) := dk_29 (dk_at dksX9_deadOf_1 17 rfl rfl)
theorem dX9_deadOf_42 : decode cX9_deadOf 42 = .ok (.iload 4, 2) := dk_21 4 (dk_at dksX9_deadOf_1 18 rfl rfl)
theorem dX9_deadOf_44 : decode cX9_deadOf 44 = .ok (.ifCond .eq 7, 3) := dk_153 0 7 (dk_at dksX9_deadOf_1 20 rfl rfl)
theorem dX9_deadOf_47 : decode cX9_deadOf 47 = .ok (.iconst 5, 1) := dk_8 (dk_at dksX9_deadOf_1 23 rfl rfl)
theorem dX9_deadOf_48 : decode cX9_deadOf 48 = .ok (.goto 4, 3) := dk_167 0 4 (dk_at dksX9_deadOf_2 0 rfl rfl)
theorem dX9_deadOf_51 : decode cX9_deadOf 51 = .ok (.iconst 3, 1) := dk_6 (dk_at dksX9_deadOf_2 3 rfl rfl)
theorem dX9_deadOf_52 : decode cX9_deadOf 52 = .ok (.invokevirtual 300, 3) := dk_182 1 44 (dk_at dksX9_deadOf_2 4 rfl rfl)
theorem dX9_deadOf_55 : decode cX9_deadOf 55 = .ok (.istore 6, 2) := dk_54 6 (dk_at dksX9_deadOf_2 7 rfl rfl)
theorem dX9_deadOf_57 : decode cX9_deadOf 57 = .ok (.iconst 0, 1) := dk_3 (dk_at dksX9_deadOf_2 9 rfl rfl)
theorem dX9_deadOf_58 : decode cX9_deadOf 58 = .ok (.istore 7, 2) := dk_54 7 (dk_at dksX9_deadOf_2 10 rfl rfl)
theorem dX9_deadOf_60 : decode cX9_deadOf 60 = .ok (.iconst 0, 1) := dk_3 (dk_at dksX9_deadOf_2 12 rfl rfl)
theorem dX9_deadOf_61 : decode cX9_deadOf 61 = .ok (.istore 8, 2) := dk_54 8 (dk_at dksX9_deadOf_2 13 rfl rfl)
theorem dX9_deadOf_63 : decode cX9_deadOf 63 = .ok (.iload 8, 2) := dk_21 8 (dk_at dksX9_deadOf_2 15 rfl rfl)
theorem dX9_deadOf_65 : decode cX9_deadOf 65 = .ok (.iconst 5, 1) := dk_8 (dk_at dksX9_deadOf_2 17 rfl rfl)
theorem dX9_deadOf_66 : decode cX9_deadOf 66 = .ok (.if_icmp .ge 52, 3) := dk_162 0 52 (dk_at dksX9_deadOf_2 18 rfl rfl)
theorem dX9_deadOf_69 : decode cX9_deadOf 69 = .ok (.iload 4, 2) := dk_21 4 (dk_at dksX9_deadOf_2 21 rfl rfl)
theorem dX9_deadOf_71 : decode cX9_deadOf 71 = .ok (.ifCond .eq 47, 3) := dk_153 0 47 (dk_at dksX9_deadOf_3 0 rfl rfl)
theorem dX9_deadOf_74 : decode cX9_deadOf 74 = .ok (.aload_n 0, 1) := dk_42 (dk_at dksX9_deadOf_3 3 rfl rfl)
theorem dX9_deadOf_75 : decode cX9_deadOf 75 = .ok (.iload_n 1, 1) := dk_27 (dk_at dksX9_deadOf_3 4 rfl rfl)
theorem dX9_deadOf_76 : decode cX9_deadOf 76 = .ok (.iload_n 3, 1) := dk_29 (dk_at dksX9_deadOf_3 5 rfl rfl)
theorem dX9_deadOf_77 : decode cX9_deadOf 77 = .ok (.iload 8, 2) := dk_21 8 (dk_at dksX9_deadOf_3 6 rfl rfl)
theorem dX9_deadOf_79 : decode cX9_deadOf 79 = .ok (.invokevirtual 300, 3) := dk_182 1 44 (dk_at dksX9_deadOf_3 8 rfl rfl)
theorem dX9_deadOf_82 : decode cX9_deadOf 82 = .ok (.istore 9, 2) := dk_54 9 (dk_at dksX9_deadOf_3 11 rfl rfl)
theorem dX9_deadOf_84 : decode cX9_deadOf 84 = .ok (.iload 7, 2) := dk_21 7 (dk_at dksX9_deadOf_3 13 rfl rfl)
theorem dX9_deadOf_86 : decode cX9_deadOf 86 = .ok (.iload 9, 2) := dk_21 9 (dk_at dksX9_deadOf_3 15 rfl rfl)
theorem dX9_deadOf_88 : decode cX9_deadOf 88 = .ok (.ifCond .lt 20, 3) := dk_155 0 20 (dk_at dksX9_deadOf_3 17 rfl rfl)
theorem dX9_deadOf_91 : decode cX9_deadOf 91 = .ok (.iload 5, 2) := dk_21 5 (dk_at dksX9_deadOf_3 20 rfl rfl)
theorem dX9_deadOf_93 : decode cX9_deadOf 93 = .ok (.iload 8, 2) := dk_21 8 (dk_at dksX9_deadOf_3 22 rfl rfl)
theorem dX9_deadOf_95 : decode cX9_deadOf 95 = .ok (.ishr, 1) := dk_122 (dk_at dksX9_deadOf_4 0 rfl rfl)
theorem dX9_deadOf_96 : decode cX9_deadOf 96 = .ok (.iconst 1, 1) := dk_4 (dk_at dksX9_deadOf_4 1 rfl rfl)
theorem dX9_deadOf_97 : decode cX9_deadOf 97 = .ok (.iand, 1) := dk_126 (dk_at dksX9_deadOf_4 2 rfl rfl)
theorem dX9_deadOf_98 : decode cX9_deadOf 98 = .ok (.ifCond .ne 10, 3) := dk_154 0 10 (dk_at dksX9_deadOf_4 3 rfl rfl)
theorem dX9_deadOf_101 : decode cX9_deadOf 101 = .ok (.iconst 1, 1) := dk_4 (dk_at dksX9_deadOf_4 6 rfl rfl)
theorem dX9_deadOf_102 : decode cX9_deadOf 102 = .ok (.iload 9, 2) := dk_21 9 (dk_at dksX9_deadOf_4 7 rfl rfl)
theorem dX9_deadOf_104 : decode cX9_deadOf 104 = .ok (.ishl, 1) := dk_120 (dk_at dksX9_deadOf_4 9 rfl rfl)
theorem dX9_deadOf_105 : decode cX9_deadOf 105 = .ok (.goto 4, 3) := dk_167 0 4 (dk_at dksX9_deadOf_4 10 rfl rfl)
theorem dX9_deadOf_108 : decode cX9_deadOf 108 = .ok (.iconst 0, 1) := dk_3 (dk_at dksX9_deadOf_4 13 rfl rfl)
theorem dX9_deadOf_109 : decode cX9_deadOf 109 = .ok (.ior, 1) := dk_128 (dk_at dksX9_deadOf_4 14 rfl rfl)
theorem dX9_deadOf_110 : decode cX9_deadOf 110 = .ok (.istore 7, 2) := dk_54 7 (dk_at dksX9_deadOf_4 15 rfl rfl)
theorem dX9_deadOf_112 : decode cX9_deadOf 112 = .ok (.iinc 8 1, 3) := dk_132 8 1 (dk_at dksX9_deadOf_4 17 rfl rfl)
theorem dX9_deadOf_115 : decode cX9_deadOf 115 = .ok (.goto (-52), 3) := dk_167 255 204 (dk_at dksX9_deadOf_4 20 rfl rfl)
theorem dX9_deadOf_118 : decode cX9_deadOf 118 = .ok (.iload 4, 2) := dk_21 4 (dk_at dksX9_deadOf_5 0 rfl rfl)
theorem dX9_deadOf_120 : decode cX9_deadOf 120 = .ok (.ifCond .eq 12, 3) := dk_153 0 12 (dk_at dksX9_deadOf_5 2 rfl rfl)
theorem dX9_deadOf_123 : decode cX9_deadOf 123 = .ok (.iload 5, 2) := dk_21 5 (dk_at dksX9_deadOf_5 5 rfl rfl)
theorem dX9_deadOf_125 : decode cX9_deadOf 125 = .ok (.iconst 5, 1) := dk_8 (dk_at dksX9_deadOf_5 7 rfl rfl)
theorem dX9_deadOf_126 : decode cX9_deadOf 126 = .ok (.ishr, 1) := dk_122 (dk_at dksX9_deadOf_5 8 rfl rfl)
theorem dX9_deadOf_127 : decode cX9_deadOf 127 = .ok (.iconst 1, 1) := dk_4 (dk_at dksX9_deadOf_5 9 rfl rfl)
theorem dX9_deadOf_128 : decode cX9_deadOf 128 = .ok (.iand, 1) := dk_126 (dk_at dksX9_deadOf_5 10 rfl rfl)
theorem dX9_deadOf_129 : decode cX9_deadOf 129 = .ok (.ifCond .ne 17, 3) := dk_154 0 17 (dk_at dksX9_deadOf_5 11 rfl rfl)
theorem dX9_deadOf_132 : decode cX9_deadOf 132 = .ok (.aload_n 0, 1) := dk_42 (dk_at dksX9_deadOf_5 14 rfl rfl)
theorem dX9_deadOf_133 : decode cX9_deadOf 133 = .ok (.iload_n 1, 1) := dk_27 (dk_at dksX9_deadOf_5 15 rfl rfl)
theorem dX9_deadOf_134 : decode cX9_deadOf 134 = .ok (.iload_n 2, 1) := dk_28 (dk_at dksX9_deadOf_5 16 rfl rfl)
theorem dX9_deadOf_135 : decode cX9_deadOf 135 = .ok (.iload_n 3, 1) := dk_29 (dk_at dksX9_deadOf_5 17 rfl rfl)
theorem dX9_deadOf_136 : decode cX9_deadOf 136 = .ok (.invokevirtual 303, 3) := dk_182 1 47 (dk_at dksX9_deadOf_5 18 rfl rfl)
theorem dX9_deadOf_139 : decode cX9_deadOf 139 = .ok (.ifCond .ne 7, 3) := dk_154 0 7 (dk_at dksX9_deadOf_5 21 rfl rfl)
theorem dX9_deadOf_142 : decode cX9_deadOf 142 = .ok (.iconst 1, 1) := dk_4 (dk_at dksX9_deadOf_6 0 rfl rfl)
theorem dX9_deadOf_143 : decode cX9_deadOf 143 = .ok (.goto 4, 3) := dk_167 0 4 (dk_at dksX9_deadOf_6 1 rfl rfl)
theorem dX9_deadOf_146 : decode cX9_deadOf 146 = .ok (.iconst 0, 1) := dk_3 (dk_at dksX9_deadOf_6 4 rfl rfl)
theorem dX9_deadOf_147 : decode cX9_deadOf 147 = .ok (.istore 8, 2) := dk_54 8 (dk_at dksX9_deadOf_6 5 rfl rfl)
theorem dX9_deadOf_149 : decode cX9_deadOf 149 = .ok (.iload 8, 2) := dk_21 8 (dk_at dksX9_deadOf_6 7 rfl rfl)
theorem dX9_deadOf_151 : decode cX9_deadOf 151 = .ok (.ifCond .eq 13, 3) := dk_153 0 13 (dk_at dksX9_deadOf_6 9 rfl rfl)
theorem dX9_deadOf_154 : decode cX9_deadOf 154 = .ok (.iload 7, 2) := dk_21 7 (dk_at dksX9_deadOf_6 12 rfl rfl)
theorem dX9_deadOf_156 : decode cX9_deadOf 156 = .ok (.iconst 1, 1) := dk_4 (dk_at dksX9_deadOf_6 14 rfl rfl)
theorem dX9_deadOf_157 : decode cX9_deadOf 157 = .ok (.iload 6, 2) := dk_21 6 (dk_at dksX9_deadOf_6 15 rfl rfl)
theorem dX9_deadOf_159 : decode cX9_deadOf 159 = .ok (.ishl, 1) := dk_120 (dk_at dksX9_deadOf_6 17 rfl rfl)
theorem dX9_deadOf_160 : decode cX9_deadOf 160 = .ok (.ior, 1) := dk_128 (dk_at dksX9_deadOf_6 18 rfl rfl)
theorem dX9_deadOf_161 : decode cX9_deadOf 161 = .ok (.goto 5, 3) := dk_167 0 5 (dk_at dksX9_deadOf_6 19 rfl rfl)
theorem dX9_deadOf_164 : decode cX9_deadOf 164 = .ok (.iload 7, 2) := dk_21 7 (dk_at dksX9_deadOf_6 22 rfl rfl)
theorem dX9_deadOf_166 : decode cX9_deadOf 166 = .ok (.ireturn, 1) := dk_172 (dk_at dksX9_deadOf_7 0 rfl rfl)
abbrev cX9_branch : ByteArray := prog_31_method_44_code
def yX9_branch : MethodName := ⟨RX9, "branch", "(IIIII)I"⟩
def dkwX9_branch_2 : List UInt8 := [46, 4, 159, 0, 6, 16, 254, 172, 42, 27, 28, 29, 21, 4, 21, 5, 182, 1, 53, 172]
abbrev dktX9_branch_2 : List UInt8 := dkwX9_branch_2 ++ []
def dkwX9_branch_1 : List UInt8 := [154, 0, 5, 2, 172, 42, 27, 29, 182, 1, 37, 153, 0, 18, 42, 180, 0, 57, 16, 8, 27, 104, 29, 96]
abbrev dktX9_branch_1 : List UInt8 := dkwX9_branch_1 ++ dktX9_branch_2
def dkwX9_branch_0 : List UInt8 := [27, 184, 1, 31, 153, 0, 23, 28, 184, 0, 185, 153, 0, 16, 21, 5, 133, 9, 20, 0, 141, 184, 0, 143]
abbrev dktX9_branch_0 : List UInt8 := dkwX9_branch_0 ++ dktX9_branch_1
theorem dksX9_branch_0 : cX9_branch.data.toList.drop 0 = dktX9_branch_0 := by decide +kernel
theorem dksX9_branch_1 : cX9_branch.data.toList.drop 24 = dktX9_branch_1 := dk_seg dksX9_branch_0 24 rfl rfl
theorem dksX9_branch_2 : cX9_branch.data.toList.drop 48 = dktX9_branch_2 := dk_seg dksX9_branch_1 24 rfl rfl
theorem dX9_branch_0 : decode cX9_branch 0 = .ok (.iload_n 1, 1) := dk_27 (dk_at dksX9_branch_0 0 rfl rfl)
theorem dX9_branch_1 : decode cX9_branch 1 = .ok (.invokestatic 287, 3) := dk_184 1 31 (dk_at dksX9_branch_0 1 rfl rfl)
theorem dX9_branch_4 : decode cX9_branch 4 = .ok (.ifCond .eq 23, 3) := dk_153 0 23 (dk_at dksX9_branch_0 4 rfl rfl)
theorem dX9_branch_7 : decode cX9_branch 7 = .ok (.iload_n 2, 1) := dk_28 (dk_at dksX9_branch_0 7 rfl rfl)
theorem dX9_branch_8 : decode cX9_branch 8 = .ok (.invokestatic 185, 3) := dk_184 0 185 (dk_at dksX9_branch_0 8 rfl rfl)
theorem dX9_branch_11 : decode cX9_branch 11 = .ok (.ifCond .eq 16, 3) := dk_153 0 16 (dk_at dksX9_branch_0 11 rfl rfl)
theorem dX9_branch_14 : decode cX9_branch 14 = .ok (.iload 5, 2) := dk_21 5 (dk_at dksX9_branch_0 14 rfl rfl)
theorem dX9_branch_16 : decode cX9_branch 16 = .ok (.i2l, 1) := dk_133 (dk_at dksX9_branch_0 16 rfl rfl)
theorem dX9_branch_17 : decode cX9_branch 17 = .ok (.lconst 0, 1) := dk_9 (dk_at dksX9_branch_0 17 rfl rfl)
theorem dX9_branch_18 : decode cX9_branch 18 = .ok (.ldc2_w 141, 3) := dk_20 0 141 (dk_at dksX9_branch_0 18 rfl rfl)
theorem dX9_branch_21 : decode cX9_branch 21 = .ok (.invokestatic 143, 3) := dk_184 0 143 (dk_at dksX9_branch_0 21 rfl rfl)
theorem dX9_branch_24 : decode cX9_branch 24 = .ok (.ifCond .ne 5, 3) := dk_154 0 5 (dk_at dksX9_branch_1 0 rfl rfl)
theorem dX9_branch_27 : decode cX9_branch 27 = .ok (.iconst (-1), 1) := dk_2 (dk_at dksX9_branch_1 3 rfl rfl)
theorem dX9_branch_28 : decode cX9_branch 28 = .ok (.ireturn, 1) := dk_172 (dk_at dksX9_branch_1 4 rfl rfl)
theorem dX9_branch_29 : decode cX9_branch 29 = .ok (.aload_n 0, 1) := dk_42 (dk_at dksX9_branch_1 5 rfl rfl)
theorem dX9_branch_30 : decode cX9_branch 30 = .ok (.iload_n 1, 1) := dk_27 (dk_at dksX9_branch_1 6 rfl rfl)
theorem dX9_branch_31 : decode cX9_branch 31 = .ok (.iload_n 3, 1) := dk_29 (dk_at dksX9_branch_1 7 rfl rfl)
theorem dX9_branch_32 : decode cX9_branch 32 = .ok (.invokevirtual 293, 3) := dk_182 1 37 (dk_at dksX9_branch_1 8 rfl rfl)
theorem dX9_branch_35 : decode cX9_branch 35 = .ok (.ifCond .eq 18, 3) := dk_153 0 18 (dk_at dksX9_branch_1 11 rfl rfl)
theorem dX9_branch_38 : decode cX9_branch 38 = .ok (.aload_n 0, 1) := dk_42 (dk_at dksX9_branch_1 14 rfl rfl)
theorem dX9_branch_39 : decode cX9_branch 39 = .ok (.getfield 57, 3) := dk_180 0 57 (dk_at dksX9_branch_1 15 rfl rfl)
theorem dX9_branch_42 : decode cX9_branch 42 = .ok (.bipush 8, 2) := dk_16 8 (dk_at dksX9_branch_1 18 rfl rfl)
theorem dX9_branch_44 : decode cX9_branch 44 = .ok (.iload_n 1, 1) := dk_27 (dk_at dksX9_branch_1 20 rfl rfl)
theorem dX9_branch_45 : decode cX9_branch 45 = .ok (.imul, 1) := dk_104 (dk_at dksX9_branch_1 21 rfl rfl)
theorem dX9_branch_46 : decode cX9_branch 46 = .ok (.iload_n 3, 1) := dk_29 (dk_at dksX9_branch_1 22 rfl rfl)
theorem dX9_branch_47 : decode cX9_branch 47 = .ok (.iadd, 1) := dk_96 (dk_at dksX9_branch_1 23 rfl rfl)
theorem dX9_branch_48 : decode cX9_branch 48 = .ok (.iaload, 1) := dk_46 (dk_at dksX9_branch_2 0 rfl rfl)
theorem dX9_branch_49 : decode cX9_branch 49 = .ok (.iconst 1, 1) := dk_4 (dk_at dksX9_branch_2 1 rfl rfl)
theorem dX9_branch_50 : decode cX9_branch 50 = .ok (.if_icmp .eq 6, 3) := dk_159 0 6 (dk_at dksX9_branch_2 2 rfl rfl)
theorem dX9_branch_53 : decode cX9_branch 53 = .ok (.bipush (-2), 2) := dk_16 254 (dk_at dksX9_branch_2 5 rfl rfl)
theorem dX9_branch_55 : decode cX9_branch 55 = .ok (.ireturn, 1) := dk_172 (dk_at dksX9_branch_2 7 rfl rfl)
theorem dX9_branch_56 : decode cX9_branch 56 = .ok (.aload_n 0, 1) := dk_42 (dk_at dksX9_branch_2 8 rfl rfl)
theorem dX9_branch_57 : decode cX9_branch 57 = .ok (.iload_n 1, 1) := dk_27 (dk_at dksX9_branch_2 9 rfl rfl)
theorem dX9_branch_58 : decode cX9_branch 58 = .ok (.iload_n 2, 1) := dk_28 (dk_at dksX9_branch_2 10 rfl rfl)
theorem dX9_branch_59 : decode cX9_branch 59 = .ok (.iload_n 3, 1) := dk_29 (dk_at dksX9_branch_2 11 rfl rfl)
theorem dX9_branch_60 : decode cX9_branch 60 = .ok (.iload 4, 2) := dk_21 4 (dk_at dksX9_branch_2 12 rfl rfl)
theorem dX9_branch_62 : decode cX9_branch 62 = .ok (.iload 5, 2) := dk_21 5 (dk_at dksX9_branch_2 14 rfl rfl)
theorem dX9_branch_64 : decode cX9_branch 64 = .ok (.invokevirtual 309, 3) := dk_182 1 53 (dk_at dksX9_branch_2 16 rfl rfl)
theorem dX9_branch_67 : decode cX9_branch 67 = .ok (.ireturn, 1) := dk_172 (dk_at dksX9_branch_2 19 rfl rfl)
abbrev cX9_branchOf : ByteArray := prog_31_method_43_code
def yX9_branchOf : MethodName := ⟨RX9, "branchOf", "(IIIII)I"⟩
def dkwX9_branchOf_4 : List UInt8 := [182, 1, 44, 172]
abbrev dktX9_branchOf_4 : List UInt8 := dkwX9_branchOf_4 ++ []
def dkwX9_branchOf_3 : List UInt8 := [21, 5, 182, 0, 189, 182, 1, 44, 54, 6, 21, 6, 155, 0, 8, 21, 6, 167, 0, 10, 42, 27, 29, 8]
abbrev dktX9_branchOf_3 : List UInt8 := dkwX9_branchOf_3 ++ dktX9_branchOf_4
def dkwX9_branchOf_2 : List UInt8 := [184, 0, 137, 105, 148, 154, 0, 6, 21, 6, 172, 132, 6, 1, 167, 255, 198, 42, 27, 29, 42, 28, 21, 4]
abbrev dktX9_branchOf_2 : List UInt8 := dkwX9_branchOf_2 ++ dktX9_branchOf_3
def dkwX9_branchOf_1 : List UInt8 := [182, 1, 41, 54, 7, 21, 7, 16, 10, 161, 0, 25, 21, 4, 133, 21, 7, 16, 10, 100, 133, 21, 5]
abbrev dktX9_branchOf_1 : List UInt8 := dkwX9_branchOf_1 ++ dktX9_branchOf_2
def dkwX9_branchOf_0 : List UInt8 := [3, 54, 6, 21, 6, 42, 180, 0, 63, 16, 8, 27, 104, 29, 96, 46, 162, 0, 48, 42, 27, 29, 21, 6]
abbrev dktX9_branchOf_0 : List UInt8 := dkwX9_branchOf_0 ++ dktX9_branchOf_1
theorem dksX9_branchOf_0 : cX9_branchOf.data.toList.drop 0 = dktX9_branchOf_0 := by decide +kernel
theorem dksX9_branchOf_1 : cX9_branchOf.data.toList.drop 24 = dktX9_branchOf_1 := dk_seg dksX9_branchOf_0 24 rfl rfl
theorem dksX9_branchOf_2 : cX9_branchOf.data.toList.drop 47 = dktX9_branchOf_2 := dk_seg dksX9_branchOf_1 23 rfl rfl
theorem dksX9_branchOf_3 : cX9_branchOf.data.toList.drop 71 = dktX9_branchOf_3 := dk_seg dksX9_branchOf_2 24 rfl rfl
theorem dksX9_branchOf_4 : cX9_branchOf.data.toList.drop 95 = dktX9_branchOf_4 := dk_seg dksX9_branchOf_3 24 rfl rfl
theorem dX9_branchOf_0 : decode cX9_branchOf 0 = .ok (.iconst 0, 1) := dk_3 (dk_at dksX9_branchOf_0 0 rfl rfl)
theorem dX9_branchOf_1 : decode cX9_branchOf 1 = .ok (.istore 6, 2) := dk_54 6 (dk_at dksX9_branchOf_0 1 rfl rfl)
theorem dX9_branchOf_3 : decode cX9_branchOf 3 = .ok (.iload 6, 2) := dk_21 6 (dk_at dksX9_branchOf_0 3 rfl rfl)
theorem dX9_branchOf_5 : decode cX9_branchOf 5 = .ok (.aload_n 0, 1) := dk_42 (dk_at dksX9_branchOf_0 5 rfl rfl)
theorem dX9_branchOf_6 : decode cX9_branchOf 6 = .ok (.getfield 63, 3) := dk_180 0 63 (dk_at dksX9_branchOf_0 6 rfl rfl)
theorem dX9_branchOf_9 : decode cX9_branchOf 9 = .ok (.bipush 8, 2) := dk_16 8 (dk_at dksX9_branchOf_0 9 rfl rfl)
theorem dX9_branchOf_11 : decode cX9_branchOf 11 = .ok (.iload_n 1, 1) := dk_27 (dk_at dksX9_branchOf_0 11 rfl rfl)
theorem dX9_branchOf_12 : decode cX9_branchOf 12 = .ok (.imul, 1) := dk_104 (dk_at dksX9_branchOf_0 12 rfl rfl)
theorem dX9_branchOf_13 : decode cX9_branchOf 13 = .ok (.iload_n 3, 1) := dk_29 (dk_at dksX9_branchOf_0 13 rfl rfl)
theorem dX9_branchOf_14 : decode cX9_branchOf 14 = .ok (.iadd, 1) := dk_96 (dk_at dksX9_branchOf_0 14 rfl rfl)
theorem dX9_branchOf_15 : decode cX9_branchOf 15 = .ok (.iaload, 1) := dk_46 (dk_at dksX9_branchOf_0 15 rfl rfl)
theorem dX9_branchOf_16 : decode cX9_branchOf 16 = .ok (.if_icmp .ge 48, 3) := dk_162 0 48 (dk_at dksX9_branchOf_0 16 rfl rfl)
theorem dX9_branchOf_19 : decode cX9_branchOf 19 = .ok (.aload_n 0, 1) := dk_42 (dk_at dksX9_branchOf_0 19 rfl rfl)
theorem dX9_branchOf_20 : decode cX9_branchOf 20 = .ok (.iload_n 1, 1) := dk_27 (dk_at dksX9_branchOf_0 20 rfl rfl)
theorem dX9_branchOf_21 : decode cX9_branchOf 21 = .ok (.iload_n 3, 1) := dk_29 (dk_at dksX9_branchOf_0 21 rfl rfl)
theorem dX9_branchOf_22 : decode cX9_branchOf 22 = .ok (.iload 6, 2) := dk_21 6 (dk_at dksX9_branchOf_0 22 rfl rfl)
theorem dX9_branchOf_24 : decode cX9_branchOf 24 = .ok (.invokevirtual 297, 3) := dk_182 1 41 (dk_at dksX9_branchOf_1 0 rfl rfl)
theorem dX9_branchOf_27 : decode cX9_branchOf 27 = .ok (.istore 7, 2) := dk_54 7 (dk_at dksX9_branchOf_1 3 rfl rfl)
theorem dX9_branchOf_29 : decode cX9_branchOf 29 = .ok (.iload 7, 2) := dk_21 7 (dk_at dksX9_branchOf_1 5 rfl rfl)
theorem dX9_branchOf_31 : decode cX9_branchOf 31 = .ok (.bipush 10, 2) := dk_16 10 (dk_at dksX9_branchOf_1 7 rfl rfl)
theorem dX9_branchOf_33 : decode cX9_branchOf 33 = .ok (.if_icmp .lt 25, 3) := dk_161 0 25 (dk_at dksX9_branchOf_1 9 rfl rfl)
theorem dX9_branchOf_36 : decode cX9_branchOf 36 = .ok (.iload 4, 2) := dk_21 4 (dk_at dksX9_branchOf_1 12 rfl rfl)
theorem dX9_branchOf_38 : decode cX9_branchOf 38 = .ok (.i2l, 1) := dk_133 (dk_at dksX9_branchOf_1 14 rfl rfl)
theorem dX9_branchOf_39 : decode cX9_branchOf 39 = .ok (.iload 7, 2) := dk_21 7 (dk_at dksX9_branchOf_1 15 rfl rfl)
theorem dX9_branchOf_41 : decode cX9_branchOf 41 = .ok (.bipush 10, 2) := dk_16 10 (dk_at dksX9_branchOf_1 17 rfl rfl)
theorem dX9_branchOf_43 : decode cX9_branchOf 43 = .ok (.isub, 1) := dk_100 (dk_at dksX9_branchOf_1 19 rfl rfl)
theorem dX9_branchOf_44 : decode cX9_branchOf 44 = .ok (.i2l, 1) := dk_133 (dk_at dksX9_branchOf_1 20 rfl rfl)
theorem dX9_branchOf_45 : decode cX9_branchOf 45 = .ok (.iload 5, 2) := dk_21 5 (dk_at dksX9_branchOf_1 21 rfl rfl)
theorem dX9_branchOf_47 : decode cX9_branchOf 47 = .ok (.invokestatic 137, 3) := dk_184 0 137 (dk_at dksX9_branchOf_2 0 rfl rfl)
theorem dX9_branchOf_50 : decode cX9_branchOf 50 = .ok (.lmul, 1) := dk_105 (dk_at dksX9_branchOf_2 3 rfl rfl)
theorem dX9_branchOf_51 : decode cX9_branchOf 51 = .ok (.lcmp, 1) := dk_148 (dk_at dksX9_branchOf_2 4 rfl rfl)
theorem dX9_branchOf_52 : decode cX9_branchOf 52 = .ok (.ifCond .ne 6, 3) := dk_154 0 6 (dk_at dksX9_branchOf_2 5 rfl rfl)
theorem dX9_branchOf_55 : decode cX9_branchOf 55 = .ok (.iload 6, 2) := dk_21 6 (dk_at dksX9_branchOf_2 8 rfl rfl)
theorem dX9_branchOf_57 : decode cX9_branchOf 57 = .ok (.ireturn, 1) := dk_172 (dk_at dksX9_branchOf_2 10 rfl rfl)
theorem dX9_branchOf_58 : decode cX9_branchOf 58 = .ok (.iinc 6 1, 3) := dk_132 6 1 (dk_at dksX9_branchOf_2 11 rfl rfl)
theorem dX9_branchOf_61 : decode cX9_branchOf 61 = .ok (.goto (-58), 3) := dk_167 255 198 (dk_at dksX9_branchOf_2 14 rfl rfl)
theorem dX9_branchOf_64 : decode cX9_branchOf 64 = .ok (.aload_n 0, 1) := dk_42 (dk_at dksX9_branchOf_2 17 rfl rfl)
theorem dX9_branchOf_65 : decode cX9_branchOf 65 = .ok (.iload_n 1, 1) := dk_27 (dk_at dksX9_branchOf_2 18 rfl rfl)
theorem dX9_branchOf_66 : decode cX9_branchOf 66 = .ok (.iload_n 3, 1) := dk_29 (dk_at dksX9_branchOf_2 19 rfl rfl)
theorem dX9_branchOf_67 : decode cX9_branchOf 67 = .ok (.aload_n 0, 1) := dk_42 (dk_at dksX9_branchOf_2 20 rfl rfl)
theorem dX9_branchOf_68 : decode cX9_branchOf 68 = .ok (.iload_n 2, 1) := dk_28 (dk_at dksX9_branchOf_2 21 rfl rfl)
theorem dX9_branchOf_69 : decode cX9_branchOf 69 = .ok (.iload 4, 2) := dk_21 4 (dk_at dksX9_branchOf_2 22 rfl rfl)
theorem dX9_branchOf_71 : decode cX9_branchOf 71 = .ok (.iload 5, 2) := dk_21 5 (dk_at dksX9_branchOf_3 0 rfl rfl)
theorem dX9_branchOf_73 : decode cX9_branchOf 73 = .ok (.invokevirtual 189, 3) := dk_182 0 189 (dk_at dksX9_branchOf_3 2 rfl rfl)
theorem dX9_branchOf_76 : decode cX9_branchOf 76 = .ok (.invokevirtual 300, 3) := dk_182 1 44 (dk_at dksX9_branchOf_3 5 rfl rfl)
theorem dX9_branchOf_79 : decode cX9_branchOf 79 = .ok (.istore 6, 2) := dk_54 6 (dk_at dksX9_branchOf_3 8 rfl rfl)
theorem dX9_branchOf_81 : decode cX9_branchOf 81 = .ok (.iload 6, 2) := dk_21 6 (dk_at dksX9_branchOf_3 10 rfl rfl)
theorem dX9_branchOf_83 : decode cX9_branchOf 83 = .ok (.ifCond .lt 8, 3) := dk_155 0 8 (dk_at dksX9_branchOf_3 12 rfl rfl)
theorem dX9_branchOf_86 : decode cX9_branchOf 86 = .ok (.iload 6, 2) := dk_21 6 (dk_at dksX9_branchOf_3 15 rfl rfl)
theorem dX9_branchOf_88 : decode cX9_branchOf 88 = .ok (.goto 10, 3) := dk_167 0 10 (dk_at dksX9_branchOf_3 17 rfl rfl)
theorem dX9_branchOf_91 : decode cX9_branchOf 91 = .ok (.aload_n 0, 1) := dk_42 (dk_at dksX9_branchOf_3 20 rfl rfl)
theorem dX9_branchOf_92 : decode cX9_branchOf 92 = .ok (.iload_n 1, 1) := dk_27 (dk_at dksX9_branchOf_3 21 rfl rfl)
theorem dX9_branchOf_93 : decode cX9_branchOf 93 = .ok (.iload_n 3, 1) := dk_29 (dk_at dksX9_branchOf_3 22 rfl rfl)
theorem dX9_branchOf_94 : decode cX9_branchOf 94 = .ok (.iconst 5, 1) := dk_8 (dk_at dksX9_branchOf_3 23 rfl rfl)
theorem dX9_branchOf_95 : decode cX9_branchOf 95 = .ok (.invokevirtual 300, 3) := dk_182 1 44 (dk_at dksX9_branchOf_4 0 rfl rfl)
theorem dX9_branchOf_98 : decode cX9_branchOf 98 = .ok (.ireturn, 1) := dk_172 (dk_at dksX9_branchOf_4 3 rfl rfl)
abbrev cX9_same : ByteArray := prog_31_method_45_code
def yX9_same : MethodName := ⟨RX9, "same", "(II)I"⟩
def dkwX9_same_5 : List UInt8 := [3, 172]
abbrev dktX9_same_5 : List UInt8 := dkwX9_same_5 ++ []
def dkwX9_same_4 : List UInt8 := [46, 160, 0, 7, 4, 167, 0, 4, 3, 62, 132, 4, 1, 167, 255, 212, 29, 153, 0, 7, 4, 167, 0, 4]
abbrev dktX9_same_4 : List UInt8 := dkwX9_same_4 ++ dktX9_same_5
def dkwX9_same_3 : List UInt8 := [153, 0, 32, 42, 180, 0, 51, 8, 27, 104, 21, 4, 96, 46, 42, 180, 0, 51, 8, 28, 104, 21, 4, 96]
abbrev dktX9_same_3 : List UInt8 := dkwX9_same_3 ++ dktX9_same_4
def dkwX9_same_2 : List UInt8 := [180, 0, 48, 28, 46, 160, 0, 7, 4, 167, 0, 4, 3, 62, 3, 54, 4, 21, 4, 8, 162, 0, 44, 29]
abbrev dktX9_same_2 : List UInt8 := dkwX9_same_2 ++ dktX9_same_3
def dkwX9_same_1 : List UInt8 := [155, 0, 12, 42, 180, 0, 33, 28, 46, 156, 0, 6, 16, 254, 172, 42, 180, 0, 48, 27, 46, 42]
abbrev dktX9_same_1 : List UInt8 := dkwX9_same_1 ++ dktX9_same_2
def dkwX9_same_0 : List UInt8 := [27, 184, 1, 31, 153, 0, 10, 28, 184, 1, 31, 154, 0, 5, 2, 172, 42, 180, 0, 33, 27, 46]
abbrev dktX9_same_0 : List UInt8 := dkwX9_same_0 ++ dktX9_same_1
theorem dksX9_same_0 : cX9_same.data.toList.drop 0 = dktX9_same_0 := by decide +kernel
theorem dksX9_same_1 : cX9_same.data.toList.drop 22 = dktX9_same_1 := dk_seg dksX9_same_0 22 rfl rfl
theorem dksX9_same_2 : cX9_same.data.toList.drop 44 = dktX9_same_2 := dk_seg dksX9_same_1 22 rfl rfl
theorem dksX9_same_3 : cX9_same.data.toList.drop 68 = dktX9_same_3 := dk_seg dksX9_same_2 24 rfl rfl
theorem dksX9_same_4 : cX9_same.data.toList.drop 92 = dktX9_same_4 := dk_seg dksX9_same_3 24 rfl rfl
theorem dksX9_same_5 : cX9_same.data.toList.drop 116 = dktX9_same_5 := dk_seg dksX9_same_4 24 rfl rfl
theorem dX9_same_0 : decode cX9_same 0 = .ok (.iload_n 1, 1) := dk_27 (dk_at dksX9_same_0 0 rfl rfl)
theorem dX9_same_1 : decode cX9_same 1 = .ok (.invokestatic 287, 3) := dk_184 1 31 (dk_at dksX9_same_0 1 rfl rfl)
theorem dX9_same_4 : decode cX9_same 4 = .ok (.ifCond .eq 10, 3) := dk_153 0 10 (dk_at dksX9_same_0 4 rfl rfl)
theorem dX9_same_7 : decode cX9_same 7 = .ok (.iload_n 2, 1) := dk_28 (dk_at dksX9_same_0 7 rfl rfl)
theorem dX9_same_8 : decode cX9_same 8 = .ok (.invokestatic 287, 3) := dk_184 1 31 (dk_at dksX9_same_0 8 rfl rfl)
theorem dX9_same_11 : decode cX9_same 11 = .ok (.ifCond .ne 5, 3) := dk_154 0 5 (dk_at dksX9_same_0 11 rfl rfl)
theorem dX9_same_14 : decode cX9_same 14 = .ok (.iconst (-1), 1) := dk_2 (dk_at dksX9_same_0 14 rfl rfl)
theorem dX9_same_15 : decode cX9_same 15 = .ok (.ireturn, 1) := dk_172 (dk_at dksX9_same_0 15 rfl rfl)
theorem dX9_same_16 : decode cX9_same 16 = .ok (.aload_n 0, 1) := dk_42 (dk_at dksX9_same_0 16 rfl rfl)
theorem dX9_same_17 : decode cX9_same 17 = .ok (.getfield 33, 3) := dk_180 0 33 (dk_at dksX9_same_0 17 rfl rfl)
theorem dX9_same_20 : decode cX9_same 20 = .ok (.iload_n 1, 1) := dk_27 (dk_at dksX9_same_0 20 rfl rfl)
theorem dX9_same_21 : decode cX9_same 21 = .ok (.iaload, 1) := dk_46 (dk_at dksX9_same_0 21 rfl rfl)
theorem dX9_same_22 : decode cX9_same 22 = .ok (.ifCond .lt 12, 3) := dk_155 0 12 (dk_at dksX9_same_1 0 rfl rfl)
theorem dX9_same_25 : decode cX9_same 25 = .ok (.aload_n 0, 1) := dk_42 (dk_at dksX9_same_1 3 rfl rfl)
theorem dX9_same_26 : decode cX9_same 26 = .ok (.getfield 33, 3) := dk_180 0 33 (dk_at dksX9_same_1 4 rfl rfl)
theorem dX9_same_29 : decode cX9_same 29 = .ok (.iload_n 2, 1) := dk_28 (dk_at dksX9_same_1 7 rfl rfl)
theorem dX9_same_30 : decode cX9_same 30 = .ok (.iaload, 1) := dk_46 (dk_at dksX9_same_1 8 rfl rfl)
theorem dX9_same_31 : decode cX9_same 31 = .ok (.ifCond .ge 6, 3) := dk_156 0 6 (dk_at dksX9_same_1 9 rfl rfl)
theorem dX9_same_34 : decode cX9_same 34 = .ok (.bipush (-2), 2) := dk_16 254 (dk_at dksX9_same_1 12 rfl rfl)
theorem dX9_same_36 : decode cX9_same 36 = .ok (.ireturn, 1) := dk_172 (dk_at dksX9_same_1 14 rfl rfl)
theorem dX9_same_37 : decode cX9_same 37 = .ok (.aload_n 0, 1) := dk_42 (dk_at dksX9_same_1 15 rfl rfl)
theorem dX9_same_38 : decode cX9_same 38 = .ok (.getfield 48, 3) := dk_180 0 48 (dk_at dksX9_same_1 16 rfl rfl)
theorem dX9_same_41 : decode cX9_same 41 = .ok (.iload_n 1, 1) := dk_27 (dk_at dksX9_same_1 19 rfl rfl)
theorem dX9_same_42 : decode cX9_same 42 = .ok (.iaload, 1) := dk_46 (dk_at dksX9_same_1 20 rfl rfl)
theorem dX9_same_43 : decode cX9_same 43 = .ok (.aload_n 0, 1) := dk_42 (dk_at dksX9_same_1 21 rfl rfl)
theorem dX9_same_44 : decode cX9_same 44 = .ok (.getfield 48, 3) := dk_180 0 48 (dk_at dksX9_same_2 0 rfl rfl)
theorem dX9_same_47 : decode cX9_same 47 = .ok (.iload_n 2, 1) := dk_28 (dk_at dksX9_same_2 3 rfl rfl)
theorem dX9_same_48 : decode cX9_same 48 = .ok (.iaload, 1) := dk_46 (dk_at dksX9_same_2 4 rfl rfl)
theorem dX9_same_49 : decode cX9_same 49 = .ok (.if_icmp .ne 7, 3) := dk_160 0 7 (dk_at dksX9_same_2 5 rfl rfl)
theorem dX9_same_52 : decode cX9_same 52 = .ok (.iconst 1, 1) := dk_4 (dk_at dksX9_same_2 8 rfl rfl)
theorem dX9_same_53 : decode cX9_same 53 = .ok (.goto 4, 3) := dk_167 0 4 (dk_at dksX9_same_2 9 rfl rfl)
theorem dX9_same_56 : decode cX9_same 56 = .ok (.iconst 0, 1) := dk_3 (dk_at dksX9_same_2 12 rfl rfl)
theorem dX9_same_57 : decode cX9_same 57 = .ok (.istore_n 3, 1) := dk_62 (dk_at dksX9_same_2 13 rfl rfl)
theorem dX9_same_58 : decode cX9_same 58 = .ok (.iconst 0, 1) := dk_3 (dk_at dksX9_same_2 14 rfl rfl)
theorem dX9_same_59 : decode cX9_same 59 = .ok (.istore 4, 2) := dk_54 4 (dk_at dksX9_same_2 15 rfl rfl)
theorem dX9_same_61 : decode cX9_same 61 = .ok (.iload 4, 2) := dk_21 4 (dk_at dksX9_same_2 17 rfl rfl)
theorem dX9_same_63 : decode cX9_same 63 = .ok (.iconst 5, 1) := dk_8 (dk_at dksX9_same_2 19 rfl rfl)
theorem dX9_same_64 : decode cX9_same 64 = .ok (.if_icmp .ge 44, 3) := dk_162 0 44 (dk_at dksX9_same_2 20 rfl rfl)
theorem dX9_same_67 : decode cX9_same 67 = .ok (.iload_n 3, 1) := dk_29 (dk_at dksX9_same_2 23 rfl rfl)
theorem dX9_same_68 : decode cX9_same 68 = .ok (.ifCond .eq 32, 3) := dk_153 0 32 (dk_at dksX9_same_3 0 rfl rfl)
theorem dX9_same_71 : decode cX9_same 71 = .ok (.aload_n 0, 1) := dk_42 (dk_at dksX9_same_3 3 rfl rfl)
theorem dX9_same_72 : decode cX9_same 72 = .ok (.getfield 51, 3) := dk_180 0 51 (dk_at dksX9_same_3 4 rfl rfl)
theorem dX9_same_75 : decode cX9_same 75 = .ok (.iconst 5, 1) := dk_8 (dk_at dksX9_same_3 7 rfl rfl)
theorem dX9_same_76 : decode cX9_same 76 = .ok (.iload_n 1, 1) := dk_27 (dk_at dksX9_same_3 8 rfl rfl)
theorem dX9_same_77 : decode cX9_same 77 = .ok (.imul, 1) := dk_104 (dk_at dksX9_same_3 9 rfl rfl)
theorem dX9_same_78 : decode cX9_same 78 = .ok (.iload 4, 2) := dk_21 4 (dk_at dksX9_same_3 10 rfl rfl)
theorem dX9_same_80 : decode cX9_same 80 = .ok (.iadd, 1) := dk_96 (dk_at dksX9_same_3 12 rfl rfl)
theorem dX9_same_81 : decode cX9_same 81 = .ok (.iaload, 1) := dk_46 (dk_at dksX9_same_3 13 rfl rfl)
theorem dX9_same_82 : decode cX9_same 82 = .ok (.aload_n 0, 1) := dk_42 (dk_at dksX9_same_3 14 rfl rfl)
theorem dX9_same_83 : decode cX9_same 83 = .ok (.getfield 51, 3) := dk_180 0 51 (dk_at dksX9_same_3 15 rfl rfl)
theorem dX9_same_86 : decode cX9_same 86 = .ok (.iconst 5, 1) := dk_8 (dk_at dksX9_same_3 18 rfl rfl)
theorem dX9_same_87 : decode cX9_same 87 = .ok (.iload_n 2, 1) := dk_28 (dk_at dksX9_same_3 19 rfl rfl)
theorem dX9_same_88 : decode cX9_same 88 = .ok (.imul, 1) := dk_104 (dk_at dksX9_same_3 20 rfl rfl)
theorem dX9_same_89 : decode cX9_same 89 = .ok (.iload 4, 2) := dk_21 4 (dk_at dksX9_same_3 21 rfl rfl)
theorem dX9_same_91 : decode cX9_same 91 = .ok (.iadd, 1) := dk_96 (dk_at dksX9_same_3 23 rfl rfl)
theorem dX9_same_92 : decode cX9_same 92 = .ok (.iaload, 1) := dk_46 (dk_at dksX9_same_4 0 rfl rfl)
theorem dX9_same_93 : decode cX9_same 93 = .ok (.if_icmp .ne 7, 3) := dk_160 0 7 (dk_at dksX9_same_4 1 rfl rfl)
theorem dX9_same_96 : decode cX9_same 96 = .ok (.iconst 1, 1) := dk_4 (dk_at dksX9_same_4 4 rfl rfl)
theorem dX9_same_97 : decode cX9_same 97 = .ok (.goto 4, 3) := dk_167 0 4 (dk_at dksX9_same_4 5 rfl rfl)
theorem dX9_same_100 : decode cX9_same 100 = .ok (.iconst 0, 1) := dk_3 (dk_at dksX9_same_4 8 rfl rfl)
theorem dX9_same_101 : decode cX9_same 101 = .ok (.istore_n 3, 1) := dk_62 (dk_at dksX9_same_4 9 rfl rfl)
theorem dX9_same_102 : decode cX9_same 102 = .ok (.iinc 4 1, 3) := dk_132 4 1 (dk_at dksX9_same_4 10 rfl rfl)
theorem dX9_same_105 : decode cX9_same 105 = .ok (.goto (-44), 3) := dk_167 255 212 (dk_at dksX9_same_4 13 rfl rfl)
theorem dX9_same_108 : decode cX9_same 108 = .ok (.iload_n 3, 1) := dk_29 (dk_at dksX9_same_4 16 rfl rfl)
theorem dX9_same_109 : decode cX9_same 109 = .ok (.ifCond .eq 7, 3) := dk_153 0 7 (dk_at dksX9_same_4 17 rfl rfl)
theorem dX9_same_112 : decode cX9_same 112 = .ok (.iconst 1, 1) := dk_4 (dk_at dksX9_same_4 20 rfl rfl)
theorem dX9_same_113 : decode cX9_same 113 = .ok (.goto 4, 3) := dk_167 0 4 (dk_at dksX9_same_4 21 rfl rfl)
theorem dX9_same_116 : decode cX9_same 116 = .ok (.iconst 0, 1) := dk_3 (dk_at dksX9_same_5 0 rfl rfl)
theorem dX9_same_117 : decode cX9_same 117 = .ok (.ireturn, 1) := dk_172 (dk_at dksX9_same_5 1 rfl rfl)
abbrev cX9_decimal : ByteArray := prog_31_method_47_code
def yX9_decimal : MethodName := ⟨RX9, "decimal", "(III)I"⟩
def dkwX9_decimal_1 : List UInt8 := [28, 29, 182, 1, 57, 4, 172]
abbrev dktX9_decimal_1 : List UInt8 := dkwX9_decimal_1 ++ []
def dkwX9_decimal_0 : List UInt8 := [27, 184, 1, 34, 153, 0, 15, 29, 133, 9, 20, 0, 141, 184, 0, 143, 154, 0, 5, 2, 172, 42, 27, 4]
abbrev dktX9_decimal_0 : List UInt8 := dkwX9_decimal_0 ++ dktX9_decimal_1
theorem dksX9_decimal_0 : cX9_decimal.data.toList.drop 0 = dktX9_decimal_0 := by decide +kernel
theorem dksX9_decimal_1 : cX9_decimal.data.toList.drop 24 = dktX9_decimal_1 := dk_seg dksX9_decimal_0 24 rfl rfl
theorem dX9_decimal_0 : decode cX9_decimal 0 = .ok (.iload_n 1, 1) := dk_27 (dk_at dksX9_decimal_0 0 rfl rfl)
theorem dX9_decimal_1 : decode cX9_decimal 1 = .ok (.invokestatic 290, 3) := dk_184 1 34 (dk_at dksX9_decimal_0 1 rfl rfl)
theorem dX9_decimal_4 : decode cX9_decimal 4 = .ok (.ifCond .eq 15, 3) := dk_153 0 15 (dk_at dksX9_decimal_0 4 rfl rfl)
theorem dX9_decimal_7 : decode cX9_decimal 7 = .ok (.iload_n 3, 1) := dk_29 (dk_at dksX9_decimal_0 7 rfl rfl)
theorem dX9_decimal_8 : decode cX9_decimal 8 = .ok (.i2l, 1) := dk_133 (dk_at dksX9_decimal_0 8 rfl rfl)
theorem dX9_decimal_9 : decode cX9_decimal 9 = .ok (.lconst 0, 1) := dk_9 (dk_at dksX9_decimal_0 9 rfl rfl)
theorem dX9_decimal_10 : decode cX9_decimal 10 = .ok (.ldc2_w 141, 3) := dk_20 0 141 (dk_at dksX9_decimal_0 10 rfl rfl)
theorem dX9_decimal_13 : decode cX9_decimal 13 = .ok (.invokestatic 143, 3) := dk_184 0 143 (dk_at dksX9_decimal_0 13 rfl rfl)
theorem dX9_decimal_16 : decode cX9_decimal 16 = .ok (.ifCond .ne 5, 3) := dk_154 0 5 (dk_at dksX9_decimal_0 16 rfl rfl)
theorem dX9_decimal_19 : decode cX9_decimal 19 = .ok (.iconst (-1), 1) := dk_2 (dk_at dksX9_decimal_0 19 rfl rfl)
theorem dX9_decimal_20 : decode cX9_decimal 20 = .ok (.ireturn, 1) := dk_172 (dk_at dksX9_decimal_0 20 rfl rfl)
theorem dX9_decimal_21 : decode cX9_decimal 21 = .ok (.aload_n 0, 1) := dk_42 (dk_at dksX9_decimal_0 21 rfl rfl)
theorem dX9_decimal_22 : decode cX9_decimal 22 = .ok (.iload_n 1, 1) := dk_27 (dk_at dksX9_decimal_0 22 rfl rfl)
theorem dX9_decimal_23 : decode cX9_decimal 23 = .ok (.iconst 1, 1) := dk_4 (dk_at dksX9_decimal_0 23 rfl rfl)
theorem dX9_decimal_24 : decode cX9_decimal 24 = .ok (.iload_n 2, 1) := dk_28 (dk_at dksX9_decimal_1 0 rfl rfl)
theorem dX9_decimal_25 : decode cX9_decimal 25 = .ok (.iload_n 3, 1) := dk_29 (dk_at dksX9_decimal_1 1 rfl rfl)
theorem dX9_decimal_26 : decode cX9_decimal 26 = .ok (.invokevirtual 313, 3) := dk_182 1 57 (dk_at dksX9_decimal_1 2 rfl rfl)
theorem dX9_decimal_29 : decode cX9_decimal 29 = .ok (.iconst 1, 1) := dk_4 (dk_at dksX9_decimal_1 5 rfl rfl)
theorem dX9_decimal_30 : decode cX9_decimal 30 = .ok (.ireturn, 1) := dk_172 (dk_at dksX9_decimal_1 6 rfl rfl)
abbrev cX9_holdsNow : ByteArray := prog_31_method_46_code
def yX9_holdsNow : MethodName := ⟨RX9, "holdsNow", "(IIII)V"⟩
def dkwX9_holdsNow_0 : List UInt8 := [42, 180, 0, 99, 27, 28, 79, 42, 180, 0, 102, 27, 29, 79, 42, 180, 0, 105, 27, 21, 4, 79, 177]
abbrev dktX9_holdsNow_0 : List UInt8 := dkwX9_holdsNow_0 ++ []
theorem dksX9_holdsNow_0 : cX9_holdsNow.data.toList.drop 0 = dktX9_holdsNow_0 := by decide +kernel
theorem dX9_holdsNow_0 : decode cX9_holdsNow 0 = .ok (.aload_n 0, 1) := dk_42 (dk_at dksX9_holdsNow_0 0 rfl rfl)
theorem dX9_holdsNow_1 : decode cX9_holdsNow 1 = .ok (.getfield 99, 3) := dk_180 0 99 (dk_at dksX9_holdsNow_0 1 rfl rfl)
theorem dX9_holdsNow_4 : decode cX9_holdsNow 4 = .ok (.iload_n 1, 1) := dk_27 (dk_at dksX9_holdsNow_0 4 rfl rfl)
theorem dX9_holdsNow_5 : decode cX9_holdsNow 5 = .ok (.iload_n 2, 1) := dk_28 (dk_at dksX9_holdsNow_0 5 rfl rfl)
theorem dX9_holdsNow_6 : decode cX9_holdsNow 6 = .ok (.iastore, 1) := dk_79 (dk_at dksX9_holdsNow_0 6 rfl rfl)
theorem dX9_holdsNow_7 : decode cX9_holdsNow 7 = .ok (.aload_n 0, 1) := dk_42 (dk_at dksX9_holdsNow_0 7 rfl rfl)
theorem dX9_holdsNow_8 : decode cX9_holdsNow 8 = .ok (.getfield 102, 3) := dk_180 0 102 (dk_at dksX9_holdsNow_0 8 rfl rfl)
theorem dX9_holdsNow_11 : decode cX9_holdsNow 11 = .ok (.iload_n 1, 1) := dk_27 (dk_at dksX9_holdsNow_0 11 rfl rfl)
theorem dX9_holdsNow_12 : decode cX9_holdsNow 12 = .ok (.iload_n 3, 1) := dk_29 (dk_at dksX9_holdsNow_0 12 rfl rfl)
theorem dX9_holdsNow_13 : decode cX9_holdsNow 13 = .ok (.iastore, 1) := dk_79 (dk_at dksX9_holdsNow_0 13 rfl rfl)
theorem dX9_holdsNow_14 : decode cX9_holdsNow 14 = .ok (.aload_n 0, 1) := dk_42 (dk_at dksX9_holdsNow_0 14 rfl rfl)
theorem dX9_holdsNow_15 : decode cX9_holdsNow 15 = .ok (.getfield 105, 3) := dk_180 0 105 (dk_at dksX9_holdsNow_0 15 rfl rfl)
theorem dX9_holdsNow_18 : decode cX9_holdsNow 18 = .ok (.iload_n 1, 1) := dk_27 (dk_at dksX9_holdsNow_0 18 rfl rfl)
theorem dX9_holdsNow_19 : decode cX9_holdsNow 19 = .ok (.iload 4, 2) := dk_21 4 (dk_at dksX9_holdsNow_0 19 rfl rfl)
theorem dX9_holdsNow_21 : decode cX9_holdsNow 21 = .ok (.iastore, 1) := dk_79 (dk_at dksX9_holdsNow_0 21 rfl rfl)
theorem dX9_holdsNow_22 : decode cX9_holdsNow 22 = .ok (.return_, 1) := dk_177 (dk_at dksX9_holdsNow_0 22 rfl rfl)
abbrev cX9_gender : ByteArray := prog_31_method_48_code
def yX9_gender : MethodName := ⟨RX9, "gender", "(II)I"⟩
def dkwX9_gender_1 : List UInt8 := [28, 3, 182, 1, 57, 4, 172]
abbrev dktX9_gender_1 : List UInt8 := dkwX9_gender_1 ++ []
def dkwX9_gender_0 : List UInt8 := [27, 184, 1, 34, 153, 0, 15, 28, 133, 9, 20, 0, 163, 184, 0, 143, 154, 0, 5, 2, 172, 42, 27, 5]
abbrev dktX9_gender_0 : List UInt8 := dkwX9_gender_0 ++ dktX9_gender_1
theorem dksX9_gender_0 : cX9_gender.data.toList.drop 0 = dktX9_gender_0 := by decide +kernel
theorem dksX9_gender_1 : cX9_gender.data.toList.drop 24 = dktX9_gender_1 := dk_seg dksX9_gender_0 24 rfl rfl
theorem dX9_gender_0 : decode cX9_gender 0 = .ok (.iload_n 1, 1) := dk_27 (dk_at dksX9_gender_0 0 rfl rfl)
theorem dX9_gender_1 : decode cX9_gender 1 = .ok (.invokestatic 290, 3) := dk_184 1 34 (dk_at dksX9_gender_0 1 rfl rfl)
theorem dX9_gender_4 : decode cX9_gender 4 = .ok (.ifCond .eq 15, 3) := dk_153 0 15 (dk_at dksX9_gender_0 4 rfl rfl)
theorem dX9_gender_7 : decode cX9_gender 7 = .ok (.iload_n 2, 1) := dk_28 (dk_at dksX9_gender_0 7 rfl rfl)
theorem dX9_gender_8 : decode cX9_gender 8 = .ok (.i2l, 1) := dk_133 (dk_at dksX9_gender_0 8 rfl rfl)
theorem dX9_gender_9 : decode cX9_gender 9 = .ok (.lconst 0, 1) := dk_9 (dk_at dksX9_gender_0 9 rfl rfl)
theorem dX9_gender_10 : decode cX9_gender 10 = .ok (.ldc2_w 163, 3) := dk_20 0 163 (dk_at dksX9_gender_0 10 rfl rfl)
theorem dX9_gender_13 : decode cX9_gender 13 = .ok (.invokestatic 143, 3) := dk_184 0 143 (dk_at dksX9_gender_0 13 rfl rfl)
theorem dX9_gender_16 : decode cX9_gender 16 = .ok (.ifCond .ne 5, 3) := dk_154 0 5 (dk_at dksX9_gender_0 16 rfl rfl)
theorem dX9_gender_19 : decode cX9_gender 19 = .ok (.iconst (-1), 1) := dk_2 (dk_at dksX9_gender_0 19 rfl rfl)
theorem dX9_gender_20 : decode cX9_gender 20 = .ok (.ireturn, 1) := dk_172 (dk_at dksX9_gender_0 20 rfl rfl)
theorem dX9_gender_21 : decode cX9_gender 21 = .ok (.aload_n 0, 1) := dk_42 (dk_at dksX9_gender_0 21 rfl rfl)
theorem dX9_gender_22 : decode cX9_gender 22 = .ok (.iload_n 1, 1) := dk_27 (dk_at dksX9_gender_0 22 rfl rfl)
theorem dX9_gender_23 : decode cX9_gender 23 = .ok (.iconst 2, 1) := dk_5 (dk_at dksX9_gender_0 23 rfl rfl)
theorem dX9_gender_24 : decode cX9_gender 24 = .ok (.iload_n 2, 1) := dk_28 (dk_at dksX9_gender_1 0 rfl rfl)
theorem dX9_gender_25 : decode cX9_gender 25 = .ok (.iconst 0, 1) := dk_3 (dk_at dksX9_gender_1 1 rfl rfl)
theorem dX9_gender_26 : decode cX9_gender 26 = .ok (.invokevirtual 313, 3) := dk_182 1 57 (dk_at dksX9_gender_1 2 rfl rfl)
theorem dX9_gender_29 : decode cX9_gender 29 = .ok (.iconst 1, 1) := dk_4 (dk_at dksX9_gender_1 5 rfl rfl)
theorem dX9_gender_30 : decode cX9_gender 30 = .ok (.ireturn, 1) := dk_172 (dk_at dksX9_gender_1 6 rfl rfl)
abbrev cX9_list : ByteArray := prog_31_method_49_code
def yX9_list : MethodName := ⟨RX9, "list", "(IIIII)I"⟩
def dkwX9_list_2 : List UInt8 := [96, 21, 4, 79, 42, 180, 0, 108, 16, 6, 27, 104, 5, 96, 21, 5, 79, 28, 172]
abbrev dktX9_list_2 : List UInt8 := dkwX9_list_2 ++ []
def dkwX9_list_1 : List UInt8 := [28, 3, 182, 1, 57, 42, 180, 0, 108, 16, 6, 27, 104, 29, 79, 42, 180, 0, 108, 16, 6, 27, 104, 4]
abbrev dktX9_list_1 : List UInt8 := dkwX9_list_1 ++ dktX9_list_2
def dkwX9_list_0 : List UInt8 := [27, 184, 1, 34, 153, 0, 15, 28, 133, 9, 20, 0, 173, 184, 0, 143, 154, 0, 5, 2, 172, 42, 27, 6]
abbrev dktX9_list_0 : List UInt8 := dkwX9_list_0 ++ dktX9_list_1
theorem dksX9_list_0 : cX9_list.data.toList.drop 0 = dktX9_list_0 := by decide +kernel
theorem dksX9_list_1 : cX9_list.data.toList.drop 24 = dktX9_list_1 := dk_seg dksX9_list_0 24 rfl rfl
theorem dksX9_list_2 : cX9_list.data.toList.drop 48 = dktX9_list_2 := dk_seg dksX9_list_1 24 rfl rfl
theorem dX9_list_0 : decode cX9_list 0 = .ok (.iload_n 1, 1) := dk_27 (dk_at dksX9_list_0 0 rfl rfl)
theorem dX9_list_1 : decode cX9_list 1 = .ok (.invokestatic 290, 3) := dk_184 1 34 (dk_at dksX9_list_0 1 rfl rfl)
theorem dX9_list_4 : decode cX9_list 4 = .ok (.ifCond .eq 15, 3) := dk_153 0 15 (dk_at dksX9_list_0 4 rfl rfl)
theorem dX9_list_7 : decode cX9_list 7 = .ok (.iload_n 2, 1) := dk_28 (dk_at dksX9_list_0 7 rfl rfl)
theorem dX9_list_8 : decode cX9_list 8 = .ok (.i2l, 1) := dk_133 (dk_at dksX9_list_0 8 rfl rfl)
theorem dX9_list_9 : decode cX9_list 9 = .ok (.lconst 0, 1) := dk_9 (dk_at dksX9_list_0 9 rfl rfl)
theorem dX9_list_10 : decode cX9_list 10 = .ok (.ldc2_w 173, 3) := dk_20 0 173 (dk_at dksX9_list_0 10 rfl rfl)
theorem dX9_list_13 : decode cX9_list 13 = .ok (.invokestatic 143, 3) := dk_184 0 143 (dk_at dksX9_list_0 13 rfl rfl)
theorem dX9_list_16 : decode cX9_list 16 = .ok (.ifCond .ne 5, 3) := dk_154 0 5 (dk_at dksX9_list_0 16 rfl rfl)
theorem dX9_list_19 : decode cX9_list 19 = .ok (.iconst (-1), 1) := dk_2 (dk_at dksX9_list_0 19 rfl rfl)
theorem dX9_list_20 : decode cX9_list 20 = .ok (.ireturn, 1) := dk_172 (dk_at dksX9_list_0 20 rfl rfl)
theorem dX9_list_21 : decode cX9_list 21 = .ok (.aload_n 0, 1) := dk_42 (dk_at dksX9_list_0 21 rfl rfl)
theorem dX9_list_22 : decode cX9_list 22 = .ok (.iload_n 1, 1) := dk_27 (dk_at dksX9_list_0 22 rfl rfl)
theorem dX9_list_23 : decode cX9_list 23 = .ok (.iconst 3, 1) := dk_6 (dk_at dksX9_list_0 23 rfl rfl)
theorem dX9_list_24 : decode cX9_list 24 = .ok (.iload_n 2, 1) := dk_28 (dk_at dksX9_list_1 0 rfl rfl)
theorem dX9_list_25 : decode cX9_list 25 = .ok (.iconst 0, 1) := dk_3 (dk_at dksX9_list_1 1 rfl rfl)
theorem dX9_list_26 : decode cX9_list 26 = .ok (.invokevirtual 313, 3) := dk_182 1 57 (dk_at dksX9_list_1 2 rfl rfl)
theorem dX9_list_29 : decode cX9_list 29 = .ok (.aload_n 0, 1) := dk_42 (dk_at dksX9_list_1 5 rfl rfl)
theorem dX9_list_30 : decode cX9_list 30 = .ok (.getfield 108, 3) := dk_180 0 108 (dk_at dksX9_list_1 6 rfl rfl)
theorem dX9_list_33 : decode cX9_list 33 = .ok (.bipush 6, 2) := dk_16 6 (dk_at dksX9_list_1 9 rfl rfl)
theorem dX9_list_35 : decode cX9_list 35 = .ok (.iload_n 1, 1) := dk_27 (dk_at dksX9_list_1 11 rfl rfl)
theorem dX9_list_36 : decode cX9_list 36 = .ok (.imul, 1) := dk_104 (dk_at dksX9_list_1 12 rfl rfl)
theorem dX9_list_37 : decode cX9_list 37 = .ok (.iload_n 3, 1) := dk_29 (dk_at dksX9_list_1 13 rfl rfl)
theorem dX9_list_38 : decode cX9_list 38 = .ok (.iastore, 1) := dk_79 (dk_at dksX9_list_1 14 rfl rfl)
theorem dX9_list_39 : decode cX9_list 39 = .ok (.aload_n 0, 1) := dk_42 (dk_at dksX9_list_1 15 rfl rfl)
theorem dX9_list_40 : decode cX9_list 40 = .ok (.getfield 108, 3) := dk_180 0 108 (dk_at dksX9_list_1 16 rfl rfl)
theorem dX9_list_43 : decode cX9_list 43 = .ok (.bipush 6, 2) := dk_16 6 (dk_at dksX9_list_1 19 rfl rfl)
theorem dX9_list_45 : decode cX9_list 45 = .ok (.iload_n 1, 1) := dk_27 (dk_at dksX9_list_1 21 rfl rfl)
theorem dX9_list_46 : decode cX9_list 46 = .ok (.imul, 1) := dk_104 (dk_at dksX9_list_1 22 rfl rfl)
theorem dX9_list_47 : decode cX9_list 47 = .ok (.iconst 1, 1) := dk_4 (dk_at dksX9_list_1 23 rfl rfl)
theorem dX9_list_48 : decode cX9_list 48 = .ok (.iadd, 1) := dk_96 (dk_at dksX9_list_2 0 rfl rfl)
theorem dX9_list_49 : decode cX9_list 49 = .ok (.iload 4, 2) := dk_21 4 (dk_at dksX9_list_2 1 rfl rfl)
theorem dX9_list_51 : decode cX9_list 51 = .ok (.iastore, 1) := dk_79 (dk_at dksX9_list_2 3 rfl rfl)
theorem dX9_list_52 : decode cX9_list 52 = .ok (.aload_n 0, 1) := dk_42 (dk_at dksX9_list_2 4 rfl rfl)
theorem dX9_list_53 : decode cX9_list 53 = .ok (.getfield 108, 3) := dk_180 0 108 (dk_at dksX9_list_2 5 rfl rfl)
theorem dX9_list_56 : decode cX9_list 56 = .ok (.bipush 6, 2) := dk_16 6 (dk_at dksX9_list_2 8 rfl rfl)
theorem dX9_list_58 : decode cX9_list 58 = .ok (.iload_n 1, 1) := dk_27 (dk_at dksX9_list_2 10 rfl rfl)
theorem dX9_list_59 : decode cX9_list 59 = .ok (.imul, 1) := dk_104 (dk_at dksX9_list_2 11 rfl rfl)
theorem dX9_list_60 : decode cX9_list 60 = .ok (.iconst 2, 1) := dk_5 (dk_at dksX9_list_2 12 rfl rfl)
theorem dX9_list_61 : decode cX9_list 61 = .ok (.iadd, 1) := dk_96 (dk_at dksX9_list_2 13 rfl rfl)
theorem dX9_list_62 : decode cX9_list 62 = .ok (.iload 5, 2) := dk_21 5 (dk_at dksX9_list_2 14 rfl rfl)
theorem dX9_list_64 : decode cX9_list 64 = .ok (.iastore, 1) := dk_79 (dk_at dksX9_list_2 16 rfl rfl)
theorem dX9_list_65 : decode cX9_list 65 = .ok (.iload_n 2, 1) := dk_28 (dk_at dksX9_list_2 17 rfl rfl)
theorem dX9_list_66 : decode cX9_list 66 = .ok (.ireturn, 1) := dk_172 (dk_at dksX9_list_2 18 rfl rfl)
abbrev cX9_more : ByteArray := prog_31_method_50_code
def yX9_more : MethodName := ⟨RX9, "more", "(II)I"⟩
def dkwX9_more_3 : List UInt8 := [172]
abbrev dktX9_more_3 : List UInt8 := dkwX9_more_3 ++ []
def dkwX9_more_2 : List UInt8 := [180, 0, 102, 27, 46, 96, 28, 79, 42, 180, 0, 102, 27, 92, 46, 4, 96, 79, 42, 180, 0, 102, 27, 46]
abbrev dktX9_more_2 : List UInt8 := dkwX9_more_2 ++ dktX9_more_3
def dkwX9_more_1 : List UInt8 := [180, 0, 102, 27, 46, 16, 6, 160, 0, 6, 16, 253, 172, 42, 180, 0, 108, 16, 6, 27, 104, 42]
abbrev dktX9_more_1 : List UInt8 := dkwX9_more_1 ++ dktX9_more_2
def dkwX9_more_0 : List UInt8 := [27, 184, 1, 34, 154, 0, 5, 2, 172, 42, 180, 0, 99, 27, 46, 6, 159, 0, 6, 16, 254, 172, 42]
abbrev dktX9_more_0 : List UInt8 := dkwX9_more_0 ++ dktX9_more_1
theorem dksX9_more_0 : cX9_more.data.toList.drop 0 = dktX9_more_0 := by decide +kernel
theorem dksX9_more_1 : cX9_more.data.toList.drop 23 = dktX9_more_1 := dk_seg dksX9_more_0 23 rfl rfl
theorem dksX9_more_2 : cX9_more.data.toList.drop 45 = dktX9_more_2 := dk_seg dksX9_more_1 22 rfl rfl
theorem dksX9_more_3 : cX9_more.data.toList.drop 69 = dktX9_more_3 := dk_seg dksX9_more_2 24 rfl rfl
theorem dX9_more_0 : decode cX9_more 0 = .ok (.iload_n 1, 1) := dk_27 (dk_at dksX9_more_0 0 rfl rfl)
theorem dX9_more_1 : decode cX9_more 1 = .ok (.invokestatic 290, 3) := dk_184 1 34 (dk_at dksX9_more_0 1 rfl rfl)
theorem dX9_more_4 : decode cX9_more 4 = .ok (.ifCond .ne 5, 3) := dk_154 0 5 (dk_at dksX9_more_0 4 rfl rfl)
theorem dX9_more_7 : decode cX9_more 7 = .ok (.iconst (-1), 1) := dk_2 (dk_at dksX9_more_0 7 rfl rfl)
theorem dX9_more_8 : decode cX9_more 8 = .ok (.ireturn, 1) := dk_172 (dk_at dksX9_more_0 8 rfl rfl)
theorem dX9_more_9 : decode cX9_more 9 = .ok (.aload_n 0, 1) := dk_42 (dk_at dksX9_more_0 9 rfl rfl)
theorem dX9_more_10 : decode cX9_more 10 = .ok (.getfield 99, 3) := dk_180 0 99 (dk_at dksX9_more_0 10 rfl rfl)
theorem dX9_more_13 : decode cX9_more 13 = .ok (.iload_n 1, 1) := dk_27 (dk_at dksX9_more_0 13 rfl rfl)
theorem dX9_more_14 : decode cX9_more 14 = .ok (.iaload, 1) := dk_46 (dk_at dksX9_more_0 14 rfl rfl)
theorem dX9_more_15 : decode cX9_more 15 = .ok (.iconst 3, 1) := dk_6 (dk_at dksX9_more_0 15 rfl rfl)
theorem dX9_more_16 : decode cX9_more 16 = .ok (.if_icmp .eq 6, 3) := dk_159 0 6 (dk_at dksX9_more_0 16 rfl rfl)
theorem dX9_more_19 : decode cX9_more 19 = .ok (.bipush (-2), 2) := dk_16 254 (dk_at dksX9_more_0 19 rfl rfl)
theorem dX9_more_21 : decode cX9_more 21 = .ok (.ireturn, 1) := dk_172 (dk_at dksX9_more_0 21 rfl rfl)
theorem dX9_more_22 : decode cX9_more 22 = .ok (.aload_n 0, 1) := dk_42 (dk_at dksX9_more_0 22 rfl rfl)
theorem dX9_more_23 : decode cX9_more 23 = .ok (.getfield 102, 3) := dk_180 0 102 (dk_at dksX9_more_1 0 rfl rfl)
theorem dX9_more_26 : decode cX9_more 26 = .ok (.iload_n 1, 1) := dk_27 (dk_at dksX9_more_1 3 rfl rfl)
theorem dX9_more_27 : decode cX9_more 27 = .ok (.iaload, 1) := dk_46 (dk_at dksX9_more_1 4 rfl rfl)
theorem dX9_more_28 : decode cX9_more 28 = .ok (.bipush 6, 2) := dk_16 6 (dk_at dksX9_more_1 5 rfl rfl)
theorem dX9_more_30 : decode cX9_more 30 = .ok (.if_icmp .ne 6, 3) := dk_160 0 6 (dk_at dksX9_more_1 7 rfl rfl)
theorem dX9_more_33 : decode cX9_more 33 = .ok (.bipush (-3), 2) := dk_16 253 (dk_at dksX9_more_1 10 rfl rfl)
theorem dX9_more_35 : decode cX9_more 35 = .ok (.ireturn, 1) := dk_172 (dk_at dksX9_more_1 12 rfl rfl)
theorem dX9_more_36 : decode cX9_more 36 = .ok (.aload_n 0, 1) := dk_42 (dk_at dksX9_more_1 13 rfl rfl)
theorem dX9_more_37 : decode cX9_more 37 = .ok (.getfield 108, 3) := dk_180 0 108 (dk_at dksX9_more_1 14 rfl rfl)
theorem dX9_more_40 : decode cX9_more 40 = .ok (.bipush 6, 2) := dk_16 6 (dk_at dksX9_more_1 17 rfl rfl)
theorem dX9_more_42 : decode cX9_more 42 = .ok (.iload_n 1, 1) := dk_27 (dk_at dksX9_more_1 19 rfl rfl)
theorem dX9_more_43 : decode cX9_more 43 = .ok (.imul, 1) := dk_104 (dk_at dksX9_more_1 20 rfl rfl)
theorem dX9_more_44 : decode cX9_more 44 = .ok (.aload_n 0, 1) := dk_42 (dk_at dksX9_more_1 21 rfl rfl)
theorem dX9_more_45 : decode cX9_more 45 = .ok (.getfield 102, 3) := dk_180 0 102 (dk_at dksX9_more_2 0 rfl rfl)
theorem dX9_more_48 : decode cX9_more 48 = .ok (.iload_n 1, 1) := dk_27 (dk_at dksX9_more_2 3 rfl rfl)
theorem dX9_more_49 : decode cX9_more 49 = .ok (.iaload, 1) := dk_46 (dk_at dksX9_more_2 4 rfl rfl)
theorem dX9_more_50 : decode cX9_more 50 = .ok (.iadd, 1) := dk_96 (dk_at dksX9_more_2 5 rfl rfl)
theorem dX9_more_51 : decode cX9_more 51 = .ok (.iload_n 2, 1) := dk_28 (dk_at dksX9_more_2 6 rfl rfl)
theorem dX9_more_52 : decode cX9_more 52 = .ok (.iastore, 1) := dk_79 (dk_at dksX9_more_2 7 rfl rfl)
theorem dX9_more_53 : decode cX9_more 53 = .ok (.aload_n 0, 1) := dk_42 (dk_at dksX9_more_2 8 rfl rfl)
theorem dX9_more_54 : decode cX9_more 54 = .ok (.getfield 102, 3) := dk_180 0 102 (dk_at dksX9_more_2 9 rfl rfl)
theorem dX9_more_57 : decode cX9_more 57 = .ok (.iload_n 1, 1) := dk_27 (dk_at dksX9_more_2 12 rfl rfl)
theorem dX9_more_58 : decode cX9_more 58 = .ok (.dup2, 1) := dk_92 (dk_at dksX9_more_2 13 rfl rfl)
theorem dX9_more_59 : decode cX9_more 59 = .ok (.iaload, 1) := dk_46 (dk_at dksX9_more_2 14 rfl rfl)
theorem dX9_more_60 : decode cX9_more 60 = .ok (.iconst 1, 1) := dk_4 (dk_at dksX9_more_2 15 rfl rfl)
theorem dX9_more_61 : decode cX9_more 61 = .ok (.iadd, 1) := dk_96 (dk_at dksX9_more_2 16 rfl rfl)
theorem dX9_more_62 : decode cX9_more 62 = .ok (.iastore, 1) := dk_79 (dk_at dksX9_more_2 17 rfl rfl)
theorem dX9_more_63 : decode cX9_more 63 = .ok (.aload_n 0, 1) := dk_42 (dk_at dksX9_more_2 18 rfl rfl)
theorem dX9_more_64 : decode cX9_more 64 = .ok (.getfield 102, 3) := dk_180 0 102 (dk_at dksX9_more_2 19 rfl rfl)
theorem dX9_more_67 : decode cX9_more 67 = .ok (.iload_n 1, 1) := dk_27 (dk_at dksX9_more_2 22 rfl rfl)
theorem dX9_more_68 : decode cX9_more 68 = .ok (.iaload, 1) := dk_46 (dk_at dksX9_more_2 23 rfl rfl)
theorem dX9_more_69 : decode cX9_more 69 = .ok (.ireturn, 1) := dk_172 (dk_at dksX9_more_3 0 rfl rfl)
abbrev cX9_forget : ByteArray := prog_31_method_51_code
def yX9_forget : MethodName := ⟨RX9, "forget", "(I)I"⟩
def dkwX9_forget_1 : List UInt8 := [172]
abbrev dktX9_forget_1 : List UInt8 := dkwX9_forget_1 ++ []
def dkwX9_forget_0 : List UInt8 := [27, 184, 1, 34, 154, 0, 5, 2, 172, 42, 180, 0, 99, 27, 46, 61, 42, 180, 0, 99, 27, 3, 79, 28]
abbrev dktX9_forget_0 : List UInt8 := dkwX9_forget_0 ++ dktX9_forget_1
theorem dksX9_forget_0 : cX9_forget.data.toList.drop 0 = dktX9_forget_0 := by decide +kernel
theorem dksX9_forget_1 : cX9_forget.data.toList.drop 24 = dktX9_forget_1 := dk_seg dksX9_forget_0 24 rfl rfl
theorem dX9_forget_0 : decode cX9_forget 0 = .ok (.iload_n 1, 1) := dk_27 (dk_at dksX9_forget_0 0 rfl rfl)
theorem dX9_forget_1 : decode cX9_forget 1 = .ok (.invokestatic 290, 3) := dk_184 1 34 (dk_at dksX9_forget_0 1 rfl rfl)
theorem dX9_forget_4 : decode cX9_forget 4 = .ok (.ifCond .ne 5, 3) := dk_154 0 5 (dk_at dksX9_forget_0 4 rfl rfl)
theorem dX9_forget_7 : decode cX9_forget 7 = .ok (.iconst (-1), 1) := dk_2 (dk_at dksX9_forget_0 7 rfl rfl)
theorem dX9_forget_8 : decode cX9_forget 8 = .ok (.ireturn, 1) := dk_172 (dk_at dksX9_forget_0 8 rfl rfl)
theorem dX9_forget_9 : decode cX9_forget 9 = .ok (.aload_n 0, 1) := dk_42 (dk_at dksX9_forget_0 9 rfl rfl)
theorem dX9_forget_10 : decode cX9_forget 10 = .ok (.getfield 99, 3) := dk_180 0 99 (dk_at dksX9_forget_0 10 rfl rfl)
theorem dX9_forget_13 : decode cX9_forget 13 = .ok (.iload_n 1, 1) := dk_27 (dk_at dksX9_forget_0 13 rfl rfl)
theorem dX9_forget_14 : decode cX9_forget 14 = .ok (.iaload, 1) := dk_46 (dk_at dksX9_forget_0 14 rfl rfl)
theorem dX9_forget_15 : decode cX9_forget 15 = .ok (.istore_n 2, 1) := dk_61 (dk_at dksX9_forget_0 15 rfl rfl)
theorem dX9_forget_16 : decode cX9_forget 16 = .ok (.aload_n 0, 1) := dk_42 (dk_at dksX9_forget_0 16 rfl rfl)
theorem dX9_forget_17 : decode cX9_forget 17 = .ok (.getfield 99, 3) := dk_180 0 99 (dk_at dksX9_forget_0 17 rfl rfl)
theorem dX9_forget_20 : decode cX9_forget 20 = .ok (.iload_n 1, 1) := dk_27 (dk_at dksX9_forget_0 20 rfl rfl)
theorem dX9_forget_21 : decode cX9_forget 21 = .ok (.iconst 0, 1) := dk_3 (dk_at dksX9_forget_0 21 rfl rfl)
theorem dX9_forget_22 : decode cX9_forget 22 = .ok (.iastore, 1) := dk_79 (dk_at dksX9_forget_0 22 rfl rfl)
theorem dX9_forget_23 : decode cX9_forget 23 = .ok (.iload_n 2, 1) := dk_28 (dk_at dksX9_forget_0 23 rfl rfl)
theorem dX9_forget_24 : decode cX9_forget 24 = .ok (.ireturn, 1) := dk_172 (dk_at dksX9_forget_1 0 rfl rfl)
abbrev cX9_held : ByteArray := prog_31_method_52_code
def yX9_held : MethodName := ⟨RX9, "held", "(II)J"⟩
def dkwX9_held_4 : List UInt8 := [162, 0, 20, 42, 180, 0, 108, 16, 6, 27, 104, 28, 96, 6, 100, 46, 133, 167, 0, 6, 20, 0, 153, 173]
abbrev dktX9_held_4 : List UInt8 := dkwX9_held_4 ++ []
def dkwX9_held_3 : List UInt8 := [27, 46, 133, 173, 42, 180, 0, 99, 27, 46, 6, 160, 0, 32, 28, 6, 100, 42, 180, 0, 102, 27, 46]
abbrev dktX9_held_3 : List UInt8 := dkwX9_held_3 ++ dktX9_held_4
def dkwX9_held_2 : List UInt8 := [28, 6, 162, 0, 26, 28, 4, 160, 0, 13, 42, 180, 0, 102, 27, 46, 133, 167, 0, 10, 42, 180, 0, 105]
abbrev dktX9_held_2 : List UInt8 := dkwX9_held_2 ++ dktX9_held_3
def dkwX9_held_1 : List UInt8 := [154, 0, 11, 42, 180, 0, 99, 27, 46, 133, 173, 42, 180, 0, 99, 27, 46, 154, 0, 7, 20, 0, 153, 173]
abbrev dktX9_held_1 : List UInt8 := dkwX9_held_1 ++ dktX9_held_2
def dkwX9_held_0 : List UInt8 := [27, 184, 1, 34, 153, 0, 15, 28, 133, 9, 20, 1, 61, 184, 0, 143, 154, 0, 7, 20, 0, 153, 173, 28]
abbrev dktX9_held_0 : List UInt8 := dkwX9_held_0 ++ dktX9_held_1
theorem dksX9_held_0 : cX9_held.data.toList.drop 0 = dktX9_held_0 := by decide +kernel
theorem dksX9_held_1 : cX9_held.data.toList.drop 24 = dktX9_held_1 := dk_seg dksX9_held_0 24 rfl rfl
theorem dksX9_held_2 : cX9_held.data.toList.drop 48 = dktX9_held_2 := dk_seg dksX9_held_1 24 rfl rfl
theorem dksX9_held_3 : cX9_held.data.toList.drop 72 = dktX9_held_3 := dk_seg dksX9_held_2 24 rfl rfl
theorem dksX9_held_4 : cX9_held.data.toList.drop 95 = dktX9_held_4 := dk_seg dksX9_held_3 23 rfl rfl
theorem dX9_held_0 : decode cX9_held 0 = .ok (.iload_n 1, 1) := dk_27 (dk_at dksX9_held_0 0 rfl rfl)
theorem dX9_held_1 : decode cX9_held 1 = .ok (.invokestatic 290, 3) := dk_184 1 34 (dk_at dksX9_held_0 1 rfl rfl)
theorem dX9_held_4 : decode cX9_held 4 = .ok (.ifCond .eq 15, 3) := dk_153 0 15 (dk_at dksX9_held_0 4 rfl rfl)
theorem dX9_held_7 : decode cX9_held 7 = .ok (.iload_n 2, 1) := dk_28 (dk_at dksX9_held_0 7 rfl rfl)
theorem dX9_held_8 : decode cX9_held 8 = .ok (.i2l, 1) := dk_133 (dk_at dksX9_held_0 8 rfl rfl)
theorem dX9_held_9 : decode cX9_held 9 = .ok (.lconst 0, 1) := dk_9 (dk_at dksX9_held_0 9 rfl rfl)
theorem dX9_held_10 : decode cX9_held 10 = .ok (.ldc2_w 317, 3) := dk_20 1 61 (dk_at dksX9_held_0 10 rfl rfl)
theorem dX9_held_13 : decode cX9_held 13 = .ok (.invokestatic 143, 3) := dk_184 0 143 (dk_at dksX9_held_0 13 rfl rfl)
theorem dX9_held_16 : decode cX9_held 16 = .ok (.ifCond .ne 7, 3) := dk_154 0 7 (dk_at dksX9_held_0 16 rfl rfl)
theorem dX9_held_19 : decode cX9_held 19 = .ok (.ldc2_w 153, 3) := dk_20 0 153 (dk_at dksX9_held_0 19 rfl rfl)
theorem dX9_held_22 : decode cX9_held 22 = .ok (.lreturn, 1) := dk_173 (dk_at dksX9_held_0 22 rfl rfl)
theorem dX9_held_23 : decode cX9_held 23 = .ok (.iload_n 2, 1) := dk_28 (dk_at dksX9_held_0 23 rfl rfl)
theorem dX9_held_24 : decode cX9_held 24 = .ok (.ifCond .ne 11, 3) := dk_154 0 11 (dk_at dksX9_held_1 0 rfl rfl)
theorem dX9_held_27 : decode cX9_held 27 = .ok (.aload_n 0, 1) := dk_42 (dk_at dksX9_held_1 3 rfl rfl)
theorem dX9_held_28 : decode cX9_held 28 = .ok (.getfield 99, 3) := dk_180 0 99 (dk_at dksX9_held_1 4 rfl rfl)
theorem dX9_held_31 : decode cX9_held 31 = .ok (.iload_n 1, 1) := dk_27 (dk_at dksX9_held_1 7 rfl rfl)
theorem dX9_held_32 : decode cX9_held 32 = .ok (.iaload, 1) := dk_46 (dk_at dksX9_held_1 8 rfl rfl)
theorem dX9_held_33 : decode cX9_held 33 = .ok (.i2l, 1) := dk_133 (dk_at dksX9_held_1 9 rfl rfl)
theorem dX9_held_34 : decode cX9_held 34 = .ok (.lreturn, 1) := dk_173 (dk_at dksX9_held_1 10 rfl rfl)
theorem dX9_held_35 : decode cX9_held 35 = .ok (.aload_n 0, 1) := dk_42 (dk_at dksX9_held_1 11 rfl rfl)
theorem dX9_held_36 : decode cX9_held 36 = .ok (.getfield 99, 3) := dk_180 0 99 (dk_at dksX9_held_1 12 rfl rfl)
theorem dX9_held_39 : decode cX9_held 39 = .ok (.iload_n 1, 1) := dk_27 (dk_at dksX9_held_1 15 rfl rfl)
theorem dX9_held_40 : decode cX9_held 40 = .ok (.iaload, 1) := dk_46 (dk_at dksX9_held_1 16 rfl rfl)
theorem dX9_held_41 : decode cX9_held 41 = .ok (.ifCond .ne 7, 3) := dk_154 0 7 (dk_at dksX9_held_1 17 rfl rfl)
theorem dX9_held_44 : decode cX9_held 44 = .ok (.ldc2_w 153, 3) := dk_20 0 153 (dk_at dksX9_held_1 20 rfl rfl)
theorem dX9_held_47 : decode cX9_held 47 = .ok (.lreturn, 1) := dk_173 (dk_at dksX9_held_1 23 rfl rfl)
theorem dX9_held_48 : decode cX9_held 48 = .ok (.iload_n 2, 1) := dk_28 (dk_at dksX9_held_2 0 rfl rfl)
theorem dX9_held_49 : decode cX9_held 49 = .ok (.iconst 3, 1) := dk_6 (dk_at dksX9_held_2 1 rfl rfl)
theorem dX9_held_50 : decode cX9_held 50 = .ok (.if_icmp .ge 26, 3) := dk_162 0 26 (dk_at dksX9_held_2 2 rfl rfl)
theorem dX9_held_53 : decode cX9_held 53 = .ok (.iload_n 2, 1) := dk_28 (dk_at dksX9_held_2 5 rfl rfl)
theorem dX9_held_54 : decode cX9_held 54 = .ok (.iconst 1, 1) := dk_4 (dk_at dksX9_held_2 6 rfl rfl)
theorem dX9_held_55 : decode cX9_held 55 = .ok (.if_icmp .ne 13, 3) := dk_160 0 13 (dk_at dksX9_held_2 7 rfl rfl)
theorem dX9_held_58 : decode cX9_held 58 = .ok (.aload_n 0, 1) := dk_42 (dk_at dksX9_held_2 10 rfl rfl)
theorem dX9_held_59 : decode cX9_held 59 = .ok (.getfield 102, 3) := dk_180 0 102 (dk_at dksX9_held_2 11 rfl rfl)
theorem dX9_held_62 : decode cX9_held 62 = .ok (.iload_n 1, 1) := dk_27 (dk_at dksX9_held_2 14 rfl rfl)
theorem dX9_held_63 : decode cX9_held 63 = .ok (.iaload, 1) := dk_46 (dk_at dksX9_held_2 15 rfl rfl)
theorem dX9_held_64 : decode cX9_held 64 = .ok (.i2l, 1) := dk_133 (dk_at dksX9_held_2 16 rfl rfl)
theorem dX9_held_65 : decode cX9_held 65 = .ok (.goto 10, 3) := dk_167 0 10 (dk_at dksX9_held_2 17 rfl rfl)
theorem dX9_held_68 : decode cX9_held 68 = .ok (.aload_n 0, 1) := dk_42 (dk_at dksX9_held_2 20 rfl rfl)
theorem dX9_held_69 : decode cX9_held 69 = .ok (.getfield 105, 3) := dk_180 0 105 (dk_at dksX9_held_2 21 rfl rfl)
theorem dX9_held_72 : decode cX9_held 72 = .ok (.iload_n 1, 1) := dk_27 (dk_at dksX9_held_3 0 rfl rfl)
theorem dX9_held_73 : decode cX9_held 73 = .ok (.iaload, 1) := dk_46 (dk_at dksX9_held_3 1 rfl rfl)
theorem dX9_held_74 : decode cX9_held 74 = .ok (.i2l, 1) := dk_133 (dk_at dksX9_held_3 2 rfl rfl)
theorem dX9_held_75 : decode cX9_held 75 = .ok (.lreturn, 1) := dk_173 (dk_at dksX9_held_3 3 rfl rfl)
theorem dX9_held_76 : decode cX9_held 76 = .ok (.aload_n 0, 1) := dk_42 (dk_at dksX9_held_3 4 rfl rfl)
theorem dX9_held_77 : decode cX9_held 77 = .ok (.getfield 99, 3) := dk_180 0 99 (dk_at dksX9_held_3 5 rfl rfl)
theorem dX9_held_80 : decode cX9_held 80 = .ok (.iload_n 1, 1) := dk_27 (dk_at dksX9_held_3 8 rfl rfl)
theorem dX9_held_81 : decode cX9_held 81 = .ok (.iaload, 1) := dk_46 (dk_at dksX9_held_3 9 rfl rfl)
theorem dX9_held_82 : decode cX9_held 82 = .ok (.iconst 3, 1) := dk_6 (dk_at dksX9_held_3 10 rfl rfl)
theorem dX9_held_83 : decode cX9_held 83 = .ok (.if_icmp .ne 32, 3) := dk_160 0 32 (dk_at dksX9_held_3 11 rfl rfl)
theorem dX9_held_86 : decode cX9_held 86 = .ok (.iload_n 2, 1) := dk_28 (dk_at dksX9_held_3 14 rfl rfl)
theorem dX9_held_87 : decode cX9_held 87 = .ok (.iconst 3, 1) := dk_6 (dk_at dksX9_held_3 15 rfl rfl)
theorem dX9_held_88 : decode cX9_held 88 = .ok (.isub, 1) := dk_100 (dk_at dksX9_held_3 16 rfl rfl)
theorem dX9_held_89 : decode cX9_held 89 = .ok (.aload_n 0, 1) := dk_42 (dk_at dksX9_held_3 17 rfl rfl)
theorem dX9_held_90 : decode cX9_held 90 = .ok (.getfield 102, 3) := dk_180 0 102 (dk_at dksX9_held_3 18 rfl rfl)
theorem dX9_held_93 : decode cX9_held 93 = .ok (.iload_n 1, 1) := dk_27 (dk_at dksX9_held_3 21 rfl rfl)
theorem dX9_held_94 : decode cX9_held 94 = .ok (.iaload, 1) := dk_46 (dk_at dksX9_held_3 22 rfl rfl)
theorem dX9_held_95 : decode cX9_held 95 = .ok (.if_icmp .ge 20, 3) := dk_162 0 20 (dk_at dksX9_held_4 0 rfl rfl)
theorem dX9_held_98 : decode cX9_held 98 = .ok (.aload_n 0, 1) := dk_42 (dk_at dksX9_held_4 3 rfl rfl)
theorem dX9_held_99 : decode cX9_held 99 = .ok (.getfield 108, 3) := dk_180 0 108 (dk_at dksX9_held_4 4 rfl rfl)
theorem dX9_held_102 : decode cX9_held 102 = .ok (.bipush 6, 2) := dk_16 6 (dk_at dksX9_held_4 7 rfl rfl)
theorem dX9_held_104 : decode cX9_held 104 = .ok (.iload_n 1, 1) := dk_27 (dk_at dksX9_held_4 9 rfl rfl)
theorem dX9_held_105 : decode cX9_held 105 = .ok (.imul, 1) := dk_104 (dk_at dksX9_held_4 10 rfl rfl)
theorem dX9_held_106 : decode cX9_held 106 = .ok (.iload_n 2, 1) := dk_28 (dk_at dksX9_held_4 11 rfl rfl)
theorem dX9_held_107 : decode cX9_held 107 = .ok (.iadd, 1) := dk_96 (dk_at dksX9_held_4 12 rfl rfl)
theorem dX9_held_108 : decode cX9_held 108 = .ok (.iconst 3, 1) := dk_6 (dk_at dksX9_held_4 13 rfl rfl)
theorem dX9_held_109 : decode cX9_held 109 = .ok (.isub, 1) := dk_100 (dk_at dksX9_held_4 14 rfl rfl)
theorem dX9_held_110 : decode cX9_held 110 = .ok (.iaload, 1) := dk_46 (dk_at dksX9_held_4 15 rfl rfl)
theorem dX9_held_111 : decode cX9_held 111 = .ok (.i2l, 1) := dk_133 (dk_at dksX9_held_4 16 rfl rfl)
theorem dX9_held_112 : decode cX9_held 112 = .ok (.goto 6, 3) := dk_167 0 6 (dk_at dksX9_held_4 17 rfl rfl)
theorem dX9_held_115 : decode cX9_held 115 = .ok (.ldc2_w 153, 3) := dk_20 0 153 (dk_at dksX9_held_4 20 rfl rfl)
theorem dX9_held_118 : decode cX9_held 118 = .ok (.lreturn, 1) := dk_173 (dk_at dksX9_held_4 23 rfl rfl)
abbrev cX9_add : ByteArray := prog_31_method_54_code
def yX9_add : MethodName := ⟨RX9, "add", "(III)J"⟩
def dkwX9_add_7 : List UInt8 := [182, 1, 57, 22, 5, 22, 7, 97, 173]
abbrev dktX9_add_7 : List UInt8 := dkwX9_add_7 ++ []
def dkwX9_add_6 : List UInt8 := [22, 7, 97, 184, 1, 63, 154, 0, 7, 20, 0, 153, 173, 42, 29, 4, 22, 5, 22, 7, 97, 136, 21, 4]
abbrev dktX9_add_6 : List UInt8 := dkwX9_add_6 ++ dktX9_add_7
def dkwX9_add_5 : List UInt8 := [184, 0, 137, 105, 55, 7, 22, 5, 184, 1, 63, 153, 0, 22, 22, 7, 184, 1, 63, 153, 0, 14, 22, 5]
abbrev dktX9_add_5 : List UInt8 := dkwX9_add_5 ++ dktX9_add_6
def dkwX9_add_4 : List UInt8 := [184, 0, 137, 105, 55, 5, 42, 180, 0, 102, 28, 46, 133, 21, 4, 42, 180, 0, 105, 28, 46, 100]
abbrev dktX9_add_4 : List UInt8 := dkwX9_add_4 ++ dktX9_add_5
def dkwX9_add_3 : List UInt8 := [180, 0, 105, 28, 46, 54, 4, 42, 180, 0, 102, 27, 46, 133, 21, 4, 42, 180, 0, 105, 27, 46, 100]
abbrev dktX9_add_3 : List UInt8 := dkwX9_add_3 ++ dktX9_add_4
def dkwX9_add_2 : List UInt8 := [180, 0, 105, 27, 46, 42, 180, 0, 105, 28, 46, 164, 0, 12, 42, 180, 0, 105, 27, 46, 167, 0, 9, 42]
abbrev dktX9_add_2 : List UInt8 := dkwX9_add_2 ++ dktX9_add_3
def dkwX9_add_1 : List UInt8 := [180, 0, 99, 27, 46, 4, 160, 0, 13, 42, 180, 0, 99, 28, 46, 4, 159, 0, 7, 20, 0, 153, 173, 42]
abbrev dktX9_add_1 : List UInt8 := dkwX9_add_1 ++ dktX9_add_2
def dkwX9_add_0 : List UInt8 := [27, 184, 1, 34, 153, 0, 37, 28, 184, 1, 34, 153, 0, 30, 29, 184, 1, 34, 153, 0, 23, 42]
abbrev dktX9_add_0 : List UInt8 := dkwX9_add_0 ++ dktX9_add_1
theorem dksX9_add_0 : cX9_add.data.toList.drop 0 = dktX9_add_0 := by decide +kernel
theorem dksX9_add_1 : cX9_add.data.toList.drop 22 = dktX9_add_1 := dk_seg dksX9_add_0 22 rfl rfl
theorem dksX9_add_2 : cX9_add.data.toList.drop 46 = dktX9_add_2 := dk_seg dksX9_add_1 24 rfl rfl
theorem dksX9_add_3 : cX9_add.data.toList.drop 70 = dktX9_add_3 := dk_seg dksX9_add_2 24 rfl rfl
theorem dksX9_add_4 : cX9_add.data.toList.drop 93 = dktX9_add_4 := dk_seg dksX9_add_3 23 rfl rfl
theorem dksX9_add_5 : cX9_add.data.toList.drop 115 = dktX9_add_5 := dk_seg dksX9_add_4 22 rfl rfl
theorem dksX9_add_6 : cX9_add.data.toList.drop 139 = dktX9_add_6 := dk_seg dksX9_add_5 24 rfl rfl
theorem dksX9_add_7 : cX9_add.data.toList.drop 163 = dktX9_add_7 := dk_seg dksX9_add_6 24 rfl rfl
theorem dX9_add_0 : decode cX9_add 0 = .ok (.iload_n 1, 1) := dk_27 (dk_at dksX9_add_0 0 rfl rfl)
theorem dX9_add_1 : decode cX9_add 1 = .ok (.invokestatic 290, 3) := dk_184 1 34 (dk_at dksX9_add_0 1 rfl rfl)
theorem dX9_add_4 : decode cX9_add 4 = .ok (.ifCond .eq 37, 3) := dk_153 0 37 (dk_at dksX9_add_0 4 rfl rfl)
theorem dX9_add_7 : decode cX9_add 7 = .ok (.iload_n 2, 1) := dk_28 (dk_at dksX9_add_0 7 rfl rfl)
theorem dX9_add_8 : decode cX9_add 8 = .ok (.invokestatic 290, 3) := dk_184 1 34 (dk_at dksX9_add_0 8 rfl rfl)
theorem dX9_add_11 : decode cX9_add 11 = .ok (.ifCond .eq 30, 3) := dk_153 0 30 (dk_at dksX9_add_0 11 rfl rfl)
theorem dX9_add_14 : decode cX9_add 14 = .ok (.iload_n 3, 1) := dk_29 (dk_at dksX9_add_0 14 rfl rfl)
theorem dX9_add_15 : decode cX9_add 15 = .ok (.invokestatic 290, 3) := dk_184 1 34 (dk_at dksX9_add_0 15 rfl rfl)
theorem dX9_add_18 : decode cX9_add 18 = .ok (.ifCond .eq 23, 3) := dk_153 0 23 (dk_at dksX9_add_0 18 rfl rfl)
theorem dX9_add_21 : decode cX9_add 21 = .ok (.aload_n 0, 1) := dk_42 (dk_at dksX9_add_0 21 rfl rfl)
theorem dX9_add_22 : decode cX9_add 22 = .ok (.getfield 99, 3) := dk_180 0 99 (dk_at dksX9_add_1 0 rfl rfl)
theorem dX9_add_25 : decode cX9_add 25 = .ok (.iload_n 1, 1) := dk_27 (dk_at dksX9_add_1 3 rfl rfl)
theorem dX9_add_26 : decode cX9_add 26 = .ok (.iaload, 1) := dk_46 (dk_at dksX9_add_1 4 rfl rfl)
theorem dX9_add_27 : decode cX9_add 27 = .ok (.iconst 1, 1) := dk_4 (dk_at dksX9_add_1 5 rfl rfl)
theorem dX9_add_28 : decode cX9_add 28 = .ok (.if_icmp .ne 13, 3) := dk_160 0 13 (dk_at dksX9_add_1 6 rfl rfl)
theorem dX9_add_31 : decode cX9_add 31 = .ok (.aload_n 0, 1) := dk_42 (dk_at dksX9_add_1 9 rfl rfl)
theorem dX9_add_32 : decode cX9_add 32 = .ok (.getfield 99, 3) := dk_180 0 99 (dk_at dksX9_add_1 10 rfl rfl)
theorem dX9_add_35 : decode cX9_add 35 = .ok (.iload_n 2, 1) := dk_28 (dk_at dksX9_add_1 13 rfl rfl)
theorem dX9_add_36 : decode cX9_add 36 = .ok (.iaload, 1) := dk_46 (dk_at dksX9_add_1 14 rfl rfl)
theorem dX9_add_37 : decode cX9_add 37 = .ok (.iconst 1, 1) := dk_4 (dk_at dksX9_add_1 15 rfl rfl)
theorem dX9_add_38 : decode cX9_add 38 = .ok (.if_icmp .eq 7, 3) := dk_159 0 7 (dk_at dksX9_add_1 16 rfl rfl)
theorem dX9_add_41 : decode cX9_add 41 = .ok (.ldc2_w 153, 3) := dk_20 0 153 (dk_at dksX9_add_1 19 rfl rfl)
theorem dX9_add_44 : decode cX9_add 44 = .ok (.lreturn, 1) := dk_173 (dk_at dksX9_add_1 22 rfl rfl)
theorem dX9_add_45 : decode cX9_add 45 = .ok (.aload_n 0, 1) := dk_42 (dk_at dksX9_add_1 23 rfl rfl)
theorem dX9_add_46 : decode cX9_add 46 = .ok (.getfield 105, 3) := dk_180 0 105 (dk_at dksX9_add_2 0 rfl rfl)
theorem dX9_add_49 : decode cX9_add 49 = .ok (.iload_n 1, 1) := dk_27 (dk_at dksX9_add_2 3 rfl rfl)
theorem dX9_add_50 : decode cX9_add 50 = .ok (.iaload, 1) := dk_46 (dk_at dksX9_add_2 4 rfl rfl)
theorem dX9_add_51 : decode cX9_add 51 = .ok (.aload_n 0, 1) := dk_42 (dk_at dksX9_add_2 5 rfl rfl)
theorem dX9_add_52 : decode cX9_add 52 = .ok (.getfield 105, 3) := dk_180 0 105 (dk_at dksX9_add_2 6 rfl rfl)
theorem dX9_add_55 : decode cX9_add 55 = .ok (.iload_n 2, 1) := dk_28 (dk_at dksX9_add_2 9 rfl rfl)
theorem dX9_add_56 : decode cX9_add 56 = .ok (.iaload, 1) := dk_46 (dk_at dksX9_add_2 10 rfl rfl)
theorem dX9_add_57 : decode cX9_add 57 = .ok (.if_icmp .le 12, 3) := dk_164 0 12 (dk_at dksX9_add_2 11 rfl rfl)
theorem dX9_add_60 : decode cX9_add 60 = .ok (.aload_n 0, 1) := dk_42 (dk_at dksX9_add_2 14 rfl rfl)
theorem dX9_add_61 : decode cX9_add 61 = .ok (.getfield 105, 3) := dk_180 0 105 (dk_at dksX9_add_2 15 rfl rfl)
theorem dX9_add_64 : decode cX9_add 64 = .ok (.iload_n 1, 1) := dk_27 (dk_at dksX9_add_2 18 rfl rfl)
theorem dX9_add_65 : decode cX9_add 65 = .ok (.iaload, 1) := dk_46 (dk_at dksX9_add_2 19 rfl rfl)
theorem dX9_add_66 : decode cX9_add 66 = .ok (.goto 9, 3) := dk_167 0 9 (dk_at dksX9_add_2 20 rfl rfl)
theorem dX9_add_69 : decode cX9_add 69 = .ok (.aload_n 0, 1) := dk_42 (dk_at dksX9_add_2 23 rfl rfl)
theorem dX9_add_70 : decode cX9_add 70 = .ok (.getfield 105, 3) := dk_180 0 105 (dk_at dksX9_add_3 0 rfl rfl)
theorem dX9_add_73 : decode cX9_add 73 = .ok (.iload_n 2, 1) := dk_28 (dk_at dksX9_add_3 3 rfl rfl)
theorem dX9_add_74 : decode cX9_add 74 = .ok (.iaload, 1) := dk_46 (dk_at dksX9_add_3 4 rfl rfl)
theorem dX9_add_75 : decode cX9_add 75 = .ok (.istore 4, 2) := dk_54 4 (dk_at dksX9_add_3 5 rfl rfl)
theorem dX9_add_77 : decode cX9_add 77 = .ok (.aload_n 0, 1) := dk_42 (dk_at dksX9_add_3 7 rfl rfl)
theorem dX9_add_78 : decode cX9_add 78 = .ok (.getfield 102, 3) := dk_180 0 102 (dk_at dksX9_add_3 8 rfl rfl)
theorem dX9_add_81 : decode cX9_add 81 = .ok (.iload_n 1, 1) := dk_27 (dk_at dksX9_add_3 11 rfl rfl)
theorem dX9_add_82 : decode cX9_add 82 = .ok (.iaload, 1) := dk_46 (dk_at dksX9_add_3 12 rfl rfl)
theorem dX9_add_83 : decode cX9_add 83 = .ok (.i2l, 1) := dk_133 (dk_at dksX9_add_3 13 rfl rfl)
theorem dX9_add_84 : decode cX9_add 84 = .ok (.iload 4, 2) := dk_21 4 (dk_at dksX9_add_3 14 rfl rfl)
theorem dX9_add_86 : decode cX9_add 86 = .ok (.aload_n 0, 1) := dk_42 (dk_at dksX9_add_3 16 rfl rfl)
theorem dX9_add_87 : decode cX9_add 87 = .ok (.getfield 105, 3) := dk_180 0 105 (dk_at dksX9_add_3 17 rfl rfl)
theorem dX9_add_90 : decode cX9_add 90 = .ok (.iload_n 1, 1) := dk_27 (dk_at dksX9_add_3 20 rfl rfl)
theorem dX9_add_91 : decode cX9_add 91 = .ok (.iaload, 1) := dk_46 (dk_at dksX9_add_3 21 rfl rfl)
theorem dX9_add_92 : decode cX9_add 92 = .ok (.isub, 1) := dk_100 (dk_at dksX9_add_3 22 rfl rfl)
theorem dX9_add_93 : decode cX9_add 93 = .ok (.invokestatic 137, 3) := dk_184 0 137 (dk_at dksX9_add_4 0 rfl rfl)
theorem dX9_add_96 : decode cX9_add 96 = .ok (.lmul, 1) := dk_105 (dk_at dksX9_add_4 3 rfl rfl)
theorem dX9_add_97 : decode cX9_add 97 = .ok (.lstore 5, 2) := dk_55 5 (dk_at dksX9_add_4 4 rfl rfl)
theorem dX9_add_99 : decode cX9_add 99 = .ok (.aload_n 0, 1) := dk_42 (dk_at dksX9_add_4 6 rfl rfl)
theorem dX9_add_100 : decode cX9_add 100 = .ok (.getfield 102, 3) := dk_180 0 102 (dk_at dksX9_add_4 7 rfl rfl)
theorem dX9_add_103 : decode cX9_add 103 = .ok (.iload_n 2, 1) := dk_28 (dk_at dksX9_add_4 10 rfl rfl)
theorem dX9_add_104 : decode cX9_add 104 = .ok (.iaload, 1) := dk_46 (dk_at dksX9_add_4 11 rfl rfl)
theorem dX9_add_105 : decode cX9_add 105 = .ok (.i2l, 1) := dk_133 (dk_at dksX9_add_4 12 rfl rfl)
theorem dX9_add_106 : decode cX9_add 106 = .ok (.iload 4, 2) := dk_21 4 (dk_at dksX9_add_4 13 rfl rfl)
theorem dX9_add_108 : decode cX9_add 108 = .ok (.aload_n 0, 1) := dk_42 (dk_at dksX9_add_4 15 rfl rfl)
theorem dX9_add_109 : decode cX9_add 109 = .ok (.getfield 105, 3) := dk_180 0 105 (dk_at dksX9_add_4 16 rfl rfl)
theorem dX9_add_112 : decode cX9_add 112 = .ok (.iload_n 2, 1) := dk_28 (dk_at dksX9_add_4 19 rfl rfl)
theorem dX9_add_113 : decode cX9_add 113 = .ok (.iaload, 1) := dk_46 (dk_at dksX9_add_4 20 rfl rfl)
theorem dX9_add_114 : decode cX9_add 114 = .ok (.isub, 1) := dk_100 (dk_at dksX9_add_4 21 rfl rfl)
theorem dX9_add_115 : decode cX9_add 115 = .ok (.invokestatic 137, 3) := dk_184 0 137 (dk_at dksX9_add_5 0 rfl rfl)
theorem dX9_add_118 : decode cX9_add 118 = .ok (.lmul, 1) := dk_105 (dk_at dksX9_add_5 3 rfl rfl)
theorem dX9_add_119 : decode cX9_add 119 = .ok (.lstore 7, 2) := dk_55 7 (dk_at dksX9_add_5 4 rfl rfl)
theorem dX9_add_121 : decode cX9_add 121 = .ok (.lload 5, 2) := dk_22 5 (dk_at dksX9_add_5 6 rfl rfl)
theorem dX9_add_123 : decode cX9_add 123 = .ok (.invokestatic 319, 3) := dk_184 1 63 (dk_at dksX9_add_5 8 rfl rfl)
theorem dX9_add_126 : decode cX9_add 126 = .ok (.ifCond .eq 22, 3) := dk_153 0 22 (dk_at dksX9_add_5 11 rfl rfl)
theorem dX9_add_129 : decode cX9_add 129 = .ok (.lload 7, 2) := dk_22 7 (dk_at dksX9_add_5 14 rfl rfl)
theorem dX9_add_131 : decode cX9_add 131 = .ok (.invokestatic 319, 3) := dk_184 1 63 (dk_at dksX9_add_5 16 rfl rfl)
theorem dX9_add_134 : decode cX9_add 134 = .ok (.ifCond .eq 14, 3) := dk_153 0 14 (dk_at dksX9_add_5 19 rfl rfl)
theorem dX9_add_137 : decode cX9_add 137 = .ok (.lload 5, 2) := dk_22 5 (dk_at dksX9_add_5 22 rfl rfl)
theorem dX9_add_139 : decode cX9_add 139 = .ok (.lload 7, 2) := dk_22 7 (dk_at dksX9_add_6 0 rfl rfl)
theorem dX9_add_141 : decode cX9_add 141 = .ok (.ladd, 1) := dk_97 (dk_at dksX9_add_6 2 rfl rfl)
theorem dX9_add_142 : decode cX9_add 142 = .ok (.invokestatic 319, 3) := dk_184 1 63 (dk_at dksX9_add_6 3 rfl rfl)
theorem dX9_add_145 : decode cX9_add 145 = .ok (.ifCond .ne 7, 3) := dk_154 0 7 (dk_at dksX9_add_6 6 rfl rfl)
theorem dX9_add_148 : decode cX9_add 148 = .ok (.ldc2_w 153, 3) := dk_20 0 153 (dk_at dksX9_add_6 9 rfl rfl)
theorem dX9_add_151 : decode cX9_add 151 = .ok (.lreturn, 1) := dk_173 (dk_at dksX9_add_6 12 rfl rfl)
theorem dX9_add_152 : decode cX9_add 152 = .ok (.aload_n 0, 1) := dk_42 (dk_at dksX9_add_6 13 rfl rfl)
theorem dX9_add_153 : decode cX9_add 153 = .ok (.iload_n 3, 1) := dk_29 (dk_at dksX9_add_6 14 rfl rfl)
theorem dX9_add_154 : decode cX9_add 154 = .ok (.iconst 1, 1) := dk_4 (dk_at dksX9_add_6 15 rfl rfl)
theorem dX9_add_155 : decode cX9_add 155 = .ok (.lload 5, 2) := dk_22 5 (dk_at dksX9_add_6 16 rfl rfl)
theorem dX9_add_157 : decode cX9_add 157 = .ok (.lload 7, 2) := dk_22 7 (dk_at dksX9_add_6 18 rfl rfl)
theorem dX9_add_159 : decode cX9_add 159 = .ok (.ladd, 1) := dk_97 (dk_at dksX9_add_6 20 rfl rfl)
theorem dX9_add_160 : decode cX9_add 160 = .ok (.l2i, 1) := dk_136 (dk_at dksX9_add_6 21 rfl rfl)
theorem dX9_add_161 : decode cX9_add 161 = .ok (.iload 4, 2) := dk_21 4 (dk_at dksX9_add_6 22 rfl rfl)
theorem dX9_add_163 : decode cX9_add 163 = .ok (.invokevirtual 313, 3) := dk_182 1 57 (dk_at dksX9_add_7 0 rfl rfl)
theorem dX9_add_166 : decode cX9_add 166 = .ok (.lload 5, 2) := dk_22 5 (dk_at dksX9_add_7 3 rfl rfl)
theorem dX9_add_168 : decode cX9_add 168 = .ok (.lload 7, 2) := dk_22 7 (dk_at dksX9_add_7 5 rfl rfl)
theorem dX9_add_170 : decode cX9_add 170 = .ok (.ladd, 1) := dk_97 (dk_at dksX9_add_7 7 rfl rfl)
theorem dX9_add_171 : decode cX9_add 171 = .ok (.lreturn, 1) := dk_173 (dk_at dksX9_add_7 8 rfl rfl)
abbrev cX9_isInt : ByteArray := prog_31_method_53_code
def yX9_isInt : MethodName := ⟨RX9, "isInt", "(J)Z"⟩
def dkwX9_isInt_0 : List UInt8 := [30, 30, 136, 133, 148, 154, 0, 7, 4, 167, 0, 4, 3, 172]
abbrev dktX9_isInt_0 : List UInt8 := dkwX9_isInt_0 ++ []
theorem dksX9_isInt_0 : cX9_isInt.data.toList.drop 0 = dktX9_isInt_0 := by decide +kernel
theorem dX9_isInt_0 : decode cX9_isInt 0 = .ok (.lload_n 0, 1) := dk_30 (dk_at dksX9_isInt_0 0 rfl rfl)
theorem dX9_isInt_1 : decode cX9_isInt 1 = .ok (.lload_n 0, 1) := dk_30 (dk_at dksX9_isInt_0 1 rfl rfl)
theorem dX9_isInt_2 : decode cX9_isInt 2 = .ok (.l2i, 1) := dk_136 (dk_at dksX9_isInt_0 2 rfl rfl)
theorem dX9_isInt_3 : decode cX9_isInt 3 = .ok (.i2l, 1) := dk_133 (dk_at dksX9_isInt_0 3 rfl rfl)
theorem dX9_isInt_4 : decode cX9_isInt 4 = .ok (.lcmp, 1) := dk_148 (dk_at dksX9_isInt_0 4 rfl rfl)
theorem dX9_isInt_5 : decode cX9_isInt 5 = .ok (.ifCond .ne 7, 3) := dk_154 0 7 (dk_at dksX9_isInt_0 5 rfl rfl)
theorem dX9_isInt_8 : decode cX9_isInt 8 = .ok (.iconst 1, 1) := dk_4 (dk_at dksX9_isInt_0 8 rfl rfl)
theorem dX9_isInt_9 : decode cX9_isInt 9 = .ok (.goto 4, 3) := dk_167 0 4 (dk_at dksX9_isInt_0 9 rfl rfl)
theorem dX9_isInt_12 : decode cX9_isInt 12 = .ok (.iconst 0, 1) := dk_3 (dk_at dksX9_isInt_0 12 rfl rfl)
theorem dX9_isInt_13 : decode cX9_isInt 13 = .ok (.ireturn, 1) := dk_172 (dk_at dksX9_isInt_0 13 rfl rfl)
abbrev cX9_grow : ByteArray := prog_31_method_55_code
def yX9_grow : MethodName := ⟨RX9, "grow", "(II)J"⟩
def dkwX9_grow_2 : List UInt8 := [180, 0, 102, 27, 33, 136, 79, 33, 173]
abbrev dktX9_grow_2 : List UInt8 := dkwX9_grow_2 ++ []
def dkwX9_grow_1 : List UInt8 := [180, 0, 102, 27, 46, 133, 28, 133, 105, 66, 33, 184, 1, 63, 154, 0, 7, 20, 0, 153, 173, 42]
abbrev dktX9_grow_1 : List UInt8 := dkwX9_grow_1 ++ dktX9_grow_2
def dkwX9_grow_0 : List UInt8 := [27, 184, 1, 34, 153, 0, 13, 42, 180, 0, 99, 27, 46, 4, 159, 0, 7, 20, 0, 153, 173, 42]
abbrev dktX9_grow_0 : List UInt8 := dkwX9_grow_0 ++ dktX9_grow_1
theorem dksX9_grow_0 : cX9_grow.data.toList.drop 0 = dktX9_grow_0 := by decide +kernel
theorem dksX9_grow_1 : cX9_grow.data.toList.drop 22 = dktX9_grow_1 := dk_seg dksX9_grow_0 22 rfl rfl
theorem dksX9_grow_2 : cX9_grow.data.toList.drop 44 = dktX9_grow_2 := dk_seg dksX9_grow_1 22 rfl rfl
theorem dX9_grow_0 : decode cX9_grow 0 = .ok (.iload_n 1, 1) := dk_27 (dk_at dksX9_grow_0 0 rfl rfl)
theorem dX9_grow_1 : decode cX9_grow 1 = .ok (.invokestatic 290, 3) := dk_184 1 34 (dk_at dksX9_grow_0 1 rfl rfl)
theorem dX9_grow_4 : decode cX9_grow 4 = .ok (.ifCond .eq 13, 3) := dk_153 0 13 (dk_at dksX9_grow_0 4 rfl rfl)
theorem dX9_grow_7 : decode cX9_grow 7 = .ok (.aload_n 0, 1) := dk_42 (dk_at dksX9_grow_0 7 rfl rfl)
theorem dX9_grow_8 : decode cX9_grow 8 = .ok (.getfield 99, 3) := dk_180 0 99 (dk_at dksX9_grow_0 8 rfl rfl)
theorem dX9_grow_11 : decode cX9_grow 11 = .ok (.iload_n 1, 1) := dk_27 (dk_at dksX9_grow_0 11 rfl rfl)
theorem dX9_grow_12 : decode cX9_grow 12 = .ok (.iaload, 1) := dk_46 (dk_at dksX9_grow_0 12 rfl rfl)
theorem dX9_grow_13 : decode cX9_grow 13 = .ok (.iconst 1, 1) := dk_4 (dk_at dksX9_grow_0 13 rfl rfl)
theorem dX9_grow_14 : decode cX9_grow 14 = .ok (.if_icmp .eq 7, 3) := dk_159 0 7 (dk_at dksX9_grow_0 14 rfl rfl)
theorem dX9_grow_17 : decode cX9_grow 17 = .ok (.ldc2_w 153, 3) := dk_20 0 153 (dk_at dksX9_grow_0 17 rfl rfl)
theorem dX9_grow_20 : decode cX9_grow 20 = .ok (.lreturn, 1) := dk_173 (dk_at dksX9_grow_0 20 rfl rfl)
theorem dX9_grow_21 : decode cX9_grow 21 = .ok (.aload_n 0, 1) := dk_42 (dk_at dksX9_grow_0 21 rfl rfl)
theorem dX9_grow_22 : decode cX9_grow 22 = .ok (.getfield 102, 3) := dk_180 0 102 (dk_at dksX9_grow_1 0 rfl rfl)
theorem dX9_grow_25 : decode cX9_grow 25 = .ok (.iload_n 1, 1) := dk_27 (dk_at dksX9_grow_1 3 rfl rfl)
theorem dX9_grow_26 : decode cX9_grow 26 = .ok (.iaload, 1) := dk_46 (dk_at dksX9_grow_1 4 rfl rfl)
theorem dX9_grow_27 : decode cX9_grow 27 = .ok (.i2l, 1) := dk_133 (dk_at dksX9_grow_1 5 rfl rfl)
theorem dX9_grow_28 : decode cX9_grow 28 = .ok (.iload_n 2, 1) := dk_28 (dk_at dksX9_grow_1 6 rfl rfl)
theorem dX9_grow_29 : decode cX9_grow 29 = .ok (.i2l, 1) := dk_133 (dk_at dksX9_grow_1 7 rfl rfl)
theorem dX9_grow_30 : decode cX9_grow 30 = .ok (.lmul, 1) := dk_105 (dk_at dksX9_grow_1 8 rfl rfl)
theorem dX9_grow_31 : decode cX9_grow 31 = .ok (.lstore_n 3, 1) := dk_66 (dk_at dksX9_grow_1 9 rfl rfl)
theorem dX9_grow_32 : decode cX9_grow 32 = .ok (.lload_n 3, 1) := dk_33 (dk_at dksX9_grow_1 10 rfl rfl)
theorem dX9_grow_33 : decode cX9_grow 33 = .ok (.invokestatic 319, 3) := dk_184 1 63 (dk_at dksX9_grow_1 11 rfl rfl)
theorem dX9_grow_36 : decode cX9_grow 36 = .ok (.ifCond .ne 7, 3) := dk_154 0 7 (dk_at dksX9_grow_1 14 rfl rfl)
theorem dX9_grow_39 : decode cX9_grow 39 = .ok (.ldc2_w 153, 3) := dk_20 0 153 (dk_at dksX9_grow_1 17 rfl rfl)
theorem dX9_grow_42 : decode cX9_grow 42 = .ok (.lreturn, 1) := dk_173 (dk_at dksX9_grow_1 20 rfl rfl)
theorem dX9_grow_43 : decode cX9_grow 43 = .ok (.aload_n 0, 1) := dk_42 (dk_at dksX9_grow_1 21 rfl rfl)
theorem dX9_grow_44 : decode cX9_grow 44 = .ok (.getfield 102, 3) := dk_180 0 102 (dk_at dksX9_grow_2 0 rfl rfl)
theorem dX9_grow_47 : decode cX9_grow 47 = .ok (.iload_n 1, 1) := dk_27 (dk_at dksX9_grow_2 3 rfl rfl)
theorem dX9_grow_48 : decode cX9_grow 48 = .ok (.lload_n 3, 1) := dk_33 (dk_at dksX9_grow_2 4 rfl rfl)
theorem dX9_grow_49 : decode cX9_grow 49 = .ok (.l2i, 1) := dk_136 (dk_at dksX9_grow_2 5 rfl rfl)
theorem dX9_grow_50 : decode cX9_grow 50 = .ok (.iastore, 1) := dk_79 (dk_at dksX9_grow_2 6 rfl rfl)
theorem dX9_grow_51 : decode cX9_grow 51 = .ok (.lload_n 3, 1) := dk_33 (dk_at dksX9_grow_2 7 rfl rfl)
theorem dX9_grow_52 : decode cX9_grow 52 = .ok (.lreturn, 1) := dk_173 (dk_at dksX9_grow_2 8 rfl rfl)
abbrev cX9_write : ByteArray := prog_31_method_74_code
def yX9_write : MethodName := ⟨RX9, "write", "(II)I"⟩
def dkwX9_write_2 : List UInt8 := [3, 182, 1, 149, 42, 180, 1, 134, 153, 0, 10, 42, 180, 1, 134, 167, 0, 7, 42, 182, 1, 161, 172]
abbrev dktX9_write_2 : List UInt8 := dkwX9_write_2 ++ []
def dkwX9_write_1 : List UInt8 := [156, 0, 6, 16, 254, 172, 42, 3, 181, 1, 67, 42, 28, 181, 1, 70, 42, 3, 181, 1, 134, 42, 27, 3]
abbrev dktX9_write_1 : List UInt8 := dkwX9_write_1 ++ dktX9_write_2
def dkwX9_write_0 : List UInt8 := [27, 184, 1, 31, 153, 0, 10, 28, 184, 0, 185, 154, 0, 5, 2, 172, 42, 180, 0, 33, 27, 46]
abbrev dktX9_write_0 : List UInt8 := dkwX9_write_0 ++ dktX9_write_1
theorem dksX9_write_0 : cX9_write.data.toList.drop 0 = dktX9_write_0 := by decide +kernel
theorem dksX9_write_1 : cX9_write.data.toList.drop 22 = dktX9_write_1 := dk_seg dksX9_write_0 22 rfl rfl
theorem dksX9_write_2 : cX9_write.data.toList.drop 46 = dktX9_write_2 := dk_seg dksX9_write_1 24 rfl rfl
theorem dX9_write_0 : decode cX9_write 0 = .ok (.iload_n 1, 1) := dk_27 (dk_at dksX9_write_0 0 rfl rfl)
theorem dX9_write_1 : decode cX9_write 1 = .ok (.invokestatic 287, 3) := dk_184 1 31 (dk_at dksX9_write_0 1 rfl rfl)
theorem dX9_write_4 : decode cX9_write 4 = .ok (.ifCond .eq 10, 3) := dk_153 0 10 (dk_at dksX9_write_0 4 rfl rfl)
theorem dX9_write_7 : decode cX9_write 7 = .ok (.iload_n 2, 1) := dk_28 (dk_at dksX9_write_0 7 rfl rfl)
theorem dX9_write_8 : decode cX9_write 8 = .ok (.invokestatic 185, 3) := dk_184 0 185 (dk_at dksX9_write_0 8 rfl rfl)
theorem dX9_write_11 : decode cX9_write 11 = .ok (.ifCond .ne 5, 3) := dk_154 0 5 (dk_at dksX9_write_0 11 rfl rfl)
theorem dX9_write_14 : decode cX9_write 14 = .ok (.iconst (-1), 1) := dk_2 (dk_at dksX9_write_0 14 rfl rfl)
theorem dX9_write_15 : decode cX9_write 15 = .ok (.ireturn, 1) := dk_172 (dk_at dksX9_write_0 15 rfl rfl)
theorem dX9_write_16 : decode cX9_write 16 = .ok (.aload_n 0, 1) := dk_42 (dk_at dksX9_write_0 16 rfl rfl)
theorem dX9_write_17 : decode cX9_write 17 = .ok (.getfield 33, 3) := dk_180 0 33 (dk_at dksX9_write_0 17 rfl rfl)
theorem dX9_write_20 : decode cX9_write 20 = .ok (.iload_n 1, 1) := dk_27 (dk_at dksX9_write_0 20 rfl rfl)
theorem dX9_write_21 : decode cX9_write 21 = .ok (.iaload, 1) := dk_46 (dk_at dksX9_write_0 21 rfl rfl)
theorem dX9_write_22 : decode cX9_write 22 = .ok (.ifCond .ge 6, 3) := dk_156 0 6 (dk_at dksX9_write_1 0 rfl rfl)
theorem dX9_write_25 : decode cX9_write 25 = .ok (.bipush (-2), 2) := dk_16 254 (dk_at dksX9_write_1 3 rfl rfl)
theorem dX9_write_27 : decode cX9_write 27 = .ok (.ireturn, 1) := dk_172 (dk_at dksX9_write_1 5 rfl rfl)
theorem dX9_write_28 : decode cX9_write 28 = .ok (.aload_n 0, 1) := dk_42 (dk_at dksX9_write_1 6 rfl rfl)
theorem dX9_write_29 : decode cX9_write 29 = .ok (.iconst 0, 1) := dk_3 (dk_at dksX9_write_1 7 rfl rfl)
theorem dX9_write_30 : decode cX9_write 30 = .ok (.putfield 323, 3) := dk_181 1 67 (dk_at dksX9_write_1 8 rfl rfl)
theorem dX9_write_33 : decode cX9_write 33 = .ok (.aload_n 0, 1) := dk_42 (dk_at dksX9_write_1 11 rfl rfl)
theorem dX9_write_34 : decode cX9_write 34 = .ok (.iload_n 2, 1) := dk_28 (dk_at dksX9_write_1 12 rfl rfl)
theorem dX9_write_35 : decode cX9_write 35 = .ok (.putfield 326, 3) := dk_181 1 70 (dk_at dksX9_write_1 13 rfl rfl)
theorem dX9_write_38 : decode cX9_write 38 = .ok (.aload_n 0, 1) := dk_42 (dk_at dksX9_write_1 16 rfl rfl)
theorem dX9_write_39 : decode cX9_write 39 = .ok (.iconst 0, 1) := dk_3 (dk_at dksX9_write_1 17 rfl rfl)
theorem dX9_write_40 : decode cX9_write 40 = .ok (.putfield 390, 3) := dk_181 1 134 (dk_at dksX9_write_1 18 rfl rfl)
theorem dX9_write_43 : decode cX9_write 43 = .ok (.aload_n 0, 1) := dk_42 (dk_at dksX9_write_1 21 rfl rfl)
theorem dX9_write_44 : decode cX9_write 44 = .ok (.iload_n 1, 1) := dk_27 (dk_at dksX9_write_1 22 rfl rfl)
theorem dX9_write_45 : decode cX9_write 45 = .ok (.iconst 0, 1) := dk_3 (dk_at dksX9_write_1 23 rfl rfl)
theorem dX9_write_46 : decode cX9_write 46 = .ok (.iconst 0, 1) := dk_3 (dk_at dksX9_write_2 0 rfl rfl)
theorem dX9_write_47 : decode cX9_write 47 = .ok (.invokevirtual 405, 3) := dk_182 1 149 (dk_at dksX9_write_2 1 rfl rfl)
theorem dX9_write_50 : decode cX9_write 50 = .ok (.aload_n 0, 1) := dk_42 (dk_at dksX9_write_2 4 rfl rfl)
theorem dX9_write_51 : decode cX9_write 51 = .ok (.getfield 390, 3) := dk_180 1 134 (dk_at dksX9_write_2 5 rfl rfl)
theorem dX9_write_54 : decode cX9_write 54 = .ok (.ifCond .eq 10, 3) := dk_153 0 10 (dk_at dksX9_write_2 8 rfl rfl)
theorem dX9_write_57 : decode cX9_write 57 = .ok (.aload_n 0, 1) := dk_42 (dk_at dksX9_write_2 11 rfl rfl)
theorem dX9_write_58 : decode cX9_write 58 = .ok (.getfield 390, 3) := dk_180 1 134 (dk_at dksX9_write_2 12 rfl rfl)
theorem dX9_write_61 : decode cX9_write 61 = .ok (.goto 7, 3) := dk_167 0 7 (dk_at dksX9_write_2 15 rfl rfl)
theorem dX9_write_64 : decode cX9_write 64 = .ok (.aload_n 0, 1) := dk_42 (dk_at dksX9_write_2 18 rfl rfl)
theorem dX9_write_65 : decode cX9_write 65 = .ok (.invokevirtual 417, 3) := dk_182 1 161 (dk_at dksX9_write_2 19 rfl rfl)
theorem dX9_write_68 : decode cX9_write 68 = .ok (.ireturn, 1) := dk_172 (dk_at dksX9_write_2 22 rfl rfl)
abbrev cX9_writesMessage : ByteArray := prog_31_method_72_code
def yX9_writesMessage : MethodName := ⟨RX9, "writesMessage", "(III)V"⟩
def dkwX9_writesMessage_6 : List UInt8 := [180, 1, 134, 181, 1, 134, 167, 255, 112, 177]
abbrev dktX9_writesMessage_6 : List UInt8 := dkwX9_writesMessage_6 ++ []
def dkwX9_writesMessage_5 : List UInt8 := [42, 42, 180, 1, 134, 154, 0, 18, 42, 180, 1, 67, 17, 0, 240, 164, 0, 8, 16, 251, 167, 0, 7, 42]
abbrev dktX9_writesMessage_5 : List UInt8 := dkwX9_writesMessage_5 ++ dktX9_writesMessage_6
def dkwX9_writesMessage_4 : List UInt8 := [42, 180, 0, 105, 29, 46, 182, 1, 101, 132, 4, 1, 167, 0, 12, 42, 21, 5, 182, 1, 76, 132, 4, 1]
abbrev dktX9_writesMessage_4 : List UInt8 := dkwX9_writesMessage_4 ++ dktX9_writesMessage_5
def dkwX9_writesMessage_3 : List UInt8 := [21, 4, 182, 1, 155, 54, 4, 167, 0, 41, 21, 5, 16, 35, 160, 0, 25, 42, 42, 180, 0, 102, 29, 46]
abbrev dktX9_writesMessage_3 : List UInt8 := dkwX9_writesMessage_3 ++ dktX9_writesMessage_4
def dkwX9_writesMessage_2 : List UInt8 := [21, 4, 96, 46, 54, 5, 21, 5, 16, 123, 160, 0, 23, 42, 27, 21, 4, 29, 182, 1, 152, 42, 27]
abbrev dktX9_writesMessage_2 : List UInt8 := dkwX9_writesMessage_2 ++ dktX9_writesMessage_3
def dkwX9_writesMessage_1 : List UInt8 := [180, 0, 36, 16, 120, 27, 104, 21, 4, 96, 46, 16, 41, 159, 0, 115, 42, 180, 0, 36, 16, 120, 27, 104]
abbrev dktX9_writesMessage_1 : List UInt8 := dkwX9_writesMessage_1 ++ dktX9_writesMessage_2
def dkwX9_writesMessage_0 : List UInt8 := [28, 54, 4, 42, 180, 1, 134, 154, 0, 143, 21, 4, 42, 180, 0, 33, 27, 46, 162, 0, 132, 42]
abbrev dktX9_writesMessage_0 : List UInt8 := dkwX9_writesMessage_0 ++ dktX9_writesMessage_1
theorem dksX9_writesMessage_0 : cX9_writesMessage.data.toList.drop 0 = dktX9_writesMessage_0 := by decide +kernel
theorem dksX9_writesMessage_1 : cX9_writesMessage.data.toList.drop 22 = dktX9_writesMessage_1 := dk_seg dksX9_writesMessage_0 22 rfl rfl
theorem dksX9_writesMessage_2 : cX9_writesMessage.data.toList.drop 46 = dktX9_writesMessage_2 := dk_seg dksX9_writesMessage_1 24 rfl rfl
theorem dksX9_writesMessage_3 : cX9_writesMessage.data.toList.drop 69 = dktX9_writesMessage_3 := dk_seg dksX9_writesMessage_2 23 rfl rfl
theorem dksX9_writesMessage_4 : cX9_writesMessage.data.toList.drop 93 = dktX9_writesMessage_4 := dk_seg dksX9_writesMessage_3 24 rfl rfl
theorem dksX9_writesMessage_5 : cX9_writesMessage.data.toList.drop 117 = dktX9_writesMessage_5 := dk_seg dksX9_writesMessage_4 24 rfl rfl
theorem dksX9_writesMessage_6 : cX9_writesMessage.data.toList.drop 141 = dktX9_writesMessage_6 := dk_seg dksX9_writesMessage_5 24 rfl rfl
theorem dX9_writesMessage_0 : decode cX9_writesMessage 0 = .ok (.iload_n 2, 1) := dk_28 (dk_at dksX9_writesMessage_0 0 rfl rfl)
theorem dX9_writesMessage_1 : decode cX9_writesMessage 1 = .ok (.istore 4, 2) := dk_54 4 (dk_at dksX9_writesMessage_0 1 rfl rfl)
theorem dX9_writesMessage_3 : decode cX9_writesMessage 3 = .ok (.aload_n 0, 1) := dk_42 (dk_at dksX9_writesMessage_0 3 rfl rfl)
theorem dX9_writesMessage_4 : decode cX9_writesMessage 4 = .ok (.getfield 390, 3) := dk_180 1 134 (dk_at dksX9_writesMessage_0 4 rfl rfl)
theorem dX9_writesMessage_7 : decode cX9_writesMessage 7 = .ok (.ifCond .ne 143, 3) := dk_154 0 143 (dk_at dksX9_writesMessage_0 7 rfl rfl)
theorem dX9_writesMessage_10 : decode cX9_writesMessage 10 = .ok (.iload 4, 2) := dk_21 4 (dk_at dksX9_writesMessage_0 10 rfl rfl)
theorem dX9_writesMessage_12 : decode cX9_writesMessage 12 = .ok (.aload_n 0, 1) := dk_42 (dk_at dksX9_writesMessage_0 12 rfl rfl)
theorem dX9_writesMessage_13 : decode cX9_writesMessage 13 = .ok (.getfield 33, 3) := dk_180 0 33 (dk_at dksX9_writesMessage_0 13 rfl rfl)
theorem dX9_writesMessage_16 : decode cX9_writesMessage 16 = .ok (.iload_n 1, 1) := dk_27 (dk_at dksX9_writesMessage_0 16 rfl rfl)
theorem dX9_writesMessage_17 : decode cX9_writesMessage 17 = .ok (.iaload, 1) := dk_46 (dk_at dksX9_writesMessage_0 17 rfl rfl)
theorem dX9_writesMessage_18 : decode cX9_writesMessage 18 = .ok (.if_icmp .ge 132, 3) := dk_162 0 132 (dk_at dksX9_writesMessage_0 18 rfl rfl)
theorem dX9_writesMessage_21 : decode cX9_writesMessage 21 = .ok (.aload_n 0, 1) := dk_42 (dk_at dksX9_writesMessage_0 21 rfl rfl)
theorem dX9_writesMessage_22 : decode cX9_writesMessage 22 = .ok (.getfield 36, 3) := dk_180 0 36 (dk_at dksX9_writesMessage_1 0 rfl rfl)
theorem dX9_writesMessage_25 : decode cX9_writesMessage 25 = .ok (.bipush 120, 2) := dk_16 120 (dk_at dksX9_writesMessage_1 3 rfl rfl)
theorem dX9_writesMessage_27 : decode cX9_writesMessage 27 = .ok (.iload_n 1, 1) := dk_27 (dk_at dksX9_writesMessage_1 5 rfl rfl)
theorem dX9_writesMessage_28 : decode cX9_writesMessage 28 = .ok (.imul, 1) := dk_104 (dk_at dksX9_writesMessage_1 6 rfl rfl)
theorem dX9_writesMessage_29 : decode cX9_writesMessage 29 = .ok (.iload 4, 2) := dk_21 4 (dk_at dksX9_writesMessage_1 7 rfl rfl)
theorem dX9_writesMessage_31 : decode cX9_writesMessage 31 = .ok (.iadd, 1) := dk_96 (dk_at dksX9_writesMessage_1 9 rfl rfl)
theorem dX9_writesMessage_32 : decode cX9_writesMessage 32 = .ok (.iaload, 1) := dk_46 (dk_at dksX9_writesMessage_1 10 rfl rfl)
theorem dX9_writesMessage_33 : decode cX9_writesMessage 33 = .ok (.bipush 41, 2) := dk_16 41 (dk_at dksX9_writesMessage_1 11 rfl rfl)
theorem dX9_writesMessage_35 : decode cX9_writesMessage 35 = .ok (.if_icmp .eq 115, 3) := dk_159 0 115 (dk_at dksX9_writesMessage_1 13 rfl rfl)
theorem dX9_writesMessage_38 : decode cX9_writesMessage 38 = .ok (.aload_n 0, 1) := dk_42 (dk_at dksX9_writesMessage_1 16 rfl rfl)
theorem dX9_writesMessage_39 : decode cX9_writesMessage 39 = .ok (.getfield 36, 3) := dk_180 0 36 (dk_at dksX9_writesMessage_1 17 rfl rfl)
theorem dX9_writesMessage_42 : decode cX9_writesMessage 42 = .ok (.bipush 120, 2) := dk_16 120 (dk_at dksX9_writesMessage_1 20 rfl rfl)
theorem dX9_writesMessage_44 : decode cX9_writesMessage 44 = .ok (.iload_n 1, 1) := dk_27 (dk_at dksX9_writesMessage_1 22 rfl rfl)
theorem dX9_writesMessage_45 : decode cX9_writesMessage 45 = .ok (.imul, 1) := dk_104 (dk_at dksX9_writesMessage_1 23 rfl rfl)
theorem dX9_writesMessage_46 : decode cX9_writesMessage 46 = .ok (.iload 4, 2) := dk_21 4 (dk_at dksX9_writesMessage_2 0 rfl rfl)
theorem dX9_writesMessage_48 : decode cX9_writesMessage 48 = .ok (.iadd, 1) := dk_96 (dk_at dksX9_writesMessage_2 2 rfl rfl)
theorem dX9_writesMessage_49 : decode cX9_writesMessage 49 = .ok (.iaload, 1) := dk_46 (dk_at dksX9_writesMessage_2 3 rfl rfl)
theorem dX9_writesMessage_50 : decode cX9_writesMessage 50 = .ok (.istore 5, 2) := dk_54 5 (dk_at dksX9_writesMessage_2 4 rfl rfl)
theorem dX9_writesMessage_52 : decode cX9_writesMessage 52 = .ok (.iload 5, 2) := dk_21 5 (dk_at dksX9_writesMessage_2 6 rfl rfl)
theorem dX9_writesMessage_54 : decode cX9_writesMessage 54 = .ok (.bipush 123, 2) := dk_16 123 (dk_at dksX9_writesMessage_2 8 rfl rfl)
theorem dX9_writesMessage_56 : decode cX9_writesMessage 56 = .ok (.if_icmp .ne 23, 3) := dk_160 0 23 (dk_at dksX9_writesMessage_2 10 rfl rfl)
theorem dX9_writesMessage_59 : decode cX9_writesMessage 59 = .ok (.aload_n 0, 1) := dk_42 (dk_at dksX9_writesMessage_2 13 rfl rfl)
theorem dX9_writesMessage_60 : decode cX9_writesMessage 60 = .ok (.iload_n 1, 1) := dk_27 (dk_at dksX9_writesMessage_2 14 rfl rfl)
theorem dX9_writesMessage_61 : decode cX9_writesMessage 61 = .ok (.iload 4, 2) := dk_21 4 (dk_at dksX9_writesMessage_2 15 rfl rfl)
theorem dX9_writesMessage_63 : decode cX9_writesMessage 63 = .ok (.iload_n 3, 1) := dk_29 (dk_at dksX9_writesMessage_2 17 rfl rfl)
theorem dX9_writesMessage_64 : decode cX9_writesMessage 64 = .ok (.invokevirtual 408, 3) := dk_182 1 152 (dk_at dksX9_writesMessage_2 18 rfl rfl)
theorem dX9_writesMessage_67 : decode cX9_writesMessage 67 = .ok (.aload_n 0, 1) := dk_42 (dk_at dksX9_writesMessage_2 21 rfl rfl)
theorem dX9_writesMessage_68 : decode cX9_writesMessage 68 = .ok (.iload_n 1, 1) := dk_27 (dk_at dksX9_writesMessage_2 22 rfl rfl)
theorem dX9_writesMessage_69 : decode cX9_writesMessage 69 = .ok (.iload 4, 2) := dk_21 4 (dk_at dksX9_writesMessage_3 0 rfl rfl)
theorem dX9_writesMessage_71 : decode cX9_writesMessage 71 = .ok (.invokevirtual 411, 3) := dk_182 1 155 (dk_at dksX9_writesMessage_3 2 rfl rfl)
theorem dX9_writesMessage_74 : decode cX9_writesMessage 74 = .ok (.istore 4, 2) := dk_54 4 (dk_at dksX9_writesMessage_3 5 rfl rfl)
theorem dX9_writesMessage_76 : decode cX9_writesMessage 76 = .ok (.goto 41, 3) := dk_167 0 41 (dk_at dksX9_writesMessage_3 7 rfl rfl)
theorem dX9_writesMessage_79 : decode cX9_writesMessage 79 = .ok (.iload 5, 2) := dk_21 5 (dk_at dksX9_writesMessage_3 10 rfl rfl)
theorem dX9_writesMessage_81 : decode cX9_writesMessage 81 = .ok (.bipush 35, 2) := dk_16 35 (dk_at dksX9_writesMessage_3 12 rfl rfl)
theorem dX9_writesMessage_83 : decode cX9_writesMessage 83 = .ok (.if_icmp .ne 25, 3) := dk_160 0 25 (dk_at dksX9_writesMessage_3 14 rfl rfl)
theorem dX9_writesMessage_86 : decode cX9_writesMessage 86 = .ok (.aload_n 0, 1) := dk_42 (dk_at dksX9_writesMessage_3 17 rfl rfl)
theorem dX9_writesMessage_87 : decode cX9_writesMessage 87 = .ok (.aload_n 0, 1) := dk_42 (dk_at dksX9_writesMessage_3 18 rfl rfl)
theorem dX9_writesMessage_88 : decode cX9_writesMessage 88 = .ok (.getfield 102, 3) := dk_180 0 102 (dk_at dksX9_writesMessage_3 19 rfl rfl)
theorem dX9_writesMessage_91 : decode cX9_writesMessage 91 = .ok (.iload_n 3, 1) := dk_29 (dk_at dksX9_writesMessage_3 22 rfl rfl)
theorem dX9_writesMessage_92 : decode cX9_writesMessage 92 = .ok (.iaload, 1) := dk_46 (dk_at dksX9_writesMessage_3 23 rfl rfl)
theorem dX9_writesMessage_93 : decode cX9_writesMessage 93 = .ok (.aload_n 0, 1) := dk_42 (dk_at dksX9_writesMessage_4 0 rfl rfl)
theorem dX9_writesMessage_94 : decode cX9_writesMessage 94 = .ok (.getfield 105, 3) := dk_180 0 105 (dk_at dksX9_writesMessage_4 1 rfl rfl)
theorem dX9_writesMessage_97 : decode cX9_writesMessage 97 = .ok (.iload_n 3, 1) := dk_29 (dk_at dksX9_writesMessage_4 4 rfl rfl)
theorem dX9_writesMessage_98 : decode cX9_writesMessage 98 = .ok (.iaload, 1) := dk_46 (dk_at dksX9_writesMessage_4 5 rfl rfl)
theorem dX9_writesMessage_99 : decode cX9_writesMessage 99 = .ok (.invokevirtual 357, 3) := dk_182 1 101 (dk_at dksX9_writesMessage_4 6 rfl rfl)
theorem dX9_writesMessage_102 : decode cX9_writesMessage 102 = .ok (.iinc 4 1, 3) := dk_132 4 1 (dk_at dksX9_writesMessage_4 9 rfl rfl)
theorem dX9_writesMessage_105 : decode cX9_writesMessage 105 = .ok (.goto 12, 3) := dk_167 0 12 (dk_at dksX9_writesMessage_4 12 rfl rfl)
theorem dX9_writesMessage_108 : decode cX9_writesMessage 108 = .ok (.aload_n 0, 1) := dk_42 (dk_at dksX9_writesMessage_4 15 rfl rfl)
theorem dX9_writesMessage_109 : decode cX9_writesMessage 109 = .ok (.iload 5, 2) := dk_21 5 (dk_at dksX9_writesMessage_4 16 rfl rfl)
theorem dX9_writesMessage_111 : decode cX9_writesMessage 111 = .ok (.invokevirtual 332, 3) := dk_182 1 76 (dk_at dksX9_writesMessage_4 18 rfl rfl)
theorem dX9_writesMessage_114 : decode cX9_writesMessage 114 = .ok (.iinc 4 1, 3) := dk_132 4 1 (dk_at dksX9_writesMessage_4 21 rfl rfl)
theorem dX9_writesMessage_117 : decode cX9_writesMessage 117 = .ok (.aload_n 0, 1) := dk_42 (dk_at dksX9_writesMessage_5 0 rfl rfl)
theorem dX9_writesMessage_118 : decode cX9_writesMessage 118 = .ok (.aload_n 0, 1) := dk_42 (dk_at dksX9_writesMessage_5 1 rfl rfl)
theorem dX9_writesMessage_119 : decode cX9_writesMessage 119 = .ok (.getfield 390, 3) := dk_180 1 134 (dk_at dksX9_writesMessage_5 2 rfl rfl)
theorem dX9_writesMessage_122 : decode cX9_writesMessage 122 = .ok (.ifCond .ne 18, 3) := dk_154 0 18 (dk_at dksX9_writesMessage_5 5 rfl rfl)
theorem dX9_writesMessage_125 : decode cX9_writesMessage 125 = .ok (.aload_n 0, 1) := dk_42 (dk_at dksX9_writesMessage_5 8 rfl rfl)
theorem dX9_writesMessage_126 : decode cX9_writesMessage 126 = .ok (.getfield 323, 3) := dk_180 1 67 (dk_at dksX9_writesMessage_5 9 rfl rfl)
theorem dX9_writesMessage_129 : decode cX9_writesMessage 129 = .ok (.sipush 240, 3) := dk_17 0 240 (dk_at dksX9_writesMessage_5 12 rfl rfl)
theorem dX9_writesMessage_132 : decode cX9_writesMessage 132 = .ok (.if_icmp .le 8, 3) := dk_164 0 8 (dk_at dksX9_writesMessage_5 15 rfl rfl)
theorem dX9_writesMessage_135 : decode cX9_writesMessage 135 = .ok (.bipush (-5), 2) := dk_16 251 (dk_at dksX9_writesMessage_5 18 rfl rfl)
theorem dX9_writesMessage_137 : decode cX9_writesMessage 137 = .ok (.goto 7, 3) := dk_167 0 7 (dk_at dksX9_writesMessage_5 20 rfl rfl)
theorem dX9_writesMessage_140 : decode cX9_writesMessage 140 = .ok (.aload_n 0, 1) := dk_42 (dk_at dksX9_writesMessage_5 23 rfl rfl)
theorem dX9_writesMessage_141 : decode cX9_writesMessage 141 = .ok (.getfield 390, 3) := dk_180 1 134 (dk_at dksX9_writesMessage_6 0 rfl rfl)
theorem dX9_writesMessage_144 : decode cX9_writesMessage 144 = .ok (.putfield 390, 3) := dk_181 1 134 (dk_at dksX9_writesMessage_6 3 rfl rfl)
theorem dX9_writesMessage_147 : decode cX9_writesMessage 147 = .ok (.goto (-144), 3) := dk_167 255 112 (dk_at dksX9_writesMessage_6 6 rfl rfl)
theorem dX9_writesMessage_150 : decode cX9_writesMessage 150 = .ok (.return_, 1) := dk_177 (dk_at dksX9_writesMessage_6 9 rfl rfl)
abbrev cX9_writesBrace : ByteArray := prog_31_method_70_code
def yX9_writesBrace : MethodName := ⟨RX9, "writesBrace", "(III)V"⟩
def dkwX9_writesBrace_13 : List UInt8 := [167, 0, 4, 29, 182, 1, 149, 177]
abbrev dktX9_writesBrace_13 : List UInt8 := dkwX9_writesBrace_13 ++ []
def dkwX9_writesBrace_12 : List UInt8 := [16, 10, 16, 8, 27, 104, 21, 8, 96, 104, 21, 9, 96, 46, 21, 5, 16, 112, 160, 0, 8, 21, 4]
abbrev dktX9_writesBrace_12 : List UInt8 := dkwX9_writesBrace_12 ++ dktX9_writesBrace_13
def dkwX9_writesBrace_11 : List UInt8 := [156, 0, 14, 42, 27, 21, 8, 6, 182, 1, 44, 167, 0, 5, 21, 9, 54, 9, 42, 27, 42, 180, 0, 69]
abbrev dktX9_writesBrace_11 : List UInt8 := dkwX9_writesBrace_11 ++ dktX9_writesBrace_12
def dkwX9_writesBrace_10 : List UInt8 := [182, 1, 53, 167, 0, 17, 42, 27, 21, 8, 42, 180, 0, 102, 21, 4, 46, 182, 1, 44, 54, 9, 21, 9]
abbrev dktX9_writesBrace_10 : List UInt8 := dkwX9_writesBrace_10 ++ dktX9_writesBrace_11
def dkwX9_writesBrace_9 : List UInt8 := [42, 27, 42, 180, 1, 70, 21, 8, 42, 180, 0, 102, 21, 4, 46, 42, 180, 0, 105, 21, 4, 46]
abbrev dktX9_writesBrace_9 : List UInt8 := dkwX9_writesBrace_9 ++ dktX9_writesBrace_10
def dkwX9_writesBrace_8 : List UInt8 := [21, 4, 46, 182, 1, 143, 167, 0, 118, 42, 27, 28, 182, 1, 146, 54, 8, 21, 5, 16, 112, 160, 0, 31]
abbrev dktX9_writesBrace_8 : List UInt8 := dkwX9_writesBrace_8 ++ dktX9_writesBrace_9
def dkwX9_writesBrace_7 : List UInt8 := [160, 0, 32, 42, 27, 28, 6, 96, 182, 1, 140, 42, 42, 180, 0, 102, 21, 4, 46, 42, 180, 0, 105]
abbrev dktX9_writesBrace_7 : List UInt8 := dkwX9_writesBrace_7 ++ dktX9_writesBrace_8
def dkwX9_writesBrace_6 : List UInt8 := [159, 0, 10, 21, 5, 16, 108, 160, 0, 12, 42, 21, 4, 182, 1, 137, 167, 0, 154, 21, 5, 16, 110]
abbrev dktX9_writesBrace_6 : List UInt8 := dkwX9_writesBrace_6 ++ dktX9_writesBrace_7
def dkwX9_writesBrace_5 : List UInt8 := [54, 7, 21, 7, 154, 0, 15, 42, 16, 236, 21, 4, 100, 181, 1, 134, 167, 0, 177, 21, 5, 16, 125]
abbrev dktX9_writesBrace_5 : List UInt8 := dkwX9_writesBrace_5 ++ dktX9_writesBrace_6
def dkwX9_writesBrace_4 : List UInt8 := [167, 0, 24, 3, 167, 0, 20, 42, 180, 0, 99, 21, 4, 46, 21, 6, 160, 0, 7, 4, 167, 0, 4, 3]
abbrev dktX9_writesBrace_4 : List UInt8 := dkwX9_writesBrace_4 ++ dktX9_writesBrace_5
def dkwX9_writesBrace_3 : List UInt8 := [167, 0, 4, 3, 54, 6, 21, 6, 154, 0, 21, 42, 180, 0, 99, 21, 4, 46, 153, 0, 7, 4]
abbrev dktX9_writesBrace_3 : List UInt8 := dkwX9_writesBrace_3 ++ dktX9_writesBrace_4
def dkwX9_writesBrace_2 : List UInt8 := [159, 0, 10, 21, 5, 16, 112, 160, 0, 7, 4, 167, 0, 15, 21, 5, 16, 103, 160, 0, 7, 5]
abbrev dktX9_writesBrace_2 : List UInt8 := dkwX9_writesBrace_2 ++ dktX9_writesBrace_3
def dkwX9_writesBrace_1 : List UInt8 := [27, 104, 28, 96, 5, 96, 46, 54, 5, 21, 5, 16, 108, 160, 0, 7, 6, 167, 0, 33, 21, 5, 16, 110]
abbrev dktX9_writesBrace_1 : List UInt8 := dkwX9_writesBrace_1 ++ dktX9_writesBrace_2
def dkwX9_writesBrace_0 : List UInt8 := [42, 180, 0, 36, 16, 120, 27, 104, 28, 96, 4, 96, 46, 16, 65, 100, 54, 4, 42, 180, 0, 36, 16, 120]
abbrev dktX9_writesBrace_0 : List UInt8 := dkwX9_writesBrace_0 ++ dktX9_writesBrace_1
theorem dksX9_writesBrace_0 : cX9_writesBrace.data.toList.drop 0 = dktX9_writesBrace_0 := by decide +kernel
theorem dksX9_writesBrace_1 : cX9_writesBrace.data.toList.drop 24 = dktX9_writesBrace_1 := dk_seg dksX9_writesBrace_0 24 rfl rfl
theorem dksX9_writesBrace_2 : cX9_writesBrace.data.toList.drop 48 = dktX9_writesBrace_2 := dk_seg dksX9_writesBrace_1 24 rfl rfl
theorem dksX9_writesBrace_3 : cX9_writesBrace.data.toList.drop 70 = dktX9_writesBrace_3 := dk_seg dksX9_writesBrace_2 22 rfl rfl
theorem dksX9_writesBrace_4 : cX9_writesBrace.data.toList.drop 92 = dktX9_writesBrace_4 := dk_seg dksX9_writesBrace_3 22 rfl rfl
theorem dksX9_writesBrace_5 : cX9_writesBrace.data.toList.drop 116 = dktX9_writesBrace_5 := dk_seg dksX9_writesBrace_4 24 rfl rfl
theorem dksX9_writesBrace_6 : cX9_writesBrace.data.toList.drop 139 = dktX9_writesBrace_6 := dk_seg dksX9_writesBrace_5 23 rfl rfl
theorem dksX9_writesBrace_7 : cX9_writesBrace.data.toList.drop 162 = dktX9_writesBrace_7 := dk_seg dksX9_writesBrace_6 23 rfl rfl
theorem dksX9_writesBrace_8 : cX9_writesBrace.data.toList.drop 185 = dktX9_writesBrace_8 := dk_seg dksX9_writesBrace_7 23 rfl rfl
theorem dksX9_writesBrace_9 : cX9_writesBrace.data.toList.drop 209 = dktX9_writesBrace_9 := dk_seg dksX9_writesBrace_8 24 rfl rfl
theorem dksX9_writesBrace_10 : cX9_writesBrace.data.toList.drop 231 = dktX9_writesBrace_10 := dk_seg dksX9_writesBrace_9 22 rfl rfl
theorem dksX9_writesBrace_11 : cX9_writesBrace.data.toList.drop 255 = dktX9_writesBrace_11 := dk_seg dksX9_writesBrace_10 24 rfl rfl
theorem dksX9_writesBrace_12 : cX9_writesBrace.data.toList.drop 279 = dktX9_writesBrace_12 := dk_seg dksX9_writesBrace_11 24 rfl rfl
theorem dksX9_writesBrace_13 : cX9_writesBrace.data.toList.drop 302 = dktX9_writesBrace_13 := dk_seg dksX9_writesBrace_12 23 rfl rfl
theorem dX9_writesBrace_0 : decode cX9_writesBrace 0 = .ok (.aload_n 0, 1) := dk_42 (dk_at dksX9_writesBrace_0 0 rfl rfl)
theorem dX9_writesBrace_1 : decode cX9_writesBrace 1 = .ok (.getfield 36, 3) := dk_180 0 36 (dk_at dksX9_writesBrace_0 1 rfl rfl)
theorem dX9_writesBrace_4 : decode cX9_writesBrace 4 = .ok (.bipush 120, 2) := dk_16 120 (dk_at dksX9_writesBrace_0 4 rfl rfl)
theorem dX9_writesBrace_6 : decode cX9_writesBrace 6 = .ok (.iload_n 1, 1) := dk_27 (dk_at dksX9_writesBrace_0 6 rfl rfl)
theorem dX9_writesBrace_7 : decode cX9_writesBrace 7 = .ok (.imul, 1) := dk_104 (dk_at dksX9_writesBrace_0 7 rfl rfl)
theorem dX9_writesBrace_8 : decode cX9_writesBrace 8 = .ok (.iload_n 2, 1) := dk_28 (dk_at dksX9_writesBrace_0 8 rfl rfl)
theorem dX9_writesBrace_9 : decode cX9_writesBrace 9 = .ok (.iadd, 1) := dk_96 (dk_at dksX9_writesBrace_0 9 rfl rfl)
theorem dX9_writesBrace_10 : decode cX9_writesBrace 10 = .ok (.iconst 1, 1) := dk_4 (dk_at dksX9_writesBrace_0 10 rfl rfl)
theorem dX9_writesBrace_11 : decode cX9_writesBrace 11 = .ok (.iadd, 1) := dk_96 (dk_at dksX9_writesBrace_0 11 rfl rfl)
theorem dX9_writesBrace_12 : decode cX9_writesBrace 12 = .ok (.iaload, 1) := dk_46 (dk_at dksX9_writesBrace_0 12 rfl rfl)
theorem dX9_writesBrace_13 : decode cX9_writesBrace 13 = .ok (.bipush 65, 2) := dk_16 65 (dk_at dksX9_writesBrace_0 13 rfl rfl)
theorem dX9_writesBrace_15 : decode cX9_writesBrace 15 = .ok (.isub, 1) := dk_100 (dk_at dksX9_writesBrace_0 15 rfl rfl)
theorem dX9_writesBrace_16 : decode cX9_writesBrace 16 = .ok (.istore 4, 2) := dk_54 4 (dk_at dksX9_writesBrace_0 16 rfl rfl)
theorem dX9_writesBrace_18 : decode cX9_writesBrace 18 = .ok (.aload_n 0, 1) := dk_42 (dk_at dksX9_writesBrace_0 18 rfl rfl)
theorem dX9_writesBrace_19 : decode cX9_writesBrace 19 = .ok (.getfield 36, 3) := dk_180 0 36 (dk_at dksX9_writesBrace_0 19 rfl rfl)
theorem dX9_writesBrace_22 : decode cX9_writesBrace 22 = .ok (.bipush 120, 2) := dk_16 120 (dk_at dksX9_writesBrace_0 22 rfl rfl)
theorem dX9_writesBrace_24 : decode cX9_writesBrace 24 = .ok (.iload_n 1, 1) := dk_27 (dk_at dksX9_writesBrace_1 0 rfl rfl)
theorem dX9_writesBrace_25 : decode cX9_writesBrace 25 = .ok (.imul, 1) := dk_104 (dk_at dksX9_writesBrace_1 1 rfl rfl)
theorem dX9_writesBrace_26 : decode cX9_writesBrace 26 = .ok (.iload_n 2, 1) := dk_28 (dk_at dksX9_writesBrace_1 2 rfl rfl)
theorem dX9_writesBrace_27 : decode cX9_writesBrace 27 = .ok (.iadd, 1) := dk_96 (dk_at dksX9_writesBrace_1 3 rfl rfl)
theorem dX9_writesBrace_28 : decode cX9_writesBrace 28 = .ok (.iconst 2, 1) := dk_5 (dk_at dksX9_writesBrace_1 4 rfl rfl)
theorem dX9_writesBrace_29 : decode cX9_writesBrace 29 = .ok (.iadd, 1) := dk_96 (dk_at dksX9_writesBrace_1 5 rfl rfl)
theorem dX9_writesBrace_30 : decode cX9_writesBrace 30 = .ok (.iaload, 1) := dk_46 (dk_at dksX9_writesBrace_1 6 rfl rfl)
theorem dX9_writesBrace_31 : decode cX9_writesBrace 31 = .ok (.istore 5, 2) := dk_54 5 (dk_at dksX9_writesBrace_1 7 rfl rfl)
theorem dX9_writesBrace_33 : decode cX9_writesBrace 33 = .ok (.iload 5, 2) := dk_21 5 (dk_at dksX9_writesBrace_1 9 rfl rfl)
theorem dX9_writesBrace_35 : decode cX9_writesBrace 35 = .ok (.bipush 108, 2) := dk_16 108 (dk_at dksX9_writesBrace_1 11 rfl rfl)
theorem dX9_writesBrace_37 : decode cX9_writesBrace 37 = .ok (.if_icmp .ne 7, 3) := dk_160 0 7 (dk_at dksX9_writesBrace_1 13 rfl rfl)
theorem dX9_writesBrace_40 : decode cX9_writesBrace 40 = .ok (.iconst 3, 1) := dk_6 (dk_at dksX9_writesBrace_1 16 rfl rfl)
theorem dX9_writesBrace_41 : decode cX9_writesBrace 41 = .ok (.goto 33, 3) := dk_167 0 33 (dk_at dksX9_writesBrace_1 17 rfl rfl)
theorem dX9_writesBrace_44 : decode cX9_writesBrace 44 = .ok (.iload 5, 2) := dk_21 5 (dk_at dksX9_writesBrace_1 20 rfl rfl)
theorem dX9_writesBrace_46 : decode cX9_writesBrace 46 = .ok (.bipush 110, 2) := dk_16 110 (dk_at dksX9_writesBrace_1 22 rfl rfl)
theorem dX9_writesBrace_48 : decode cX9_writesBrace 48 = .ok (.if_icmp .eq 10, 3) := dk_159 0 10 (dk_at dksX9_writesBrace_2 0 rfl rfl)
theorem dX9_writesBrace_51 : decode cX9_writesBrace 51 = .ok (.iload 5, 2) := dk_21 5 (dk_at dksX9_writesBrace_2 3 rfl rfl)
theorem dX9_writesBrace_53 : decode cX9_writesBrace 53 = .ok (.bipush 112, 2) := dk_16 112 (dk_at dksX9_writesBrace_2 5 rfl rfl)
theorem dX9_writesBrace_55 : decode cX9_writesBrace 55 = .ok (.if_icmp .ne 7, 3) := dk_160 0 7 (dk_at dksX9_writesBrace_2 7 rfl rfl)
theorem dX9_writesBrace_58 : decode cX9_writesBrace 58 = .ok (.iconst 1, 1) := dk_4 (dk_at dksX9_writesBrace_2 10 rfl rfl)
theorem dX9_writesBrace_59 : decode cX9_writesBrace 59 = .ok (.goto 15, 3) := dk_167 0 15 (dk_at dksX9_writesBrace_2 11 rfl rfl)
theorem dX9_writesBrace_62 : decode cX9_writesBrace 62 = .ok (.iload 5, 2) := dk_21 5 (dk_at dksX9_writesBrace_2 14 rfl rfl)
theorem dX9_writesBrace_64 : decode cX9_writesBrace 64 = .ok (.bipush 103, 2) := dk_16 103 (dk_at dksX9_writesBrace_2 16 rfl rfl)
theorem dX9_writesBrace_66 : decode cX9_writesBrace 66 = .ok (.if_icmp .ne 7, 3) := dk_160 0 7 (dk_at dksX9_writesBrace_2 18 rfl rfl)
theorem dX9_writesBrace_69 : decode cX9_writesBrace 69 = .ok (.iconst 2, 1) := dk_5 (dk_at dksX9_writesBrace_2 21 rfl rfl)
theorem dX9_writesBrace_70 : decode cX9_writesBrace 70 = .ok (.goto 4, 3) := dk_167 0 4 (dk_at dksX9_writesBrace_3 0 rfl rfl)
theorem dX9_writesBrace_73 : decode cX9_writesBrace 73 = .ok (.iconst 0, 1) := dk_3 (dk_at dksX9_writesBrace_3 3 rfl rfl)
theorem dX9_writesBrace_74 : decode cX9_writesBrace 74 = .ok (.istore 6, 2) := dk_54 6 (dk_at dksX9_writesBrace_3 4 rfl rfl)
theorem dX9_writesBrace_76 : decode cX9_writesBrace 76 = .ok (.iload 6, 2) := dk_21 6 (dk_at dksX9_writesBrace_3 6 rfl rfl)
theorem dX9_writesBrace_78 : decode cX9_writesBrace 78 = .ok (.ifCond .ne 21, 3) := dk_154 0 21 (dk_at dksX9_writesBrace_3 8 rfl rfl)
theorem dX9_writesBrace_81 : decode cX9_writesBrace 81 = .ok (.aload_n 0, 1) := dk_42 (dk_at dksX9_writesBrace_3 11 rfl rfl)
theorem dX9_writesBrace_82 : decode cX9_writesBrace 82 = .ok (.getfield 99, 3) := dk_180 0 99 (dk_at dksX9_writesBrace_3 12 rfl rfl)
theorem dX9_writesBrace_85 : decode cX9_writesBrace 85 = .ok (.iload 4, 2) := dk_21 4 (dk_at dksX9_writesBrace_3 15 rfl rfl)
theorem dX9_writesBrace_87 : decode cX9_writesBrace 87 = .ok (.iaload, 1) := dk_46 (dk_at dksX9_writesBrace_3 17 rfl rfl)
theorem dX9_writesBrace_88 : decode cX9_writesBrace 88 = .ok (.ifCond .eq 7, 3) := dk_153 0 7 (dk_at dksX9_writesBrace_3 18 rfl rfl)
theorem dX9_writesBrace_91 : decode cX9_writesBrace 91 = .ok (.iconst 1, 1) := dk_4 (dk_at dksX9_writesBrace_3 21 rfl rfl)
theorem dX9_writesBrace_92 : decode cX9_writesBrace 92 = .ok (.goto 24, 3) := dk_167 0 24 (dk_at dksX9_writesBrace_4 0 rfl rfl)
theorem dX9_writesBrace_95 : decode cX9_writesBrace 95 = .ok (.iconst 0, 1) := dk_3 (dk_at dksX9_writesBrace_4 3 rfl rfl)
theorem dX9_writesBrace_96 : decode cX9_writesBrace 96 = .ok (.goto 20, 3) := dk_167 0 20 (dk_at dksX9_writesBrace_4 4 rfl rfl)
theorem dX9_writesBrace_99 : decode cX9_writesBrace 99 = .ok (.aload_n 0, 1) := dk_42 (dk_at dksX9_writesBrace_4 7 rfl rfl)
theorem dX9_writesBrace_100 : decode cX9_writesBrace 100 = .ok (.getfield 99, 3) := dk_180 0 99 (dk_at dksX9_writesBrace_4 8 rfl rfl)
theorem dX9_writesBrace_103 : decode cX9_writesBrace 103 = .ok (.iload 4, 2) := dk_21 4 (dk_at dksX9_writesBrace_4 11 rfl rfl)
theorem dX9_writesBrace_105 : decode cX9_writesBrace 105 = .ok (.iaload, 1) := dk_46 (dk_at dksX9_writesBrace_4 13 rfl rfl)
theorem dX9_writesBrace_106 : decode cX9_writesBrace 106 = .ok (.iload 6, 2) := dk_21 6 (dk_at dksX9_writesBrace_4 14 rfl rfl)
theorem dX9_writesBrace_108 : decode cX9_writesBrace 108 = .ok (.if_icmp .ne 7, 3) := dk_160 0 7 (dk_at dksX9_writesBrace_4 16 rfl rfl)
theorem dX9_writesBrace_111 : decode cX9_writesBrace 111 = .ok (.iconst 1, 1) := dk_4 (dk_at dksX9_writesBrace_4 19 rfl rfl)
theorem dX9_writesBrace_112 : decode cX9_writesBrace 112 = .ok (.goto 4, 3) := dk_167 0 4 (dk_at dksX9_writesBrace_4 20 rfl rfl)
theorem dX9_writesBrace_115 : decode cX9_writesBrace 115 = .ok (.iconst 0, 1) := dk_3 (dk_at dksX9_writesBrace_4 23 rfl rfl)
theorem dX9_writesBrace_116 : decode cX9_writesBrace 116 = .ok (.istore 7, 2) := dk_54 7 (dk_at dksX9_writesBrace_5 0 rfl rfl)
theorem dX9_writesBrace_118 : decode cX9_writesBrace 118 = .ok (.iload 7, 2) := dk_21 7 (dk_at dksX9_writesBrace_5 2 rfl rfl)
theorem dX9_writesBrace_120 : decode cX9_writesBrace 120 = .ok (.ifCond .ne 15, 3) := dk_154 0 15 (dk_at dksX9_writesBrace_5 4 rfl rfl)
theorem dX9_writesBrace_123 : decode cX9_writesBrace 123 = .ok (.aload_n 0, 1) := dk_42 (dk_at dksX9_writesBrace_5 7 rfl rfl)
theorem dX9_writesBrace_124 : decode cX9_writesBrace 124 = .ok (.bipush (-20), 2) := dk_16 236 (dk_at dksX9_writesBrace_5 8 rfl rfl)
theorem dX9_writesBrace_126 : decode cX9_writesBrace 126 = .ok (.iload 4, 2) := dk_21 4 (dk_at dksX9_writesBrace_5 10 rfl rfl)
theorem dX9_writesBrace_128 : decode cX9_writesBrace 128 = .ok (.isub, 1) := dk_100 (dk_at dksX9_writesBrace_5 12 rfl rfl)
theorem dX9_writesBrace_129 : decode cX9_writesBrace 129 = .ok (.putfield 390, 3) := dk_181 1 134 (dk_at dksX9_writesBrace_5 13 rfl rfl)
theorem dX9_writesBrace_132 : decode cX9_writesBrace 132 = .ok (.goto 177, 3) := dk_167 0 177 (dk_at dksX9_writesBrace_5 16 rfl rfl)
theorem dX9_writesBrace_135 : decode cX9_writesBrace 135 = .ok (.iload 5, 2) := dk_21 5 (dk_at dksX9_writesBrace_5 19 rfl rfl)
theorem dX9_writesBrace_137 : decode cX9_writesBrace 137 = .ok (.bipush 125, 2) := dk_16 125 (dk_at dksX9_writesBrace_5 21 rfl rfl)
theorem dX9_writesBrace_139 : decode cX9_writesBrace 139 = .ok (.if_icmp .eq 10, 3) := dk_159 0 10 (dk_at dksX9_writesBrace_6 0 rfl rfl)
theorem dX9_writesBrace_142 : decode cX9_writesBrace 142 = .ok (.iload 5, 2) := dk_21 5 (dk_at dksX9_writesBrace_6 3 rfl rfl)
theorem dX9_writesBrace_144 : decode cX9_writesBrace 144 = .ok (.bipush 108, 2) := dk_16 108 (dk_at dksX9_writesBrace_6 5 rfl rfl)
theorem dX9_writesBrace_146 : decode cX9_writesBrace 146 = .ok (.if_icmp .ne 12, 3) := dk_160 0 12 (dk_at dksX9_writesBrace_6 7 rfl rfl)
theorem dX9_writesBrace_149 : decode cX9_writesBrace 149 = .ok (.aload_n 0, 1) := dk_42 (dk_at dksX9_writesBrace_6 10 rfl rfl)
theorem dX9_writesBrace_150 : decode cX9_writesBrace 150 = .ok (.iload 4, 2) := dk_21 4 (dk_at dksX9_writesBrace_6 11 rfl rfl)
theorem dX9_writesBrace_152 : decode cX9_writesBrace 152 = .ok (.invokevirtual 393, 3) := dk_182 1 137 (dk_at dksX9_writesBrace_6 13 rfl rfl)
theorem dX9_writesBrace_155 : decode cX9_writesBrace 155 = .ok (.goto 154, 3) := dk_167 0 154 (dk_at dksX9_writesBrace_6 16 rfl rfl)
theorem dX9_writesBrace_158 : decode cX9_writesBrace 158 = .ok (.iload 5, 2) := dk_21 5 (dk_at dksX9_writesBrace_6 19 rfl rfl)
theorem dX9_writesBrace_160 : decode cX9_writesBrace 160 = .ok (.bipush 110, 2) := dk_16 110 (dk_at dksX9_writesBrace_6 21 rfl rfl)
theorem dX9_writesBrace_162 : decode cX9_writesBrace 162 = .ok (.if_icmp .ne 32, 3) := dk_160 0 32 (dk_at dksX9_writesBrace_7 0 rfl rfl)
theorem dX9_writesBrace_165 : decode cX9_writesBrace 165 = .ok (.aload_n 0, 1) := dk_42 (dk_at dksX9_writesBrace_7 3 rfl rfl)
theorem dX9_writesBrace_166 : decode cX9_writesBrace 166 = .ok (.iload_n 1, 1) := dk_27 (dk_at dksX9_writesBrace_7 4 rfl rfl)
theorem dX9_writesBrace_167 : decode cX9_writesBrace 167 = .ok (.iload_n 2, 1) := dk_28 (dk_at dksX9_writesBrace_7 5 rfl rfl)
theorem dX9_writesBrace_168 : decode cX9_writesBrace 168 = .ok (.iconst 3, 1) := dk_6 (dk_at dksX9_writesBrace_7 6 rfl rfl)
theorem dX9_writesBrace_169 : decode cX9_writesBrace 169 = .ok (.iadd, 1) := dk_96 (dk_at dksX9_writesBrace_7 7 rfl rfl)
theorem dX9_writesBrace_170 : decode cX9_writesBrace 170 = .ok (.invokevirtual 396, 3) := dk_182 1 140 (dk_at dksX9_writesBrace_7 8 rfl rfl)
theorem dX9_writesBrace_173 : decode cX9_writesBrace 173 = .ok (.aload_n 0, 1) := dk_42 (dk_at dksX9_writesBrace_7 11 rfl rfl)
theorem dX9_writesBrace_174 : decode cX9_writesBrace 174 = .ok (.aload_n 0, 1) := dk_42 (dk_at dksX9_writesBrace_7 12 rfl rfl)
theorem dX9_writesBrace_175 : decode cX9_writesBrace 175 = .ok (.getfield 102, 3) := dk_180 0 102 (dk_at dksX9_writesBrace_7 13 rfl rfl)
theorem dX9_writesBrace_178 : decode cX9_writesBrace 178 = .ok (.iload 4, 2) := dk_21 4 (dk_at dksX9_writesBrace_7 16 rfl rfl)
theorem dX9_writesBrace_180 : decode cX9_writesBrace 180 = .ok (.iaload, 1) := dk_46 (dk_at dksX9_writesBrace_7 18 rfl rfl)
theorem dX9_writesBrace_181 : decode cX9_writesBrace 181 = .ok (.aload_n 0, 1) := dk_42 (dk_at dksX9_writesBrace_7 19 rfl rfl)
theorem dX9_writesBrace_182 : decode cX9_writesBrace 182 = .ok (.getfield 105, 3) := dk_180 0 105 (dk_at dksX9_writesBrace_7 20 rfl rfl)
theorem dX9_writesBrace_185 : decode cX9_writesBrace 185 = .ok (.iload 4, 2) := dk_21 4 (dk_at dksX9_writesBrace_8 0 rfl rfl)
theorem dX9_writesBrace_187 : decode cX9_writesBrace 187 = .ok (.iaload, 1) := dk_46 (dk_at dksX9_writesBrace_8 2 rfl rfl)
theorem dX9_writesBrace_188 : decode cX9_writesBrace 188 = .ok (.invokevirtual 399, 3) := dk_182 1 143 (dk_at dksX9_writesBrace_8 3 rfl rfl)
theorem dX9_writesBrace_191 : decode cX9_writesBrace 191 = .ok (.goto 118, 3) := dk_167 0 118 (dk_at dksX9_writesBrace_8 6 rfl rfl)
theorem dX9_writesBrace_194 : decode cX9_writesBrace 194 = .ok (.aload_n 0, 1) := dk_42 (dk_at dksX9_writesBrace_8 9 rfl rfl)
theorem dX9_writesBrace_195 : decode cX9_writesBrace 195 = .ok (.iload_n 1, 1) := dk_27 (dk_at dksX9_writesBrace_8 10 rfl rfl)
theorem dX9_writesBrace_196 : decode cX9_writesBrace 196 = .ok (.iload_n 2, 1) := dk_28 (dk_at dksX9_writesBrace_8 11 rfl rfl)
theorem dX9_writesBrace_197 : decode cX9_writesBrace 197 = .ok (.invokevirtual 402, 3) := dk_182 1 146 (dk_at dksX9_writesBrace_8 12 rfl rfl)
theorem dX9_writesBrace_200 : decode cX9_writesBrace 200 = .ok (.istore 8, 2) := dk_54 8 (dk_at dksX9_writesBrace_8 15 rfl rfl)
theorem dX9_writesBrace_202 : decode cX9_writesBrace 202 = .ok (.iload 5, 2) := dk_21 5 (dk_at dksX9_writesBrace_8 17 rfl rfl)
theorem dX9_writesBrace_204 : decode cX9_writesBrace 204 = .ok (.bipush 112, 2) := dk_16 112 (dk_at dksX9_writesBrace_8 19 rfl rfl)
theorem dX9_writesBrace_206 : decode cX9_writesBrace 206 = .ok (.if_icmp .ne 31, 3) := dk_160 0 31 (dk_at dksX9_writesBrace_8 21 rfl rfl)
theorem dX9_writesBrace_209 : decode cX9_writesBrace 209 = .ok (.aload_n 0, 1) := dk_42 (dk_at dksX9_writesBrace_9 0 rfl rfl)
theorem dX9_writesBrace_210 : decode cX9_writesBrace 210 = .ok (.iload_n 1, 1) := dk_27 (dk_at dksX9_writesBrace_9 1 rfl rfl)
theorem dX9_writesBrace_211 : decode cX9_writesBrace 211 = .ok (.aload_n 0, 1) := dk_42 (dk_at dksX9_writesBrace_9 2 rfl rfl)
theorem dX9_writesBrace_212 : decode cX9_writesBrace 212 = .ok (.getfield 326, 3) := dk_180 1 70 (dk_at dksX9_writesBrace_9 3 rfl rfl)
theorem dX9_writesBrace_215 : decode cX9_writesBrace 215 = .ok (.iload 8, 2) := dk_21 8 (dk_at dksX9_writesBrace_9 6 rfl rfl)
theorem dX9_writesBrace_217 : decode cX9_writesBrace 217 = .ok (.aload_n 0, 1) := dk_42 (dk_at dksX9_writesBrace_9 8 rfl rfl)
theorem dX9_writesBrace_218 : decode cX9_writesBrace 218 = .ok (.getfield 102, 3) := dk_180 0 102 (dk_at dksX9_writesBrace_9 9 rfl rfl)
theorem dX9_writesBrace_221 : decode cX9_writesBrace 221 = .ok (.iload 4, 2) := dk_21 4 (dk_at dksX9_writesBrace_9 12 rfl rfl)
theorem dX9_writesBrace_223 : decode cX9_writesBrace 223 = .ok (.iaload, 1) := dk_46 (dk_at dksX9_writesBrace_9 14 rfl rfl)
theorem dX9_writesBrace_224 : decode cX9_writesBrace 224 = .ok (.aload_n 0, 1) := dk_42 (dk_at dksX9_writesBrace_9 15 rfl rfl)
theorem dX9_writesBrace_225 : decode cX9_writesBrace 225 = .ok (.getfield 105, 3) := dk_180 0 105 (dk_at dksX9_writesBrace_9 16 rfl rfl)
theorem dX9_writesBrace_228 : decode cX9_writesBrace 228 = .ok (.iload 4, 2) := dk_21 4 (dk_at dksX9_writesBrace_9 19 rfl rfl)
theorem dX9_writesBrace_230 : decode cX9_writesBrace 230 = .ok (.iaload, 1) := dk_46 (dk_at dksX9_writesBrace_9 21 rfl rfl)
theorem dX9_writesBrace_231 : decode cX9_writesBrace 231 = .ok (.invokevirtual 309, 3) := dk_182 1 53 (dk_at dksX9_writesBrace_10 0 rfl rfl)
theorem dX9_writesBrace_234 : decode cX9_writesBrace 234 = .ok (.goto 17, 3) := dk_167 0 17 (dk_at dksX9_writesBrace_10 3 rfl rfl)
theorem dX9_writesBrace_237 : decode cX9_writesBrace 237 = .ok (.aload_n 0, 1) := dk_42 (dk_at dksX9_writesBrace_10 6 rfl rfl)
theorem dX9_writesBrace_238 : decode cX9_writesBrace 238 = .ok (.iload_n 1, 1) := dk_27 (dk_at dksX9_writesBrace_10 7 rfl rfl)
theorem dX9_writesBrace_239 : decode cX9_writesBrace 239 = .ok (.iload 8, 2) := dk_21 8 (dk_at dksX9_writesBrace_10 8 rfl rfl)
theorem dX9_writesBrace_241 : decode cX9_writesBrace 241 = .ok (.aload_n 0, 1) := dk_42 (dk_at dksX9_writesBrace_10 10 rfl rfl)
theorem dX9_writesBrace_242 : decode cX9_writesBrace 242 = .ok (.getfield 102, 3) := dk_180 0 102 (dk_at dksX9_writesBrace_10 11 rfl rfl)
theorem dX9_writesBrace_245 : decode cX9_writesBrace 245 = .ok (.iload 4, 2) := dk_21 4 (dk_at dksX9_writesBrace_10 14 rfl rfl)
theorem dX9_writesBrace_247 : decode cX9_writesBrace 247 = .ok (.iaload, 1) := dk_46 (dk_at dksX9_writesBrace_10 16 rfl rfl)
theorem dX9_writesBrace_248 : decode cX9_writesBrace 248 = .ok (.invokevirtual 300, 3) := dk_182 1 44 (dk_at dksX9_writesBrace_10 17 rfl rfl)
theorem dX9_writesBrace_251 : decode cX9_writesBrace 251 = .ok (.istore 9, 2) := dk_54 9 (dk_at dksX9_writesBrace_10 20 rfl rfl)
theorem dX9_writesBrace_253 : decode cX9_writesBrace 253 = .ok (.iload 9, 2) := dk_21 9 (dk_at dksX9_writesBrace_10 22 rfl rfl)
theorem dX9_writesBrace_255 : decode cX9_writesBrace 255 = .ok (.ifCond .ge 14, 3) := dk_156 0 14 (dk_at dksX9_writesBrace_11 0 rfl rfl)
theorem dX9_writesBrace_258 : decode cX9_writesBrace 258 = .ok (.aload_n 0, 1) := dk_42 (dk_at dksX9_writesBrace_11 3 rfl rfl)
theorem dX9_writesBrace_259 : decode cX9_writesBrace 259 = .ok (.iload_n 1, 1) := dk_27 (dk_at dksX9_writesBrace_11 4 rfl rfl)
theorem dX9_writesBrace_260 : decode cX9_writesBrace 260 = .ok (.iload 8, 2) := dk_21 8 (dk_at dksX9_writesBrace_11 5 rfl rfl)
theorem dX9_writesBrace_262 : decode cX9_writesBrace 262 = .ok (.iconst 3, 1) := dk_6 (dk_at dksX9_writesBrace_11 7 rfl rfl)
theorem dX9_writesBrace_263 : decode cX9_writesBrace 263 = .ok (.invokevirtual 300, 3) := dk_182 1 44 (dk_at dksX9_writesBrace_11 8 rfl rfl)
theorem dX9_writesBrace_266 : decode cX9_writesBrace 266 = .ok (.goto 5, 3) := dk_167 0 5 (dk_at dksX9_writesBrace_11 11 rfl rfl)
theorem dX9_writesBrace_269 : decode cX9_writesBrace 269 = .ok (.iload 9, 2) := dk_21 9 (dk_at dksX9_writesBrace_11 14 rfl rfl)
theorem dX9_writesBrace_271 : decode cX9_writesBrace 271 = .ok (.istore 9, 2) := dk_54 9 (dk_at dksX9_writesBrace_11 16 rfl rfl)
theorem dX9_writesBrace_273 : decode cX9_writesBrace 273 = .ok (.aload_n 0, 1) := dk_42 (dk_at dksX9_writesBrace_11 18 rfl rfl)
theorem dX9_writesBrace_274 : decode cX9_writesBrace 274 = .ok (.iload_n 1, 1) := dk_27 (dk_at dksX9_writesBrace_11 19 rfl rfl)
theorem dX9_writesBrace_275 : decode cX9_writesBrace 275 = .ok (.aload_n 0, 1) := dk_42 (dk_at dksX9_writesBrace_11 20 rfl rfl)
theorem dX9_writesBrace_276 : decode cX9_writesBrace 276 = .ok (.getfield 69, 3) := dk_180 0 69 (dk_at dksX9_writesBrace_11 21 rfl rfl)
theorem dX9_writesBrace_279 : decode cX9_writesBrace 279 = .ok (.bipush 10, 2) := dk_16 10 (dk_at dksX9_writesBrace_12 0 rfl rfl)
theorem dX9_writesBrace_281 : decode cX9_writesBrace 281 = .ok (.bipush 8, 2) := dk_16 8 (dk_at dksX9_writesBrace_12 2 rfl rfl)
theorem dX9_writesBrace_283 : decode cX9_writesBrace 283 = .ok (.iload_n 1, 1) := dk_27 (dk_at dksX9_writesBrace_12 4 rfl rfl)
theorem dX9_writesBrace_284 : decode cX9_writesBrace 284 = .ok (.imul, 1) := dk_104 (dk_at dksX9_writesBrace_12 5 rfl rfl)
theorem dX9_writesBrace_285 : decode cX9_writesBrace 285 = .ok (.iload 8, 2) := dk_21 8 (dk_at dksX9_writesBrace_12 6 rfl rfl)
theorem dX9_writesBrace_287 : decode cX9_writesBrace 287 = .ok (.iadd, 1) := dk_96 (dk_at dksX9_writesBrace_12 8 rfl rfl)
theorem dX9_writesBrace_288 : decode cX9_writesBrace 288 = .ok (.imul, 1) := dk_104 (dk_at dksX9_writesBrace_12 9 rfl rfl)
theorem dX9_writesBrace_289 : decode cX9_writesBrace 289 = .ok (.iload 9, 2) := dk_21 9 (dk_at dksX9_writesBrace_12 10 rfl rfl)
theorem dX9_writesBrace_291 : decode cX9_writesBrace 291 = .ok (.iadd, 1) := dk_96 (dk_at dksX9_writesBrace_12 12 rfl rfl)
theorem dX9_writesBrace_292 : decode cX9_writesBrace 292 = .ok (.iaload, 1) := dk_46 (dk_at dksX9_writesBrace_12 13 rfl rfl)
theorem dX9_writesBrace_293 : decode cX9_writesBrace 293 = .ok (.iload 5, 2) := dk_21 5 (dk_at dksX9_writesBrace_12 14 rfl rfl)
theorem dX9_writesBrace_295 : decode cX9_writesBrace 295 = .ok (.bipush 112, 2) := dk_16 112 (dk_at dksX9_writesBrace_12 16 rfl rfl)
theorem dX9_writesBrace_297 : decode cX9_writesBrace 297 = .ok (.if_icmp .ne 8, 3) := dk_160 0 8 (dk_at dksX9_writesBrace_12 18 rfl rfl)
theorem dX9_writesBrace_300 : decode cX9_writesBrace 300 = .ok (.iload 4, 2) := dk_21 4 (dk_at dksX9_writesBrace_12 21 rfl rfl)
theorem dX9_writesBrace_302 : decode cX9_writesBrace 302 = .ok (.goto 4, 3) := dk_167 0 4 (dk_at dksX9_writesBrace_13 0 rfl rfl)
theorem dX9_writesBrace_305 : decode cX9_writesBrace 305 = .ok (.iload_n 3, 1) := dk_29 (dk_at dksX9_writesBrace_13 3 rfl rfl)
theorem dX9_writesBrace_306 : decode cX9_writesBrace 306 = .ok (.invokevirtual 405, 3) := dk_182 1 149 (dk_at dksX9_writesBrace_13 4 rfl rfl)
theorem dX9_writesBrace_309 : decode cX9_writesBrace 309 = .ok (.return_, 1) := dk_177 (dk_at dksX9_writesBrace_13 7 rfl rfl)
abbrev cX9_writesPlainly : ByteArray := prog_31_method_67_code
def yX9_writesPlainly : MethodName := ⟨RX9, "writesPlainly", "(I)V"⟩
def dkwX9_writesPlainly_3 : List UInt8 := [16, 110, 182, 1, 76, 167, 0, 8, 42, 27, 182, 1, 131, 177]
abbrev dktX9_writesPlainly_3 : List UInt8 := dkwX9_writesPlainly_3 ++ []
def dkwX9_writesPlainly_2 : List UInt8 := [154, 0, 8, 16, 109, 167, 0, 20, 42, 180, 0, 102, 27, 46, 4, 160, 0, 8, 16, 102, 167, 0, 5]
abbrev dktX9_writesPlainly_2 : List UInt8 := dkwX9_writesPlainly_2 ++ dktX9_writesPlainly_3
def dkwX9_writesPlainly_1 : List UInt8 := [182, 1, 101, 167, 0, 56, 42, 180, 0, 99, 27, 46, 5, 160, 0, 41, 42, 42, 180, 0, 102, 27, 46]
abbrev dktX9_writesPlainly_1 : List UInt8 := dkwX9_writesPlainly_1 ++ dktX9_writesPlainly_2
def dkwX9_writesPlainly_0 : List UInt8 := [42, 180, 0, 99, 27, 46, 4, 160, 0, 22, 42, 42, 180, 0, 102, 27, 46, 42, 180, 0, 105, 27, 46]
abbrev dktX9_writesPlainly_0 : List UInt8 := dkwX9_writesPlainly_0 ++ dktX9_writesPlainly_1
theorem dksX9_writesPlainly_0 : cX9_writesPlainly.data.toList.drop 0 = dktX9_writesPlainly_0 := by decide +kernel
theorem dksX9_writesPlainly_1 : cX9_writesPlainly.data.toList.drop 23 = dktX9_writesPlainly_1 := dk_seg dksX9_writesPlainly_0 23 rfl rfl
theorem dksX9_writesPlainly_2 : cX9_writesPlainly.data.toList.drop 46 = dktX9_writesPlainly_2 := dk_seg dksX9_writesPlainly_1 23 rfl rfl
theorem dksX9_writesPlainly_3 : cX9_writesPlainly.data.toList.drop 69 = dktX9_writesPlainly_3 := dk_seg dksX9_writesPlainly_2 23 rfl rfl
theorem dX9_writesPlainly_0 : decode cX9_writesPlainly 0 = .ok (.aload_n 0, 1) := dk_42 (dk_at dksX9_writesPlainly_0 0 rfl rfl)
theorem dX9_writesPlainly_1 : decode cX9_writesPlainly 1 = .ok (.getfield 99, 3) := dk_180 0 99 (dk_at dksX9_writesPlainly_0 1 rfl rfl)
theorem dX9_writesPlainly_4 : decode cX9_writesPlainly 4 = .ok (.iload_n 1, 1) := dk_27 (dk_at dksX9_writesPlainly_0 4 rfl rfl)
theorem dX9_writesPlainly_5 : decode cX9_writesPlainly 5 = .ok (.iaload, 1) := dk_46 (dk_at dksX9_writesPlainly_0 5 rfl rfl)
theorem dX9_writesPlainly_6 : decode cX9_writesPlainly 6 = .ok (.iconst 1, 1) := dk_4 (dk_at dksX9_writesPlainly_0 6 rfl rfl)
theorem dX9_writesPlainly_7 : decode cX9_writesPlainly 7 = .ok (.if_icmp .ne 22, 3) := dk_160 0 22 (dk_at dksX9_writesPlainly_0 7 rfl rfl)
theorem dX9_writesPlainly_10 : decode cX9_writesPlainly 10 = .ok (.aload_n 0, 1) := dk_42 (dk_at dksX9_writesPlainly_0 10 rfl rfl)
theorem dX9_writesPlainly_11 : decode cX9_writesPlainly 11 = .ok (.aload_n 0, 1) := dk_42 (dk_at dksX9_writesPlainly_0 11 rfl rfl)
theorem dX9_writesPlainly_12 : decode cX9_writesPlainly 12 = .ok (.getfield 102, 3) := dk_180 0 102 (dk_at dksX9_writesPlainly_0 12 rfl rfl)
theorem dX9_writesPlainly_15 : decode cX9_writesPlainly 15 = .ok (.iload_n 1, 1) := dk_27 (dk_at dksX9_writesPlainly_0 15 rfl rfl)
theorem dX9_writesPlainly_16 : decode cX9_writesPlainly 16 = .ok (.iaload, 1) := dk_46 (dk_at dksX9_writesPlainly_0 16 rfl rfl)
theorem dX9_writesPlainly_17 : decode cX9_writesPlainly 17 = .ok (.aload_n 0, 1) := dk_42 (dk_at dksX9_writesPlainly_0 17 rfl rfl)
theorem dX9_writesPlainly_18 : decode cX9_writesPlainly 18 = .ok (.getfield 105, 3) := dk_180 0 105 (dk_at dksX9_writesPlainly_0 18 rfl rfl)
theorem dX9_writesPlainly_21 : decode cX9_writesPlainly 21 = .ok (.iload_n 1, 1) := dk_27 (dk_at dksX9_writesPlainly_0 21 rfl rfl)
theorem dX9_writesPlainly_22 : decode cX9_writesPlainly 22 = .ok (.iaload, 1) := dk_46 (dk_at dksX9_writesPlainly_0 22 rfl rfl)
theorem dX9_writesPlainly_23 : decode cX9_writesPlainly 23 = .ok (.invokevirtual 357, 3) := dk_182 1 101 (dk_at dksX9_writesPlainly_1 0 rfl rfl)
theorem dX9_writesPlainly_26 : decode cX9_writesPlainly 26 = .ok (.goto 56, 3) := dk_167 0 56 (dk_at dksX9_writesPlainly_1 3 rfl rfl)
theorem dX9_writesPlainly_29 : decode cX9_writesPlainly 29 = .ok (.aload_n 0, 1) := dk_42 (dk_at dksX9_writesPlainly_1 6 rfl rfl)
theorem dX9_writesPlainly_30 : decode cX9_writesPlainly 30 = .ok (.getfield 99, 3) := dk_180 0 99 (dk_at dksX9_writesPlainly_1 7 rfl rfl)
theorem dX9_writesPlainly_33 : decode cX9_writesPlainly 33 = .ok (.iload_n 1, 1) := dk_27 (dk_at dksX9_writesPlainly_1 10 rfl rfl)
theorem dX9_writesPlainly_34 : decode cX9_writesPlainly 34 = .ok (.iaload, 1) := dk_46 (dk_at dksX9_writesPlainly_1 11 rfl rfl)
theorem dX9_writesPlainly_35 : decode cX9_writesPlainly 35 = .ok (.iconst 2, 1) := dk_5 (dk_at dksX9_writesPlainly_1 12 rfl rfl)
theorem dX9_writesPlainly_36 : decode cX9_writesPlainly 36 = .ok (.if_icmp .ne 41, 3) := dk_160 0 41 (dk_at dksX9_writesPlainly_1 13 rfl rfl)
theorem dX9_writesPlainly_39 : decode cX9_writesPlainly 39 = .ok (.aload_n 0, 1) := dk_42 (dk_at dksX9_writesPlainly_1 16 rfl rfl)
theorem dX9_writesPlainly_40 : decode cX9_writesPlainly 40 = .ok (.aload_n 0, 1) := dk_42 (dk_at dksX9_writesPlainly_1 17 rfl rfl)
theorem dX9_writesPlainly_41 : decode cX9_writesPlainly 41 = .ok (.getfield 102, 3) := dk_180 0 102 (dk_at dksX9_writesPlainly_1 18 rfl rfl)
theorem dX9_writesPlainly_44 : decode cX9_writesPlainly 44 = .ok (.iload_n 1, 1) := dk_27 (dk_at dksX9_writesPlainly_1 21 rfl rfl)
theorem dX9_writesPlainly_45 : decode cX9_writesPlainly 45 = .ok (.iaload, 1) := dk_46 (dk_at dksX9_writesPlainly_1 22 rfl rfl)
theorem dX9_writesPlainly_46 : decode cX9_writesPlainly 46 = .ok (.ifCond .ne 8, 3) := dk_154 0 8 (dk_at dksX9_writesPlainly_2 0 rfl rfl)
theorem dX9_writesPlainly_49 : decode cX9_writesPlainly 49 = .ok (.bipush 109, 2) := dk_16 109 (dk_at dksX9_writesPlainly_2 3 rfl rfl)
theorem dX9_writesPlainly_51 : decode cX9_writesPlainly 51 = .ok (.goto 20, 3) := dk_167 0 20 (dk_at dksX9_writesPlainly_2 5 rfl rfl)
theorem dX9_writesPlainly_54 : decode cX9_writesPlainly 54 = .ok (.aload_n 0, 1) := dk_42 (dk_at dksX9_writesPlainly_2 8 rfl rfl)
theorem dX9_writesPlainly_55 : decode cX9_writesPlainly 55 = .ok (.getfield 102, 3) := dk_180 0 102 (dk_at dksX9_writesPlainly_2 9 rfl rfl)
theorem dX9_writesPlainly_58 : decode cX9_writesPlainly 58 = .ok (.iload_n 1, 1) := dk_27 (dk_at dksX9_writesPlainly_2 12 rfl rfl)
theorem dX9_writesPlainly_59 : decode cX9_writesPlainly 59 = .ok (.iaload, 1) := dk_46 (dk_at dksX9_writesPlainly_2 13 rfl rfl)
theorem dX9_writesPlainly_60 : decode cX9_writesPlainly 60 = .ok (.iconst 1, 1) := dk_4 (dk_at dksX9_writesPlainly_2 14 rfl rfl)
theorem dX9_writesPlainly_61 : decode cX9_writesPlainly 61 = .ok (.if_icmp .ne 8, 3) := dk_160 0 8 (dk_at dksX9_writesPlainly_2 15 rfl rfl)
theorem dX9_writesPlainly_64 : decode cX9_writesPlainly 64 = .ok (.bipush 102, 2) := dk_16 102 (dk_at dksX9_writesPlainly_2 18 rfl rfl)
theorem dX9_writesPlainly_66 : decode cX9_writesPlainly 66 = .ok (.goto 5, 3) := dk_167 0 5 (dk_at dksX9_writesPlainly_2 20 rfl rfl)
theorem dX9_writesPlainly_69 : decode cX9_writesPlainly 69 = .ok (.bipush 110, 2) := dk_16 110 (dk_at dksX9_writesPlainly_3 0 rfl rfl)
theorem dX9_writesPlainly_71 : decode cX9_writesPlainly 71 = .ok (.invokevirtual 332, 3) := dk_182 1 76 (dk_at dksX9_writesPlainly_3 2 rfl rfl)
theorem dX9_writesPlainly_74 : decode cX9_writesPlainly 74 = .ok (.goto 8, 3) := dk_167 0 8 (dk_at dksX9_writesPlainly_3 5 rfl rfl)
theorem dX9_writesPlainly_77 : decode cX9_writesPlainly 77 = .ok (.aload_n 0, 1) := dk_42 (dk_at dksX9_writesPlainly_3 8 rfl rfl)
theorem dX9_writesPlainly_78 : decode cX9_writesPlainly 78 = .ok (.iload_n 1, 1) := dk_27 (dk_at dksX9_writesPlainly_3 9 rfl rfl)
theorem dX9_writesPlainly_79 : decode cX9_writesPlainly 79 = .ok (.invokevirtual 387, 3) := dk_182 1 131 (dk_at dksX9_writesPlainly_3 10 rfl rfl)
theorem dX9_writesPlainly_82 : decode cX9_writesPlainly 82 = .ok (.return_, 1) := dk_177 (dk_at dksX9_writesPlainly_3 13 rfl rfl)
abbrev cX9_writesDecimal : ByteArray := prog_31_method_60_code
def yX9_writesDecimal : MethodName := ⟨RX9, "writesDecimal", "(II)V"⟩
def dkwX9_writesDecimal_2 : List UInt8 := [113, 28, 182, 1, 81, 177]
abbrev dktX9_writesDecimal_2 : List UInt8 := dkwX9_writesDecimal_2 ++ []
def dkwX9_writesDecimal_1 : List UInt8 := [33, 28, 184, 0, 137, 109, 4, 182, 1, 81, 28, 158, 0, 18, 42, 182, 1, 85, 42, 33, 28, 184, 0, 137]
abbrev dktX9_writesDecimal_1 : List UInt8 := dkwX9_writesDecimal_1 ++ dktX9_writesDecimal_2
def dkwX9_writesDecimal_0 : List UInt8 := [27, 156, 0, 9, 27, 133, 117, 167, 0, 5, 27, 133, 66, 27, 156, 0, 9, 42, 16, 45, 182, 1, 76, 42]
abbrev dktX9_writesDecimal_0 : List UInt8 := dkwX9_writesDecimal_0 ++ dktX9_writesDecimal_1
theorem dksX9_writesDecimal_0 : cX9_writesDecimal.data.toList.drop 0 = dktX9_writesDecimal_0 := by decide +kernel
theorem dksX9_writesDecimal_1 : cX9_writesDecimal.data.toList.drop 24 = dktX9_writesDecimal_1 := dk_seg dksX9_writesDecimal_0 24 rfl rfl
theorem dksX9_writesDecimal_2 : cX9_writesDecimal.data.toList.drop 48 = dktX9_writesDecimal_2 := dk_seg dksX9_writesDecimal_1 24 rfl rfl
theorem dX9_writesDecimal_0 : decode cX9_writesDecimal 0 = .ok (.iload_n 1, 1) := dk_27 (dk_at dksX9_writesDecimal_0 0 rfl rfl)
theorem dX9_writesDecimal_1 : decode cX9_writesDecimal 1 = .ok (.ifCond .ge 9, 3) := dk_156 0 9 (dk_at dksX9_writesDecimal_0 1 rfl rfl)
theorem dX9_writesDecimal_4 : decode cX9_writesDecimal 4 = .ok (.iload_n 1, 1) := dk_27 (dk_at dksX9_writesDecimal_0 4 rfl rfl)
theorem dX9_writesDecimal_5 : decode cX9_writesDecimal 5 = .ok (.i2l, 1) := dk_133 (dk_at dksX9_writesDecimal_0 5 rfl rfl)
theorem dX9_writesDecimal_6 : decode cX9_writesDecimal 6 = .ok (.lneg, 1) := dk_117 (dk_at dksX9_writesDecimal_0 6 rfl rfl)
theorem dX9_writesDecimal_7 : decode cX9_writesDecimal 7 = .ok (.goto 5, 3) := dk_167 0 5 (dk_at dksX9_writesDecimal_0 7 rfl rfl)
theorem dX9_writesDecimal_10 : decode cX9_writesDecimal 10 = .ok (.iload_n 1, 1) := dk_27 (dk_at dksX9_writesDecimal_0 10 rfl rfl)
theorem dX9_writesDecimal_11 : decode cX9_writesDecimal 11 = .ok (.i2l, 1) := dk_133 (dk_at dksX9_writesDecimal_0 11 rfl rfl)
theorem dX9_writesDecimal_12 : decode cX9_writesDecimal 12 = .ok (.lstore_n 3, 1) := dk_66 (dk_at dksX9_writesDecimal_0 12 rfl rfl)
theorem dX9_writesDecimal_13 : decode cX9_writesDecimal 13 = .ok (.iload_n 1, 1) := dk_27 (dk_at dksX9_writesDecimal_0 13 rfl rfl)
theorem dX9_writesDecimal_14 : decode cX9_writesDecimal 14 = .ok (.ifCond .ge 9, 3) := dk_156 0 9 (dk_at dksX9_writesDecimal_0 14 rfl rfl)
theorem dX9_writesDecimal_17 : decode cX9_writesDecimal 17 = .ok (.aload_n 0, 1) := dk_42 (dk_at dksX9_writesDecimal_0 17 rfl rfl)
theorem dX9_writesDecimal_18 : decode cX9_writesDecimal 18 = .ok (.bipush 45, 2) := dk_16 45 (dk_at dksX9_writesDecimal_0 18 rfl rfl)
theorem dX9_writesDecimal_20 : decode cX9_writesDecimal 20 = .ok (.invokevirtual 332, 3) := dk_182 1 76 (dk_at dksX9_writesDecimal_0 20 rfl rfl)
theorem dX9_writesDecimal_23 : decode cX9_writesDecimal 23 = .ok (.aload_n 0, 1) := dk_42 (dk_at dksX9_writesDecimal_0 23 rfl rfl)
theorem dX9_writesDecimal_24 : decode cX9_writesDecimal 24 = .ok (.lload_n 3, 1) := dk_33 (dk_at dksX9_writesDecimal_1 0 rfl rfl)
theorem dX9_writesDecimal_25 : decode cX9_writesDecimal 25 = .ok (.iload_n 2, 1) := dk_28 (dk_at dksX9_writesDecimal_1 1 rfl rfl)
theorem dX9_writesDecimal_26 : decode cX9_writesDecimal 26 = .ok (.invokestatic 137, 3) := dk_184 0 137 (dk_at dksX9_writesDecimal_1 2 rfl rfl)
theorem dX9_writesDecimal_29 : decode cX9_writesDecimal 29 = .ok (.ldiv, 1) := dk_109 (dk_at dksX9_writesDecimal_1 5 rfl rfl)
theorem dX9_writesDecimal_30 : decode cX9_writesDecimal 30 = .ok (.iconst 1, 1) := dk_4 (dk_at dksX9_writesDecimal_1 6 rfl rfl)
theorem dX9_writesDecimal_31 : decode cX9_writesDecimal 31 = .ok (.invokevirtual 337, 3) := dk_182 1 81 (dk_at dksX9_writesDecimal_1 7 rfl rfl)
theorem dX9_writesDecimal_34 : decode cX9_writesDecimal 34 = .ok (.iload_n 2, 1) := dk_28 (dk_at dksX9_writesDecimal_1 10 rfl rfl)
theorem dX9_writesDecimal_35 : decode cX9_writesDecimal 35 = .ok (.ifCond .le 18, 3) := dk_158 0 18 (dk_at dksX9_writesDecimal_1 11 rfl rfl)
theorem dX9_writesDecimal_38 : decode cX9_writesDecimal 38 = .ok (.aload_n 0, 1) := dk_42 (dk_at dksX9_writesDecimal_1 14 rfl rfl)
theorem dX9_writesDecimal_39 : decode cX9_writesDecimal 39 = .ok (.invokevirtual 341, 3) := dk_182 1 85 (dk_at dksX9_writesDecimal_1 15 rfl rfl)
theorem dX9_writesDecimal_42 : decode cX9_writesDecimal 42 = .ok (.aload_n 0, 1) := dk_42 (dk_at dksX9_writesDecimal_1 18 rfl rfl)
theorem dX9_writesDecimal_43 : decode cX9_writesDecimal 43 = .ok (.lload_n 3, 1) := dk_33 (dk_at dksX9_writesDecimal_1 19 rfl rfl)
theorem dX9_writesDecimal_44 : decode cX9_writesDecimal 44 = .ok (.iload_n 2, 1) := dk_28 (dk_at dksX9_writesDecimal_1 20 rfl rfl)
theorem dX9_writesDecimal_45 : decode cX9_writesDecimal 45 = .ok (.invokestatic 137, 3) := dk_184 0 137 (dk_at dksX9_writesDecimal_1 21 rfl rfl)
theorem dX9_writesDecimal_48 : decode cX9_writesDecimal 48 = .ok (.lrem, 1) := dk_113 (dk_at dksX9_writesDecimal_2 0 rfl rfl)
theorem dX9_writesDecimal_49 : decode cX9_writesDecimal 49 = .ok (.iload_n 2, 1) := dk_28 (dk_at dksX9_writesDecimal_2 1 rfl rfl)
theorem dX9_writesDecimal_50 : decode cX9_writesDecimal 50 = .ok (.invokevirtual 337, 3) := dk_182 1 81 (dk_at dksX9_writesDecimal_2 2 rfl rfl)
theorem dX9_writesDecimal_53 : decode cX9_writesDecimal 53 = .ok (.return_, 1) := dk_177 (dk_at dksX9_writesDecimal_2 5 rfl rfl)
abbrev cX9_writes : ByteArray := prog_31_method_56_code
def yX9_writes : MethodName := ⟨RX9, "writes", "(I)V"⟩
def dkwX9_writes_0 : List UInt8 := [42, 180, 0, 114, 42, 180, 1, 67, 27, 79, 42, 89, 180, 1, 67, 4, 96, 181, 1, 67, 177]
abbrev dktX9_writes_0 : List UInt8 := dkwX9_writes_0 ++ []
theorem dksX9_writes_0 : cX9_writes.data.toList.drop 0 = dktX9_writes_0 := by decide +kernel
theorem dX9_writes_0 : decode cX9_writes 0 = .ok (.aload_n 0, 1) := dk_42 (dk_at dksX9_writes_0 0 rfl rfl)
theorem dX9_writes_1 : decode cX9_writes 1 = .ok (.getfield 114, 3) := dk_180 0 114 (dk_at dksX9_writes_0 1 rfl rfl)
theorem dX9_writes_4 : decode cX9_writes 4 = .ok (.aload_n 0, 1) := dk_42 (dk_at dksX9_writes_0 4 rfl rfl)
theorem dX9_writes_5 : decode cX9_writes 5 = .ok (.getfield 323, 3) := dk_180 1 67 (dk_at dksX9_writes_0 5 rfl rfl)
theorem dX9_writes_8 : decode cX9_writes 8 = .ok (.iload_n 1, 1) := dk_27 (dk_at dksX9_writes_0 8 rfl rfl)
theorem dX9_writes_9 : decode cX9_writes 9 = .ok (.iastore, 1) := dk_79 (dk_at dksX9_writes_0 9 rfl rfl)
theorem dX9_writes_10 : decode cX9_writes 10 = .ok (.aload_n 0, 1) := dk_42 (dk_at dksX9_writes_0 10 rfl rfl)
theorem dX9_writes_11 : decode cX9_writes 11 = .ok (.dup, 1) := dk_89 (dk_at dksX9_writes_0 11 rfl rfl)
theorem dX9_writes_12 : decode cX9_writes 12 = .ok (.getfield 323, 3) := dk_180 1 67 (dk_at dksX9_writes_0 12 rfl rfl)
theorem dX9_writes_15 : decode cX9_writes 15 = .ok (.iconst 1, 1) := dk_4 (dk_at dksX9_writes_0 15 rfl rfl)
theorem dX9_writes_16 : decode cX9_writes 16 = .ok (.iadd, 1) := dk_96 (dk_at dksX9_writes_0 16 rfl rfl)
theorem dX9_writes_17 : decode cX9_writes 17 = .ok (.putfield 323, 3) := dk_181 1 67 (dk_at dksX9_writes_0 17 rfl rfl)
theorem dX9_writes_20 : decode cX9_writes 20 = .ok (.return_, 1) := dk_177 (dk_at dksX9_writes_0 20 rfl rfl)
abbrev cX9_writesDigits : ByteArray := prog_31_method_59_code
def yX9_writesDigits : MethodName := ⟨RX9, "writesDigits", "(JI)V"⟩
def dkwX9_writesDigits_3 : List UInt8 := [167, 255, 224, 177]
abbrev dktX9_writesDigits_3 : List UInt8 := dkwX9_writesDigits_3 ++ []
def dkwX9_writesDigits_2 : List UInt8 := [20, 1, 21, 31, 22, 4, 109, 20, 0, 135, 113, 97, 136, 182, 1, 76, 22, 4, 20, 0, 135, 109, 55, 4]
abbrev dktX9_writesDigits_2 : List UInt8 := dkwX9_writesDigits_2 ++ dktX9_writesDigits_3
def dkwX9_writesDigits_1 : List UInt8 := [22, 4, 20, 0, 135, 105, 55, 4, 132, 6, 1, 167, 255, 228, 22, 4, 9, 148, 158, 0, 31, 42]
abbrev dktX9_writesDigits_1 : List UInt8 := dkwX9_writesDigits_1 ++ dktX9_writesDigits_2
def dkwX9_writesDigits_0 : List UInt8 := [10, 55, 4, 4, 54, 6, 21, 6, 29, 161, 0, 14, 31, 22, 4, 109, 20, 1, 79, 148, 158, 0, 17]
abbrev dktX9_writesDigits_0 : List UInt8 := dkwX9_writesDigits_0 ++ dktX9_writesDigits_1
theorem dksX9_writesDigits_0 : cX9_writesDigits.data.toList.drop 0 = dktX9_writesDigits_0 := by decide +kernel
theorem dksX9_writesDigits_1 : cX9_writesDigits.data.toList.drop 23 = dktX9_writesDigits_1 := dk_seg dksX9_writesDigits_0 23 rfl rfl
theorem dksX9_writesDigits_2 : cX9_writesDigits.data.toList.drop 45 = dktX9_writesDigits_2 := dk_seg dksX9_writesDigits_1 22 rfl rfl
theorem dksX9_writesDigits_3 : cX9_writesDigits.data.toList.drop 69 = dktX9_writesDigits_3 := dk_seg dksX9_writesDigits_2 24 rfl rfl
theorem dX9_writesDigits_0 : decode cX9_writesDigits 0 = .ok (.lconst 1, 1) := dk_10 (dk_at dksX9_writesDigits_0 0 rfl rfl)
theorem dX9_writesDigits_1 : decode cX9_writesDigits 1 = .ok (.lstore 4, 2) := dk_55 4 (dk_at dksX9_writesDigits_0 1 rfl rfl)
theorem dX9_writesDigits_3 : decode cX9_writesDigits 3 = .ok (.iconst 1, 1) := dk_4 (dk_at dksX9_writesDigits_0 3 rfl rfl)
theorem dX9_writesDigits_4 : decode cX9_writesDigits 4 = .ok (.istore 6, 2) := dk_54 6 (dk_at dksX9_writesDigits_0 4 rfl rfl)
theorem dX9_writesDigits_6 : decode cX9_writesDigits 6 = .ok (.iload 6, 2) := dk_21 6 (dk_at dksX9_writesDigits_0 6 rfl rfl)
theorem dX9_writesDigits_8 : decode cX9_writesDigits 8 = .ok (.iload_n 3, 1) := dk_29 (dk_at dksX9_writesDigits_0 8 rfl rfl)
theorem dX9_writesDigits_9 : decode cX9_writesDigits 9 = .ok (.if_icmp .lt 14, 3) := dk_161 0 14 (dk_at dksX9_writesDigits_0 9 rfl rfl)
theorem dX9_writesDigits_12 : decode cX9_writesDigits 12 = .ok (.lload_n 1, 1) := dk_31 (dk_at dksX9_writesDigits_0 12 rfl rfl)
theorem dX9_writesDigits_13 : decode cX9_writesDigits 13 = .ok (.lload 4, 2) := dk_22 4 (dk_at dksX9_writesDigits_0 13 rfl rfl)
theorem dX9_writesDigits_15 : decode cX9_writesDigits 15 = .ok (.ldiv, 1) := dk_109 (dk_at dksX9_writesDigits_0 15 rfl rfl)
theorem dX9_writesDigits_16 : decode cX9_writesDigits 16 = .ok (.ldc2_w 335, 3) := dk_20 1 79 (dk_at dksX9_writesDigits_0 16 rfl rfl)
theorem dX9_writesDigits_19 : decode cX9_writesDigits 19 = .ok (.lcmp, 1) := dk_148 (dk_at dksX9_writesDigits_0 19 rfl rfl)
theorem dX9_writesDigits_20 : decode cX9_writesDigits 20 = .ok (.ifCond .le 17, 3) := dk_158 0 17 (dk_at dksX9_writesDigits_0 20 rfl rfl)
theorem dX9_writesDigits_23 : decode cX9_writesDigits 23 = .ok (.lload 4, 2) := dk_22 4 (dk_at dksX9_writesDigits_1 0 rfl rfl)
theorem dX9_writesDigits_25 : decode cX9_writesDigits 25 = .ok (.ldc2_w 135, 3) := dk_20 0 135 (dk_at dksX9_writesDigits_1 2 rfl rfl)
theorem dX9_writesDigits_28 : decode cX9_writesDigits 28 = .ok (.lmul, 1) := dk_105 (dk_at dksX9_writesDigits_1 5 rfl rfl)
theorem dX9_writesDigits_29 : decode cX9_writesDigits 29 = .ok (.lstore 4, 2) := dk_55 4 (dk_at dksX9_writesDigits_1 6 rfl rfl)
theorem dX9_writesDigits_31 : decode cX9_writesDigits 31 = .ok (.iinc 6 1, 3) := dk_132 6 1 (dk_at dksX9_writesDigits_1 8 rfl rfl)
theorem dX9_writesDigits_34 : decode cX9_writesDigits 34 = .ok (.goto (-28), 3) := dk_167 255 228 (dk_at dksX9_writesDigits_1 11 rfl rfl)
theorem dX9_writesDigits_37 : decode cX9_writesDigits 37 = .ok (.lload 4, 2) := dk_22 4 (dk_at dksX9_writesDigits_1 14 rfl rfl)
theorem dX9_writesDigits_39 : decode cX9_writesDigits 39 = .ok (.lconst 0, 1) := dk_9 (dk_at dksX9_writesDigits_1 16 rfl rfl)
theorem dX9_writesDigits_40 : decode cX9_writesDigits 40 = .ok (.lcmp, 1) := dk_148 (dk_at dksX9_writesDigits_1 17 rfl rfl)
theorem dX9_writesDigits_41 : decode cX9_writesDigits 41 = .ok (.ifCond .le 31, 3) := dk_158 0 31 (dk_at dksX9_writesDigits_1 18 rfl rfl)
theorem dX9_writesDigits_44 : decode cX9_writesDigits 44 = .ok (.aload_n 0, 1) := dk_42 (dk_at dksX9_writesDigits_1 21 rfl rfl)
theorem dX9_writesDigits_45 : decode cX9_writesDigits 45 = .ok (.ldc2_w 277, 3) := dk_20 1 21 (dk_at dksX9_writesDigits_2 0 rfl rfl)
theorem dX9_writesDigits_48 : decode cX9_writesDigits 48 = .ok (.lload_n 1, 1) := dk_31 (dk_at dksX9_writesDigits_2 3 rfl rfl)
theorem dX9_writesDigits_49 : decode cX9_writesDigits 49 = .ok (.lload 4, 2) := dk_22 4 (dk_at dksX9_writesDigits_2 4 rfl rfl)
theorem dX9_writesDigits_51 : decode cX9_writesDigits 51 = .ok (.ldiv, 1) := dk_109 (dk_at dksX9_writesDigits_2 6 rfl rfl)
theorem dX9_writesDigits_52 : decode cX9_writesDigits 52 = .ok (.ldc2_w 135, 3) := dk_20 0 135 (dk_at dksX9_writesDigits_2 7 rfl rfl)
theorem dX9_writesDigits_55 : decode cX9_writesDigits 55 = .ok (.lrem, 1) := dk_113 (dk_at dksX9_writesDigits_2 10 rfl rfl)
theorem dX9_writesDigits_56 : decode cX9_writesDigits 56 = .ok (.ladd, 1) := dk_97 (dk_at dksX9_writesDigits_2 11 rfl rfl)
theorem dX9_writesDigits_57 : decode cX9_writesDigits 57 = .ok (.l2i, 1) := dk_136 (dk_at dksX9_writesDigits_2 12 rfl rfl)
theorem dX9_writesDigits_58 : decode cX9_writesDigits 58 = .ok (.invokevirtual 332, 3) := dk_182 1 76 (dk_at dksX9_writesDigits_2 13 rfl rfl)
theorem dX9_writesDigits_61 : decode cX9_writesDigits 61 = .ok (.lload 4, 2) := dk_22 4 (dk_at dksX9_writesDigits_2 16 rfl rfl)
theorem dX9_writesDigits_63 : decode cX9_writesDigits 63 = .ok (.ldc2_w 135, 3) := dk_20 0 135 (dk_at dksX9_writesDigits_2 18 rfl rfl)
theorem dX9_writesDigits_66 : decode cX9_writesDigits 66 = .ok (.ldiv, 1) := dk_109 (dk_at dksX9_writesDigits_2 21 rfl rfl)
theorem dX9_writesDigits_67 : decode cX9_writesDigits 67 = .ok (.lstore 4, 2) := dk_55 4 (dk_at dksX9_writesDigits_2 22 rfl rfl)
theorem dX9_writesDigits_69 : decode cX9_writesDigits 69 = .ok (.goto (-32), 3) := dk_167 255 224 (dk_at dksX9_writesDigits_3 0 rfl rfl)
theorem dX9_writesDigits_72 : decode cX9_writesDigits 72 = .ok (.return_, 1) := dk_177 (dk_at dksX9_writesDigits_3 3 rfl rfl)
abbrev cX9_writesPoint : ByteArray := prog_31_method_58_code
def yX9_writesPoint : MethodName := ⟨RX9, "writesPoint", "()V"⟩
def dkwX9_writesPoint_0 : List UInt8 := [42, 42, 180, 1, 70, 184, 1, 73, 153, 0, 8, 16, 46, 167, 0, 5, 16, 44, 182, 1, 76, 177]
abbrev dktX9_writesPoint_0 : List UInt8 := dkwX9_writesPoint_0 ++ []
theorem dksX9_writesPoint_0 : cX9_writesPoint.data.toList.drop 0 = dktX9_writesPoint_0 := by decide +kernel
theorem dX9_writesPoint_0 : decode cX9_writesPoint 0 = .ok (.aload_n 0, 1) := dk_42 (dk_at dksX9_writesPoint_0 0 rfl rfl)
theorem dX9_writesPoint_1 : decode cX9_writesPoint 1 = .ok (.aload_n 0, 1) := dk_42 (dk_at dksX9_writesPoint_0 1 rfl rfl)
theorem dX9_writesPoint_2 : decode cX9_writesPoint 2 = .ok (.getfield 326, 3) := dk_180 1 70 (dk_at dksX9_writesPoint_0 2 rfl rfl)
theorem dX9_writesPoint_5 : decode cX9_writesPoint 5 = .ok (.invokestatic 329, 3) := dk_184 1 73 (dk_at dksX9_writesPoint_0 5 rfl rfl)
theorem dX9_writesPoint_8 : decode cX9_writesPoint 8 = .ok (.ifCond .eq 8, 3) := dk_153 0 8 (dk_at dksX9_writesPoint_0 8 rfl rfl)
theorem dX9_writesPoint_11 : decode cX9_writesPoint 11 = .ok (.bipush 46, 2) := dk_16 46 (dk_at dksX9_writesPoint_0 11 rfl rfl)
theorem dX9_writesPoint_13 : decode cX9_writesPoint 13 = .ok (.goto 5, 3) := dk_167 0 5 (dk_at dksX9_writesPoint_0 13 rfl rfl)
theorem dX9_writesPoint_16 : decode cX9_writesPoint 16 = .ok (.bipush 44, 2) := dk_16 44 (dk_at dksX9_writesPoint_0 16 rfl rfl)
theorem dX9_writesPoint_18 : decode cX9_writesPoint 18 = .ok (.invokevirtual 332, 3) := dk_182 1 76 (dk_at dksX9_writesPoint_0 18 rfl rfl)
theorem dX9_writesPoint_21 : decode cX9_writesPoint 21 = .ok (.return_, 1) := dk_177 (dk_at dksX9_writesPoint_0 21 rfl rfl)
abbrev cX9_isPointed : ByteArray := prog_31_method_57_code
def yX9_isPointed : MethodName := ⟨RX9, "isPointed", "(I)Z"⟩
def dkwX9_isPointed_0 : List UInt8 := [26, 153, 0, 14, 26, 8, 159, 0, 9, 26, 16, 6, 160, 0, 7, 4, 167, 0, 4, 3, 172]
abbrev dktX9_isPointed_0 : List UInt8 := dkwX9_isPointed_0 ++ []
theorem dksX9_isPointed_0 : cX9_isPointed.data.toList.drop 0 = dktX9_isPointed_0 := by decide +kernel
theorem dX9_isPointed_0 : decode cX9_isPointed 0 = .ok (.iload_n 0, 1) := dk_26 (dk_at dksX9_isPointed_0 0 rfl rfl)
theorem dX9_isPointed_1 : decode cX9_isPointed 1 = .ok (.ifCond .eq 14, 3) := dk_153 0 14 (dk_at dksX9_isPointed_0 1 rfl rfl)
theorem dX9_isPointed_4 : decode cX9_isPointed 4 = .ok (.iload_n 0, 1) := dk_26 (dk_at dksX9_isPointed_0 4 rfl rfl)
theorem dX9_isPointed_5 : decode cX9_isPointed 5 = .ok (.iconst 5, 1) := dk_8 (dk_at dksX9_isPointed_0 5 rfl rfl)
theorem dX9_isPointed_6 : decode cX9_isPointed 6 = .ok (.if_icmp .eq 9, 3) := dk_159 0 9 (dk_at dksX9_isPointed_0 6 rfl rfl)
theorem dX9_isPointed_9 : decode cX9_isPointed 9 = .ok (.iload_n 0, 1) := dk_26 (dk_at dksX9_isPointed_0 9 rfl rfl)
theorem dX9_isPointed_10 : decode cX9_isPointed 10 = .ok (.bipush 6, 2) := dk_16 6 (dk_at dksX9_isPointed_0 10 rfl rfl)
theorem dX9_isPointed_12 : decode cX9_isPointed 12 = .ok (.if_icmp .ne 7, 3) := dk_160 0 7 (dk_at dksX9_isPointed_0 12 rfl rfl)
theorem dX9_isPointed_15 : decode cX9_isPointed 15 = .ok (.iconst 1, 1) := dk_4 (dk_at dksX9_isPointed_0 15 rfl rfl)
theorem dX9_isPointed_16 : decode cX9_isPointed 16 = .ok (.goto 4, 3) := dk_167 0 4 (dk_at dksX9_isPointed_0 16 rfl rfl)
theorem dX9_isPointed_19 : decode cX9_isPointed 19 = .ok (.iconst 0, 1) := dk_3 (dk_at dksX9_isPointed_0 19 rfl rfl)
theorem dX9_isPointed_20 : decode cX9_isPointed 20 = .ok (.ireturn, 1) := dk_172 (dk_at dksX9_isPointed_0 20 rfl rfl)
abbrev cX9_writesList : ByteArray := prog_31_method_66_code
def yX9_writesList : MethodName := ⟨RX9, "writesList", "(I)V"⟩
def dkwX9_writesList_6 : List UInt8 := [182, 1, 128, 132, 3, 1, 167, 255, 121, 177]
abbrev dktX9_writesList_6 : List UInt8 := dkwX9_writesList_6 ++ []
def dkwX9_writesList_5 : List UInt8 := [25, 7, 167, 0, 5, 25, 6, 182, 1, 124, 42, 42, 180, 0, 108, 16, 6, 27, 104, 29, 96, 46]
abbrev dktX9_writesList_5 : List UInt8 := dkwX9_writesList_5 ++ dktX9_writesList_6
def dkwX9_writesList_4 : List UInt8 := [167, 0, 5, 25, 5, 58, 7, 42, 28, 5, 160, 0, 8, 25, 5, 167, 0, 15, 21, 4, 153, 0, 8]
abbrev dktX9_writesList_4 : List UInt8 := dkwX9_writesList_4 ++ dktX9_writesList_5
def dkwX9_writesList_3 : List UInt8 := [19, 1, 120, 58, 6, 42, 180, 1, 70, 153, 0, 12, 42, 180, 1, 70, 16, 6, 160, 0, 9, 19, 1, 122]
abbrev dktX9_writesList_3 : List UInt8 := dkwX9_writesList_3 ++ dktX9_writesList_4
def dkwX9_writesList_2 : List UInt8 := [160, 0, 9, 19, 1, 110, 167, 0, 20, 42, 180, 1, 70, 8, 160, 0, 9, 19, 1, 112, 167, 0, 6]
abbrev dktX9_writesList_2 : List UInt8 := dkwX9_writesList_2 ++ dktX9_writesList_3
def dkwX9_writesList_1 : List UInt8 := [160, 0, 7, 4, 167, 0, 4, 3, 54, 4, 42, 180, 1, 70, 184, 1, 116, 58, 5, 42, 180, 1, 70, 7]
abbrev dktX9_writesList_1 : List UInt8 := dkwX9_writesList_1 ++ dktX9_writesList_2
def dkwX9_writesList_0 : List UInt8 := [42, 180, 0, 102, 27, 46, 61, 3, 62, 29, 28, 162, 0, 136, 29, 158, 0, 111, 29, 28, 4, 100]
abbrev dktX9_writesList_0 : List UInt8 := dkwX9_writesList_0 ++ dktX9_writesList_1
theorem dksX9_writesList_0 : cX9_writesList.data.toList.drop 0 = dktX9_writesList_0 := by decide +kernel
theorem dksX9_writesList_1 : cX9_writesList.data.toList.drop 22 = dktX9_writesList_1 := dk_seg dksX9_writesList_0 22 rfl rfl
theorem dksX9_writesList_2 : cX9_writesList.data.toList.drop 46 = dktX9_writesList_2 := dk_seg dksX9_writesList_1 24 rfl rfl
theorem dksX9_writesList_3 : cX9_writesList.data.toList.drop 69 = dktX9_writesList_3 := dk_seg dksX9_writesList_2 23 rfl rfl
theorem dksX9_writesList_4 : cX9_writesList.data.toList.drop 93 = dktX9_writesList_4 := dk_seg dksX9_writesList_3 24 rfl rfl
theorem dksX9_writesList_5 : cX9_writesList.data.toList.drop 116 = dktX9_writesList_5 := dk_seg dksX9_writesList_4 23 rfl rfl
theorem dksX9_writesList_6 : cX9_writesList.data.toList.drop 138 = dktX9_writesList_6 := dk_seg dksX9_writesList_5 22 rfl rfl
theorem dX9_writesList_0 : decode cX9_writesList 0 = .ok (.aload_n 0, 1) := dk_42 (dk_at dksX9_writesList_0 0 rfl rfl)
theorem dX9_writesList_1 : decode cX9_writesList 1 = .ok (.getfield 102, 3) := dk_180 0 102 (dk_at dksX9_writesList_0 1 rfl rfl)
theorem dX9_writesList_4 : decode cX9_writesList 4 = .ok (.iload_n 1, 1) := dk_27 (dk_at dksX9_writesList_0 4 rfl rfl)
theorem dX9_writesList_5 : decode cX9_writesList 5 = .ok (.iaload, 1) := dk_46 (dk_at dksX9_writesList_0 5 rfl rfl)
theorem dX9_writesList_6 : decode cX9_writesList 6 = .ok (.istore_n 2, 1) := dk_61 (dk_at dksX9_writesList_0 6 rfl rfl)
theorem dX9_writesList_7 : decode cX9_writesList 7 = .ok (.iconst 0, 1) := dk_3 (dk_at dksX9_writesList_0 7 rfl rfl)
theorem dX9_writesList_8 : decode cX9_writesList 8 = .ok (.istore_n 3, 1) := dk_62 (dk_at dksX9_writesList_0 8 rfl rfl)
theorem dX9_writesList_9 : decode cX9_writesList 9 = .ok (.iload_n 3, 1) := dk_29 (dk_at dksX9_writesList_0 9 rfl rfl)
theorem dX9_writesList_10 : decode cX9_writesList 10 = .ok (.iload_n 2, 1) := dk_28 (dk_at dksX9_writesList_0 10 rfl rfl)
theorem dX9_writesList_11 : decode cX9_writesList 11 = .ok (.if_icmp .ge 136, 3) := dk_162 0 136 (dk_at dksX9_writesList_0 11 rfl rfl)
theorem dX9_writesList_14 : decode cX9_writesList 14 = .ok (.iload_n 3, 1) := dk_29 (dk_at dksX9_writesList_0 14 rfl rfl)
theorem dX9_writesList_15 : decode cX9_writesList 15 = .ok (.ifCond .le 111, 3) := dk_158 0 111 (dk_at dksX9_writesList_0 15 rfl rfl)
theorem dX9_writesList_18 : decode cX9_writesList 18 = .ok (.iload_n 3, 1) := dk_29 (dk_at dksX9_writesList_0 18 rfl rfl)
theorem dX9_writesList_19 : decode cX9_writesList 19 = .ok (.iload_n 2, 1) := dk_28 (dk_at dksX9_writesList_0 19 rfl rfl)
theorem dX9_writesList_20 : decode cX9_writesList 20 = .ok (.iconst 1, 1) := dk_4 (dk_at dksX9_writesList_0 20 rfl rfl)
theorem dX9_writesList_21 : decode cX9_writesList 21 = .ok (.isub, 1) := dk_100 (dk_at dksX9_writesList_0 21 rfl rfl)
theorem dX9_writesList_22 : decode cX9_writesList 22 = .ok (.if_icmp .ne 7, 3) := dk_160 0 7 (dk_at dksX9_writesList_1 0 rfl rfl)
theorem dX9_writesList_25 : decode cX9_writesList 25 = .ok (.iconst 1, 1) := dk_4 (dk_at dksX9_writesList_1 3 rfl rfl)
theorem dX9_writesList_26 : decode cX9_writesList 26 = .ok (.goto 4, 3) := dk_167 0 4 (dk_at dksX9_writesList_1 4 rfl rfl)
theorem dX9_writesList_29 : decode cX9_writesList 29 = .ok (.iconst 0, 1) := dk_3 (dk_at dksX9_writesList_1 7 rfl rfl)
theorem dX9_writesList_30 : decode cX9_writesList 30 = .ok (.istore 4, 2) := dk_54 4 (dk_at dksX9_writesList_1 8 rfl rfl)
theorem dX9_writesList_32 : decode cX9_writesList 32 = .ok (.aload_n 0, 1) := dk_42 (dk_at dksX9_writesList_1 10 rfl rfl)
theorem dX9_writesList_33 : decode cX9_writesList 33 = .ok (.getfield 326, 3) := dk_180 1 70 (dk_at dksX9_writesList_1 11 rfl rfl)
theorem dX9_writesList_36 : decode cX9_writesList 36 = .ok (.invokestatic 372, 3) := dk_184 1 116 (dk_at dksX9_writesList_1 14 rfl rfl)
theorem dX9_writesList_39 : decode cX9_writesList 39 = .ok (.astore 5, 2) := dk_58 5 (dk_at dksX9_writesList_1 17 rfl rfl)
theorem dX9_writesList_41 : decode cX9_writesList 41 = .ok (.aload_n 0, 1) := dk_42 (dk_at dksX9_writesList_1 19 rfl rfl)
theorem dX9_writesList_42 : decode cX9_writesList 42 = .ok (.getfield 326, 3) := dk_180 1 70 (dk_at dksX9_writesList_1 20 rfl rfl)
theorem dX9_writesList_45 : decode cX9_writesList 45 = .ok (.iconst 4, 1) := dk_7 (dk_at dksX9_writesList_1 23 rfl rfl)
theorem dX9_writesList_46 : decode cX9_writesList 46 = .ok (.if_icmp .ne 9, 3) := dk_160 0 9 (dk_at dksX9_writesList_2 0 rfl rfl)
theorem dX9_writesList_49 : decode cX9_writesList 49 = .ok (.ldc_w 366, 3) := dk_19 1 110 (dk_at dksX9_writesList_2 3 rfl rfl)
theorem dX9_writesList_52 : decode cX9_writesList 52 = .ok (.goto 20, 3) := dk_167 0 20 (dk_at dksX9_writesList_2 6 rfl rfl)
theorem dX9_writesList_55 : decode cX9_writesList 55 = .ok (.aload_n 0, 1) := dk_42 (dk_at dksX9_writesList_2 9 rfl rfl)
theorem dX9_writesList_56 : decode cX9_writesList 56 = .ok (.getfield 326, 3) := dk_180 1 70 (dk_at dksX9_writesList_2 10 rfl rfl)
theorem dX9_writesList_59 : decode cX9_writesList 59 = .ok (.iconst 5, 1) := dk_8 (dk_at dksX9_writesList_2 13 rfl rfl)
theorem dX9_writesList_60 : decode cX9_writesList 60 = .ok (.if_icmp .ne 9, 3) := dk_160 0 9 (dk_at dksX9_writesList_2 14 rfl rfl)
theorem dX9_writesList_63 : decode cX9_writesList 63 = .ok (.ldc_w 368, 3) := dk_19 1 112 (dk_at dksX9_writesList_2 17 rfl rfl)
theorem dX9_writesList_66 : decode cX9_writesList 66 = .ok (.goto 6, 3) := dk_167 0 6 (dk_at dksX9_writesList_2 20 rfl rfl)
theorem dX9_writesList_69 : decode cX9_writesList 69 = .ok (.ldc_w 376, 3) := dk_19 1 120 (dk_at dksX9_writesList_3 0 rfl rfl)
theorem dX9_writesList_72 : decode cX9_writesList 72 = .ok (.astore 6, 2) := dk_58 6 (dk_at dksX9_writesList_3 3 rfl rfl)
theorem dX9_writesList_74 : decode cX9_writesList 74 = .ok (.aload_n 0, 1) := dk_42 (dk_at dksX9_writesList_3 5 rfl rfl)
theorem dX9_writesList_75 : decode cX9_writesList 75 = .ok (.getfield 326, 3) := dk_180 1 70 (dk_at dksX9_writesList_3 6 rfl rfl)
theorem dX9_writesList_78 : decode cX9_writesList 78 = .ok (.ifCond .eq 12, 3) := dk_153 0 12 (dk_at dksX9_writesList_3 9 rfl rfl)
theorem dX9_writesList_81 : decode cX9_writesList 81 = .ok (.aload_n 0, 1) := dk_42 (dk_at dksX9_writesList_3 12 rfl rfl)
theorem dX9_writesList_82 : decode cX9_writesList 82 = .ok (.getfield 326, 3) := dk_180 1 70 (dk_at dksX9_writesList_3 13 rfl rfl)
theorem dX9_writesList_85 : decode cX9_writesList 85 = .ok (.bipush 6, 2) := dk_16 6 (dk_at dksX9_writesList_3 16 rfl rfl)
theorem dX9_writesList_87 : decode cX9_writesList 87 = .ok (.if_icmp .ne 9, 3) := dk_160 0 9 (dk_at dksX9_writesList_3 18 rfl rfl)
theorem dX9_writesList_90 : decode cX9_writesList 90 = .ok (.ldc_w 378, 3) := dk_19 1 122 (dk_at dksX9_writesList_3 21 rfl rfl)
theorem dX9_writesList_93 : decode cX9_writesList 93 = .ok (.goto 5, 3) := dk_167 0 5 (dk_at dksX9_writesList_4 0 rfl rfl)
theorem dX9_writesList_96 : decode cX9_writesList 96 = .ok (.aload 5, 2) := dk_25 5 (dk_at dksX9_writesList_4 3 rfl rfl)
theorem dX9_writesList_98 : decode cX9_writesList 98 = .ok (.astore 7, 2) := dk_58 7 (dk_at dksX9_writesList_4 5 rfl rfl)
theorem dX9_writesList_100 : decode cX9_writesList 100 = .ok (.aload_n 0, 1) := dk_42 (dk_at dksX9_writesList_4 7 rfl rfl)
theorem dX9_writesList_101 : decode cX9_writesList 101 = .ok (.iload_n 2, 1) := dk_28 (dk_at dksX9_writesList_4 8 rfl rfl)
theorem dX9_writesList_102 : decode cX9_writesList 102 = .ok (.iconst 2, 1) := dk_5 (dk_at dksX9_writesList_4 9 rfl rfl)
theorem dX9_writesList_103 : decode cX9_writesList 103 = .ok (.if_icmp .ne 8, 3) := dk_160 0 8 (dk_at dksX9_writesList_4 10 rfl rfl)
theorem dX9_writesList_106 : decode cX9_writesList 106 = .ok (.aload 5, 2) := dk_25 5 (dk_at dksX9_writesList_4 13 rfl rfl)
theorem dX9_writesList_108 : decode cX9_writesList 108 = .ok (.goto 15, 3) := dk_167 0 15 (dk_at dksX9_writesList_4 15 rfl rfl)
theorem dX9_writesList_111 : decode cX9_writesList 111 = .ok (.iload 4, 2) := dk_21 4 (dk_at dksX9_writesList_4 18 rfl rfl)
theorem dX9_writesList_113 : decode cX9_writesList 113 = .ok (.ifCond .eq 8, 3) := dk_153 0 8 (dk_at dksX9_writesList_4 20 rfl rfl)
theorem dX9_writesList_116 : decode cX9_writesList 116 = .ok (.aload 7, 2) := dk_25 7 (dk_at dksX9_writesList_5 0 rfl rfl)
theorem dX9_writesList_118 : decode cX9_writesList 118 = .ok (.goto 5, 3) := dk_167 0 5 (dk_at dksX9_writesList_5 2 rfl rfl)
theorem dX9_writesList_121 : decode cX9_writesList 121 = .ok (.aload 6, 2) := dk_25 6 (dk_at dksX9_writesList_5 5 rfl rfl)
theorem dX9_writesList_123 : decode cX9_writesList 123 = .ok (.invokevirtual 380, 3) := dk_182 1 124 (dk_at dksX9_writesList_5 7 rfl rfl)
theorem dX9_writesList_126 : decode cX9_writesList 126 = .ok (.aload_n 0, 1) := dk_42 (dk_at dksX9_writesList_5 10 rfl rfl)
theorem dX9_writesList_127 : decode cX9_writesList 127 = .ok (.aload_n 0, 1) := dk_42 (dk_at dksX9_writesList_5 11 rfl rfl)
theorem dX9_writesList_128 : decode cX9_writesList 128 = .ok (.getfield 108, 3) := dk_180 0 108 (dk_at dksX9_writesList_5 12 rfl rfl)
theorem dX9_writesList_131 : decode cX9_writesList 131 = .ok (.bipush 6, 2) := dk_16 6 (dk_at dksX9_writesList_5 15 rfl rfl)
theorem dX9_writesList_133 : decode cX9_writesList 133 = .ok (.iload_n 1, 1) := dk_27 (dk_at dksX9_writesList_5 17 rfl rfl)
theorem dX9_writesList_134 : decode cX9_writesList 134 = .ok (.imul, 1) := dk_104 (dk_at dksX9_writesList_5 18 rfl rfl)
theorem dX9_writesList_135 : decode cX9_writesList 135 = .ok (.iload_n 3, 1) := dk_29 (dk_at dksX9_writesList_5 19 rfl rfl)
theorem dX9_writesList_136 : decode cX9_writesList 136 = .ok (.iadd, 1) := dk_96 (dk_at dksX9_writesList_5 20 rfl rfl)
theorem dX9_writesList_137 : decode cX9_writesList 137 = .ok (.iaload, 1) := dk_46 (dk_at dksX9_writesList_5 21 rfl rfl)
theorem dX9_writesList_138 : decode cX9_writesList 138 = .ok (.invokevirtual 384, 3) := dk_182 1 128 (dk_at dksX9_writesList_6 0 rfl rfl)
theorem dX9_writesList_141 : decode cX9_writesList 141 = .ok (.iinc 3 1, 3) := dk_132 3 1 (dk_at dksX9_writesList_6 3 rfl rfl)
theorem dX9_writesList_144 : decode cX9_writesList 144 = .ok (.goto (-135), 3) := dk_167 255 121 (dk_at dksX9_writesList_6 6 rfl rfl)
theorem dX9_writesList_147 : decode cX9_writesList 147 = .ok (.return_, 1) := dk_177 (dk_at dksX9_writesList_6 9 rfl rfl)
abbrev cX9_joinerOfTwo : ByteArray := prog_31_method_65_code
def yX9_joinerOfTwo : MethodName := ⟨RX9, "joinerOfTwo", "(I)Ljava/lang/String;"⟩
def dkwX9_joinerOfTwo_2 : List UInt8 := [19, 1, 104, 176, 19, 1, 106, 176, 19, 1, 108, 176, 19, 1, 110, 176, 19, 1, 112, 176, 19, 1, 114, 176]
abbrev dktX9_joinerOfTwo_2 : List UInt8 := dkwX9_joinerOfTwo_2 ++ []
def dkwX9_joinerOfTwo_1 : List UInt8 := [170, 0, 0, 0, 0, 0, 55, 0, 0, 0, 1, 0, 0, 0, 5, 0, 0, 0, 35, 0, 0, 0, 39, 0, 0, 0, 43, 0, 0, 0, 47, 0, 0, 0, 51]
abbrev dktX9_joinerOfTwo_1 : List UInt8 := dkwX9_joinerOfTwo_1 ++ dktX9_joinerOfTwo_2
def dkwX9_joinerOfTwo_0 : List UInt8 := [26]
abbrev dktX9_joinerOfTwo_0 : List UInt8 := dkwX9_joinerOfTwo_0 ++ dktX9_joinerOfTwo_1
theorem dksX9_joinerOfTwo_0 : cX9_joinerOfTwo.data.toList.drop 0 = dktX9_joinerOfTwo_0 := by decide +kernel
theorem dksX9_joinerOfTwo_1 : cX9_joinerOfTwo.data.toList.drop 1 = dktX9_joinerOfTwo_1 := dk_seg dksX9_joinerOfTwo_0 1 rfl rfl
theorem dksX9_joinerOfTwo_2 : cX9_joinerOfTwo.data.toList.drop 36 = dktX9_joinerOfTwo_2 := dk_seg dksX9_joinerOfTwo_1 35 rfl rfl
theorem dX9_joinerOfTwo_0 : decode cX9_joinerOfTwo 0 = .ok (.iload_n 0, 1) := dk_26 (dk_at dksX9_joinerOfTwo_0 0 rfl rfl)
theorem dX9_joinerOfTwo_1 : decode cX9_joinerOfTwo 1 = .ok (.tableswitch 55 1 5 #[35, 39, 43, 47, 51], 35) := by decide +kernel
theorem dX9_joinerOfTwo_36 : decode cX9_joinerOfTwo 36 = .ok (.ldc_w 360, 3) := dk_19 1 104 (dk_at dksX9_joinerOfTwo_2 0 rfl rfl)
theorem dX9_joinerOfTwo_39 : decode cX9_joinerOfTwo 39 = .ok (.areturn, 1) := dk_176 (dk_at dksX9_joinerOfTwo_2 3 rfl rfl)
theorem dX9_joinerOfTwo_40 : decode cX9_joinerOfTwo 40 = .ok (.ldc_w 362, 3) := dk_19 1 106 (dk_at dksX9_joinerOfTwo_2 4 rfl rfl)
theorem dX9_joinerOfTwo_43 : decode cX9_joinerOfTwo 43 = .ok (.areturn, 1) := dk_176 (dk_at dksX9_joinerOfTwo_2 7 rfl rfl)
theorem dX9_joinerOfTwo_44 : decode cX9_joinerOfTwo 44 = .ok (.ldc_w 364, 3) := dk_19 1 108 (dk_at dksX9_joinerOfTwo_2 8 rfl rfl)
theorem dX9_joinerOfTwo_47 : decode cX9_joinerOfTwo 47 = .ok (.areturn, 1) := dk_176 (dk_at dksX9_joinerOfTwo_2 11 rfl rfl)
theorem dX9_joinerOfTwo_48 : decode cX9_joinerOfTwo 48 = .ok (.ldc_w 366, 3) := dk_19 1 110 (dk_at dksX9_joinerOfTwo_2 12 rfl rfl)
theorem dX9_joinerOfTwo_51 : decode cX9_joinerOfTwo 51 = .ok (.areturn, 1) := dk_176 (dk_at dksX9_joinerOfTwo_2 15 rfl rfl)
theorem dX9_joinerOfTwo_52 : decode cX9_joinerOfTwo 52 = .ok (.ldc_w 368, 3) := dk_19 1 112 (dk_at dksX9_joinerOfTwo_2 16 rfl rfl)
theorem dX9_joinerOfTwo_55 : decode cX9_joinerOfTwo 55 = .ok (.areturn, 1) := dk_176 (dk_at dksX9_joinerOfTwo_2 19 rfl rfl)
theorem dX9_joinerOfTwo_56 : decode cX9_joinerOfTwo 56 = .ok (.ldc_w 370, 3) := dk_19 1 114 (dk_at dksX9_joinerOfTwo_2 20 rfl rfl)
theorem dX9_joinerOfTwo_59 : decode cX9_joinerOfTwo 59 = .ok (.areturn, 1) := dk_176 (dk_at dksX9_joinerOfTwo_2 23 rfl rfl)
abbrev cX9_writesAll : ByteArray := prog_31_method_63_code
def yX9_writesAll : MethodName := ⟨RX9, "writesAll", "(Ljava/lang/String;)V"⟩
def dkwX9_writesAll_1 : List UInt8 := [167, 255, 236, 177]
abbrev dktX9_writesAll_1 : List UInt8 := dkwX9_writesAll_1 ++ []
def dkwX9_writesAll_0 : List UInt8 := [3, 61, 28, 43, 182, 1, 92, 162, 0, 18, 42, 43, 28, 182, 1, 97, 182, 1, 76, 132, 2, 1]
abbrev dktX9_writesAll_0 : List UInt8 := dkwX9_writesAll_0 ++ dktX9_writesAll_1
theorem dksX9_writesAll_0 : cX9_writesAll.data.toList.drop 0 = dktX9_writesAll_0 := by decide +kernel
theorem dksX9_writesAll_1 : cX9_writesAll.data.toList.drop 22 = dktX9_writesAll_1 := dk_seg dksX9_writesAll_0 22 rfl rfl
theorem dX9_writesAll_0 : decode cX9_writesAll 0 = .ok (.iconst 0, 1) := dk_3 (dk_at dksX9_writesAll_0 0 rfl rfl)
theorem dX9_writesAll_1 : decode cX9_writesAll 1 = .ok (.istore_n 2, 1) := dk_61 (dk_at dksX9_writesAll_0 1 rfl rfl)
theorem dX9_writesAll_2 : decode cX9_writesAll 2 = .ok (.iload_n 2, 1) := dk_28 (dk_at dksX9_writesAll_0 2 rfl rfl)
theorem dX9_writesAll_3 : decode cX9_writesAll 3 = .ok (.aload_n 1, 1) := dk_43 (dk_at dksX9_writesAll_0 3 rfl rfl)
theorem dX9_writesAll_4 : decode cX9_writesAll 4 = .ok (.invokevirtual 348, 3) := dk_182 1 92 (dk_at dksX9_writesAll_0 4 rfl rfl)
theorem dX9_writesAll_7 : decode cX9_writesAll 7 = .ok (.if_icmp .ge 18, 3) := dk_162 0 18 (dk_at dksX9_writesAll_0 7 rfl rfl)
theorem dX9_writesAll_10 : decode cX9_writesAll 10 = .ok (.aload_n 0, 1) := dk_42 (dk_at dksX9_writesAll_0 10 rfl rfl)
theorem dX9_writesAll_11 : decode cX9_writesAll 11 = .ok (.aload_n 1, 1) := dk_43 (dk_at dksX9_writesAll_0 11 rfl rfl)
theorem dX9_writesAll_12 : decode cX9_writesAll 12 = .ok (.iload_n 2, 1) := dk_28 (dk_at dksX9_writesAll_0 12 rfl rfl)
theorem dX9_writesAll_13 : decode cX9_writesAll 13 = .ok (.invokevirtual 353, 3) := dk_182 1 97 (dk_at dksX9_writesAll_0 13 rfl rfl)
theorem dX9_writesAll_16 : decode cX9_writesAll 16 = .ok (.invokevirtual 332, 3) := dk_182 1 76 (dk_at dksX9_writesAll_0 16 rfl rfl)
theorem dX9_writesAll_19 : decode cX9_writesAll 19 = .ok (.iinc 2 1, 3) := dk_132 2 1 (dk_at dksX9_writesAll_0 19 rfl rfl)
theorem dX9_writesAll_22 : decode cX9_writesAll 22 = .ok (.goto (-20), 3) := dk_167 255 236 (dk_at dksX9_writesAll_1 0 rfl rfl)
theorem dX9_writesAll_25 : decode cX9_writesAll 25 = .ok (.return_, 1) := dk_177 (dk_at dksX9_writesAll_1 3 rfl rfl)
abbrev cX9_writesInt : ByteArray := prog_31_method_64_code
def yX9_writesInt : MethodName := ⟨RX9, "writesInt", "(I)V"⟩
def dkwX9_writesInt_0 : List UInt8 := [42, 27, 3, 182, 1, 101, 177]
abbrev dktX9_writesInt_0 : List UInt8 := dkwX9_writesInt_0 ++ []
theorem dksX9_writesInt_0 : cX9_writesInt.data.toList.drop 0 = dktX9_writesInt_0 := by decide +kernel
theorem dX9_writesInt_0 : decode cX9_writesInt 0 = .ok (.aload_n 0, 1) := dk_42 (dk_at dksX9_writesInt_0 0 rfl rfl)
theorem dX9_writesInt_1 : decode cX9_writesInt 1 = .ok (.iload_n 1, 1) := dk_27 (dk_at dksX9_writesInt_0 1 rfl rfl)
theorem dX9_writesInt_2 : decode cX9_writesInt 2 = .ok (.iconst 0, 1) := dk_3 (dk_at dksX9_writesInt_0 2 rfl rfl)
theorem dX9_writesInt_3 : decode cX9_writesInt 3 = .ok (.invokevirtual 357, 3) := dk_182 1 101 (dk_at dksX9_writesInt_0 3 rfl rfl)
theorem dX9_writesInt_6 : decode cX9_writesInt 6 = .ok (.return_, 1) := dk_177 (dk_at dksX9_writesInt_0 6 rfl rfl)
abbrev cX9_shapes : ByteArray := prog_31_method_71_code
def yX9_shapes : MethodName := ⟨RX9, "shapes", "(II)V"⟩
def dkwX9_shapes_6 : List UInt8 := [181, 1, 15, 132, 3, 1, 167, 255, 232, 177]
abbrev dktX9_shapes_6 : List UInt8 := dkwX9_shapes_6 ++ []
def dkwX9_shapes_5 : List UInt8 := [180, 1, 12, 181, 1, 15, 42, 180, 0, 36, 29, 46, 16, 35, 160, 0, 19, 42, 89, 180, 1, 15, 4, 96]
abbrev dktX9_shapes_5 : List UInt8 := dkwX9_shapes_5 ++ dktX9_shapes_6
def dkwX9_shapes_4 : List UInt8 := [46, 16, 48, 160, 0, 19, 42, 89, 180, 1, 12, 4, 96, 181, 1, 12, 132, 3, 1, 167, 255, 232, 42, 42]
abbrev dktX9_shapes_4 : List UInt8 := dkwX9_shapes_4 ++ dktX9_shapes_5
def dkwX9_shapes_3 : List UInt8 := [42, 3, 181, 1, 15, 42, 180, 0, 36, 29, 46, 16, 46, 160, 0, 68, 132, 3, 1, 42, 180, 0, 36, 29]
abbrev dktX9_shapes_3 : List UInt8 := dkwX9_shapes_3 ++ dktX9_shapes_4
def dkwX9_shapes_2 : List UInt8 := [160, 0, 19, 42, 89, 180, 1, 9, 4, 96, 181, 1, 9, 132, 3, 1, 167, 255, 232, 42, 3, 181, 1, 12]
abbrev dktX9_shapes_2 : List UInt8 := dkwX9_shapes_2 ++ dktX9_shapes_3
def dkwX9_shapes_1 : List UInt8 := [181, 1, 2, 29, 42, 180, 1, 2, 96, 62, 42, 3, 181, 1, 9, 42, 180, 0, 36, 29, 46, 16, 48]
abbrev dktX9_shapes_1 : List UInt8 := dkwX9_shapes_1 ++ dktX9_shapes_2
def dkwX9_shapes_0 : List UInt8 := [16, 120, 27, 104, 28, 96, 62, 42, 42, 180, 0, 36, 29, 46, 16, 44, 160, 0, 7, 4, 167, 0, 4, 3]
abbrev dktX9_shapes_0 : List UInt8 := dkwX9_shapes_0 ++ dktX9_shapes_1
theorem dksX9_shapes_0 : cX9_shapes.data.toList.drop 0 = dktX9_shapes_0 := by decide +kernel
theorem dksX9_shapes_1 : cX9_shapes.data.toList.drop 24 = dktX9_shapes_1 := dk_seg dksX9_shapes_0 24 rfl rfl
theorem dksX9_shapes_2 : cX9_shapes.data.toList.drop 47 = dktX9_shapes_2 := dk_seg dksX9_shapes_1 23 rfl rfl
theorem dksX9_shapes_3 : cX9_shapes.data.toList.drop 71 = dktX9_shapes_3 := dk_seg dksX9_shapes_2 24 rfl rfl
theorem dksX9_shapes_4 : cX9_shapes.data.toList.drop 95 = dktX9_shapes_4 := dk_seg dksX9_shapes_3 24 rfl rfl
theorem dksX9_shapes_5 : cX9_shapes.data.toList.drop 119 = dktX9_shapes_5 := dk_seg dksX9_shapes_4 24 rfl rfl
theorem dksX9_shapes_6 : cX9_shapes.data.toList.drop 143 = dktX9_shapes_6 := dk_seg dksX9_shapes_5 24 rfl rfl
theorem dX9_shapes_0 : decode cX9_shapes 0 = .ok (.bipush 120, 2) := dk_16 120 (dk_at dksX9_shapes_0 0 rfl rfl)
theorem dX9_shapes_2 : decode cX9_shapes 2 = .ok (.iload_n 1, 1) := dk_27 (dk_at dksX9_shapes_0 2 rfl rfl)
theorem dX9_shapes_3 : decode cX9_shapes 3 = .ok (.imul, 1) := dk_104 (dk_at dksX9_shapes_0 3 rfl rfl)
theorem dX9_shapes_4 : decode cX9_shapes 4 = .ok (.iload_n 2, 1) := dk_28 (dk_at dksX9_shapes_0 4 rfl rfl)
theorem dX9_shapes_5 : decode cX9_shapes 5 = .ok (.iadd, 1) := dk_96 (dk_at dksX9_shapes_0 5 rfl rfl)
theorem dX9_shapes_6 : decode cX9_shapes 6 = .ok (.istore_n 3, 1) := dk_62 (dk_at dksX9_shapes_0 6 rfl rfl)
theorem dX9_shapes_7 : decode cX9_shapes 7 = .ok (.aload_n 0, 1) := dk_42 (dk_at dksX9_shapes_0 7 rfl rfl)
theorem dX9_shapes_8 : decode cX9_shapes 8 = .ok (.aload_n 0, 1) := dk_42 (dk_at dksX9_shapes_0 8 rfl rfl)
theorem dX9_shapes_9 : decode cX9_shapes 9 = .ok (.getfield 36, 3) := dk_180 0 36 (dk_at dksX9_shapes_0 9 rfl rfl)
theorem dX9_shapes_12 : decode cX9_shapes 12 = .ok (.iload_n 3, 1) := dk_29 (dk_at dksX9_shapes_0 12 rfl rfl)
theorem dX9_shapes_13 : decode cX9_shapes 13 = .ok (.iaload, 1) := dk_46 (dk_at dksX9_shapes_0 13 rfl rfl)
theorem dX9_shapes_14 : decode cX9_shapes 14 = .ok (.bipush 44, 2) := dk_16 44 (dk_at dksX9_shapes_0 14 rfl rfl)
theorem dX9_shapes_16 : decode cX9_shapes 16 = .ok (.if_icmp .ne 7, 3) := dk_160 0 7 (dk_at dksX9_shapes_0 16 rfl rfl)
theorem dX9_shapes_19 : decode cX9_shapes 19 = .ok (.iconst 1, 1) := dk_4 (dk_at dksX9_shapes_0 19 rfl rfl)
theorem dX9_shapes_20 : decode cX9_shapes 20 = .ok (.goto 4, 3) := dk_167 0 4 (dk_at dksX9_shapes_0 20 rfl rfl)
theorem dX9_shapes_23 : decode cX9_shapes 23 = .ok (.iconst 0, 1) := dk_3 (dk_at dksX9_shapes_0 23 rfl rfl)
theorem dX9_shapes_24 : decode cX9_shapes 24 = .ok (.putfield 258, 3) := dk_181 1 2 (dk_at dksX9_shapes_1 0 rfl rfl)
theorem dX9_shapes_27 : decode cX9_shapes 27 = .ok (.iload_n 3, 1) := dk_29 (dk_at dksX9_shapes_1 3 rfl rfl)
theorem dX9_shapes_28 : decode cX9_shapes 28 = .ok (.aload_n 0, 1) := dk_42 (dk_at dksX9_shapes_1 4 rfl rfl)
theorem dX9_shapes_29 : decode cX9_shapes 29 = .ok (.getfield 258, 3) := dk_180 1 2 (dk_at dksX9_shapes_1 5 rfl rfl)
theorem dX9_shapes_32 : decode cX9_shapes 32 = .ok (.iadd, 1) := dk_96 (dk_at dksX9_shapes_1 8 rfl rfl)
theorem dX9_shapes_33 : decode cX9_shapes 33 = .ok (.istore_n 3, 1) := dk_62 (dk_at dksX9_shapes_1 9 rfl rfl)
theorem dX9_shapes_34 : decode cX9_shapes 34 = .ok (.aload_n 0, 1) := dk_42 (dk_at dksX9_shapes_1 10 rfl rfl)
theorem dX9_shapes_35 : decode cX9_shapes 35 = .ok (.iconst 0, 1) := dk_3 (dk_at dksX9_shapes_1 11 rfl rfl)
theorem dX9_shapes_36 : decode cX9_shapes 36 = .ok (.putfield 265, 3) := dk_181 1 9 (dk_at dksX9_shapes_1 12 rfl rfl)
theorem dX9_shapes_39 : decode cX9_shapes 39 = .ok (.aload_n 0, 1) := dk_42 (dk_at dksX9_shapes_1 15 rfl rfl)
theorem dX9_shapes_40 : decode cX9_shapes 40 = .ok (.getfield 36, 3) := dk_180 0 36 (dk_at dksX9_shapes_1 16 rfl rfl)
theorem dX9_shapes_43 : decode cX9_shapes 43 = .ok (.iload_n 3, 1) := dk_29 (dk_at dksX9_shapes_1 19 rfl rfl)
theorem dX9_shapes_44 : decode cX9_shapes 44 = .ok (.iaload, 1) := dk_46 (dk_at dksX9_shapes_1 20 rfl rfl)
theorem dX9_shapes_45 : decode cX9_shapes 45 = .ok (.bipush 48, 2) := dk_16 48 (dk_at dksX9_shapes_1 21 rfl rfl)
theorem dX9_shapes_47 : decode cX9_shapes 47 = .ok (.if_icmp .ne 19, 3) := dk_160 0 19 (dk_at dksX9_shapes_2 0 rfl rfl)
theorem dX9_shapes_50 : decode cX9_shapes 50 = .ok (.aload_n 0, 1) := dk_42 (dk_at dksX9_shapes_2 3 rfl rfl)
theorem dX9_shapes_51 : decode cX9_shapes 51 = .ok (.dup, 1) := dk_89 (dk_at dksX9_shapes_2 4 rfl rfl)
theorem dX9_shapes_52 : decode cX9_shapes 52 = .ok (.getfield 265, 3) := dk_180 1 9 (dk_at dksX9_shapes_2 5 rfl rfl)
theorem dX9_shapes_55 : decode cX9_shapes 55 = .ok (.iconst 1, 1) := dk_4 (dk_at dksX9_shapes_2 8 rfl rfl)
theorem dX9_shapes_56 : decode cX9_shapes 56 = .ok (.iadd, 1) := dk_96 (dk_at dksX9_shapes_2 9 rfl rfl)
theorem dX9_shapes_57 : decode cX9_shapes 57 = .ok (.putfield 265, 3) := dk_181 1 9 (dk_at dksX9_shapes_2 10 rfl rfl)
theorem dX9_shapes_60 : decode cX9_shapes 60 = .ok (.iinc 3 1, 3) := dk_132 3 1 (dk_at dksX9_shapes_2 13 rfl rfl)
theorem dX9_shapes_63 : decode cX9_shapes 63 = .ok (.goto (-24), 3) := dk_167 255 232 (dk_at dksX9_shapes_2 16 rfl rfl)
theorem dX9_shapes_66 : decode cX9_shapes 66 = .ok (.aload_n 0, 1) := dk_42 (dk_at dksX9_shapes_2 19 rfl rfl)
theorem dX9_shapes_67 : decode cX9_shapes 67 = .ok (.iconst 0, 1) := dk_3 (dk_at dksX9_shapes_2 20 rfl rfl)
theorem dX9_shapes_68 : decode cX9_shapes 68 = .ok (.putfield 268, 3) := dk_181 1 12 (dk_at dksX9_shapes_2 21 rfl rfl)
theorem dX9_shapes_71 : decode cX9_shapes 71 = .ok (.aload_n 0, 1) := dk_42 (dk_at dksX9_shapes_3 0 rfl rfl)
theorem dX9_shapes_72 : decode cX9_shapes 72 = .ok (.iconst 0, 1) := dk_3 (dk_at dksX9_shapes_3 1 rfl rfl)
theorem dX9_shapes_73 : decode cX9_shapes 73 = .ok (.putfield 271, 3) := dk_181 1 15 (dk_at dksX9_shapes_3 2 rfl rfl)
theorem dX9_shapes_76 : decode cX9_shapes 76 = .ok (.aload_n 0, 1) := dk_42 (dk_at dksX9_shapes_3 5 rfl rfl)
theorem dX9_shapes_77 : decode cX9_shapes 77 = .ok (.getfield 36, 3) := dk_180 0 36 (dk_at dksX9_shapes_3 6 rfl rfl)
theorem dX9_shapes_80 : decode cX9_shapes 80 = .ok (.iload_n 3, 1) := dk_29 (dk_at dksX9_shapes_3 9 rfl rfl)
theorem dX9_shapes_81 : decode cX9_shapes 81 = .ok (.iaload, 1) := dk_46 (dk_at dksX9_shapes_3 10 rfl rfl)
theorem dX9_shapes_82 : decode cX9_shapes 82 = .ok (.bipush 46, 2) := dk_16 46 (dk_at dksX9_shapes_3 11 rfl rfl)
theorem dX9_shapes_84 : decode cX9_shapes 84 = .ok (.if_icmp .ne 68, 3) := dk_160 0 68 (dk_at dksX9_shapes_3 13 rfl rfl)
theorem dX9_shapes_87 : decode cX9_shapes 87 = .ok (.iinc 3 1, 3) := dk_132 3 1 (dk_at dksX9_shapes_3 16 rfl rfl)
theorem dX9_shapes_90 : decode cX9_shapes 90 = .ok (.aload_n 0, 1) := dk_42 (dk_at dksX9_shapes_3 19 rfl rfl)
theorem dX9_shapes_91 : decode cX9_shapes 91 = .ok (.getfield 36, 3) := dk_180 0 36 (dk_at dksX9_shapes_3 20 rfl rfl)
theorem dX9_shapes_94 : decode cX9_shapes 94 = .ok (.iload_n 3, 1) := dk_29 (dk_at dksX9_shapes_3 23 rfl rfl)
theorem dX9_shapes_95 : decode cX9_shapes 95 = .ok (.iaload, 1) := dk_46 (dk_at dksX9_shapes_4 0 rfl rfl)
theorem dX9_shapes_96 : decode cX9_shapes 96 = .ok (.bipush 48, 2) := dk_16 48 (dk_at dksX9_shapes_4 1 rfl rfl)
theorem dX9_shapes_98 : decode cX9_shapes 98 = .ok (.if_icmp .ne 19, 3) := dk_160 0 19 (dk_at dksX9_shapes_4 3 rfl rfl)
theorem dX9_shapes_101 : decode cX9_shapes 101 = .ok (.aload_n 0, 1) := dk_42 (dk_at dksX9_shapes_4 6 rfl rfl)
theorem dX9_shapes_102 : decode cX9_shapes 102 = .ok (.dup, 1) := dk_89 (dk_at dksX9_shapes_4 7 rfl rfl)
theorem dX9_shapes_103 : decode cX9_shapes 103 = .ok (.getfield 268, 3) := dk_180 1 12 (dk_at dksX9_shapes_4 8 rfl rfl)
theorem dX9_shapes_106 : decode cX9_shapes 106 = .ok (.iconst 1, 1) := dk_4 (dk_at dksX9_shapes_4 11 rfl rfl)
theorem dX9_shapes_107 : decode cX9_shapes 107 = .ok (.iadd, 1) := dk_96 (dk_at dksX9_shapes_4 12 rfl rfl)
theorem dX9_shapes_108 : decode cX9_shapes 108 = .ok (.putfield 268, 3) := dk_181 1 12 (dk_at dksX9_shapes_4 13 rfl rfl)
theorem dX9_shapes_111 : decode cX9_shapes 111 = .ok (.iinc 3 1, 3) := dk_132 3 1 (dk_at dksX9_shapes_4 16 rfl rfl)
theorem dX9_shapes_114 : decode cX9_shapes 114 = .ok (.goto (-24), 3) := dk_167 255 232 (dk_at dksX9_shapes_4 19 rfl rfl)
theorem dX9_shapes_117 : decode cX9_shapes 117 = .ok (.aload_n 0, 1) := dk_42 (dk_at dksX9_shapes_4 22 rfl rfl)
theorem dX9_shapes_118 : decode cX9_shapes 118 = .ok (.aload_n 0, 1) := dk_42 (dk_at dksX9_shapes_4 23 rfl rfl)
theorem dX9_shapes_119 : decode cX9_shapes 119 = .ok (.getfield 268, 3) := dk_180 1 12 (dk_at dksX9_shapes_5 0 rfl rfl)
theorem dX9_shapes_122 : decode cX9_shapes 122 = .ok (.putfield 271, 3) := dk_181 1 15 (dk_at dksX9_shapes_5 3 rfl rfl)
theorem dX9_shapes_125 : decode cX9_shapes 125 = .ok (.aload_n 0, 1) := dk_42 (dk_at dksX9_shapes_5 6 rfl rfl)
theorem dX9_shapes_126 : decode cX9_shapes 126 = .ok (.getfield 36, 3) := dk_180 0 36 (dk_at dksX9_shapes_5 7 rfl rfl)
theorem dX9_shapes_129 : decode cX9_shapes 129 = .ok (.iload_n 3, 1) := dk_29 (dk_at dksX9_shapes_5 10 rfl rfl)
theorem dX9_shapes_130 : decode cX9_shapes 130 = .ok (.iaload, 1) := dk_46 (dk_at dksX9_shapes_5 11 rfl rfl)
theorem dX9_shapes_131 : decode cX9_shapes 131 = .ok (.bipush 35, 2) := dk_16 35 (dk_at dksX9_shapes_5 12 rfl rfl)
theorem dX9_shapes_133 : decode cX9_shapes 133 = .ok (.if_icmp .ne 19, 3) := dk_160 0 19 (dk_at dksX9_shapes_5 14 rfl rfl)
theorem dX9_shapes_136 : decode cX9_shapes 136 = .ok (.aload_n 0, 1) := dk_42 (dk_at dksX9_shapes_5 17 rfl rfl)
theorem dX9_shapes_137 : decode cX9_shapes 137 = .ok (.dup, 1) := dk_89 (dk_at dksX9_shapes_5 18 rfl rfl)
theorem dX9_shapes_138 : decode cX9_shapes 138 = .ok (.getfield 271, 3) := dk_180 1 15 (dk_at dksX9_shapes_5 19 rfl rfl)
theorem dX9_shapes_141 : decode cX9_shapes 141 = .ok (.iconst 1, 1) := dk_4 (dk_at dksX9_shapes_5 22 rfl rfl)
theorem dX9_shapes_142 : decode cX9_shapes 142 = .ok (.iadd, 1) := dk_96 (dk_at dksX9_shapes_5 23 rfl rfl)
theorem dX9_shapes_143 : decode cX9_shapes 143 = .ok (.putfield 271, 3) := dk_181 1 15 (dk_at dksX9_shapes_6 0 rfl rfl)
theorem dX9_shapes_146 : decode cX9_shapes 146 = .ok (.iinc 3 1, 3) := dk_132 3 1 (dk_at dksX9_shapes_6 3 rfl rfl)
theorem dX9_shapes_149 : decode cX9_shapes 149 = .ok (.goto (-24), 3) := dk_167 255 232 (dk_at dksX9_shapes_6 6 rfl rfl)
theorem dX9_shapes_152 : decode cX9_shapes 152 = .ok (.return_, 1) := dk_177 (dk_at dksX9_shapes_6 9 rfl rfl)
abbrev cX9_writesShaped : ByteArray := prog_31_method_61_code
def yX9_writesShaped : MethodName := ⟨RX9, "writesShaped", "(II)V"⟩
def dkwX9_writesShaped_9 : List UInt8 := [158, 0, 20, 42, 182, 1, 85, 42, 33, 21, 5, 184, 0, 137, 113, 21, 5, 182, 1, 81, 177]
abbrev dktX9_writesShaped_9 : List UInt8 := dkwX9_writesShaped_9 ++ []
def dkwX9_writesShaped_8 : List UInt8 := [21, 6, 100, 54, 7, 42, 180, 1, 2, 4, 160, 0, 11, 42, 21, 6, 21, 7, 182, 1, 88, 21, 5]
abbrev dktX9_writesShaped_8 : List UInt8 := dkwX9_writesShaped_8 ++ dktX9_writesShaped_9
def dkwX9_writesShaped_7 : List UInt8 := [180, 1, 67, 54, 6, 42, 33, 21, 5, 184, 0, 137, 109, 42, 180, 1, 9, 182, 1, 81, 42, 180, 1, 67]
abbrev dktX9_writesShaped_7 : List UInt8 := dkwX9_writesShaped_7 ++ dktX9_writesShaped_8
def dkwX9_writesShaped_6 : List UInt8 := [132, 5, 255, 167, 255, 228, 27, 156, 0, 15, 33, 9, 148, 153, 0, 9, 42, 16, 45, 182, 1, 76, 42]
abbrev dktX9_writesShaped_6 : List UInt8 := dkwX9_writesShaped_6 ++ dktX9_writesShaped_7
def dkwX9_writesShaped_5 : List UInt8 := [180, 1, 12, 164, 0, 25, 33, 20, 0, 135, 113, 9, 148, 154, 0, 15, 33, 20, 0, 135, 109, 66]
abbrev dktX9_writesShaped_5 : List UInt8 := dkwX9_writesShaped_5 ++ dktX9_writesShaped_6
def dkwX9_writesShaped_4 : List UInt8 := [21, 5, 42, 180, 1, 12, 162, 0, 15, 33, 20, 0, 135, 105, 66, 132, 5, 1, 167, 255, 238, 21, 5, 42]
abbrev dktX9_writesShaped_4 : List UInt8 := dkwX9_writesShaped_4 ++ dktX9_writesShaped_5
def dkwX9_writesShaped_3 : List UInt8 := [33, 20, 0, 163, 113, 10, 148, 154, 0, 7, 10, 167, 0, 4, 9, 97, 66, 42, 180, 1, 15, 54, 5]
abbrev dktX9_writesShaped_3 : List UInt8 := dkwX9_writesShaped_3 ++ dktX9_writesShaped_4
def dkwX9_writesShaped_2 : List UInt8 := [20, 0, 163, 22, 8, 105, 22, 6, 148, 157, 0, 25, 20, 0, 163, 22, 8, 105, 22, 6, 148, 154, 0, 17]
abbrev dktX9_writesShaped_2 : List UInt8 := dkwX9_writesShaped_2 ++ dktX9_writesShaped_3
def dkwX9_writesShaped_1 : List UInt8 := [28, 42, 180, 1, 15, 100, 184, 0, 137, 55, 6, 33, 22, 6, 113, 55, 8, 33, 22, 6, 109, 66, 33]
abbrev dktX9_writesShaped_1 : List UInt8 := dkwX9_writesShaped_1 ++ dktX9_writesShaped_2
def dkwX9_writesShaped_0 : List UInt8 := [27, 156, 0, 9, 27, 133, 117, 167, 0, 5, 27, 133, 66, 28, 54, 5, 28, 42, 180, 1, 15, 164, 0, 73]
abbrev dktX9_writesShaped_0 : List UInt8 := dkwX9_writesShaped_0 ++ dktX9_writesShaped_1
theorem dksX9_writesShaped_0 : cX9_writesShaped.data.toList.drop 0 = dktX9_writesShaped_0 := by decide +kernel
theorem dksX9_writesShaped_1 : cX9_writesShaped.data.toList.drop 24 = dktX9_writesShaped_1 := dk_seg dksX9_writesShaped_0 24 rfl rfl
theorem dksX9_writesShaped_2 : cX9_writesShaped.data.toList.drop 47 = dktX9_writesShaped_2 := dk_seg dksX9_writesShaped_1 23 rfl rfl
theorem dksX9_writesShaped_3 : cX9_writesShaped.data.toList.drop 71 = dktX9_writesShaped_3 := dk_seg dksX9_writesShaped_2 24 rfl rfl
theorem dksX9_writesShaped_4 : cX9_writesShaped.data.toList.drop 94 = dktX9_writesShaped_4 := dk_seg dksX9_writesShaped_3 23 rfl rfl
theorem dksX9_writesShaped_5 : cX9_writesShaped.data.toList.drop 118 = dktX9_writesShaped_5 := dk_seg dksX9_writesShaped_4 24 rfl rfl
theorem dksX9_writesShaped_6 : cX9_writesShaped.data.toList.drop 140 = dktX9_writesShaped_6 := dk_seg dksX9_writesShaped_5 22 rfl rfl
theorem dksX9_writesShaped_7 : cX9_writesShaped.data.toList.drop 163 = dktX9_writesShaped_7 := dk_seg dksX9_writesShaped_6 23 rfl rfl
theorem dksX9_writesShaped_8 : cX9_writesShaped.data.toList.drop 187 = dktX9_writesShaped_8 := dk_seg dksX9_writesShaped_7 24 rfl rfl
theorem dksX9_writesShaped_9 : cX9_writesShaped.data.toList.drop 210 = dktX9_writesShaped_9 := dk_seg dksX9_writesShaped_8 23 rfl rfl
theorem dX9_writesShaped_0 : decode cX9_writesShaped 0 = .ok (.iload_n 1, 1) := dk_27 (dk_at dksX9_writesShaped_0 0 rfl rfl)
theorem dX9_writesShaped_1 : decode cX9_writesShaped 1 = .ok (.ifCond .ge 9, 3) := dk_156 0 9 (dk_at dksX9_writesShaped_0 1 rfl rfl)
theorem dX9_writesShaped_4 : decode cX9_writesShaped 4 = .ok (.iload_n 1, 1) := dk_27 (dk_at dksX9_writesShaped_0 4 rfl rfl)
theorem dX9_writesShaped_5 : decode cX9_writesShaped 5 = .ok (.i2l, 1) := dk_133 (dk_at dksX9_writesShaped_0 5 rfl rfl)
theorem dX9_writesShaped_6 : decode cX9_writesShaped 6 = .ok (.lneg, 1) := dk_117 (dk_at dksX9_writesShaped_0 6 rfl rfl)
theorem dX9_writesShaped_7 : decode cX9_writesShaped 7 = .ok (.goto 5, 3) := dk_167 0 5 (dk_at dksX9_writesShaped_0 7 rfl rfl)
theorem dX9_writesShaped_10 : decode cX9_writesShaped 10 = .ok (.iload_n 1, 1) := dk_27 (dk_at dksX9_writesShaped_0 10 rfl rfl)
theorem dX9_writesShaped_11 : decode cX9_writesShaped 11 = .ok (.i2l, 1) := dk_133 (dk_at dksX9_writesShaped_0 11 rfl rfl)
theorem dX9_writesShaped_12 : decode cX9_writesShaped 12 = .ok (.lstore_n 3, 1) := dk_66 (dk_at dksX9_writesShaped_0 12 rfl rfl)
theorem dX9_writesShaped_13 : decode cX9_writesShaped 13 = .ok (.iload_n 2, 1) := dk_28 (dk_at dksX9_writesShaped_0 13 rfl rfl)
theorem dX9_writesShaped_14 : decode cX9_writesShaped 14 = .ok (.istore 5, 2) := dk_54 5 (dk_at dksX9_writesShaped_0 14 rfl rfl)
theorem dX9_writesShaped_16 : decode cX9_writesShaped 16 = .ok (.iload_n 2, 1) := dk_28 (dk_at dksX9_writesShaped_0 16 rfl rfl)
theorem dX9_writesShaped_17 : decode cX9_writesShaped 17 = .ok (.aload_n 0, 1) := dk_42 (dk_at dksX9_writesShaped_0 17 rfl rfl)
theorem dX9_writesShaped_18 : decode cX9_writesShaped 18 = .ok (.getfield 271, 3) := dk_180 1 15 (dk_at dksX9_writesShaped_0 18 rfl rfl)
theorem dX9_writesShaped_21 : decode cX9_writesShaped 21 = .ok (.if_icmp .le 73, 3) := dk_164 0 73 (dk_at dksX9_writesShaped_0 21 rfl rfl)
theorem dX9_writesShaped_24 : decode cX9_writesShaped 24 = .ok (.iload_n 2, 1) := dk_28 (dk_at dksX9_writesShaped_1 0 rfl rfl)
theorem dX9_writesShaped_25 : decode cX9_writesShaped 25 = .ok (.aload_n 0, 1) := dk_42 (dk_at dksX9_writesShaped_1 1 rfl rfl)
theorem dX9_writesShaped_26 : decode cX9_writesShaped 26 = .ok (.getfield 271, 3) := dk_180 1 15 (dk_at dksX9_writesShaped_1 2 rfl rfl)
theorem dX9_writesShaped_29 : decode cX9_writesShaped 29 = .ok (.isub, 1) := dk_100 (dk_at dksX9_writesShaped_1 5 rfl rfl)
theorem dX9_writesShaped_30 : decode cX9_writesShaped 30 = .ok (.invokestatic 137, 3) := dk_184 0 137 (dk_at dksX9_writesShaped_1 6 rfl rfl)
theorem dX9_writesShaped_33 : decode cX9_writesShaped 33 = .ok (.lstore 6, 2) := dk_55 6 (dk_at dksX9_writesShaped_1 9 rfl rfl)
theorem dX9_writesShaped_35 : decode cX9_writesShaped 35 = .ok (.lload_n 3, 1) := dk_33 (dk_at dksX9_writesShaped_1 11 rfl rfl)
theorem dX9_writesShaped_36 : decode cX9_writesShaped 36 = .ok (.lload 6, 2) := dk_22 6 (dk_at dksX9_writesShaped_1 12 rfl rfl)
theorem dX9_writesShaped_38 : decode cX9_writesShaped 38 = .ok (.lrem, 1) := dk_113 (dk_at dksX9_writesShaped_1 14 rfl rfl)
theorem dX9_writesShaped_39 : decode cX9_writesShaped 39 = .ok (.lstore 8, 2) := dk_55 8 (dk_at dksX9_writesShaped_1 15 rfl rfl)
theorem dX9_writesShaped_41 : decode cX9_writesShaped 41 = .ok (.lload_n 3, 1) := dk_33 (dk_at dksX9_writesShaped_1 17 rfl rfl)
theorem dX9_writesShaped_42 : decode cX9_writesShaped 42 = .ok (.lload 6, 2) := dk_22 6 (dk_at dksX9_writesShaped_1 18 rfl rfl)
theorem dX9_writesShaped_44 : decode cX9_writesShaped 44 = .ok (.ldiv, 1) := dk_109 (dk_at dksX9_writesShaped_1 20 rfl rfl)
theorem dX9_writesShaped_45 : decode cX9_writesShaped 45 = .ok (.lstore_n 3, 1) := dk_66 (dk_at dksX9_writesShaped_1 21 rfl rfl)
theorem dX9_writesShaped_46 : decode cX9_writesShaped 46 = .ok (.lload_n 3, 1) := dk_33 (dk_at dksX9_writesShaped_1 22 rfl rfl)
theorem dX9_writesShaped_47 : decode cX9_writesShaped 47 = .ok (.ldc2_w 163, 3) := dk_20 0 163 (dk_at dksX9_writesShaped_2 0 rfl rfl)
theorem dX9_writesShaped_50 : decode cX9_writesShaped 50 = .ok (.lload 8, 2) := dk_22 8 (dk_at dksX9_writesShaped_2 3 rfl rfl)
theorem dX9_writesShaped_52 : decode cX9_writesShaped 52 = .ok (.lmul, 1) := dk_105 (dk_at dksX9_writesShaped_2 5 rfl rfl)
theorem dX9_writesShaped_53 : decode cX9_writesShaped 53 = .ok (.lload 6, 2) := dk_22 6 (dk_at dksX9_writesShaped_2 6 rfl rfl)
theorem dX9_writesShaped_55 : decode cX9_writesShaped 55 = .ok (.lcmp, 1) := dk_148 (dk_at dksX9_writesShaped_2 8 rfl rfl)
theorem dX9_writesShaped_56 : decode cX9_writesShaped 56 = .ok (.ifCond .gt 25, 3) := dk_157 0 25 (dk_at dksX9_writesShaped_2 9 rfl rfl)
theorem dX9_writesShaped_59 : decode cX9_writesShaped 59 = .ok (.ldc2_w 163, 3) := dk_20 0 163 (dk_at dksX9_writesShaped_2 12 rfl rfl)
theorem dX9_writesShaped_62 : decode cX9_writesShaped 62 = .ok (.lload 8, 2) := dk_22 8 (dk_at dksX9_writesShaped_2 15 rfl rfl)
theorem dX9_writesShaped_64 : decode cX9_writesShaped 64 = .ok (.lmul, 1) := dk_105 (dk_at dksX9_writesShaped_2 17 rfl rfl)
theorem dX9_writesShaped_65 : decode cX9_writesShaped 65 = .ok (.lload 6, 2) := dk_22 6 (dk_at dksX9_writesShaped_2 18 rfl rfl)
theorem dX9_writesShaped_67 : decode cX9_writesShaped 67 = .ok (.lcmp, 1) := dk_148 (dk_at dksX9_writesShaped_2 20 rfl rfl)
theorem dX9_writesShaped_68 : decode cX9_writesShaped 68 = .ok (.ifCond .ne 17, 3) := dk_154 0 17 (dk_at dksX9_writesShaped_2 21 rfl rfl)
theorem dX9_writesShaped_71 : decode cX9_writesShaped 71 = .ok (.lload_n 3, 1) := dk_33 (dk_at dksX9_writesShaped_3 0 rfl rfl)
theorem dX9_writesShaped_72 : decode cX9_writesShaped 72 = .ok (.ldc2_w 163, 3) := dk_20 0 163 (dk_at dksX9_writesShaped_3 1 rfl rfl)
theorem dX9_writesShaped_75 : decode cX9_writesShaped 75 = .ok (.lrem, 1) := dk_113 (dk_at dksX9_writesShaped_3 4 rfl rfl)
theorem dX9_writesShaped_76 : decode cX9_writesShaped 76 = .ok (.lconst 1, 1) := dk_10 (dk_at dksX9_writesShaped_3 5 rfl rfl)
theorem dX9_writesShaped_77 : decode cX9_writesShaped 77 = .ok (.lcmp, 1) := dk_148 (dk_at dksX9_writesShaped_3 6 rfl rfl)
theorem dX9_writesShaped_78 : decode cX9_writesShaped 78 = .ok (.ifCond .ne 7, 3) := dk_154 0 7 (dk_at dksX9_writesShaped_3 7 rfl rfl)
theorem dX9_writesShaped_81 : decode cX9_writesShaped 81 = .ok (.lconst 1, 1) := dk_10 (dk_at dksX9_writesShaped_3 10 rfl rfl)
theorem dX9_writesShaped_82 : decode cX9_writesShaped 82 = .ok (.goto 4, 3) := dk_167 0 4 (dk_at dksX9_writesShaped_3 11 rfl rfl)
theorem dX9_writesShaped_85 : decode cX9_writesShaped 85 = .ok (.lconst 0, 1) := dk_9 (dk_at dksX9_writesShaped_3 14 rfl rfl)
theorem dX9_writesShaped_86 : decode cX9_writesShaped 86 = .ok (.ladd, 1) := dk_97 (dk_at dksX9_writesShaped_3 15 rfl rfl)
theorem dX9_writesShaped_87 : decode cX9_writesShaped 87 = .ok (.lstore_n 3, 1) := dk_66 (dk_at dksX9_writesShaped_3 16 rfl rfl)
theorem dX9_writesShaped_88 : decode cX9_writesShaped 88 = .ok (.aload_n 0, 1) := dk_42 (dk_at dksX9_writesShaped_3 17 rfl rfl)
theorem dX9_writesShaped_89 : decode cX9_writesShaped 89 = .ok (.getfield 271, 3) := dk_180 1 15 (dk_at dksX9_writesShaped_3 18 rfl rfl)
theorem dX9_writesShaped_92 : decode cX9_writesShaped 92 = .ok (.istore 5, 2) := dk_54 5 (dk_at dksX9_writesShaped_3 21 rfl rfl)
theorem dX9_writesShaped_94 : decode cX9_writesShaped 94 = .ok (.iload 5, 2) := dk_21 5 (dk_at dksX9_writesShaped_4 0 rfl rfl)
theorem dX9_writesShaped_96 : decode cX9_writesShaped 96 = .ok (.aload_n 0, 1) := dk_42 (dk_at dksX9_writesShaped_4 2 rfl rfl)
theorem dX9_writesShaped_97 : decode cX9_writesShaped 97 = .ok (.getfield 268, 3) := dk_180 1 12 (dk_at dksX9_writesShaped_4 3 rfl rfl)
theorem dX9_writesShaped_100 : decode cX9_writesShaped 100 = .ok (.if_icmp .ge 15, 3) := dk_162 0 15 (dk_at dksX9_writesShaped_4 6 rfl rfl)
theorem dX9_writesShaped_103 : decode cX9_writesShaped 103 = .ok (.lload_n 3, 1) := dk_33 (dk_at dksX9_writesShaped_4 9 rfl rfl)
theorem dX9_writesShaped_104 : decode cX9_writesShaped 104 = .ok (.ldc2_w 135, 3) := dk_20 0 135 (dk_at dksX9_writesShaped_4 10 rfl rfl)
theorem dX9_writesShaped_107 : decode cX9_writesShaped 107 = .ok (.lmul, 1) := dk_105 (dk_at dksX9_writesShaped_4 13 rfl rfl)
theorem dX9_writesShaped_108 : decode cX9_writesShaped 108 = .ok (.lstore_n 3, 1) := dk_66 (dk_at dksX9_writesShaped_4 14 rfl rfl)
theorem dX9_writesShaped_109 : decode cX9_writesShaped 109 = .ok (.iinc 5 1, 3) := dk_132 5 1 (dk_at dksX9_writesShaped_4 15 rfl rfl)
theorem dX9_writesShaped_112 : decode cX9_writesShaped 112 = .ok (.goto (-18), 3) := dk_167 255 238 (dk_at dksX9_writesShaped_4 18 rfl rfl)
theorem dX9_writesShaped_115 : decode cX9_writesShaped 115 = .ok (.iload 5, 2) := dk_21 5 (dk_at dksX9_writesShaped_4 21 rfl rfl)
theorem dX9_writesShaped_117 : decode cX9_writesShaped 117 = .ok (.aload_n 0, 1) := dk_42 (dk_at dksX9_writesShaped_4 23 rfl rfl)
theorem dX9_writesShaped_118 : decode cX9_writesShaped 118 = .ok (.getfield 268, 3) := dk_180 1 12 (dk_at dksX9_writesShaped_5 0 rfl rfl)
theorem dX9_writesShaped_121 : decode cX9_writesShaped 121 = .ok (.if_icmp .le 25, 3) := dk_164 0 25 (dk_at dksX9_writesShaped_5 3 rfl rfl)
theorem dX9_writesShaped_124 : decode cX9_writesShaped 124 = .ok (.lload_n 3, 1) := dk_33 (dk_at dksX9_writesShaped_5 6 rfl rfl)
theorem dX9_writesShaped_125 : decode cX9_writesShaped 125 = .ok (.ldc2_w 135, 3) := dk_20 0 135 (dk_at dksX9_writesShaped_5 7 rfl rfl)
theorem dX9_writesShaped_128 : decode cX9_writesShaped 128 = .ok (.lrem, 1) := dk_113 (dk_at dksX9_writesShaped_5 10 rfl rfl)
theorem dX9_writesShaped_129 : decode cX9_writesShaped 129 = .ok (.lconst 0, 1) := dk_9 (dk_at dksX9_writesShaped_5 11 rfl rfl)
theorem dX9_writesShaped_130 : decode cX9_writesShaped 130 = .ok (.lcmp, 1) := dk_148 (dk_at dksX9_writesShaped_5 12 rfl rfl)
theorem dX9_writesShaped_131 : decode cX9_writesShaped 131 = .ok (.ifCond .ne 15, 3) := dk_154 0 15 (dk_at dksX9_writesShaped_5 13 rfl rfl)
theorem dX9_writesShaped_134 : decode cX9_writesShaped 134 = .ok (.lload_n 3, 1) := dk_33 (dk_at dksX9_writesShaped_5 16 rfl rfl)
theorem dX9_writesShaped_135 : decode cX9_writesShaped 135 = .ok (.ldc2_w 135, 3) := dk_20 0 135 (dk_at dksX9_writesShaped_5 17 rfl rfl)
theorem dX9_writesShaped_138 : decode cX9_writesShaped 138 = .ok (.ldiv, 1) := dk_109 (dk_at dksX9_writesShaped_5 20 rfl rfl)
theorem dX9_writesShaped_139 : decode cX9_writesShaped 139 = .ok (.lstore_n 3, 1) := dk_66 (dk_at dksX9_writesShaped_5 21 rfl rfl)
theorem dX9_writesShaped_140 : decode cX9_writesShaped 140 = .ok (.iinc 5 (-1), 3) := dk_132 5 255 (dk_at dksX9_writesShaped_6 0 rfl rfl)
theorem dX9_writesShaped_143 : decode cX9_writesShaped 143 = .ok (.goto (-28), 3) := dk_167 255 228 (dk_at dksX9_writesShaped_6 3 rfl rfl)
theorem dX9_writesShaped_146 : decode cX9_writesShaped 146 = .ok (.iload_n 1, 1) := dk_27 (dk_at dksX9_writesShaped_6 6 rfl rfl)
theorem dX9_writesShaped_147 : decode cX9_writesShaped 147 = .ok (.ifCond .ge 15, 3) := dk_156 0 15 (dk_at dksX9_writesShaped_6 7 rfl rfl)
theorem dX9_writesShaped_150 : decode cX9_writesShaped 150 = .ok (.lload_n 3, 1) := dk_33 (dk_at dksX9_writesShaped_6 10 rfl rfl)
theorem dX9_writesShaped_151 : decode cX9_writesShaped 151 = .ok (.lconst 0, 1) := dk_9 (dk_at dksX9_writesShaped_6 11 rfl rfl)
theorem dX9_writesShaped_152 : decode cX9_writesShaped 152 = .ok (.lcmp, 1) := dk_148 (dk_at dksX9_writesShaped_6 12 rfl rfl)
theorem dX9_writesShaped_153 : decode cX9_writesShaped 153 = .ok (.ifCond .eq 9, 3) := dk_153 0 9 (dk_at dksX9_writesShaped_6 13 rfl rfl)
theorem dX9_writesShaped_156 : decode cX9_writesShaped 156 = .ok (.aload_n 0, 1) := dk_42 (dk_at dksX9_writesShaped_6 16 rfl rfl)
theorem dX9_writesShaped_157 : decode cX9_writesShaped 157 = .ok (.bipush 45, 2) := dk_16 45 (dk_at dksX9_writesShaped_6 17 rfl rfl)
theorem dX9_writesShaped_159 : decode cX9_writesShaped 159 = .ok (.invokevirtual 332, 3) := dk_182 1 76 (dk_at dksX9_writesShaped_6 19 rfl rfl)
theorem dX9_writesShaped_162 : decode cX9_writesShaped 162 = .ok (.aload_n 0, 1) := dk_42 (dk_at dksX9_writesShaped_6 22 rfl rfl)
theorem dX9_writesShaped_163 : decode cX9_writesShaped 163 = .ok (.getfield 323, 3) := dk_180 1 67 (dk_at dksX9_writesShaped_7 0 rfl rfl)
theorem dX9_writesShaped_166 : decode cX9_writesShaped 166 = .ok (.istore 6, 2) := dk_54 6 (dk_at dksX9_writesShaped_7 3 rfl rfl)
theorem dX9_writesShaped_168 : decode cX9_writesShaped 168 = .ok (.aload_n 0, 1) := dk_42 (dk_at dksX9_writesShaped_7 5 rfl rfl)
theorem dX9_writesShaped_169 : decode cX9_writesShaped 169 = .ok (.lload_n 3, 1) := dk_33 (dk_at dksX9_writesShaped_7 6 rfl rfl)
theorem dX9_writesShaped_170 : decode cX9_writesShaped 170 = .ok (.iload 5, 2) := dk_21 5 (dk_at dksX9_writesShaped_7 7 rfl rfl)
theorem dX9_writesShaped_172 : decode cX9_writesShaped 172 = .ok (.invokestatic 137, 3) := dk_184 0 137 (dk_at dksX9_writesShaped_7 9 rfl rfl)
theorem dX9_writesShaped_175 : decode cX9_writesShaped 175 = .ok (.ldiv, 1) := dk_109 (dk_at dksX9_writesShaped_7 12 rfl rfl)
theorem dX9_writesShaped_176 : decode cX9_writesShaped 176 = .ok (.aload_n 0, 1) := dk_42 (dk_at dksX9_writesShaped_7 13 rfl rfl)
theorem dX9_writesShaped_177 : decode cX9_writesShaped 177 = .ok (.getfield 265, 3) := dk_180 1 9 (dk_at dksX9_writesShaped_7 14 rfl rfl)
theorem dX9_writesShaped_180 : decode cX9_writesShaped 180 = .ok (.invokevirtual 337, 3) := dk_182 1 81 (dk_at dksX9_writesShaped_7 17 rfl rfl)
theorem dX9_writesShaped_183 : decode cX9_writesShaped 183 = .ok (.aload_n 0, 1) := dk_42 (dk_at dksX9_writesShaped_7 20 rfl rfl)
theorem dX9_writesShaped_184 : decode cX9_writesShaped 184 = .ok (.getfield 323, 3) := dk_180 1 67 (dk_at dksX9_writesShaped_7 21 rfl rfl)
theorem dX9_writesShaped_187 : decode cX9_writesShaped 187 = .ok (.iload 6, 2) := dk_21 6 (dk_at dksX9_writesShaped_8 0 rfl rfl)
theorem dX9_writesShaped_189 : decode cX9_writesShaped 189 = .ok (.isub, 1) := dk_100 (dk_at dksX9_writesShaped_8 2 rfl rfl)
theorem dX9_writesShaped_190 : decode cX9_writesShaped 190 = .ok (.istore 7, 2) := dk_54 7 (dk_at dksX9_writesShaped_8 3 rfl rfl)
theorem dX9_writesShaped_192 : decode cX9_writesShaped 192 = .ok (.aload_n 0, 1) := dk_42 (dk_at dksX9_writesShaped_8 5 rfl rfl)
theorem dX9_writesShaped_193 : decode cX9_writesShaped 193 = .ok (.getfield 258, 3) := dk_180 1 2 (dk_at dksX9_writesShaped_8 6 rfl rfl)
theorem dX9_writesShaped_196 : decode cX9_writesShaped 196 = .ok (.iconst 1, 1) := dk_4 (dk_at dksX9_writesShaped_8 9 rfl rfl)
theorem dX9_writesShaped_197 : decode cX9_writesShaped 197 = .ok (.if_icmp .ne 11, 3) := dk_160 0 11 (dk_at dksX9_writesShaped_8 10 rfl rfl)
theorem dX9_writesShaped_200 : decode cX9_writesShaped 200 = .ok (.aload_n 0, 1) := dk_42 (dk_at dksX9_writesShaped_8 13 rfl rfl)
theorem dX9_writesShaped_201 : decode cX9_writesShaped 201 = .ok (.iload 6, 2) := dk_21 6 (dk_at dksX9_writesShaped_8 14 rfl rfl)
theorem dX9_writesShaped_203 : decode cX9_writesShaped 203 = .ok (.iload 7, 2) := dk_21 7 (dk_at dksX9_writesShaped_8 16 rfl rfl)
theorem dX9_writesShaped_205 : decode cX9_writesShaped 205 = .ok (.invokevirtual 344, 3) := dk_182 1 88 (dk_at dksX9_writesShaped_8 18 rfl rfl)
theorem dX9_writesShaped_208 : decode cX9_writesShaped 208 = .ok (.iload 5, 2) := dk_21 5 (dk_at dksX9_writesShaped_8 21 rfl rfl)
theorem dX9_writesShaped_210 : decode cX9_writesShaped 210 = .ok (.ifCond .le 20, 3) := dk_158 0 20 (dk_at dksX9_writesShaped_9 0 rfl rfl)
theorem dX9_writesShaped_213 : decode cX9_writesShaped 213 = .ok (.aload_n 0, 1) := dk_42 (dk_at dksX9_writesShaped_9 3 rfl rfl)
theorem dX9_writesShaped_214 : decode cX9_writesShaped 214 = .ok (.invokevirtual 341, 3) := dk_182 1 85 (dk_at dksX9_writesShaped_9 4 rfl rfl)
theorem dX9_writesShaped_217 : decode cX9_writesShaped 217 = .ok (.aload_n 0, 1) := dk_42 (dk_at dksX9_writesShaped_9 7 rfl rfl)
theorem dX9_writesShaped_218 : decode cX9_writesShaped 218 = .ok (.lload_n 3, 1) := dk_33 (dk_at dksX9_writesShaped_9 8 rfl rfl)
theorem dX9_writesShaped_219 : decode cX9_writesShaped 219 = .ok (.iload 5, 2) := dk_21 5 (dk_at dksX9_writesShaped_9 9 rfl rfl)
theorem dX9_writesShaped_221 : decode cX9_writesShaped 221 = .ok (.invokestatic 137, 3) := dk_184 0 137 (dk_at dksX9_writesShaped_9 11 rfl rfl)
theorem dX9_writesShaped_224 : decode cX9_writesShaped 224 = .ok (.lrem, 1) := dk_113 (dk_at dksX9_writesShaped_9 14 rfl rfl)
theorem dX9_writesShaped_225 : decode cX9_writesShaped 225 = .ok (.iload 5, 2) := dk_21 5 (dk_at dksX9_writesShaped_9 15 rfl rfl)
theorem dX9_writesShaped_227 : decode cX9_writesShaped 227 = .ok (.invokevirtual 337, 3) := dk_182 1 81 (dk_at dksX9_writesShaped_9 17 rfl rfl)
theorem dX9_writesShaped_230 : decode cX9_writesShaped 230 = .ok (.return_, 1) := dk_177 (dk_at dksX9_writesShaped_9 20 rfl rfl)
abbrev cX9_groups : ByteArray := prog_31_method_62_code
def yX9_groups : MethodName := ⟨RX9, "groups", "(II)V"⟩
def dkwX9_groups_4 : List UInt8 := [79, 132, 5, 255, 132, 4, 255, 132, 7, 1, 167, 255, 203, 177]
abbrev dktX9_groups_4 : List UInt8 := dkwX9_groups_4 ++ []
def dkwX9_groups_3 : List UInt8 := [180, 0, 114, 21, 5, 21, 6, 79, 132, 5, 255, 42, 180, 0, 114, 21, 5, 42, 180, 0, 114, 21, 4, 46]
abbrev dktX9_groups_3 : List UInt8 := dkwX9_groups_3 ++ dktX9_groups_4
def dkwX9_groups_2 : List UInt8 := [3, 54, 7, 21, 7, 28, 162, 0, 53, 21, 7, 158, 0, 22, 21, 7, 6, 112, 154, 0, 15, 42]
abbrev dktX9_groups_2 : List UInt8 := dkwX9_groups_2 ++ dktX9_groups_3
def dkwX9_groups_1 : List UInt8 := [29, 96, 181, 1, 67, 42, 180, 1, 70, 184, 1, 73, 153, 0, 8, 16, 44, 167, 0, 5, 16, 32, 54, 6]
abbrev dktX9_groups_1 : List UInt8 := dkwX9_groups_1 ++ dktX9_groups_2
def dkwX9_groups_0 : List UInt8 := [28, 4, 100, 6, 108, 62, 27, 28, 96, 4, 100, 54, 4, 21, 4, 29, 96, 54, 5, 42, 89, 180, 1, 67]
abbrev dktX9_groups_0 : List UInt8 := dkwX9_groups_0 ++ dktX9_groups_1
theorem dksX9_groups_0 : cX9_groups.data.toList.drop 0 = dktX9_groups_0 := by decide +kernel
theorem dksX9_groups_1 : cX9_groups.data.toList.drop 24 = dktX9_groups_1 := dk_seg dksX9_groups_0 24 rfl rfl
theorem dksX9_groups_2 : cX9_groups.data.toList.drop 48 = dktX9_groups_2 := dk_seg dksX9_groups_1 24 rfl rfl
theorem dksX9_groups_3 : cX9_groups.data.toList.drop 70 = dktX9_groups_3 := dk_seg dksX9_groups_2 22 rfl rfl
theorem dksX9_groups_4 : cX9_groups.data.toList.drop 94 = dktX9_groups_4 := dk_seg dksX9_groups_3 24 rfl rfl
theorem dX9_groups_0 : decode cX9_groups 0 = .ok (.iload_n 2, 1) := dk_28 (dk_at dksX9_groups_0 0 rfl rfl)
theorem dX9_groups_1 : decode cX9_groups 1 = .ok (.iconst 1, 1) := dk_4 (dk_at dksX9_groups_0 1 rfl rfl)
theorem dX9_groups_2 : decode cX9_groups 2 = .ok (.isub, 1) := dk_100 (dk_at dksX9_groups_0 2 rfl rfl)
theorem dX9_groups_3 : decode cX9_groups 3 = .ok (.iconst 3, 1) := dk_6 (dk_at dksX9_groups_0 3 rfl rfl)
theorem dX9_groups_4 : decode cX9_groups 4 = .ok (.idiv, 1) := dk_108 (dk_at dksX9_groups_0 4 rfl rfl)
theorem dX9_groups_5 : decode cX9_groups 5 = .ok (.istore_n 3, 1) := dk_62 (dk_at dksX9_groups_0 5 rfl rfl)
theorem dX9_groups_6 : decode cX9_groups 6 = .ok (.iload_n 1, 1) := dk_27 (dk_at dksX9_groups_0 6 rfl rfl)
theorem dX9_groups_7 : decode cX9_groups 7 = .ok (.iload_n 2, 1) := dk_28 (dk_at dksX9_groups_0 7 rfl rfl)
theorem dX9_groups_8 : decode cX9_groups 8 = .ok (.iadd, 1) := dk_96 (dk_at dksX9_groups_0 8 rfl rfl)
theorem dX9_groups_9 : decode cX9_groups 9 = .ok (.iconst 1, 1) := dk_4 (dk_at dksX9_groups_0 9 rfl rfl)
theorem dX9_groups_10 : decode cX9_groups 10 = .ok (.isub, 1) := dk_100 (dk_at dksX9_groups_0 10 rfl rfl)
theorem dX9_groups_11 : decode cX9_groups 11 = .ok (.istore 4, 2) := dk_54 4 (dk_at dksX9_groups_0 11 rfl rfl)
theorem dX9_groups_13 : decode cX9_groups 13 = .ok (.iload 4, 2) := dk_21 4 (dk_at dksX9_groups_0 13 rfl rfl)
theorem dX9_groups_15 : decode cX9_groups 15 = .ok (.iload_n 3, 1) := dk_29 (dk_at dksX9_groups_0 15 rfl rfl)
theorem dX9_groups_16 : decode cX9_groups 16 = .ok (.iadd, 1) := dk_96 (dk_at dksX9_groups_0 16 rfl rfl)
theorem dX9_groups_17 : decode cX9_groups 17 = .ok (.istore 5, 2) := dk_54 5 (dk_at dksX9_groups_0 17 rfl rfl)
theorem dX9_groups_19 : decode cX9_groups 19 = .ok (.aload_n 0, 1) := dk_42 (dk_at dksX9_groups_0 19 rfl rfl)
theorem dX9_groups_20 : decode cX9_groups 20 = .ok (.dup, 1) := dk_89 (dk_at dksX9_groups_0 20 rfl rfl)
theorem dX9_groups_21 : decode cX9_groups 21 = .ok (.getfield 323, 3) := dk_180 1 67 (dk_at dksX9_groups_0 21 rfl rfl)
theorem dX9_groups_24 : decode cX9_groups 24 = .ok (.iload_n 3, 1) := dk_29 (dk_at dksX9_groups_1 0 rfl rfl)
theorem dX9_groups_25 : decode cX9_groups 25 = .ok (.iadd, 1) := dk_96 (dk_at dksX9_groups_1 1 rfl rfl)
theorem dX9_groups_26 : decode cX9_groups 26 = .ok (.putfield 323, 3) := dk_181 1 67 (dk_at dksX9_groups_1 2 rfl rfl)
theorem dX9_groups_29 : decode cX9_groups 29 = .ok (.aload_n 0, 1) := dk_42 (dk_at dksX9_groups_1 5 rfl rfl)
theorem dX9_groups_30 : decode cX9_groups 30 = .ok (.getfield 326, 3) := dk_180 1 70 (dk_at dksX9_groups_1 6 rfl rfl)
theorem dX9_groups_33 : decode cX9_groups 33 = .ok (.invokestatic 329, 3) := dk_184 1 73 (dk_at dksX9_groups_1 9 rfl rfl)
theorem dX9_groups_36 : decode cX9_groups 36 = .ok (.ifCond .eq 8, 3) := dk_153 0 8 (dk_at dksX9_groups_1 12 rfl rfl)
theorem dX9_groups_39 : decode cX9_groups 39 = .ok (.bipush 44, 2) := dk_16 44 (dk_at dksX9_groups_1 15 rfl rfl)
theorem dX9_groups_41 : decode cX9_groups 41 = .ok (.goto 5, 3) := dk_167 0 5 (dk_at dksX9_groups_1 17 rfl rfl)
theorem dX9_groups_44 : decode cX9_groups 44 = .ok (.bipush 32, 2) := dk_16 32 (dk_at dksX9_groups_1 20 rfl rfl)
theorem dX9_groups_46 : decode cX9_groups 46 = .ok (.istore 6, 2) := dk_54 6 (dk_at dksX9_groups_1 22 rfl rfl)
theorem dX9_groups_48 : decode cX9_groups 48 = .ok (.iconst 0, 1) := dk_3 (dk_at dksX9_groups_2 0 rfl rfl)
theorem dX9_groups_49 : decode cX9_groups 49 = .ok (.istore 7, 2) := dk_54 7 (dk_at dksX9_groups_2 1 rfl rfl)
theorem dX9_groups_51 : decode cX9_groups 51 = .ok (.iload 7, 2) := dk_21 7 (dk_at dksX9_groups_2 3 rfl rfl)
theorem dX9_groups_53 : decode cX9_groups 53 = .ok (.iload_n 2, 1) := dk_28 (dk_at dksX9_groups_2 5 rfl rfl)
theorem dX9_groups_54 : decode cX9_groups 54 = .ok (.if_icmp .ge 53, 3) := dk_162 0 53 (dk_at dksX9_groups_2 6 rfl rfl)
theorem dX9_groups_57 : decode cX9_groups 57 = .ok (.iload 7, 2) := dk_21 7 (dk_at dksX9_groups_2 9 rfl rfl)
theorem dX9_groups_59 : decode cX9_groups 59 = .ok (.ifCond .le 22, 3) := dk_158 0 22 (dk_at dksX9_groups_2 11 rfl rfl)
theorem dX9_groups_62 : decode cX9_groups 62 = .ok (.iload 7, 2) := dk_21 7 (dk_at dksX9_groups_2 14 rfl rfl)
theorem dX9_groups_64 : decode cX9_groups 64 = .ok (.iconst 3, 1) := dk_6 (dk_at dksX9_groups_2 16 rfl rfl)
theorem dX9_groups_65 : decode cX9_groups 65 = .ok (.irem, 1) := dk_112 (dk_at dksX9_groups_2 17 rfl rfl)
theorem dX9_groups_66 : decode cX9_groups 66 = .ok (.ifCond .ne 15, 3) := dk_154 0 15 (dk_at dksX9_groups_2 18 rfl rfl)
theorem dX9_groups_69 : decode cX9_groups 69 = .ok (.aload_n 0, 1) := dk_42 (dk_at dksX9_groups_2 21 rfl rfl)
theorem dX9_groups_70 : decode cX9_groups 70 = .ok (.getfield 114, 3) := dk_180 0 114 (dk_at dksX9_groups_3 0 rfl rfl)
theorem dX9_groups_73 : decode cX9_groups 73 = .ok (.iload 5, 2) := dk_21 5 (dk_at dksX9_groups_3 3 rfl rfl)
theorem dX9_groups_75 : decode cX9_groups 75 = .ok (.iload 6, 2) := dk_21 6 (dk_at dksX9_groups_3 5 rfl rfl)
theorem dX9_groups_77 : decode cX9_groups 77 = .ok (.iastore, 1) := dk_79 (dk_at dksX9_groups_3 7 rfl rfl)
theorem dX9_groups_78 : decode cX9_groups 78 = .ok (.iinc 5 (-1), 3) := dk_132 5 255 (dk_at dksX9_groups_3 8 rfl rfl)
theorem dX9_groups_81 : decode cX9_groups 81 = .ok (.aload_n 0, 1) := dk_42 (dk_at dksX9_groups_3 11 rfl rfl)
theorem dX9_groups_82 : decode cX9_groups 82 = .ok (.getfield 114, 3) := dk_180 0 114 (dk_at dksX9_groups_3 12 rfl rfl)
theorem dX9_groups_85 : decode cX9_groups 85 = .ok (.iload 5, 2) := dk_21 5 (dk_at dksX9_groups_3 15 rfl rfl)
theorem dX9_groups_87 : decode cX9_groups 87 = .ok (.aload_n 0, 1) := dk_42 (dk_at dksX9_groups_3 17 rfl rfl)
theorem dX9_groups_88 : decode cX9_groups 88 = .ok (.getfield 114, 3) := dk_180 0 114 (dk_at dksX9_groups_3 18 rfl rfl)
theorem dX9_groups_91 : decode cX9_groups 91 = .ok (.iload 4, 2) := dk_21 4 (dk_at dksX9_groups_3 21 rfl rfl)
theorem dX9_groups_93 : decode cX9_groups 93 = .ok (.iaload, 1) := dk_46 (dk_at dksX9_groups_3 23 rfl rfl)
theorem dX9_groups_94 : decode cX9_groups 94 = .ok (.iastore, 1) := dk_79 (dk_at dksX9_groups_4 0 rfl rfl)
theorem dX9_groups_95 : decode cX9_groups 95 = .ok (.iinc 5 (-1), 3) := dk_132 5 255 (dk_at dksX9_groups_4 1 rfl rfl)
theorem dX9_groups_98 : decode cX9_groups 98 = .ok (.iinc 4 (-1), 3) := dk_132 4 255 (dk_at dksX9_groups_4 4 rfl rfl)
theorem dX9_groups_101 : decode cX9_groups 101 = .ok (.iinc 7 1, 3) := dk_132 7 1 (dk_at dksX9_groups_4 7 rfl rfl)
theorem dX9_groups_104 : decode cX9_groups 104 = .ok (.goto (-53), 3) := dk_167 255 203 (dk_at dksX9_groups_4 10 rfl rfl)
theorem dX9_groups_107 : decode cX9_groups 107 = .ok (.return_, 1) := dk_177 (dk_at dksX9_groups_4 13 rfl rfl)
abbrev cX9_choiceAt : ByteArray := prog_31_method_68_code
def yX9_choiceAt : MethodName := ⟨RX9, "choiceAt", "(II)I"⟩
def dkwX9_choiceAt_1 : List UInt8 := [172]
abbrev dktX9_choiceAt_1 : List UInt8 := dkwX9_choiceAt_1 ++ []
def dkwX9_choiceAt_0 : List UInt8 := [3, 62, 42, 180, 0, 72, 16, 8, 27, 104, 29, 96, 46, 28, 159, 0, 9, 132, 3, 1, 167, 255, 238, 29]
abbrev dktX9_choiceAt_0 : List UInt8 := dkwX9_choiceAt_0 ++ dktX9_choiceAt_1
theorem dksX9_choiceAt_0 : cX9_choiceAt.data.toList.drop 0 = dktX9_choiceAt_0 := by decide +kernel
theorem dksX9_choiceAt_1 : cX9_choiceAt.data.toList.drop 24 = dktX9_choiceAt_1 := dk_seg dksX9_choiceAt_0 24 rfl rfl
theorem dX9_choiceAt_0 : decode cX9_choiceAt 0 = .ok (.iconst 0, 1) := dk_3 (dk_at dksX9_choiceAt_0 0 rfl rfl)
theorem dX9_choiceAt_1 : decode cX9_choiceAt 1 = .ok (.istore_n 3, 1) := dk_62 (dk_at dksX9_choiceAt_0 1 rfl rfl)
theorem dX9_choiceAt_2 : decode cX9_choiceAt 2 = .ok (.aload_n 0, 1) := dk_42 (dk_at dksX9_choiceAt_0 2 rfl rfl)
theorem dX9_choiceAt_3 : decode cX9_choiceAt 3 = .ok (.getfield 72, 3) := dk_180 0 72 (dk_at dksX9_choiceAt_0 3 rfl rfl)
theorem dX9_choiceAt_6 : decode cX9_choiceAt 6 = .ok (.bipush 8, 2) := dk_16 8 (dk_at dksX9_choiceAt_0 6 rfl rfl)
theorem dX9_choiceAt_8 : decode cX9_choiceAt 8 = .ok (.iload_n 1, 1) := dk_27 (dk_at dksX9_choiceAt_0 8 rfl rfl)
theorem dX9_choiceAt_9 : decode cX9_choiceAt 9 = .ok (.imul, 1) := dk_104 (dk_at dksX9_choiceAt_0 9 rfl rfl)
theorem dX9_choiceAt_10 : decode cX9_choiceAt 10 = .ok (.iload_n 3, 1) := dk_29 (dk_at dksX9_choiceAt_0 10 rfl rfl)
theorem dX9_choiceAt_11 : decode cX9_choiceAt 11 = .ok (.iadd, 1) := dk_96 (dk_at dksX9_choiceAt_0 11 rfl rfl)
theorem dX9_choiceAt_12 : decode cX9_choiceAt 12 = .ok (.iaload, 1) := dk_46 (dk_at dksX9_choiceAt_0 12 rfl rfl)
theorem dX9_choiceAt_13 : decode cX9_choiceAt 13 = .ok (.iload_n 2, 1) := dk_28 (dk_at dksX9_choiceAt_0 13 rfl rfl)
theorem dX9_choiceAt_14 : decode cX9_choiceAt 14 = .ok (.if_icmp .eq 9, 3) := dk_159 0 9 (dk_at dksX9_choiceAt_0 14 rfl rfl)
theorem dX9_choiceAt_17 : decode cX9_choiceAt 17 = .ok (.iinc 3 1, 3) := dk_132 3 1 (dk_at dksX9_choiceAt_0 17 rfl rfl)
theorem dX9_choiceAt_20 : decode cX9_choiceAt 20 = .ok (.goto (-18), 3) := dk_167 255 238 (dk_at dksX9_choiceAt_0 20 rfl rfl)
theorem dX9_choiceAt_23 : decode cX9_choiceAt 23 = .ok (.iload_n 3, 1) := dk_29 (dk_at dksX9_choiceAt_0 23 rfl rfl)
theorem dX9_choiceAt_24 : decode cX9_choiceAt 24 = .ok (.ireturn, 1) := dk_172 (dk_at dksX9_choiceAt_1 0 rfl rfl)
abbrev cX9_behindBrace : ByteArray := prog_31_method_69_code
def yX9_behindBrace : MethodName := ⟨RX9, "behindBrace", "(II)I"⟩
def dkwX9_behindBrace_2 : List UInt8 := [29, 154, 0, 6, 21, 4, 172, 167, 255, 206]
abbrev dktX9_behindBrace_2 : List UInt8 := dkwX9_behindBrace_2 ++ []
def dkwX9_behindBrace_1 : List UInt8 := [160, 0, 7, 4, 167, 0, 15, 21, 5, 16, 125, 160, 0, 7, 2, 167, 0, 4, 3, 96, 62, 132, 4, 1]
abbrev dktX9_behindBrace_1 : List UInt8 := dkwX9_behindBrace_1 ++ dktX9_behindBrace_2
def dkwX9_behindBrace_0 : List UInt8 := [3, 62, 28, 54, 4, 42, 180, 0, 36, 16, 120, 27, 104, 21, 4, 96, 46, 54, 5, 29, 21, 5, 16, 123]
abbrev dktX9_behindBrace_0 : List UInt8 := dkwX9_behindBrace_0 ++ dktX9_behindBrace_1
theorem dksX9_behindBrace_0 : cX9_behindBrace.data.toList.drop 0 = dktX9_behindBrace_0 := by decide +kernel
theorem dksX9_behindBrace_1 : cX9_behindBrace.data.toList.drop 24 = dktX9_behindBrace_1 := dk_seg dksX9_behindBrace_0 24 rfl rfl
theorem dksX9_behindBrace_2 : cX9_behindBrace.data.toList.drop 48 = dktX9_behindBrace_2 := dk_seg dksX9_behindBrace_1 24 rfl rfl
theorem dX9_behindBrace_0 : decode cX9_behindBrace 0 = .ok (.iconst 0, 1) := dk_3 (dk_at dksX9_behindBrace_0 0 rfl rfl)
theorem dX9_behindBrace_1 : decode cX9_behindBrace 1 = .ok (.istore_n 3, 1) := dk_62 (dk_at dksX9_behindBrace_0 1 rfl rfl)
theorem dX9_behindBrace_2 : decode cX9_behindBrace 2 = .ok (.iload_n 2, 1) := dk_28 (dk_at dksX9_behindBrace_0 2 rfl rfl)
theorem dX9_behindBrace_3 : decode cX9_behindBrace 3 = .ok (.istore 4, 2) := dk_54 4 (dk_at dksX9_behindBrace_0 3 rfl rfl)
theorem dX9_behindBrace_5 : decode cX9_behindBrace 5 = .ok (.aload_n 0, 1) := dk_42 (dk_at dksX9_behindBrace_0 5 rfl rfl)
theorem dX9_behindBrace_6 : decode cX9_behindBrace 6 = .ok (.getfield 36, 3) := dk_180 0 36 (dk_at dksX9_behindBrace_0 6 rfl rfl)
theorem dX9_behindBrace_9 : decode cX9_behindBrace 9 = .ok (.bipush 120, 2) := dk_16 120 (dk_at dksX9_behindBrace_0 9 rfl rfl)
theorem dX9_behindBrace_11 : decode cX9_behindBrace 11 = .ok (.iload_n 1, 1) := dk_27 (dk_at dksX9_behindBrace_0 11 rfl rfl)
theorem dX9_behindBrace_12 : decode cX9_behindBrace 12 = .ok (.imul, 1) := dk_104 (dk_at dksX9_behindBrace_0 12 rfl rfl)
theorem dX9_behindBrace_13 : decode cX9_behindBrace 13 = .ok (.iload 4, 2) := dk_21 4 (dk_at dksX9_behindBrace_0 13 rfl rfl)
theorem dX9_behindBrace_15 : decode cX9_behindBrace 15 = .ok (.iadd, 1) := dk_96 (dk_at dksX9_behindBrace_0 15 rfl rfl)
theorem dX9_behindBrace_16 : decode cX9_behindBrace 16 = .ok (.iaload, 1) := dk_46 (dk_at dksX9_behindBrace_0 16 rfl rfl)
theorem dX9_behindBrace_17 : decode cX9_behindBrace 17 = .ok (.istore 5, 2) := dk_54 5 (dk_at dksX9_behindBrace_0 17 rfl rfl)
theorem dX9_behindBrace_19 : decode cX9_behindBrace 19 = .ok (.iload_n 3, 1) := dk_29 (dk_at dksX9_behindBrace_0 19 rfl rfl)
theorem dX9_behindBrace_20 : decode cX9_behindBrace 20 = .ok (.iload 5, 2) := dk_21 5 (dk_at dksX9_behindBrace_0 20 rfl rfl)
theorem dX9_behindBrace_22 : decode cX9_behindBrace 22 = .ok (.bipush 123, 2) := dk_16 123 (dk_at dksX9_behindBrace_0 22 rfl rfl)
theorem dX9_behindBrace_24 : decode cX9_behindBrace 24 = .ok (.if_icmp .ne 7, 3) := dk_160 0 7 (dk_at dksX9_behindBrace_1 0 rfl rfl)
theorem dX9_behindBrace_27 : decode cX9_behindBrace 27 = .ok (.iconst 1, 1) := dk_4 (dk_at dksX9_behindBrace_1 3 rfl rfl)
theorem dX9_behindBrace_28 : decode cX9_behindBrace 28 = .ok (.goto 15, 3) := dk_167 0 15 (dk_at dksX9_behindBrace_1 4 rfl rfl)
theorem dX9_behindBrace_31 : decode cX9_behindBrace 31 = .ok (.iload 5, 2) := dk_21 5 (dk_at dksX9_behindBrace_1 7 rfl rfl)
theorem dX9_behindBrace_33 : decode cX9_behindBrace 33 = .ok (.bipush 125, 2) := dk_16 125 (dk_at dksX9_behindBrace_1 9 rfl rfl)
theorem dX9_behindBrace_35 : decode cX9_behindBrace 35 = .ok (.if_icmp .ne 7, 3) := dk_160 0 7 (dk_at dksX9_behindBrace_1 11 rfl rfl)
theorem dX9_behindBrace_38 : decode cX9_behindBrace 38 = .ok (.iconst (-1), 1) := dk_2 (dk_at dksX9_behindBrace_1 14 rfl rfl)
theorem dX9_behindBrace_39 : decode cX9_behindBrace 39 = .ok (.goto 4, 3) := dk_167 0 4 (dk_at dksX9_behindBrace_1 15 rfl rfl)
theorem dX9_behindBrace_42 : decode cX9_behindBrace 42 = .ok (.iconst 0, 1) := dk_3 (dk_at dksX9_behindBrace_1 18 rfl rfl)
theorem dX9_behindBrace_43 : decode cX9_behindBrace 43 = .ok (.iadd, 1) := dk_96 (dk_at dksX9_behindBrace_1 19 rfl rfl)
theorem dX9_behindBrace_44 : decode cX9_behindBrace 44 = .ok (.istore_n 3, 1) := dk_62 (dk_at dksX9_behindBrace_1 20 rfl rfl)
theorem dX9_behindBrace_45 : decode cX9_behindBrace 45 = .ok (.iinc 4 1, 3) := dk_132 4 1 (dk_at dksX9_behindBrace_1 21 rfl rfl)
theorem dX9_behindBrace_48 : decode cX9_behindBrace 48 = .ok (.iload_n 3, 1) := dk_29 (dk_at dksX9_behindBrace_2 0 rfl rfl)
theorem dX9_behindBrace_49 : decode cX9_behindBrace 49 = .ok (.ifCond .ne 6, 3) := dk_154 0 6 (dk_at dksX9_behindBrace_2 1 rfl rfl)
theorem dX9_behindBrace_52 : decode cX9_behindBrace 52 = .ok (.iload 4, 2) := dk_21 4 (dk_at dksX9_behindBrace_2 4 rfl rfl)
theorem dX9_behindBrace_54 : decode cX9_behindBrace 54 = .ok (.ireturn, 1) := dk_172 (dk_at dksX9_behindBrace_2 6 rfl rfl)
theorem dX9_behindBrace_55 : decode cX9_behindBrace 55 = .ok (.goto (-50), 3) := dk_167 255 206 (dk_at dksX9_behindBrace_2 7 rfl rfl)
abbrev cX9_puts : ByteArray := prog_31_method_73_code
def yX9_puts : MethodName := ⟨RX9, "puts", "()I"⟩
def dkwX9_puts_1 : List UInt8 := [180, 0, 114, 27, 46, 79, 132, 1, 1, 167, 255, 233, 42, 180, 1, 158, 172]
abbrev dktX9_puts_1 : List UInt8 := dkwX9_puts_1 ++ []
def dkwX9_puts_0 : List UInt8 := [42, 42, 180, 1, 67, 181, 1, 158, 3, 60, 27, 42, 180, 1, 158, 162, 0, 21, 42, 180, 0, 111, 27, 42]
abbrev dktX9_puts_0 : List UInt8 := dkwX9_puts_0 ++ dktX9_puts_1
theorem dksX9_puts_0 : cX9_puts.data.toList.drop 0 = dktX9_puts_0 := by decide +kernel
theorem dksX9_puts_1 : cX9_puts.data.toList.drop 24 = dktX9_puts_1 := dk_seg dksX9_puts_0 24 rfl rfl
theorem dX9_puts_0 : decode cX9_puts 0 = .ok (.aload_n 0, 1) := dk_42 (dk_at dksX9_puts_0 0 rfl rfl)
theorem dX9_puts_1 : decode cX9_puts 1 = .ok (.aload_n 0, 1) := dk_42 (dk_at dksX9_puts_0 1 rfl rfl)
theorem dX9_puts_2 : decode cX9_puts 2 = .ok (.getfield 323, 3) := dk_180 1 67 (dk_at dksX9_puts_0 2 rfl rfl)
theorem dX9_puts_5 : decode cX9_puts 5 = .ok (.putfield 414, 3) := dk_181 1 158 (dk_at dksX9_puts_0 5 rfl rfl)
theorem dX9_puts_8 : decode cX9_puts 8 = .ok (.iconst 0, 1) := dk_3 (dk_at dksX9_puts_0 8 rfl rfl)
theorem dX9_puts_9 : decode cX9_puts 9 = .ok (.istore_n 1, 1) := dk_60 (dk_at dksX9_puts_0 9 rfl rfl)
theorem dX9_puts_10 : decode cX9_puts 10 = .ok (.iload_n 1, 1) := dk_27 (dk_at dksX9_puts_0 10 rfl rfl)
theorem dX9_puts_11 : decode cX9_puts 11 = .ok (.aload_n 0, 1) := dk_42 (dk_at dksX9_puts_0 11 rfl rfl)
theorem dX9_puts_12 : decode cX9_puts 12 = .ok (.getfield 414, 3) := dk_180 1 158 (dk_at dksX9_puts_0 12 rfl rfl)
theorem dX9_puts_15 : decode cX9_puts 15 = .ok (.if_icmp .ge 21, 3) := dk_162 0 21 (dk_at dksX9_puts_0 15 rfl rfl)
theorem dX9_puts_18 : decode cX9_puts 18 = .ok (.aload_n 0, 1) := dk_42 (dk_at dksX9_puts_0 18 rfl rfl)
theorem dX9_puts_19 : decode cX9_puts 19 = .ok (.getfield 111, 3) := dk_180 0 111 (dk_at dksX9_puts_0 19 rfl rfl)
theorem dX9_puts_22 : decode cX9_puts 22 = .ok (.iload_n 1, 1) := dk_27 (dk_at dksX9_puts_0 22 rfl rfl)
theorem dX9_puts_23 : decode cX9_puts 23 = .ok (.aload_n 0, 1) := dk_42 (dk_at dksX9_puts_0 23 rfl rfl)
theorem dX9_puts_24 : decode cX9_puts 24 = .ok (.getfield 114, 3) := dk_180 0 114 (dk_at dksX9_puts_1 0 rfl rfl)
theorem dX9_puts_27 : decode cX9_puts 27 = .ok (.iload_n 1, 1) := dk_27 (dk_at dksX9_puts_1 3 rfl rfl)
theorem dX9_puts_28 : decode cX9_puts 28 = .ok (.iaload, 1) := dk_46 (dk_at dksX9_puts_1 4 rfl rfl)
theorem dX9_puts_29 : decode cX9_puts 29 = .ok (.iastore, 1) := dk_79 (dk_at dksX9_puts_1 5 rfl rfl)
theorem dX9_puts_30 : decode cX9_puts 30 = .ok (.iinc 1 1, 3) := dk_132 1 1 (dk_at dksX9_puts_1 6 rfl rfl)
theorem dX9_puts_33 : decode cX9_puts 33 = .ok (.goto (-23), 3) := dk_167 255 233 (dk_at dksX9_puts_1 9 rfl rfl)
theorem dX9_puts_36 : decode cX9_puts 36 = .ok (.aload_n 0, 1) := dk_42 (dk_at dksX9_puts_1 12 rfl rfl)
theorem dX9_puts_37 : decode cX9_puts 37 = .ok (.getfield 414, 3) := dk_180 1 158 (dk_at dksX9_puts_1 13 rfl rfl)
theorem dX9_puts_40 : decode cX9_puts 40 = .ok (.ireturn, 1) := dk_172 (dk_at dksX9_puts_1 16 rfl rfl)
abbrev cX9_out : ByteArray := prog_31_method_75_code
def yX9_out : MethodName := ⟨RX9, "out", "(I)I"⟩
def dkwX9_out_1 : List UInt8 := [167, 0, 5, 16, 254, 172]
abbrev dktX9_out_1 : List UInt8 := dkwX9_out_1 ++ []
def dkwX9_out_0 : List UInt8 := [27, 133, 9, 42, 180, 1, 158, 4, 100, 133, 184, 0, 143, 153, 0, 12, 42, 180, 0, 111, 27, 46]
abbrev dktX9_out_0 : List UInt8 := dkwX9_out_0 ++ dktX9_out_1
theorem dksX9_out_0 : cX9_out.data.toList.drop 0 = dktX9_out_0 := by decide +kernel
theorem dksX9_out_1 : cX9_out.data.toList.drop 22 = dktX9_out_1 := dk_seg dksX9_out_0 22 rfl rfl
theorem dX9_out_0 : decode cX9_out 0 = .ok (.iload_n 1, 1) := dk_27 (dk_at dksX9_out_0 0 rfl rfl)
theorem dX9_out_1 : decode cX9_out 1 = .ok (.i2l, 1) := dk_133 (dk_at dksX9_out_0 1 rfl rfl)
theorem dX9_out_2 : decode cX9_out 2 = .ok (.lconst 0, 1) := dk_9 (dk_at dksX9_out_0 2 rfl rfl)
theorem dX9_out_3 : decode cX9_out 3 = .ok (.aload_n 0, 1) := dk_42 (dk_at dksX9_out_0 3 rfl rfl)
theorem dX9_out_4 : decode cX9_out 4 = .ok (.getfield 414, 3) := dk_180 1 158 (dk_at dksX9_out_0 4 rfl rfl)
theorem dX9_out_7 : decode cX9_out 7 = .ok (.iconst 1, 1) := dk_4 (dk_at dksX9_out_0 7 rfl rfl)
theorem dX9_out_8 : decode cX9_out 8 = .ok (.isub, 1) := dk_100 (dk_at dksX9_out_0 8 rfl rfl)
theorem dX9_out_9 : decode cX9_out 9 = .ok (.i2l, 1) := dk_133 (dk_at dksX9_out_0 9 rfl rfl)
theorem dX9_out_10 : decode cX9_out 10 = .ok (.invokestatic 143, 3) := dk_184 0 143 (dk_at dksX9_out_0 10 rfl rfl)
theorem dX9_out_13 : decode cX9_out 13 = .ok (.ifCond .eq 12, 3) := dk_153 0 12 (dk_at dksX9_out_0 13 rfl rfl)
theorem dX9_out_16 : decode cX9_out 16 = .ok (.aload_n 0, 1) := dk_42 (dk_at dksX9_out_0 16 rfl rfl)
theorem dX9_out_17 : decode cX9_out 17 = .ok (.getfield 111, 3) := dk_180 0 111 (dk_at dksX9_out_0 17 rfl rfl)
theorem dX9_out_20 : decode cX9_out 20 = .ok (.iload_n 1, 1) := dk_27 (dk_at dksX9_out_0 20 rfl rfl)
theorem dX9_out_21 : decode cX9_out 21 = .ok (.iaload, 1) := dk_46 (dk_at dksX9_out_0 21 rfl rfl)
theorem dX9_out_22 : decode cX9_out 22 = .ok (.goto 5, 3) := dk_167 0 5 (dk_at dksX9_out_1 0 rfl rfl)
theorem dX9_out_25 : decode cX9_out 25 = .ok (.bipush (-2), 2) := dk_16 254 (dk_at dksX9_out_1 3 rfl rfl)
theorem dX9_out_27 : decode cX9_out 27 = .ok (.ireturn, 1) := dk_172 (dk_at dksX9_out_1 5 rfl rfl)
abbrev cX9_shape : ByteArray := prog_31_method_76_code
def yX9_shape : MethodName := ⟨RX9, "shape", "(IIIIIII)I"⟩
def dkwX9_shape_5 : List UInt8 := [172]
abbrev dktX9_shape_5 : List UInt8 := dkwX9_shape_5 ++ []
def dkwX9_shape_4 : List UInt8 := [21, 5, 21, 6, 96, 181, 1, 15, 42, 21, 7, 181, 1, 2, 42, 28, 29, 182, 1, 143, 42, 182, 1, 161]
abbrev dktX9_shape_4 : List UInt8 := dkwX9_shape_4 ++ dktX9_shape_5
def dkwX9_shape_3 : List UInt8 := [42, 3, 181, 1, 67, 42, 27, 181, 1, 70, 42, 21, 4, 181, 1, 9, 42, 21, 5, 181, 1, 12, 42]
abbrev dktX9_shape_3 : List UInt8 := dkwX9_shape_3 ++ dktX9_shape_4
def dkwX9_shape_2 : List UInt8 := [133, 9, 20, 0, 173, 184, 0, 143, 153, 0, 14, 21, 7, 133, 9, 10, 184, 0, 143, 154, 0, 5, 2, 172]
abbrev dktX9_shape_2 : List UInt8 := dkwX9_shape_2 ++ dktX9_shape_3
def dkwX9_shape_1 : List UInt8 := [20, 0, 147, 184, 0, 143, 153, 0, 40, 21, 5, 133, 9, 20, 0, 173, 184, 0, 143, 153, 0, 27, 21, 6]
abbrev dktX9_shape_1 : List UInt8 := dkwX9_shape_1 ++ dktX9_shape_2
def dkwX9_shape_0 : List UInt8 := [27, 184, 0, 185, 153, 0, 65, 29, 133, 9, 20, 0, 141, 184, 0, 143, 153, 0, 53, 21, 4, 133, 10]
abbrev dktX9_shape_0 : List UInt8 := dkwX9_shape_0 ++ dktX9_shape_1
theorem dksX9_shape_0 : cX9_shape.data.toList.drop 0 = dktX9_shape_0 := by decide +kernel
theorem dksX9_shape_1 : cX9_shape.data.toList.drop 23 = dktX9_shape_1 := dk_seg dksX9_shape_0 23 rfl rfl
theorem dksX9_shape_2 : cX9_shape.data.toList.drop 47 = dktX9_shape_2 := dk_seg dksX9_shape_1 24 rfl rfl
theorem dksX9_shape_3 : cX9_shape.data.toList.drop 71 = dktX9_shape_3 := dk_seg dksX9_shape_2 24 rfl rfl
theorem dksX9_shape_4 : cX9_shape.data.toList.drop 94 = dktX9_shape_4 := dk_seg dksX9_shape_3 23 rfl rfl
theorem dksX9_shape_5 : cX9_shape.data.toList.drop 118 = dktX9_shape_5 := dk_seg dksX9_shape_4 24 rfl rfl
theorem dX9_shape_0 : decode cX9_shape 0 = .ok (.iload_n 1, 1) := dk_27 (dk_at dksX9_shape_0 0 rfl rfl)
theorem dX9_shape_1 : decode cX9_shape 1 = .ok (.invokestatic 185, 3) := dk_184 0 185 (dk_at dksX9_shape_0 1 rfl rfl)
theorem dX9_shape_4 : decode cX9_shape 4 = .ok (.ifCond .eq 65, 3) := dk_153 0 65 (dk_at dksX9_shape_0 4 rfl rfl)
theorem dX9_shape_7 : decode cX9_shape 7 = .ok (.iload_n 3, 1) := dk_29 (dk_at dksX9_shape_0 7 rfl rfl)
theorem dX9_shape_8 : decode cX9_shape 8 = .ok (.i2l, 1) := dk_133 (dk_at dksX9_shape_0 8 rfl rfl)
theorem dX9_shape_9 : decode cX9_shape 9 = .ok (.lconst 0, 1) := dk_9 (dk_at dksX9_shape_0 9 rfl rfl)
theorem dX9_shape_10 : decode cX9_shape 10 = .ok (.ldc2_w 141, 3) := dk_20 0 141 (dk_at dksX9_shape_0 10 rfl rfl)
theorem dX9_shape_13 : decode cX9_shape 13 = .ok (.invokestatic 143, 3) := dk_184 0 143 (dk_at dksX9_shape_0 13 rfl rfl)
theorem dX9_shape_16 : decode cX9_shape 16 = .ok (.ifCond .eq 53, 3) := dk_153 0 53 (dk_at dksX9_shape_0 16 rfl rfl)
theorem dX9_shape_19 : decode cX9_shape 19 = .ok (.iload 4, 2) := dk_21 4 (dk_at dksX9_shape_0 19 rfl rfl)
theorem dX9_shape_21 : decode cX9_shape 21 = .ok (.i2l, 1) := dk_133 (dk_at dksX9_shape_0 21 rfl rfl)
theorem dX9_shape_22 : decode cX9_shape 22 = .ok (.lconst 1, 1) := dk_10 (dk_at dksX9_shape_0 22 rfl rfl)
theorem dX9_shape_23 : decode cX9_shape 23 = .ok (.ldc2_w 147, 3) := dk_20 0 147 (dk_at dksX9_shape_1 0 rfl rfl)
theorem dX9_shape_26 : decode cX9_shape 26 = .ok (.invokestatic 143, 3) := dk_184 0 143 (dk_at dksX9_shape_1 3 rfl rfl)
theorem dX9_shape_29 : decode cX9_shape 29 = .ok (.ifCond .eq 40, 3) := dk_153 0 40 (dk_at dksX9_shape_1 6 rfl rfl)
theorem dX9_shape_32 : decode cX9_shape 32 = .ok (.iload 5, 2) := dk_21 5 (dk_at dksX9_shape_1 9 rfl rfl)
theorem dX9_shape_34 : decode cX9_shape 34 = .ok (.i2l, 1) := dk_133 (dk_at dksX9_shape_1 11 rfl rfl)
theorem dX9_shape_35 : decode cX9_shape 35 = .ok (.lconst 0, 1) := dk_9 (dk_at dksX9_shape_1 12 rfl rfl)
theorem dX9_shape_36 : decode cX9_shape 36 = .ok (.ldc2_w 173, 3) := dk_20 0 173 (dk_at dksX9_shape_1 13 rfl rfl)
theorem dX9_shape_39 : decode cX9_shape 39 = .ok (.invokestatic 143, 3) := dk_184 0 143 (dk_at dksX9_shape_1 16 rfl rfl)
theorem dX9_shape_42 : decode cX9_shape 42 = .ok (.ifCond .eq 27, 3) := dk_153 0 27 (dk_at dksX9_shape_1 19 rfl rfl)
theorem dX9_shape_45 : decode cX9_shape 45 = .ok (.iload 6, 2) := dk_21 6 (dk_at dksX9_shape_1 22 rfl rfl)
theorem dX9_shape_47 : decode cX9_shape 47 = .ok (.i2l, 1) := dk_133 (dk_at dksX9_shape_2 0 rfl rfl)
theorem dX9_shape_48 : decode cX9_shape 48 = .ok (.lconst 0, 1) := dk_9 (dk_at dksX9_shape_2 1 rfl rfl)
theorem dX9_shape_49 : decode cX9_shape 49 = .ok (.ldc2_w 173, 3) := dk_20 0 173 (dk_at dksX9_shape_2 2 rfl rfl)
theorem dX9_shape_52 : decode cX9_shape 52 = .ok (.invokestatic 143, 3) := dk_184 0 143 (dk_at dksX9_shape_2 5 rfl rfl)
theorem dX9_shape_55 : decode cX9_shape 55 = .ok (.ifCond .eq 14, 3) := dk_153 0 14 (dk_at dksX9_shape_2 8 rfl rfl)
theorem dX9_shape_58 : decode cX9_shape 58 = .ok (.iload 7, 2) := dk_21 7 (dk_at dksX9_shape_2 11 rfl rfl)
theorem dX9_shape_60 : decode cX9_shape 60 = .ok (.i2l, 1) := dk_133 (dk_at dksX9_shape_2 13 rfl rfl)
theorem dX9_shape_61 : decode cX9_shape 61 = .ok (.lconst 0, 1) := dk_9 (dk_at dksX9_shape_2 14 rfl rfl)
theorem dX9_shape_62 : decode cX9_shape 62 = .ok (.lconst 1, 1) := dk_10 (dk_at dksX9_shape_2 15 rfl rfl)
theorem dX9_shape_63 : decode cX9_shape 63 = .ok (.invokestatic 143, 3) := dk_184 0 143 (dk_at dksX9_shape_2 16 rfl rfl)
theorem dX9_shape_66 : decode cX9_shape 66 = .ok (.ifCond .ne 5, 3) := dk_154 0 5 (dk_at dksX9_shape_2 19 rfl rfl)
theorem dX9_shape_69 : decode cX9_shape 69 = .ok (.iconst (-1), 1) := dk_2 (dk_at dksX9_shape_2 22 rfl rfl)
theorem dX9_shape_70 : decode cX9_shape 70 = .ok (.ireturn, 1) := dk_172 (dk_at dksX9_shape_2 23 rfl rfl)
theorem dX9_shape_71 : decode cX9_shape 71 = .ok (.aload_n 0, 1) := dk_42 (dk_at dksX9_shape_3 0 rfl rfl)
theorem dX9_shape_72 : decode cX9_shape 72 = .ok (.iconst 0, 1) := dk_3 (dk_at dksX9_shape_3 1 rfl rfl)
theorem dX9_shape_73 : decode cX9_shape 73 = .ok (.putfield 323, 3) := dk_181 1 67 (dk_at dksX9_shape_3 2 rfl rfl)
theorem dX9_shape_76 : decode cX9_shape 76 = .ok (.aload_n 0, 1) := dk_42 (dk_at dksX9_shape_3 5 rfl rfl)
theorem dX9_shape_77 : decode cX9_shape 77 = .ok (.iload_n 1, 1) := dk_27 (dk_at dksX9_shape_3 6 rfl rfl)
theorem dX9_shape_78 : decode cX9_shape 78 = .ok (.putfield 326, 3) := dk_181 1 70 (dk_at dksX9_shape_3 7 rfl rfl)
theorem dX9_shape_81 : decode cX9_shape 81 = .ok (.aload_n 0, 1) := dk_42 (dk_at dksX9_shape_3 10 rfl rfl)
theorem dX9_shape_82 : decode cX9_shape 82 = .ok (.iload 4, 2) := dk_21 4 (dk_at dksX9_shape_3 11 rfl rfl)
theorem dX9_shape_84 : decode cX9_shape 84 = .ok (.putfield 265, 3) := dk_181 1 9 (dk_at dksX9_shape_3 13 rfl rfl)
theorem dX9_shape_87 : decode cX9_shape 87 = .ok (.aload_n 0, 1) := dk_42 (dk_at dksX9_shape_3 16 rfl rfl)
theorem dX9_shape_88 : decode cX9_shape 88 = .ok (.iload 5, 2) := dk_21 5 (dk_at dksX9_shape_3 17 rfl rfl)
theorem dX9_shape_90 : decode cX9_shape 90 = .ok (.putfield 268, 3) := dk_181 1 12 (dk_at dksX9_shape_3 19 rfl rfl)
theorem dX9_shape_93 : decode cX9_shape 93 = .ok (.aload_n 0, 1) := dk_42 (dk_at dksX9_shape_3 22 rfl rfl)
theorem dX9_shape_94 : decode cX9_shape 94 = .ok (.iload 5, 2) := dk_21 5 (dk_at dksX9_shape_4 0 rfl rfl)
theorem dX9_shape_96 : decode cX9_shape 96 = .ok (.iload 6, 2) := dk_21 6 (dk_at dksX9_shape_4 2 rfl rfl)
theorem dX9_shape_98 : decode cX9_shape 98 = .ok (.iadd, 1) := dk_96 (dk_at dksX9_shape_4 4 rfl rfl)
theorem dX9_shape_99 : decode cX9_shape 99 = .ok (.putfield 271, 3) := dk_181 1 15 (dk_at dksX9_shape_4 5 rfl rfl)
theorem dX9_shape_102 : decode cX9_shape 102 = .ok (.aload_n 0, 1) := dk_42 (dk_at dksX9_shape_4 8 rfl rfl)
theorem dX9_shape_103 : decode cX9_shape 103 = .ok (.iload 7, 2) := dk_21 7 (dk_at dksX9_shape_4 9 rfl rfl)
theorem dX9_shape_105 : decode cX9_shape 105 = .ok (.putfield 258, 3) := dk_181 1 2 (dk_at dksX9_shape_4 11 rfl rfl)
theorem dX9_shape_108 : decode cX9_shape 108 = .ok (.aload_n 0, 1) := dk_42 (dk_at dksX9_shape_4 14 rfl rfl)
theorem dX9_shape_109 : decode cX9_shape 109 = .ok (.iload_n 2, 1) := dk_28 (dk_at dksX9_shape_4 15 rfl rfl)
theorem dX9_shape_110 : decode cX9_shape 110 = .ok (.iload_n 3, 1) := dk_29 (dk_at dksX9_shape_4 16 rfl rfl)
theorem dX9_shape_111 : decode cX9_shape 111 = .ok (.invokevirtual 399, 3) := dk_182 1 143 (dk_at dksX9_shape_4 17 rfl rfl)
theorem dX9_shape_114 : decode cX9_shape 114 = .ok (.aload_n 0, 1) := dk_42 (dk_at dksX9_shape_4 20 rfl rfl)
theorem dX9_shape_115 : decode cX9_shape 115 = .ok (.invokevirtual 417, 3) := dk_182 1 161 (dk_at dksX9_shape_4 21 rfl rfl)
theorem dX9_shape_118 : decode cX9_shape 118 = .ok (.ireturn, 1) := dk_172 (dk_at dksX9_shape_5 0 rfl rfl)
abbrev cX9_row : ByteArray := prog_31_method_78_code
def yX9_row : MethodName := ⟨RX9, "row", "(III)I"⟩
def dkwX9_row_4 : List UInt8 := [180, 0, 127, 21, 4, 14, 82, 42, 180, 0, 131, 21, 4, 9, 80, 132, 4, 1, 167, 255, 217, 4, 172]
abbrev dktX9_row_4 : List UInt8 := dkwX9_row_4 ++ []
def dkwX9_row_3 : List UInt8 := [104, 54, 4, 21, 4, 16, 30, 27, 104, 16, 30, 96, 162, 0, 33, 42, 180, 0, 123, 21, 4, 11, 81, 42]
abbrev dktX9_row_3 : List UInt8 := dkwX9_row_3 ++ dktX9_row_4
def dkwX9_row_2 : List UInt8 := [180, 0, 117, 27, 28, 156, 0, 7, 2, 167, 0, 4, 29, 79, 42, 180, 0, 120, 27, 28, 79, 16, 30, 27]
abbrev dktX9_row_2 : List UInt8 := dkwX9_row_2 ++ dktX9_row_3
def dkwX9_row_1 : List UInt8 := [155, 0, 11, 29, 16, 30, 164, 0, 5, 2, 172, 28, 155, 0, 10, 29, 156, 0, 6, 16, 242, 172, 42]
abbrev dktX9_row_1 : List UInt8 := dkwX9_row_1 ++ dktX9_row_2
def dkwX9_row_0 : List UInt8 := [27, 184, 1, 164, 153, 0, 27, 28, 133, 20, 1, 167, 20, 0, 163, 184, 0, 143, 153, 0, 13, 28]
abbrev dktX9_row_0 : List UInt8 := dkwX9_row_0 ++ dktX9_row_1
theorem dksX9_row_0 : cX9_row.data.toList.drop 0 = dktX9_row_0 := by decide +kernel
theorem dksX9_row_1 : cX9_row.data.toList.drop 22 = dktX9_row_1 := dk_seg dksX9_row_0 22 rfl rfl
theorem dksX9_row_2 : cX9_row.data.toList.drop 45 = dktX9_row_2 := dk_seg dksX9_row_1 23 rfl rfl
theorem dksX9_row_3 : cX9_row.data.toList.drop 69 = dktX9_row_3 := dk_seg dksX9_row_2 24 rfl rfl
theorem dksX9_row_4 : cX9_row.data.toList.drop 93 = dktX9_row_4 := dk_seg dksX9_row_3 24 rfl rfl
theorem dX9_row_0 : decode cX9_row 0 = .ok (.iload_n 1, 1) := dk_27 (dk_at dksX9_row_0 0 rfl rfl)
theorem dX9_row_1 : decode cX9_row 1 = .ok (.invokestatic 420, 3) := dk_184 1 164 (dk_at dksX9_row_0 1 rfl rfl)
theorem dX9_row_4 : decode cX9_row 4 = .ok (.ifCond .eq 27, 3) := dk_153 0 27 (dk_at dksX9_row_0 4 rfl rfl)
theorem dX9_row_7 : decode cX9_row 7 = .ok (.iload_n 2, 1) := dk_28 (dk_at dksX9_row_0 7 rfl rfl)
theorem dX9_row_8 : decode cX9_row 8 = .ok (.i2l, 1) := dk_133 (dk_at dksX9_row_0 8 rfl rfl)
theorem dX9_row_9 : decode cX9_row 9 = .ok (.ldc2_w 423, 3) := dk_20 1 167 (dk_at dksX9_row_0 9 rfl rfl)
theorem dX9_row_12 : decode cX9_row 12 = .ok (.ldc2_w 163, 3) := dk_20 0 163 (dk_at dksX9_row_0 12 rfl rfl)
theorem dX9_row_15 : decode cX9_row 15 = .ok (.invokestatic 143, 3) := dk_184 0 143 (dk_at dksX9_row_0 15 rfl rfl)
theorem dX9_row_18 : decode cX9_row 18 = .ok (.ifCond .eq 13, 3) := dk_153 0 13 (dk_at dksX9_row_0 18 rfl rfl)
theorem dX9_row_21 : decode cX9_row 21 = .ok (.iload_n 2, 1) := dk_28 (dk_at dksX9_row_0 21 rfl rfl)
theorem dX9_row_22 : decode cX9_row 22 = .ok (.ifCond .lt 11, 3) := dk_155 0 11 (dk_at dksX9_row_1 0 rfl rfl)
theorem dX9_row_25 : decode cX9_row 25 = .ok (.iload_n 3, 1) := dk_29 (dk_at dksX9_row_1 3 rfl rfl)
theorem dX9_row_26 : decode cX9_row 26 = .ok (.bipush 30, 2) := dk_16 30 (dk_at dksX9_row_1 4 rfl rfl)
theorem dX9_row_28 : decode cX9_row 28 = .ok (.if_icmp .le 5, 3) := dk_164 0 5 (dk_at dksX9_row_1 6 rfl rfl)
theorem dX9_row_31 : decode cX9_row 31 = .ok (.iconst (-1), 1) := dk_2 (dk_at dksX9_row_1 9 rfl rfl)
theorem dX9_row_32 : decode cX9_row 32 = .ok (.ireturn, 1) := dk_172 (dk_at dksX9_row_1 10 rfl rfl)
theorem dX9_row_33 : decode cX9_row 33 = .ok (.iload_n 2, 1) := dk_28 (dk_at dksX9_row_1 11 rfl rfl)
theorem dX9_row_34 : decode cX9_row 34 = .ok (.ifCond .lt 10, 3) := dk_155 0 10 (dk_at dksX9_row_1 12 rfl rfl)
theorem dX9_row_37 : decode cX9_row 37 = .ok (.iload_n 3, 1) := dk_29 (dk_at dksX9_row_1 15 rfl rfl)
theorem dX9_row_38 : decode cX9_row 38 = .ok (.ifCond .ge 6, 3) := dk_156 0 6 (dk_at dksX9_row_1 16 rfl rfl)
theorem dX9_row_41 : decode cX9_row 41 = .ok (.bipush (-14), 2) := dk_16 242 (dk_at dksX9_row_1 19 rfl rfl)
theorem dX9_row_43 : decode cX9_row 43 = .ok (.ireturn, 1) := dk_172 (dk_at dksX9_row_1 21 rfl rfl)
theorem dX9_row_44 : decode cX9_row 44 = .ok (.aload_n 0, 1) := dk_42 (dk_at dksX9_row_1 22 rfl rfl)
theorem dX9_row_45 : decode cX9_row 45 = .ok (.getfield 117, 3) := dk_180 0 117 (dk_at dksX9_row_2 0 rfl rfl)
theorem dX9_row_48 : decode cX9_row 48 = .ok (.iload_n 1, 1) := dk_27 (dk_at dksX9_row_2 3 rfl rfl)
theorem dX9_row_49 : decode cX9_row 49 = .ok (.iload_n 2, 1) := dk_28 (dk_at dksX9_row_2 4 rfl rfl)
theorem dX9_row_50 : decode cX9_row 50 = .ok (.ifCond .ge 7, 3) := dk_156 0 7 (dk_at dksX9_row_2 5 rfl rfl)
theorem dX9_row_53 : decode cX9_row 53 = .ok (.iconst (-1), 1) := dk_2 (dk_at dksX9_row_2 8 rfl rfl)
theorem dX9_row_54 : decode cX9_row 54 = .ok (.goto 4, 3) := dk_167 0 4 (dk_at dksX9_row_2 9 rfl rfl)
theorem dX9_row_57 : decode cX9_row 57 = .ok (.iload_n 3, 1) := dk_29 (dk_at dksX9_row_2 12 rfl rfl)
theorem dX9_row_58 : decode cX9_row 58 = .ok (.iastore, 1) := dk_79 (dk_at dksX9_row_2 13 rfl rfl)
theorem dX9_row_59 : decode cX9_row 59 = .ok (.aload_n 0, 1) := dk_42 (dk_at dksX9_row_2 14 rfl rfl)
theorem dX9_row_60 : decode cX9_row 60 = .ok (.getfield 120, 3) := dk_180 0 120 (dk_at dksX9_row_2 15 rfl rfl)
theorem dX9_row_63 : decode cX9_row 63 = .ok (.iload_n 1, 1) := dk_27 (dk_at dksX9_row_2 18 rfl rfl)
theorem dX9_row_64 : decode cX9_row 64 = .ok (.iload_n 2, 1) := dk_28 (dk_at dksX9_row_2 19 rfl rfl)
theorem dX9_row_65 : decode cX9_row 65 = .ok (.iastore, 1) := dk_79 (dk_at dksX9_row_2 20 rfl rfl)
theorem dX9_row_66 : decode cX9_row 66 = .ok (.bipush 30, 2) := dk_16 30 (dk_at dksX9_row_2 21 rfl rfl)
theorem dX9_row_68 : decode cX9_row 68 = .ok (.iload_n 1, 1) := dk_27 (dk_at dksX9_row_2 23 rfl rfl)
theorem dX9_row_69 : decode cX9_row 69 = .ok (.imul, 1) := dk_104 (dk_at dksX9_row_3 0 rfl rfl)
theorem dX9_row_70 : decode cX9_row 70 = .ok (.istore 4, 2) := dk_54 4 (dk_at dksX9_row_3 1 rfl rfl)
theorem dX9_row_72 : decode cX9_row 72 = .ok (.iload 4, 2) := dk_21 4 (dk_at dksX9_row_3 3 rfl rfl)
theorem dX9_row_74 : decode cX9_row 74 = .ok (.bipush 30, 2) := dk_16 30 (dk_at dksX9_row_3 5 rfl rfl)
theorem dX9_row_76 : decode cX9_row 76 = .ok (.iload_n 1, 1) := dk_27 (dk_at dksX9_row_3 7 rfl rfl)
theorem dX9_row_77 : decode cX9_row 77 = .ok (.imul, 1) := dk_104 (dk_at dksX9_row_3 8 rfl rfl)
theorem dX9_row_78 : decode cX9_row 78 = .ok (.bipush 30, 2) := dk_16 30 (dk_at dksX9_row_3 9 rfl rfl)
theorem dX9_row_80 : decode cX9_row 80 = .ok (.iadd, 1) := dk_96 (dk_at dksX9_row_3 11 rfl rfl)
theorem dX9_row_81 : decode cX9_row 81 = .ok (.if_icmp .ge 33, 3) := dk_162 0 33 (dk_at dksX9_row_3 12 rfl rfl)
theorem dX9_row_84 : decode cX9_row 84 = .ok (.aload_n 0, 1) := dk_42 (dk_at dksX9_row_3 15 rfl rfl)
theorem dX9_row_85 : decode cX9_row 85 = .ok (.getfield 123, 3) := dk_180 0 123 (dk_at dksX9_row_3 16 rfl rfl)
theorem dX9_row_88 : decode cX9_row 88 = .ok (.iload 4, 2) := dk_21 4 (dk_at dksX9_row_3 19 rfl rfl)
theorem dX9_row_90 : decode cX9_row 90 = .ok (.fconst 0, 1) := dk_11 (dk_at dksX9_row_3 21 rfl rfl)
theorem dX9_row_91 : decode cX9_row 91 = .ok (.fastore, 1) := dk_81 (dk_at dksX9_row_3 22 rfl rfl)
theorem dX9_row_92 : decode cX9_row 92 = .ok (.aload_n 0, 1) := dk_42 (dk_at dksX9_row_3 23 rfl rfl)
theorem dX9_row_93 : decode cX9_row 93 = .ok (.getfield 127, 3) := dk_180 0 127 (dk_at dksX9_row_4 0 rfl rfl)
theorem dX9_row_96 : decode cX9_row 96 = .ok (.iload 4, 2) := dk_21 4 (dk_at dksX9_row_4 3 rfl rfl)
theorem dX9_row_98 : decode cX9_row 98 = .ok (.dconst 0, 1) := dk_14 (dk_at dksX9_row_4 5 rfl rfl)
theorem dX9_row_99 : decode cX9_row 99 = .ok (.dastore, 1) := dk_82 (dk_at dksX9_row_4 6 rfl rfl)
theorem dX9_row_100 : decode cX9_row 100 = .ok (.aload_n 0, 1) := dk_42 (dk_at dksX9_row_4 7 rfl rfl)
theorem dX9_row_101 : decode cX9_row 101 = .ok (.getfield 131, 3) := dk_180 0 131 (dk_at dksX9_row_4 8 rfl rfl)
theorem dX9_row_104 : decode cX9_row 104 = .ok (.iload 4, 2) := dk_21 4 (dk_at dksX9_row_4 11 rfl rfl)
theorem dX9_row_106 : decode cX9_row 106 = .ok (.lconst 0, 1) := dk_9 (dk_at dksX9_row_4 13 rfl rfl)
theorem dX9_row_107 : decode cX9_row 107 = .ok (.lastore, 1) := dk_80 (dk_at dksX9_row_4 14 rfl rfl)
theorem dX9_row_108 : decode cX9_row 108 = .ok (.iinc 4 1, 3) := dk_132 4 1 (dk_at dksX9_row_4 15 rfl rfl)
theorem dX9_row_111 : decode cX9_row 111 = .ok (.goto (-39), 3) := dk_167 255 217 (dk_at dksX9_row_4 18 rfl rfl)
theorem dX9_row_114 : decode cX9_row 114 = .ok (.iconst 1, 1) := dk_4 (dk_at dksX9_row_4 21 rfl rfl)
theorem dX9_row_115 : decode cX9_row 115 = .ok (.ireturn, 1) := dk_172 (dk_at dksX9_row_4 22 rfl rfl)
abbrev cX9_isRow : ByteArray := prog_31_method_77_code
def yX9_isRow : MethodName := ⟨RX9, "isRow", "(I)Z"⟩
def dkwX9_isRow_0 : List UInt8 := [26, 133, 9, 20, 0, 163, 184, 0, 143, 172]
abbrev dktX9_isRow_0 : List UInt8 := dkwX9_isRow_0 ++ []
theorem dksX9_isRow_0 : cX9_isRow.data.toList.drop 0 = dktX9_isRow_0 := by decide +kernel
theorem dX9_isRow_0 : decode cX9_isRow 0 = .ok (.iload_n 0, 1) := dk_26 (dk_at dksX9_isRow_0 0 rfl rfl)
theorem dX9_isRow_1 : decode cX9_isRow 1 = .ok (.i2l, 1) := dk_133 (dk_at dksX9_isRow_0 1 rfl rfl)
theorem dX9_isRow_2 : decode cX9_isRow 2 = .ok (.lconst 0, 1) := dk_9 (dk_at dksX9_isRow_0 2 rfl rfl)
theorem dX9_isRow_3 : decode cX9_isRow 3 = .ok (.ldc2_w 163, 3) := dk_20 0 163 (dk_at dksX9_isRow_0 3 rfl rfl)
theorem dX9_isRow_6 : decode cX9_isRow 6 = .ok (.invokestatic 143, 3) := dk_184 0 143 (dk_at dksX9_isRow_0 6 rfl rfl)
theorem dX9_isRow_9 : decode cX9_isRow 9 = .ok (.ireturn, 1) := dk_172 (dk_at dksX9_isRow_0 9 rfl rfl)
abbrev cX9_ratio : ByteArray := prog_31_method_80_code
def yX9_ratio : MethodName := ⟨RX9, "ratio", "(IIII)I"⟩
def dkwX9_ratio_3 : List UInt8 := [135, 111, 82, 42, 180, 0, 131, 16, 30, 27, 104, 28, 96, 29, 133, 21, 4, 133, 109, 80, 4, 172]
abbrev dktX9_ratio_3 : List UInt8 := dkwX9_ratio_3 ++ []
def dkwX9_ratio_2 : List UInt8 := [104, 28, 96, 29, 134, 21, 4, 134, 110, 81, 42, 180, 0, 127, 16, 30, 27, 104, 28, 96, 29, 135, 21, 4]
abbrev dktX9_ratio_2 : List UInt8 := dkwX9_ratio_2 ++ dktX9_ratio_3
def dkwX9_ratio_1 : List UInt8 := [182, 1, 169, 154, 0, 6, 16, 244, 172, 21, 4, 154, 0, 6, 16, 241, 172, 42, 180, 0, 123, 16, 30, 27]
abbrev dktX9_ratio_1 : List UInt8 := dkwX9_ratio_1 ++ dktX9_ratio_2
def dkwX9_ratio_0 : List UInt8 := [27, 184, 1, 164, 154, 0, 5, 2, 172, 42, 180, 0, 117, 27, 46, 156, 0, 6, 16, 245, 172, 42, 27, 28]
abbrev dktX9_ratio_0 : List UInt8 := dkwX9_ratio_0 ++ dktX9_ratio_1
theorem dksX9_ratio_0 : cX9_ratio.data.toList.drop 0 = dktX9_ratio_0 := by decide +kernel
theorem dksX9_ratio_1 : cX9_ratio.data.toList.drop 24 = dktX9_ratio_1 := dk_seg dksX9_ratio_0 24 rfl rfl
theorem dksX9_ratio_2 : cX9_ratio.data.toList.drop 48 = dktX9_ratio_2 := dk_seg dksX9_ratio_1 24 rfl rfl
theorem dksX9_ratio_3 : cX9_ratio.data.toList.drop 72 = dktX9_ratio_3 := dk_seg dksX9_ratio_2 24 rfl rfl
theorem dX9_ratio_0 : decode cX9_ratio 0 = .ok (.iload_n 1, 1) := dk_27 (dk_at dksX9_ratio_0 0 rfl rfl)
theorem dX9_ratio_1 : decode cX9_ratio 1 = .ok (.invokestatic 420, 3) := dk_184 1 164 (dk_at dksX9_ratio_0 1 rfl rfl)
theorem dX9_ratio_4 : decode cX9_ratio 4 = .ok (.ifCond .ne 5, 3) := dk_154 0 5 (dk_at dksX9_ratio_0 4 rfl rfl)
theorem dX9_ratio_7 : decode cX9_ratio 7 = .ok (.iconst (-1), 1) := dk_2 (dk_at dksX9_ratio_0 7 rfl rfl)
theorem dX9_ratio_8 : decode cX9_ratio 8 = .ok (.ireturn, 1) := dk_172 (dk_at dksX9_ratio_0 8 rfl rfl)
theorem dX9_ratio_9 : decode cX9_ratio 9 = .ok (.aload_n 0, 1) := dk_42 (dk_at dksX9_ratio_0 9 rfl rfl)
theorem dX9_ratio_10 : decode cX9_ratio 10 = .ok (.getfield 117, 3) := dk_180 0 117 (dk_at dksX9_ratio_0 10 rfl rfl)
theorem dX9_ratio_13 : decode cX9_ratio 13 = .ok (.iload_n 1, 1) := dk_27 (dk_at dksX9_ratio_0 13 rfl rfl)
theorem dX9_ratio_14 : decode cX9_ratio 14 = .ok (.iaload, 1) := dk_46 (dk_at dksX9_ratio_0 14 rfl rfl)
theorem dX9_ratio_15 : decode cX9_ratio 15 = .ok (.ifCond .ge 6, 3) := dk_156 0 6 (dk_at dksX9_ratio_0 15 rfl rfl)
theorem dX9_ratio_18 : decode cX9_ratio 18 = .ok (.bipush (-11), 2) := dk_16 245 (dk_at dksX9_ratio_0 18 rfl rfl)
theorem dX9_ratio_20 : decode cX9_ratio 20 = .ok (.ireturn, 1) := dk_172 (dk_at dksX9_ratio_0 20 rfl rfl)
theorem dX9_ratio_21 : decode cX9_ratio 21 = .ok (.aload_n 0, 1) := dk_42 (dk_at dksX9_ratio_0 21 rfl rfl)
theorem dX9_ratio_22 : decode cX9_ratio 22 = .ok (.iload_n 1, 1) := dk_27 (dk_at dksX9_ratio_0 22 rfl rfl)
theorem dX9_ratio_23 : decode cX9_ratio 23 = .ok (.iload_n 2, 1) := dk_28 (dk_at dksX9_ratio_0 23 rfl rfl)
theorem dX9_ratio_24 : decode cX9_ratio 24 = .ok (.invokevirtual 425, 3) := dk_182 1 169 (dk_at dksX9_ratio_1 0 rfl rfl)
theorem dX9_ratio_27 : decode cX9_ratio 27 = .ok (.ifCond .ne 6, 3) := dk_154 0 6 (dk_at dksX9_ratio_1 3 rfl rfl)
theorem dX9_ratio_30 : decode cX9_ratio 30 = .ok (.bipush (-12), 2) := dk_16 244 (dk_at dksX9_ratio_1 6 rfl rfl)
theorem dX9_ratio_32 : decode cX9_ratio 32 = .ok (.ireturn, 1) := dk_172 (dk_at dksX9_ratio_1 8 rfl rfl)
theorem dX9_ratio_33 : decode cX9_ratio 33 = .ok (.iload 4, 2) := dk_21 4 (dk_at dksX9_ratio_1 9 rfl rfl)
theorem dX9_ratio_35 : decode cX9_ratio 35 = .ok (.ifCond .ne 6, 3) := dk_154 0 6 (dk_at dksX9_ratio_1 11 rfl rfl)
theorem dX9_ratio_38 : decode cX9_ratio 38 = .ok (.bipush (-15), 2) := dk_16 241 (dk_at dksX9_ratio_1 14 rfl rfl)
theorem dX9_ratio_40 : decode cX9_ratio 40 = .ok (.ireturn, 1) := dk_172 (dk_at dksX9_ratio_1 16 rfl rfl)
theorem dX9_ratio_41 : decode cX9_ratio 41 = .ok (.aload_n 0, 1) := dk_42 (dk_at dksX9_ratio_1 17 rfl rfl)
theorem dX9_ratio_42 : decode cX9_ratio 42 = .ok (.getfield 123, 3) := dk_180 0 123 (dk_at dksX9_ratio_1 18 rfl rfl)
theorem dX9_ratio_45 : decode cX9_ratio 45 = .ok (.bipush 30, 2) := dk_16 30 (dk_at dksX9_ratio_1 21 rfl rfl)
theorem dX9_ratio_47 : decode cX9_ratio 47 = .ok (.iload_n 1, 1) := dk_27 (dk_at dksX9_ratio_1 23 rfl rfl)
theorem dX9_ratio_48 : decode cX9_ratio 48 = .ok (.imul, 1) := dk_104 (dk_at dksX9_ratio_2 0 rfl rfl)
theorem dX9_ratio_49 : decode cX9_ratio 49 = .ok (.iload_n 2, 1) := dk_28 (dk_at dksX9_ratio_2 1 rfl rfl)
theorem dX9_ratio_50 : decode cX9_ratio 50 = .ok (.iadd, 1) := dk_96 (dk_at dksX9_ratio_2 2 rfl rfl)
theorem dX9_ratio_51 : decode cX9_ratio 51 = .ok (.iload_n 3, 1) := dk_29 (dk_at dksX9_ratio_2 3 rfl rfl)
theorem dX9_ratio_52 : decode cX9_ratio 52 = .ok (.i2f, 1) := dk_134 (dk_at dksX9_ratio_2 4 rfl rfl)
theorem dX9_ratio_53 : decode cX9_ratio 53 = .ok (.iload 4, 2) := dk_21 4 (dk_at dksX9_ratio_2 5 rfl rfl)
theorem dX9_ratio_55 : decode cX9_ratio 55 = .ok (.i2f, 1) := dk_134 (dk_at dksX9_ratio_2 7 rfl rfl)
theorem dX9_ratio_56 : decode cX9_ratio 56 = .ok (.fdiv, 1) := dk_110 (dk_at dksX9_ratio_2 8 rfl rfl)
theorem dX9_ratio_57 : decode cX9_ratio 57 = .ok (.fastore, 1) := dk_81 (dk_at dksX9_ratio_2 9 rfl rfl)
theorem dX9_ratio_58 : decode cX9_ratio 58 = .ok (.aload_n 0, 1) := dk_42 (dk_at dksX9_ratio_2 10 rfl rfl)
theorem dX9_ratio_59 : decode cX9_ratio 59 = .ok (.getfield 127, 3) := dk_180 0 127 (dk_at dksX9_ratio_2 11 rfl rfl)
theorem dX9_ratio_62 : decode cX9_ratio 62 = .ok (.bipush 30, 2) := dk_16 30 (dk_at dksX9_ratio_2 14 rfl rfl)
theorem dX9_ratio_64 : decode cX9_ratio 64 = .ok (.iload_n 1, 1) := dk_27 (dk_at dksX9_ratio_2 16 rfl rfl)
theorem dX9_ratio_65 : decode cX9_ratio 65 = .ok (.imul, 1) := dk_104 (dk_at dksX9_ratio_2 17 rfl rfl)
theorem dX9_ratio_66 : decode cX9_ratio 66 = .ok (.iload_n 2, 1) := dk_28 (dk_at dksX9_ratio_2 18 rfl rfl)
theorem dX9_ratio_67 : decode cX9_ratio 67 = .ok (.iadd, 1) := dk_96 (dk_at dksX9_ratio_2 19 rfl rfl)
theorem dX9_ratio_68 : decode cX9_ratio 68 = .ok (.iload_n 3, 1) := dk_29 (dk_at dksX9_ratio_2 20 rfl rfl)
theorem dX9_ratio_69 : decode cX9_ratio 69 = .ok (.i2d, 1) := dk_135 (dk_at dksX9_ratio_2 21 rfl rfl)
theorem dX9_ratio_70 : decode cX9_ratio 70 = .ok (.iload 4, 2) := dk_21 4 (dk_at dksX9_ratio_2 22 rfl rfl)
theorem dX9_ratio_72 : decode cX9_ratio 72 = .ok (.i2d, 1) := dk_135 (dk_at dksX9_ratio_3 0 rfl rfl)
theorem dX9_ratio_73 : decode cX9_ratio 73 = .ok (.ddiv, 1) := dk_111 (dk_at dksX9_ratio_3 1 rfl rfl)
theorem dX9_ratio_74 : decode cX9_ratio 74 = .ok (.dastore, 1) := dk_82 (dk_at dksX9_ratio_3 2 rfl rfl)
theorem dX9_ratio_75 : decode cX9_ratio 75 = .ok (.aload_n 0, 1) := dk_42 (dk_at dksX9_ratio_3 3 rfl rfl)
theorem dX9_ratio_76 : decode cX9_ratio 76 = .ok (.getfield 131, 3) := dk_180 0 131 (dk_at dksX9_ratio_3 4 rfl rfl)
theorem dX9_ratio_79 : decode cX9_ratio 79 = .ok (.bipush 30, 2) := dk_16 30 (dk_at dksX9_ratio_3 7 rfl rfl)
theorem dX9_ratio_81 : decode cX9_ratio 81 = .ok (.iload_n 1, 1) := dk_27 (dk_at dksX9_ratio_3 9 rfl rfl)
theorem dX9_ratio_82 : decode cX9_ratio 82 = .ok (.imul, 1) := dk_104 (dk_at dksX9_ratio_3 10 rfl rfl)
theorem dX9_ratio_83 : decode cX9_ratio 83 = .ok (.iload_n 2, 1) := dk_28 (dk_at dksX9_ratio_3 11 rfl rfl)
theorem dX9_ratio_84 : decode cX9_ratio 84 = .ok (.iadd, 1) := dk_96 (dk_at dksX9_ratio_3 12 rfl rfl)
theorem dX9_ratio_85 : decode cX9_ratio 85 = .ok (.iload_n 3, 1) := dk_29 (dk_at dksX9_ratio_3 13 rfl rfl)
theorem dX9_ratio_86 : decode cX9_ratio 86 = .ok (.i2l, 1) := dk_133 (dk_at dksX9_ratio_3 14 rfl rfl)
theorem dX9_ratio_87 : decode cX9_ratio 87 = .ok (.iload 4, 2) := dk_21 4 (dk_at dksX9_ratio_3 15 rfl rfl)
theorem dX9_ratio_89 : decode cX9_ratio 89 = .ok (.i2l, 1) := dk_133 (dk_at dksX9_ratio_3 17 rfl rfl)
theorem dX9_ratio_90 : decode cX9_ratio 90 = .ok (.ldiv, 1) := dk_109 (dk_at dksX9_ratio_3 18 rfl rfl)
theorem dX9_ratio_91 : decode cX9_ratio 91 = .ok (.lastore, 1) := dk_80 (dk_at dksX9_ratio_3 19 rfl rfl)
theorem dX9_ratio_92 : decode cX9_ratio 92 = .ok (.iconst 1, 1) := dk_4 (dk_at dksX9_ratio_3 20 rfl rfl)
theorem dX9_ratio_93 : decode cX9_ratio 93 = .ok (.ireturn, 1) := dk_172 (dk_at dksX9_ratio_3 21 rfl rfl)
abbrev cX9_isThere : ByteArray := prog_31_method_79_code
def yX9_isThere : MethodName := ⟨RX9, "isThere", "(II)Z"⟩
def dkwX9_isThere_0 : List UInt8 := [28, 133, 9, 42, 180, 0, 117, 27, 46, 4, 100, 133, 184, 0, 143, 172]
abbrev dktX9_isThere_0 : List UInt8 := dkwX9_isThere_0 ++ []
theorem dksX9_isThere_0 : cX9_isThere.data.toList.drop 0 = dktX9_isThere_0 := by decide +kernel
theorem dX9_isThere_0 : decode cX9_isThere 0 = .ok (.iload_n 2, 1) := dk_28 (dk_at dksX9_isThere_0 0 rfl rfl)
theorem dX9_isThere_1 : decode cX9_isThere 1 = .ok (.i2l, 1) := dk_133 (dk_at dksX9_isThere_0 1 rfl rfl)
theorem dX9_isThere_2 : decode cX9_isThere 2 = .ok (.lconst 0, 1) := dk_9 (dk_at dksX9_isThere_0 2 rfl rfl)
theorem dX9_isThere_3 : decode cX9_isThere 3 = .ok (.aload_n 0, 1) := dk_42 (dk_at dksX9_isThere_0 3 rfl rfl)
theorem dX9_isThere_4 : decode cX9_isThere 4 = .ok (.getfield 117, 3) := dk_180 0 117 (dk_at dksX9_isThere_0 4 rfl rfl)
theorem dX9_isThere_7 : decode cX9_isThere 7 = .ok (.iload_n 1, 1) := dk_27 (dk_at dksX9_isThere_0 7 rfl rfl)
theorem dX9_isThere_8 : decode cX9_isThere 8 = .ok (.iaload, 1) := dk_46 (dk_at dksX9_isThere_0 8 rfl rfl)
theorem dX9_isThere_9 : decode cX9_isThere 9 = .ok (.iconst 1, 1) := dk_4 (dk_at dksX9_isThere_0 9 rfl rfl)
theorem dX9_isThere_10 : decode cX9_isThere 10 = .ok (.isub, 1) := dk_100 (dk_at dksX9_isThere_0 10 rfl rfl)
theorem dX9_isThere_11 : decode cX9_isThere 11 = .ok (.i2l, 1) := dk_133 (dk_at dksX9_isThere_0 11 rfl rfl)
theorem dX9_isThere_12 : decode cX9_isThere 12 = .ok (.invokestatic 143, 3) := dk_184 0 143 (dk_at dksX9_isThere_0 12 rfl rfl)
theorem dX9_isThere_15 : decode cX9_isThere 15 = .ok (.ireturn, 1) := dk_172 (dk_at dksX9_isThere_0 15 rfl rfl)
abbrev cX9_cut : ByteArray := prog_31_method_81_code
def yX9_cut : MethodName := ⟨RX9, "cut", "(III)J"⟩
def dkwX9_cut_6 : List UInt8 := [47, 173]
abbrev dktX9_cut_6 : List UInt8 := dkwX9_cut_6 ++ []
def dkwX9_cut_5 : List UInt8 := [143, 173, 29, 154, 0, 15, 42, 180, 0, 131, 21, 4, 47, 136, 133, 167, 0, 10, 42, 180, 0, 131, 21, 4]
abbrev dktX9_cut_5 : List UInt8 := dkwX9_cut_5 ++ dktX9_cut_6
def dkwX9_cut_4 : List UInt8 := [173, 29, 154, 0, 15, 42, 180, 0, 127, 21, 4, 49, 142, 133, 167, 0, 11, 42, 180, 0, 127, 21, 4, 49]
abbrev dktX9_cut_4 : List UInt8 := dkwX9_cut_4 ++ dktX9_cut_5
def dkwX9_cut_3 : List UInt8 := [29, 154, 0, 15, 42, 180, 0, 123, 21, 4, 48, 139, 133, 167, 0, 11, 42, 180, 0, 123, 21, 4, 48, 140]
abbrev dktX9_cut_3 : List UInt8 := dkwX9_cut_3 ++ dktX9_cut_4
def dkwX9_cut_2 : List UInt8 := [171, 0, 0, 0, 0, 0, 0, 78, 0, 0, 0, 2, 0, 0, 0, 0, 0, 0, 0, 28, 0, 0, 0, 1, 0, 0, 0, 53]
abbrev dktX9_cut_2 : List UInt8 := dkwX9_cut_2 ++ dktX9_cut_3
def dkwX9_cut_1 : List UInt8 := [154, 0, 7, 20, 0, 153, 173, 16, 30, 27, 104, 28, 96, 54, 4, 42, 180, 0, 120, 27, 46]
abbrev dktX9_cut_1 : List UInt8 := dkwX9_cut_1 ++ dktX9_cut_2
def dkwX9_cut_0 : List UInt8 := [27, 184, 1, 164, 153, 0, 22, 29, 133, 9, 10, 184, 0, 143, 153, 0, 12, 42, 27, 28, 182, 1, 169]
abbrev dktX9_cut_0 : List UInt8 := dkwX9_cut_0 ++ dktX9_cut_1
theorem dksX9_cut_0 : cX9_cut.data.toList.drop 0 = dktX9_cut_0 := by decide +kernel
theorem dksX9_cut_1 : cX9_cut.data.toList.drop 23 = dktX9_cut_1 := dk_seg dksX9_cut_0 23 rfl rfl
theorem dksX9_cut_2 : cX9_cut.data.toList.drop 44 = dktX9_cut_2 := dk_seg dksX9_cut_1 21 rfl rfl
theorem dksX9_cut_3 : cX9_cut.data.toList.drop 72 = dktX9_cut_3 := dk_seg dksX9_cut_2 28 rfl rfl
theorem dksX9_cut_4 : cX9_cut.data.toList.drop 96 = dktX9_cut_4 := dk_seg dksX9_cut_3 24 rfl rfl
theorem dksX9_cut_5 : cX9_cut.data.toList.drop 120 = dktX9_cut_5 := dk_seg dksX9_cut_4 24 rfl rfl
theorem dksX9_cut_6 : cX9_cut.data.toList.drop 144 = dktX9_cut_6 := dk_seg dksX9_cut_5 24 rfl rfl
theorem dX9_cut_0 : decode cX9_cut 0 = .ok (.iload_n 1, 1) := dk_27 (dk_at dksX9_cut_0 0 rfl rfl)
theorem dX9_cut_1 : decode cX9_cut 1 = .ok (.invokestatic 420, 3) := dk_184 1 164 (dk_at dksX9_cut_0 1 rfl rfl)
theorem dX9_cut_4 : decode cX9_cut 4 = .ok (.ifCond .eq 22, 3) := dk_153 0 22 (dk_at dksX9_cut_0 4 rfl rfl)
theorem dX9_cut_7 : decode cX9_cut 7 = .ok (.iload_n 3, 1) := dk_29 (dk_at dksX9_cut_0 7 rfl rfl)
theorem dX9_cut_8 : decode cX9_cut 8 = .ok (.i2l, 1) := dk_133 (dk_at dksX9_cut_0 8 rfl rfl)
theorem dX9_cut_9 : decode cX9_cut 9 = .ok (.lconst 0, 1) := dk_9 (dk_at dksX9_cut_0 9 rfl rfl)
theorem dX9_cut_10 : decode cX9_cut 10 = .ok (.lconst 1, 1) := dk_10 (dk_at dksX9_cut_0 10 rfl rfl)
theorem dX9_cut_11 : decode cX9_cut 11 = .ok (.invokestatic 143, 3) := dk_184 0 143 (dk_at dksX9_cut_0 11 rfl rfl)
theorem dX9_cut_14 : decode cX9_cut 14 = .ok (.ifCond .eq 12, 3) := dk_153 0 12 (dk_at dksX9_cut_0 14 rfl rfl)
theorem dX9_cut_17 : decode cX9_cut 17 = .ok (.aload_n 0, 1) := dk_42 (dk_at dksX9_cut_0 17 rfl rfl)
theorem dX9_cut_18 : decode cX9_cut 18 = .ok (.iload_n 1, 1) := dk_27 (dk_at dksX9_cut_0 18 rfl rfl)
theorem dX9_cut_19 : decode cX9_cut 19 = .ok (.iload_n 2, 1) := dk_28 (dk_at dksX9_cut_0 19 rfl rfl)
theorem dX9_cut_20 : decode cX9_cut 20 = .ok (.invokevirtual 425, 3) := dk_182 1 169 (dk_at dksX9_cut_0 20 rfl rfl)
theorem dX9_cut_23 : decode cX9_cut 23 = .ok (.ifCond .ne 7, 3) := dk_154 0 7 (dk_at dksX9_cut_1 0 rfl rfl)
theorem dX9_cut_26 : decode cX9_cut 26 = .ok (.ldc2_w 153, 3) := dk_20 0 153 (dk_at dksX9_cut_1 3 rfl rfl)
theorem dX9_cut_29 : decode cX9_cut 29 = .ok (.lreturn, 1) := dk_173 (dk_at dksX9_cut_1 6 rfl rfl)
theorem dX9_cut_30 : decode cX9_cut 30 = .ok (.bipush 30, 2) := dk_16 30 (dk_at dksX9_cut_1 7 rfl rfl)
theorem dX9_cut_32 : decode cX9_cut 32 = .ok (.iload_n 1, 1) := dk_27 (dk_at dksX9_cut_1 9 rfl rfl)
theorem dX9_cut_33 : decode cX9_cut 33 = .ok (.imul, 1) := dk_104 (dk_at dksX9_cut_1 10 rfl rfl)
theorem dX9_cut_34 : decode cX9_cut 34 = .ok (.iload_n 2, 1) := dk_28 (dk_at dksX9_cut_1 11 rfl rfl)
theorem dX9_cut_35 : decode cX9_cut 35 = .ok (.iadd, 1) := dk_96 (dk_at dksX9_cut_1 12 rfl rfl)
theorem dX9_cut_36 : decode cX9_cut 36 = .ok (.istore 4, 2) := dk_54 4 (dk_at dksX9_cut_1 13 rfl rfl)
theorem dX9_cut_38 : decode cX9_cut 38 = .ok (.aload_n 0, 1) := dk_42 (dk_at dksX9_cut_1 15 rfl rfl)
theorem dX9_cut_39 : decode cX9_cut 39 = .ok (.getfield 120, 3) := dk_180 0 120 (dk_at dksX9_cut_1 16 rfl rfl)
theorem dX9_cut_42 : decode cX9_cut 42 = .ok (.iload_n 1, 1) := dk_27 (dk_at dksX9_cut_1 19 rfl rfl)
theorem dX9_cut_43 : decode cX9_cut 43 = .ok (.iaload, 1) := dk_46 (dk_at dksX9_cut_1 20 rfl rfl)
theorem dX9_cut_44 : decode cX9_cut 44 = .ok (.lookupswitch 78 #[(0, 28), (1, 53)], 28) := by decide +kernel
theorem dX9_cut_72 : decode cX9_cut 72 = .ok (.iload_n 3, 1) := dk_29 (dk_at dksX9_cut_3 0 rfl rfl)
theorem dX9_cut_73 : decode cX9_cut 73 = .ok (.ifCond .ne 15, 3) := dk_154 0 15 (dk_at dksX9_cut_3 1 rfl rfl)
theorem dX9_cut_76 : decode cX9_cut 76 = .ok (.aload_n 0, 1) := dk_42 (dk_at dksX9_cut_3 4 rfl rfl)
theorem dX9_cut_77 : decode cX9_cut 77 = .ok (.getfield 123, 3) := dk_180 0 123 (dk_at dksX9_cut_3 5 rfl rfl)
theorem dX9_cut_80 : decode cX9_cut 80 = .ok (.iload 4, 2) := dk_21 4 (dk_at dksX9_cut_3 8 rfl rfl)
theorem dX9_cut_82 : decode cX9_cut 82 = .ok (.faload, 1) := dk_48 (dk_at dksX9_cut_3 10 rfl rfl)
theorem dX9_cut_83 : decode cX9_cut 83 = .ok (.f2i, 1) := dk_139 (dk_at dksX9_cut_3 11 rfl rfl)
theorem dX9_cut_84 : decode cX9_cut 84 = .ok (.i2l, 1) := dk_133 (dk_at dksX9_cut_3 12 rfl rfl)
theorem dX9_cut_85 : decode cX9_cut 85 = .ok (.goto 11, 3) := dk_167 0 11 (dk_at dksX9_cut_3 13 rfl rfl)
theorem dX9_cut_88 : decode cX9_cut 88 = .ok (.aload_n 0, 1) := dk_42 (dk_at dksX9_cut_3 16 rfl rfl)
theorem dX9_cut_89 : decode cX9_cut 89 = .ok (.getfield 123, 3) := dk_180 0 123 (dk_at dksX9_cut_3 17 rfl rfl)
theorem dX9_cut_92 : decode cX9_cut 92 = .ok (.iload 4, 2) := dk_21 4 (dk_at dksX9_cut_3 20 rfl rfl)
theorem dX9_cut_94 : decode cX9_cut 94 = .ok (.faload, 1) := dk_48 (dk_at dksX9_cut_3 22 rfl rfl)
theorem dX9_cut_95 : decode cX9_cut 95 = .ok (.f2l, 1) := dk_140 (dk_at dksX9_cut_3 23 rfl rfl)
theorem dX9_cut_96 : decode cX9_cut 96 = .ok (.lreturn, 1) := dk_173 (dk_at dksX9_cut_4 0 rfl rfl)
theorem dX9_cut_97 : decode cX9_cut 97 = .ok (.iload_n 3, 1) := dk_29 (dk_at dksX9_cut_4 1 rfl rfl)
theorem dX9_cut_98 : decode cX9_cut 98 = .ok (.ifCond .ne 15, 3) := dk_154 0 15 (dk_at dksX9_cut_4 2 rfl rfl)
theorem dX9_cut_101 : decode cX9_cut 101 = .ok (.aload_n 0, 1) := dk_42 (dk_at dksX9_cut_4 5 rfl rfl)
theorem dX9_cut_102 : decode cX9_cut 102 = .ok (.getfield 127, 3) := dk_180 0 127 (dk_at dksX9_cut_4 6 rfl rfl)
theorem dX9_cut_105 : decode cX9_cut 105 = .ok (.iload 4, 2) := dk_21 4 (dk_at dksX9_cut_4 9 rfl rfl)
theorem dX9_cut_107 : decode cX9_cut 107 = .ok (.daload, 1) := dk_49 (dk_at dksX9_cut_4 11 rfl rfl)
theorem dX9_cut_108 : decode cX9_cut 108 = .ok (.d2i, 1) := dk_142 (dk_at dksX9_cut_4 12 rfl rfl)
theorem dX9_cut_109 : decode cX9_cut 109 = .ok (.i2l, 1) := dk_133 (dk_at dksX9_cut_4 13 rfl rfl)
theorem dX9_cut_110 : decode cX9_cut 110 = .ok (.goto 11, 3) := dk_167 0 11 (dk_at dksX9_cut_4 14 rfl rfl)
theorem dX9_cut_113 : decode cX9_cut 113 = .ok (.aload_n 0, 1) := dk_42 (dk_at dksX9_cut_4 17 rfl rfl)
theorem dX9_cut_114 : decode cX9_cut 114 = .ok (.getfield 127, 3) := dk_180 0 127 (dk_at dksX9_cut_4 18 rfl rfl)
theorem dX9_cut_117 : decode cX9_cut 117 = .ok (.iload 4, 2) := dk_21 4 (dk_at dksX9_cut_4 21 rfl rfl)
theorem dX9_cut_119 : decode cX9_cut 119 = .ok (.daload, 1) := dk_49 (dk_at dksX9_cut_4 23 rfl rfl)
theorem dX9_cut_120 : decode cX9_cut 120 = .ok (.d2l, 1) := dk_143 (dk_at dksX9_cut_5 0 rfl rfl)
theorem dX9_cut_121 : decode cX9_cut 121 = .ok (.lreturn, 1) := dk_173 (dk_at dksX9_cut_5 1 rfl rfl)
theorem dX9_cut_122 : decode cX9_cut 122 = .ok (.iload_n 3, 1) := dk_29 (dk_at dksX9_cut_5 2 rfl rfl)
theorem dX9_cut_123 : decode cX9_cut 123 = .ok (.ifCond .ne 15, 3) := dk_154 0 15 (dk_at dksX9_cut_5 3 rfl rfl)
theorem dX9_cut_126 : decode cX9_cut 126 = .ok (.aload_n 0, 1) := dk_42 (dk_at dksX9_cut_5 6 rfl rfl)
theorem dX9_cut_127 : decode cX9_cut 127 = .ok (.getfield 131, 3) := dk_180 0 131 (dk_at dksX9_cut_5 7 rfl rfl)
theorem dX9_cut_130 : decode cX9_cut 130 = .ok (.iload 4, 2) := dk_21 4 (dk_at dksX9_cut_5 10 rfl rfl)
theorem dX9_cut_132 : decode cX9_cut 132 = .ok (.laload, 1) := dk_47 (dk_at dksX9_cut_5 12 rfl rfl)
theorem dX9_cut_133 : decode cX9_cut 133 = .ok (.l2i, 1) := dk_136 (dk_at dksX9_cut_5 13 rfl rfl)
theorem dX9_cut_134 : decode cX9_cut 134 = .ok (.i2l, 1) := dk_133 (dk_at dksX9_cut_5 14 rfl rfl)
theorem dX9_cut_135 : decode cX9_cut 135 = .ok (.goto 10, 3) := dk_167 0 10 (dk_at dksX9_cut_5 15 rfl rfl)
theorem dX9_cut_138 : decode cX9_cut 138 = .ok (.aload_n 0, 1) := dk_42 (dk_at dksX9_cut_5 18 rfl rfl)
theorem dX9_cut_139 : decode cX9_cut 139 = .ok (.getfield 131, 3) := dk_180 0 131 (dk_at dksX9_cut_5 19 rfl rfl)
theorem dX9_cut_142 : decode cX9_cut 142 = .ok (.iload 4, 2) := dk_21 4 (dk_at dksX9_cut_5 22 rfl rfl)
theorem dX9_cut_144 : decode cX9_cut 144 = .ok (.laload, 1) := dk_47 (dk_at dksX9_cut_6 0 rfl rfl)
theorem dX9_cut_145 : decode cX9_cut 145 = .ok (.lreturn, 1) := dk_173 (dk_at dksX9_cut_6 1 rfl rfl)
abbrev cX9_remains : ByteArray := prog_31_method_82_code
def yX9_remains : MethodName := ⟨RX9, "remains", "(III)J"⟩
def dkwX9_remains_8 : List UInt8 := [42, 180, 0, 131, 21, 4, 47, 42, 180, 0, 131, 21, 5, 47, 113, 173]
abbrev dktX9_remains_8 : List UInt8 := dkwX9_remains_8 ++ []
def dkwX9_remains_7 : List UInt8 := [20, 1, 173, 107, 143, 173, 42, 180, 0, 131, 21, 5, 47, 9, 148, 154, 0, 9, 20, 0, 153, 167, 0, 18]
abbrev dktX9_remains_7 : List UInt8 := dkwX9_remains_7 ++ dktX9_remains_8
def dkwX9_remains_6 : List UInt8 := [154, 0, 9, 20, 0, 153, 167, 0, 23, 42, 180, 0, 127, 21, 4, 49, 42, 180, 0, 127, 21, 5, 49, 115]
abbrev dktX9_remains_6 : List UInt8 := dkwX9_remains_6 ++ dktX9_remains_7
def dkwX9_remains_5 : List UInt8 := [48, 42, 180, 0, 123, 21, 5, 48, 114, 19, 1, 172, 106, 140, 173, 42, 180, 0, 127, 21, 5, 49, 14, 151]
abbrev dktX9_remains_5 : List UInt8 := dkwX9_remains_5 ++ dktX9_remains_6
def dkwX9_remains_4 : List UInt8 := [42, 180, 0, 123, 21, 5, 48, 11, 149, 154, 0, 9, 20, 0, 153, 167, 0, 23, 42, 180, 0, 123, 21, 4]
abbrev dktX9_remains_4 : List UInt8 := dkwX9_remains_4 ++ dktX9_remains_5
def dkwX9_remains_3 : List UInt8 := [171, 0, 0, 0, 103, 0, 0, 0, 2, 0, 0, 0, 0, 0, 0, 0, 25, 0, 0, 0, 1, 0, 0, 0, 64]
abbrev dktX9_remains_3 : List UInt8 := dkwX9_remains_3 ++ dktX9_remains_4
def dkwX9_remains_2 : List UInt8 := [180, 0, 120, 27, 46]
abbrev dktX9_remains_2 : List UInt8 := dkwX9_remains_2 ++ dktX9_remains_3
def dkwX9_remains_1 : List UInt8 := [154, 0, 7, 20, 0, 153, 173, 16, 30, 27, 104, 28, 96, 54, 4, 16, 30, 27, 104, 29, 96, 54, 5, 42]
abbrev dktX9_remains_1 : List UInt8 := dkwX9_remains_1 ++ dktX9_remains_2
def dkwX9_remains_0 : List UInt8 := [27, 184, 1, 164, 153, 0, 21, 42, 27, 28, 182, 1, 169, 153, 0, 12, 42, 27, 29, 182, 1, 169]
abbrev dktX9_remains_0 : List UInt8 := dkwX9_remains_0 ++ dktX9_remains_1
theorem dksX9_remains_0 : cX9_remains.data.toList.drop 0 = dktX9_remains_0 := by decide +kernel
theorem dksX9_remains_1 : cX9_remains.data.toList.drop 22 = dktX9_remains_1 := dk_seg dksX9_remains_0 22 rfl rfl
theorem dksX9_remains_2 : cX9_remains.data.toList.drop 46 = dktX9_remains_2 := dk_seg dksX9_remains_1 24 rfl rfl
theorem dksX9_remains_3 : cX9_remains.data.toList.drop 51 = dktX9_remains_3 := dk_seg dksX9_remains_2 5 rfl rfl
theorem dksX9_remains_4 : cX9_remains.data.toList.drop 76 = dktX9_remains_4 := dk_seg dksX9_remains_3 25 rfl rfl
theorem dksX9_remains_5 : cX9_remains.data.toList.drop 100 = dktX9_remains_5 := dk_seg dksX9_remains_4 24 rfl rfl
theorem dksX9_remains_6 : cX9_remains.data.toList.drop 124 = dktX9_remains_6 := dk_seg dksX9_remains_5 24 rfl rfl
theorem dksX9_remains_7 : cX9_remains.data.toList.drop 148 = dktX9_remains_7 := dk_seg dksX9_remains_6 24 rfl rfl
theorem dksX9_remains_8 : cX9_remains.data.toList.drop 172 = dktX9_remains_8 := dk_seg dksX9_remains_7 24 rfl rfl
theorem dX9_remains_0 : decode cX9_remains 0 = .ok (.iload_n 1, 1) := dk_27 (dk_at dksX9_remains_0 0 rfl rfl)
theorem dX9_remains_1 : decode cX9_remains 1 = .ok (.invokestatic 420, 3) := dk_184 1 164 (dk_at dksX9_remains_0 1 rfl rfl)
theorem dX9_remains_4 : decode cX9_remains 4 = .ok (.ifCond .eq 21, 3) := dk_153 0 21 (dk_at dksX9_remains_0 4 rfl rfl)
theorem dX9_remains_7 : decode cX9_remains 7 = .ok (.aload_n 0, 1) := dk_42 (dk_at dksX9_remains_0 7 rfl rfl)
theorem dX9_remains_8 : decode cX9_remains 8 = .ok (.iload_n 1, 1) := dk_27 (dk_at dksX9_remains_0 8 rfl rfl)
theorem dX9_remains_9 : decode cX9_remains 9 = .ok (.iload_n 2, 1) := dk_28 (dk_at dksX9_remains_0 9 rfl rfl)
theorem dX9_remains_10 : decode cX9_remains 10 = .ok (.invokevirtual 425, 3) := dk_182 1 169 (dk_at dksX9_remains_0 10 rfl rfl)
theorem dX9_remains_13 : decode cX9_remains 13 = .ok (.ifCond .eq 12, 3) := dk_153 0 12 (dk_at dksX9_remains_0 13 rfl rfl)
theorem dX9_remains_16 : decode cX9_remains 16 = .ok (.aload_n 0, 1) := dk_42 (dk_at dksX9_remains_0 16 rfl rfl)
theorem dX9_remains_17 : decode cX9_remains 17 = .ok (.iload_n 1, 1) := dk_27 (dk_at dksX9_remains_0 17 rfl rfl)
theorem dX9_remains_18 : decode cX9_remains 18 = .ok (.iload_n 3, 1) := dk_29 (dk_at dksX9_remains_0 18 rfl rfl)
theorem dX9_remains_19 : decode cX9_remains 19 = .ok (.invokevirtual 425, 3) := dk_182 1 169 (dk_at dksX9_remains_0 19 rfl rfl)
theorem dX9_remains_22 : decode cX9_remains 22 = .ok (.ifCond .ne 7, 3) := dk_154 0 7 (dk_at dksX9_remains_1 0 rfl rfl)
theorem dX9_remains_25 : decode cX9_remains 25 = .ok (.ldc2_w 153, 3) := dk_20 0 153 (dk_at dksX9_remains_1 3 rfl rfl)
theorem dX9_remains_28 : decode cX9_remains 28 = .ok (.lreturn, 1) := dk_173 (dk_at dksX9_remains_1 6 rfl rfl)
theorem dX9_remains_29 : decode cX9_remains 29 = .ok (.bipush 30, 2) := dk_16 30 (dk_at dksX9_remains_1 7 rfl rfl)
theorem dX9_remains_31 : decode cX9_remains 31 = .ok (.iload_n 1, 1) := dk_27 (dk_at dksX9_remains_1 9 rfl rfl)
theorem dX9_remains_32 : decode cX9_remains 32 = .ok (.imul, 1) := dk_104 (dk_at dksX9_remains_1 10 rfl rfl)
theorem dX9_remains_33 : decode cX9_remains 33 = .ok (.iload_n 2, 1) := dk_28 (dk_at dksX9_remains_1 11 rfl rfl)
theorem dX9_remains_34 : decode cX9_remains 34 = .ok (.iadd, 1) := dk_96 (dk_at dksX9_remains_1 12 rfl rfl)
theorem dX9_remains_35 : decode cX9_remains 35 = .ok (.istore 4, 2) := dk_54 4 (dk_at dksX9_remains_1 13 rfl rfl)
theorem dX9_remains_37 : decode cX9_remains 37 = .ok (.bipush 30, 2) := dk_16 30 (dk_at dksX9_remains_1 15 rfl rfl)
theorem dX9_remains_39 : decode cX9_remains 39 = .ok (.iload_n 1, 1) := dk_27 (dk_at dksX9_remains_1 17 rfl rfl)
theorem dX9_remains_40 : decode cX9_remains 40 = .ok (.imul, 1) := dk_104 (dk_at dksX9_remains_1 18 rfl rfl)
theorem dX9_remains_41 : decode cX9_remains 41 = .ok (.iload_n 3, 1) := dk_29 (dk_at dksX9_remains_1 19 rfl rfl)
theorem dX9_remains_42 : decode cX9_remains 42 = .ok (.iadd, 1) := dk_96 (dk_at dksX9_remains_1 20 rfl rfl)
theorem dX9_remains_43 : decode cX9_remains 43 = .ok (.istore 5, 2) := dk_54 5 (dk_at dksX9_remains_1 21 rfl rfl)
theorem dX9_remains_45 : decode cX9_remains 45 = .ok (.aload_n 0, 1) := dk_42 (dk_at dksX9_remains_1 23 rfl rfl)
theorem dX9_remains_46 : decode cX9_remains 46 = .ok (.getfield 120, 3) := dk_180 0 120 (dk_at dksX9_remains_2 0 rfl rfl)
theorem dX9_remains_49 : decode cX9_remains 49 = .ok (.iload_n 1, 1) := dk_27 (dk_at dksX9_remains_2 3 rfl rfl)
theorem dX9_remains_50 : decode cX9_remains 50 = .ok (.iaload, 1) := dk_46 (dk_at dksX9_remains_2 4 rfl rfl)
theorem dX9_remains_51 : decode cX9_remains 51 = .ok (.lookupswitch 103 #[(0, 25), (1, 64)], 25) := by decide +kernel
theorem dX9_remains_76 : decode cX9_remains 76 = .ok (.aload_n 0, 1) := dk_42 (dk_at dksX9_remains_4 0 rfl rfl)
theorem dX9_remains_77 : decode cX9_remains 77 = .ok (.getfield 123, 3) := dk_180 0 123 (dk_at dksX9_remains_4 1 rfl rfl)
theorem dX9_remains_80 : decode cX9_remains 80 = .ok (.iload 5, 2) := dk_21 5 (dk_at dksX9_remains_4 4 rfl rfl)
theorem dX9_remains_82 : decode cX9_remains 82 = .ok (.faload, 1) := dk_48 (dk_at dksX9_remains_4 6 rfl rfl)
theorem dX9_remains_83 : decode cX9_remains 83 = .ok (.fconst 0, 1) := dk_11 (dk_at dksX9_remains_4 7 rfl rfl)
theorem dX9_remains_84 : decode cX9_remains 84 = .ok (.fcmp .l, 1) := dk_149 (dk_at dksX9_remains_4 8 rfl rfl)
theorem dX9_remains_85 : decode cX9_remains 85 = .ok (.ifCond .ne 9, 3) := dk_154 0 9 (dk_at dksX9_remains_4 9 rfl rfl)
theorem dX9_remains_88 : decode cX9_remains 88 = .ok (.ldc2_w 153, 3) := dk_20 0 153 (dk_at dksX9_remains_4 12 rfl rfl)
theorem dX9_remains_91 : decode cX9_remains 91 = .ok (.goto 23, 3) := dk_167 0 23 (dk_at dksX9_remains_4 15 rfl rfl)
theorem dX9_remains_94 : decode cX9_remains 94 = .ok (.aload_n 0, 1) := dk_42 (dk_at dksX9_remains_4 18 rfl rfl)
theorem dX9_remains_95 : decode cX9_remains 95 = .ok (.getfield 123, 3) := dk_180 0 123 (dk_at dksX9_remains_4 19 rfl rfl)
theorem dX9_remains_98 : decode cX9_remains 98 = .ok (.iload 4, 2) := dk_21 4 (dk_at dksX9_remains_4 22 rfl rfl)
theorem dX9_remains_100 : decode cX9_remains 100 = .ok (.faload, 1) := dk_48 (dk_at dksX9_remains_5 0 rfl rfl)
theorem dX9_remains_101 : decode cX9_remains 101 = .ok (.aload_n 0, 1) := dk_42 (dk_at dksX9_remains_5 1 rfl rfl)
theorem dX9_remains_102 : decode cX9_remains 102 = .ok (.getfield 123, 3) := dk_180 0 123 (dk_at dksX9_remains_5 2 rfl rfl)
theorem dX9_remains_105 : decode cX9_remains 105 = .ok (.iload 5, 2) := dk_21 5 (dk_at dksX9_remains_5 5 rfl rfl)
theorem dX9_remains_107 : decode cX9_remains 107 = .ok (.faload, 1) := dk_48 (dk_at dksX9_remains_5 7 rfl rfl)
theorem dX9_remains_108 : decode cX9_remains 108 = .ok (.frem, 1) := dk_114 (dk_at dksX9_remains_5 8 rfl rfl)
theorem dX9_remains_109 : decode cX9_remains 109 = .ok (.ldc_w 428, 3) := dk_19 1 172 (dk_at dksX9_remains_5 9 rfl rfl)
theorem dX9_remains_112 : decode cX9_remains 112 = .ok (.fmul, 1) := dk_106 (dk_at dksX9_remains_5 12 rfl rfl)
theorem dX9_remains_113 : decode cX9_remains 113 = .ok (.f2l, 1) := dk_140 (dk_at dksX9_remains_5 13 rfl rfl)
theorem dX9_remains_114 : decode cX9_remains 114 = .ok (.lreturn, 1) := dk_173 (dk_at dksX9_remains_5 14 rfl rfl)
theorem dX9_remains_115 : decode cX9_remains 115 = .ok (.aload_n 0, 1) := dk_42 (dk_at dksX9_remains_5 15 rfl rfl)
theorem dX9_remains_116 : decode cX9_remains 116 = .ok (.getfield 127, 3) := dk_180 0 127 (dk_at dksX9_remains_5 16 rfl rfl)
theorem dX9_remains_119 : decode cX9_remains 119 = .ok (.iload 5, 2) := dk_21 5 (dk_at dksX9_remains_5 19 rfl rfl)
theorem dX9_remains_121 : decode cX9_remains 121 = .ok (.daload, 1) := dk_49 (dk_at dksX9_remains_5 21 rfl rfl)
theorem dX9_remains_122 : decode cX9_remains 122 = .ok (.dconst 0, 1) := dk_14 (dk_at dksX9_remains_5 22 rfl rfl)
theorem dX9_remains_123 : decode cX9_remains 123 = .ok (.dcmp .l, 1) := dk_151 (dk_at dksX9_remains_5 23 rfl rfl)
theorem dX9_remains_124 : decode cX9_remains 124 = .ok (.ifCond .ne 9, 3) := dk_154 0 9 (dk_at dksX9_remains_6 0 rfl rfl)
theorem dX9_remains_127 : decode cX9_remains 127 = .ok (.ldc2_w 153, 3) := dk_20 0 153 (dk_at dksX9_remains_6 3 rfl rfl)
theorem dX9_remains_130 : decode cX9_remains 130 = .ok (.goto 23, 3) := dk_167 0 23 (dk_at dksX9_remains_6 6 rfl rfl)
theorem dX9_remains_133 : decode cX9_remains 133 = .ok (.aload_n 0, 1) := dk_42 (dk_at dksX9_remains_6 9 rfl rfl)
theorem dX9_remains_134 : decode cX9_remains 134 = .ok (.getfield 127, 3) := dk_180 0 127 (dk_at dksX9_remains_6 10 rfl rfl)
theorem dX9_remains_137 : decode cX9_remains 137 = .ok (.iload 4, 2) := dk_21 4 (dk_at dksX9_remains_6 13 rfl rfl)
theorem dX9_remains_139 : decode cX9_remains 139 = .ok (.daload, 1) := dk_49 (dk_at dksX9_remains_6 15 rfl rfl)
theorem dX9_remains_140 : decode cX9_remains 140 = .ok (.aload_n 0, 1) := dk_42 (dk_at dksX9_remains_6 16 rfl rfl)
theorem dX9_remains_141 : decode cX9_remains 141 = .ok (.getfield 127, 3) := dk_180 0 127 (dk_at dksX9_remains_6 17 rfl rfl)
theorem dX9_remains_144 : decode cX9_remains 144 = .ok (.iload 5, 2) := dk_21 5 (dk_at dksX9_remains_6 20 rfl rfl)
theorem dX9_remains_146 : decode cX9_remains 146 = .ok (.daload, 1) := dk_49 (dk_at dksX9_remains_6 22 rfl rfl)
theorem dX9_remains_147 : decode cX9_remains 147 = .ok (.drem, 1) := dk_115 (dk_at dksX9_remains_6 23 rfl rfl)
theorem dX9_remains_148 : decode cX9_remains 148 = .ok (.ldc2_w 429, 3) := dk_20 1 173 (dk_at dksX9_remains_7 0 rfl rfl)
theorem dX9_remains_151 : decode cX9_remains 151 = .ok (.dmul, 1) := dk_107 (dk_at dksX9_remains_7 3 rfl rfl)
theorem dX9_remains_152 : decode cX9_remains 152 = .ok (.d2l, 1) := dk_143 (dk_at dksX9_remains_7 4 rfl rfl)
theorem dX9_remains_153 : decode cX9_remains 153 = .ok (.lreturn, 1) := dk_173 (dk_at dksX9_remains_7 5 rfl rfl)
theorem dX9_remains_154 : decode cX9_remains 154 = .ok (.aload_n 0, 1) := dk_42 (dk_at dksX9_remains_7 6 rfl rfl)
theorem dX9_remains_155 : decode cX9_remains 155 = .ok (.getfield 131, 3) := dk_180 0 131 (dk_at dksX9_remains_7 7 rfl rfl)
theorem dX9_remains_158 : decode cX9_remains 158 = .ok (.iload 5, 2) := dk_21 5 (dk_at dksX9_remains_7 10 rfl rfl)
theorem dX9_remains_160 : decode cX9_remains 160 = .ok (.laload, 1) := dk_47 (dk_at dksX9_remains_7 12 rfl rfl)
theorem dX9_remains_161 : decode cX9_remains 161 = .ok (.lconst 0, 1) := dk_9 (dk_at dksX9_remains_7 13 rfl rfl)
theorem dX9_remains_162 : decode cX9_remains 162 = .ok (.lcmp, 1) := dk_148 (dk_at dksX9_remains_7 14 rfl rfl)
theorem dX9_remains_163 : decode cX9_remains 163 = .ok (.ifCond .ne 9, 3) := dk_154 0 9 (dk_at dksX9_remains_7 15 rfl rfl)
theorem dX9_remains_166 : decode cX9_remains 166 = .ok (.ldc2_w 153, 3) := dk_20 0 153 (dk_at dksX9_remains_7 18 rfl rfl)
theorem dX9_remains_169 : decode cX9_remains 169 = .ok (.goto 18, 3) := dk_167 0 18 (dk_at dksX9_remains_7 21 rfl rfl)
theorem dX9_remains_172 : decode cX9_remains 172 = .ok (.aload_n 0, 1) := dk_42 (dk_at dksX9_remains_8 0 rfl rfl)
theorem dX9_remains_173 : decode cX9_remains 173 = .ok (.getfield 131, 3) := dk_180 0 131 (dk_at dksX9_remains_8 1 rfl rfl)
theorem dX9_remains_176 : decode cX9_remains 176 = .ok (.iload 4, 2) := dk_21 4 (dk_at dksX9_remains_8 4 rfl rfl)
theorem dX9_remains_178 : decode cX9_remains 178 = .ok (.laload, 1) := dk_47 (dk_at dksX9_remains_8 6 rfl rfl)
theorem dX9_remains_179 : decode cX9_remains 179 = .ok (.aload_n 0, 1) := dk_42 (dk_at dksX9_remains_8 7 rfl rfl)
theorem dX9_remains_180 : decode cX9_remains 180 = .ok (.getfield 131, 3) := dk_180 0 131 (dk_at dksX9_remains_8 8 rfl rfl)
theorem dX9_remains_183 : decode cX9_remains 183 = .ok (.iload 5, 2) := dk_21 5 (dk_at dksX9_remains_8 11 rfl rfl)
theorem dX9_remains_185 : decode cX9_remains 185 = .ok (.laload, 1) := dk_47 (dk_at dksX9_remains_8 13 rfl rfl)
theorem dX9_remains_186 : decode cX9_remains 186 = .ok (.lrem, 1) := dk_113 (dk_at dksX9_remains_8 14 rfl rfl)
theorem dX9_remains_187 : decode cX9_remains 187 = .ok (.lreturn, 1) := dk_173 (dk_at dksX9_remains_8 15 rfl rfl)
abbrev cX9_take : ByteArray := prog_31_method_83_code
def yX9_take : MethodName := ⟨RX9, "take", "(IIII)I"⟩
def dkwX9_take_8 : List UInt8 := [172]
abbrev dktX9_take_8 : List UInt8 := dkwX9_take_8 ++ []
def dkwX9_take_7 : List UInt8 := [24, 8, 20, 1, 183, 152, 155, 0, 6, 16, 252, 172, 42, 27, 4, 24, 8, 142, 21, 4, 182, 1, 57, 4]
abbrev dktX9_take_7 : List UInt8 := dkwX9_take_7 ++ dktX9_take_8
def dkwX9_take_6 : List UInt8 := [24, 6, 21, 4, 184, 0, 137, 138, 107, 184, 1, 175, 57, 8, 24, 8, 20, 1, 181, 151, 158, 0, 12]
abbrev dktX9_take_6 : List UInt8 := dkwX9_take_6 ++ dktX9_take_7
def dkwX9_take_5 : List UInt8 := [154, 0, 14, 42, 180, 0, 123, 21, 5, 48, 141, 167, 0, 10, 42, 180, 0, 127, 21, 5, 49, 57, 6]
abbrev dktX9_take_5 : List UInt8 := dkwX9_take_5 ++ dktX9_take_6
def dkwX9_take_4 : List UInt8 := [16, 252, 172, 42, 27, 4, 22, 6, 136, 21, 4, 182, 1, 57, 4, 172, 42, 180, 0, 120, 28, 46]
abbrev dktX9_take_4 : List UInt8 := dkwX9_take_4 ++ dktX9_take_5
def dkwX9_take_3 : List UInt8 := [42, 180, 0, 131, 21, 5, 47, 21, 4, 184, 0, 137, 105, 55, 6, 22, 6, 184, 1, 63, 154, 0, 6]
abbrev dktX9_take_3 : List UInt8 := dkwX9_take_3 ++ dktX9_take_4
def dkwX9_take_2 : List UInt8 := [154, 0, 6, 16, 244, 172, 16, 30, 28, 104, 29, 96, 54, 5, 42, 180, 0, 120, 28, 46, 5, 160, 0, 42]
abbrev dktX9_take_2 : List UInt8 := dkwX9_take_2 ++ dktX9_take_3
def dkwX9_take_1 : List UInt8 := [154, 0, 5, 2, 172, 42, 180, 0, 117, 28, 46, 156, 0, 6, 16, 245, 172, 42, 28, 29, 182, 1, 169]
abbrev dktX9_take_1 : List UInt8 := dkwX9_take_1 ++ dktX9_take_2
def dkwX9_take_0 : List UInt8 := [27, 184, 1, 34, 153, 0, 23, 28, 184, 1, 164, 153, 0, 16, 21, 4, 133, 9, 20, 0, 141, 184, 0, 143]
abbrev dktX9_take_0 : List UInt8 := dkwX9_take_0 ++ dktX9_take_1
theorem dksX9_take_0 : cX9_take.data.toList.drop 0 = dktX9_take_0 := by decide +kernel
theorem dksX9_take_1 : cX9_take.data.toList.drop 24 = dktX9_take_1 := dk_seg dksX9_take_0 24 rfl rfl
theorem dksX9_take_2 : cX9_take.data.toList.drop 47 = dktX9_take_2 := dk_seg dksX9_take_1 23 rfl rfl
theorem dksX9_take_3 : cX9_take.data.toList.drop 71 = dktX9_take_3 := dk_seg dksX9_take_2 24 rfl rfl
theorem dksX9_take_4 : cX9_take.data.toList.drop 94 = dktX9_take_4 := dk_seg dksX9_take_3 23 rfl rfl
theorem dksX9_take_5 : cX9_take.data.toList.drop 116 = dktX9_take_5 := dk_seg dksX9_take_4 22 rfl rfl
theorem dksX9_take_6 : cX9_take.data.toList.drop 139 = dktX9_take_6 := dk_seg dksX9_take_5 23 rfl rfl
theorem dksX9_take_7 : cX9_take.data.toList.drop 162 = dktX9_take_7 := dk_seg dksX9_take_6 23 rfl rfl
theorem dksX9_take_8 : cX9_take.data.toList.drop 186 = dktX9_take_8 := dk_seg dksX9_take_7 24 rfl rfl
theorem dX9_take_0 : decode cX9_take 0 = .ok (.iload_n 1, 1) := dk_27 (dk_at dksX9_take_0 0 rfl rfl)
theorem dX9_take_1 : decode cX9_take 1 = .ok (.invokestatic 290, 3) := dk_184 1 34 (dk_at dksX9_take_0 1 rfl rfl)
theorem dX9_take_4 : decode cX9_take 4 = .ok (.ifCond .eq 23, 3) := dk_153 0 23 (dk_at dksX9_take_0 4 rfl rfl)
theorem dX9_take_7 : decode cX9_take 7 = .ok (.iload_n 2, 1) := dk_28 (dk_at dksX9_take_0 7 rfl rfl)
theorem dX9_take_8 : decode cX9_take 8 = .ok (.invokestatic 420, 3) := dk_184 1 164 (dk_at dksX9_take_0 8 rfl rfl)
theorem dX9_take_11 : decode cX9_take 11 = .ok (.ifCond .eq 16, 3) := dk_153 0 16 (dk_at dksX9_take_0 11 rfl rfl)
theorem dX9_take_14 : decode cX9_take 14 = .ok (.iload 4, 2) := dk_21 4 (dk_at dksX9_take_0 14 rfl rfl)
theorem dX9_take_16 : decode cX9_take 16 = .ok (.i2l, 1) := dk_133 (dk_at dksX9_take_0 16 rfl rfl)
theorem dX9_take_17 : decode cX9_take 17 = .ok (.lconst 0, 1) := dk_9 (dk_at dksX9_take_0 17 rfl rfl)
theorem dX9_take_18 : decode cX9_take 18 = .ok (.ldc2_w 141, 3) := dk_20 0 141 (dk_at dksX9_take_0 18 rfl rfl)
theorem dX9_take_21 : decode cX9_take 21 = .ok (.invokestatic 143, 3) := dk_184 0 143 (dk_at dksX9_take_0 21 rfl rfl)
theorem dX9_take_24 : decode cX9_take 24 = .ok (.ifCond .ne 5, 3) := dk_154 0 5 (dk_at dksX9_take_1 0 rfl rfl)
theorem dX9_take_27 : decode cX9_take 27 = .ok (.iconst (-1), 1) := dk_2 (dk_at dksX9_take_1 3 rfl rfl)
theorem dX9_take_28 : decode cX9_take 28 = .ok (.ireturn, 1) := dk_172 (dk_at dksX9_take_1 4 rfl rfl)
theorem dX9_take_29 : decode cX9_take 29 = .ok (.aload_n 0, 1) := dk_42 (dk_at dksX9_take_1 5 rfl rfl)
theorem dX9_take_30 : decode cX9_take 30 = .ok (.getfield 117, 3) := dk_180 0 117 (dk_at dksX9_take_1 6 rfl rfl)
theorem dX9_take_33 : decode cX9_take 33 = .ok (.iload_n 2, 1) := dk_28 (dk_at dksX9_take_1 9 rfl rfl)
theorem dX9_take_34 : decode cX9_take 34 = .ok (.iaload, 1) := dk_46 (dk_at dksX9_take_1 10 rfl rfl)
theorem dX9_take_35 : decode cX9_take 35 = .ok (.ifCond .ge 6, 3) := dk_156 0 6 (dk_at dksX9_take_1 11 rfl rfl)
theorem dX9_take_38 : decode cX9_take 38 = .ok (.bipush (-11), 2) := dk_16 245 (dk_at dksX9_take_1 14 rfl rfl)
theorem dX9_take_40 : decode cX9_take 40 = .ok (.ireturn, 1) := dk_172 (dk_at dksX9_take_1 16 rfl rfl)
theorem dX9_take_41 : decode cX9_take 41 = .ok (.aload_n 0, 1) := dk_42 (dk_at dksX9_take_1 17 rfl rfl)
theorem dX9_take_42 : decode cX9_take 42 = .ok (.iload_n 2, 1) := dk_28 (dk_at dksX9_take_1 18 rfl rfl)
theorem dX9_take_43 : decode cX9_take 43 = .ok (.iload_n 3, 1) := dk_29 (dk_at dksX9_take_1 19 rfl rfl)
theorem dX9_take_44 : decode cX9_take 44 = .ok (.invokevirtual 425, 3) := dk_182 1 169 (dk_at dksX9_take_1 20 rfl rfl)
theorem dX9_take_47 : decode cX9_take 47 = .ok (.ifCond .ne 6, 3) := dk_154 0 6 (dk_at dksX9_take_2 0 rfl rfl)
theorem dX9_take_50 : decode cX9_take 50 = .ok (.bipush (-12), 2) := dk_16 244 (dk_at dksX9_take_2 3 rfl rfl)
theorem dX9_take_52 : decode cX9_take 52 = .ok (.ireturn, 1) := dk_172 (dk_at dksX9_take_2 5 rfl rfl)
theorem dX9_take_53 : decode cX9_take 53 = .ok (.bipush 30, 2) := dk_16 30 (dk_at dksX9_take_2 6 rfl rfl)
theorem dX9_take_55 : decode cX9_take 55 = .ok (.iload_n 2, 1) := dk_28 (dk_at dksX9_take_2 8 rfl rfl)
theorem dX9_take_56 : decode cX9_take 56 = .ok (.imul, 1) := dk_104 (dk_at dksX9_take_2 9 rfl rfl)
theorem dX9_take_57 : decode cX9_take 57 = .ok (.iload_n 3, 1) := dk_29 (dk_at dksX9_take_2 10 rfl rfl)
theorem dX9_take_58 : decode cX9_take 58 = .ok (.iadd, 1) := dk_96 (dk_at dksX9_take_2 11 rfl rfl)
theorem dX9_take_59 : decode cX9_take 59 = .ok (.istore 5, 2) := dk_54 5 (dk_at dksX9_take_2 12 rfl rfl)
theorem dX9_take_61 : decode cX9_take 61 = .ok (.aload_n 0, 1) := dk_42 (dk_at dksX9_take_2 14 rfl rfl)
theorem dX9_take_62 : decode cX9_take 62 = .ok (.getfield 120, 3) := dk_180 0 120 (dk_at dksX9_take_2 15 rfl rfl)
theorem dX9_take_65 : decode cX9_take 65 = .ok (.iload_n 2, 1) := dk_28 (dk_at dksX9_take_2 18 rfl rfl)
theorem dX9_take_66 : decode cX9_take 66 = .ok (.iaload, 1) := dk_46 (dk_at dksX9_take_2 19 rfl rfl)
theorem dX9_take_67 : decode cX9_take 67 = .ok (.iconst 2, 1) := dk_5 (dk_at dksX9_take_2 20 rfl rfl)
theorem dX9_take_68 : decode cX9_take 68 = .ok (.if_icmp .ne 42, 3) := dk_160 0 42 (dk_at dksX9_take_2 21 rfl rfl)
theorem dX9_take_71 : decode cX9_take 71 = .ok (.aload_n 0, 1) := dk_42 (dk_at dksX9_take_3 0 rfl rfl)
theorem dX9_take_72 : decode cX9_take 72 = .ok (.getfield 131, 3) := dk_180 0 131 (dk_at dksX9_take_3 1 rfl rfl)
theorem dX9_take_75 : decode cX9_take 75 = .ok (.iload 5, 2) := dk_21 5 (dk_at dksX9_take_3 4 rfl rfl)
theorem dX9_take_77 : decode cX9_take 77 = .ok (.laload, 1) := dk_47 (dk_at dksX9_take_3 6 rfl rfl)
theorem dX9_take_78 : decode cX9_take 78 = .ok (.iload 4, 2) := dk_21 4 (dk_at dksX9_take_3 7 rfl rfl)
theorem dX9_take_80 : decode cX9_take 80 = .ok (.invokestatic 137, 3) := dk_184 0 137 (dk_at dksX9_take_3 9 rfl rfl)
theorem dX9_take_83 : decode cX9_take 83 = .ok (.lmul, 1) := dk_105 (dk_at dksX9_take_3 12 rfl rfl)
theorem dX9_take_84 : decode cX9_take 84 = .ok (.lstore 6, 2) := dk_55 6 (dk_at dksX9_take_3 13 rfl rfl)
theorem dX9_take_86 : decode cX9_take 86 = .ok (.lload 6, 2) := dk_22 6 (dk_at dksX9_take_3 15 rfl rfl)
theorem dX9_take_88 : decode cX9_take 88 = .ok (.invokestatic 319, 3) := dk_184 1 63 (dk_at dksX9_take_3 17 rfl rfl)
theorem dX9_take_91 : decode cX9_take 91 = .ok (.ifCond .ne 6, 3) := dk_154 0 6 (dk_at dksX9_take_3 20 rfl rfl)
theorem dX9_take_94 : decode cX9_take 94 = .ok (.bipush (-4), 2) := dk_16 252 (dk_at dksX9_take_4 0 rfl rfl)
theorem dX9_take_96 : decode cX9_take 96 = .ok (.ireturn, 1) := dk_172 (dk_at dksX9_take_4 2 rfl rfl)
theorem dX9_take_97 : decode cX9_take 97 = .ok (.aload_n 0, 1) := dk_42 (dk_at dksX9_take_4 3 rfl rfl)
theorem dX9_take_98 : decode cX9_take 98 = .ok (.iload_n 1, 1) := dk_27 (dk_at dksX9_take_4 4 rfl rfl)
theorem dX9_take_99 : decode cX9_take 99 = .ok (.iconst 1, 1) := dk_4 (dk_at dksX9_take_4 5 rfl rfl)
theorem dX9_take_100 : decode cX9_take 100 = .ok (.lload 6, 2) := dk_22 6 (dk_at dksX9_take_4 6 rfl rfl)
theorem dX9_take_102 : decode cX9_take 102 = .ok (.l2i, 1) := dk_136 (dk_at dksX9_take_4 8 rfl rfl)
theorem dX9_take_103 : decode cX9_take 103 = .ok (.iload 4, 2) := dk_21 4 (dk_at dksX9_take_4 9 rfl rfl)
theorem dX9_take_105 : decode cX9_take 105 = .ok (.invokevirtual 313, 3) := dk_182 1 57 (dk_at dksX9_take_4 11 rfl rfl)
theorem dX9_take_108 : decode cX9_take 108 = .ok (.iconst 1, 1) := dk_4 (dk_at dksX9_take_4 14 rfl rfl)
theorem dX9_take_109 : decode cX9_take 109 = .ok (.ireturn, 1) := dk_172 (dk_at dksX9_take_4 15 rfl rfl)
theorem dX9_take_110 : decode cX9_take 110 = .ok (.aload_n 0, 1) := dk_42 (dk_at dksX9_take_4 16 rfl rfl)
theorem dX9_take_111 : decode cX9_take 111 = .ok (.getfield 120, 3) := dk_180 0 120 (dk_at dksX9_take_4 17 rfl rfl)
theorem dX9_take_114 : decode cX9_take 114 = .ok (.iload_n 2, 1) := dk_28 (dk_at dksX9_take_4 20 rfl rfl)
theorem dX9_take_115 : decode cX9_take 115 = .ok (.iaload, 1) := dk_46 (dk_at dksX9_take_4 21 rfl rfl)
theorem dX9_take_116 : decode cX9_take 116 = .ok (.ifCond .ne 14, 3) := dk_154 0 14 (dk_at dksX9_take_5 0 rfl rfl)
theorem dX9_take_119 : decode cX9_take 119 = .ok (.aload_n 0, 1) := dk_42 (dk_at dksX9_take_5 3 rfl rfl)
theorem dX9_take_120 : decode cX9_take 120 = .ok (.getfield 123, 3) := dk_180 0 123 (dk_at dksX9_take_5 4 rfl rfl)
theorem dX9_take_123 : decode cX9_take 123 = .ok (.iload 5, 2) := dk_21 5 (dk_at dksX9_take_5 7 rfl rfl)
theorem dX9_take_125 : decode cX9_take 125 = .ok (.faload, 1) := dk_48 (dk_at dksX9_take_5 9 rfl rfl)
theorem dX9_take_126 : decode cX9_take 126 = .ok (.f2d, 1) := dk_141 (dk_at dksX9_take_5 10 rfl rfl)
theorem dX9_take_127 : decode cX9_take 127 = .ok (.goto 10, 3) := dk_167 0 10 (dk_at dksX9_take_5 11 rfl rfl)
theorem dX9_take_130 : decode cX9_take 130 = .ok (.aload_n 0, 1) := dk_42 (dk_at dksX9_take_5 14 rfl rfl)
theorem dX9_take_131 : decode cX9_take 131 = .ok (.getfield 127, 3) := dk_180 0 127 (dk_at dksX9_take_5 15 rfl rfl)
theorem dX9_take_134 : decode cX9_take 134 = .ok (.iload 5, 2) := dk_21 5 (dk_at dksX9_take_5 18 rfl rfl)
theorem dX9_take_136 : decode cX9_take 136 = .ok (.daload, 1) := dk_49 (dk_at dksX9_take_5 20 rfl rfl)
theorem dX9_take_137 : decode cX9_take 137 = .ok (.dstore 6, 2) := dk_57 6 (dk_at dksX9_take_5 21 rfl rfl)
theorem dX9_take_139 : decode cX9_take 139 = .ok (.dload 6, 2) := dk_24 6 (dk_at dksX9_take_6 0 rfl rfl)
theorem dX9_take_141 : decode cX9_take 141 = .ok (.iload 4, 2) := dk_21 4 (dk_at dksX9_take_6 2 rfl rfl)
theorem dX9_take_143 : decode cX9_take 143 = .ok (.invokestatic 137, 3) := dk_184 0 137 (dk_at dksX9_take_6 4 rfl rfl)
theorem dX9_take_146 : decode cX9_take 146 = .ok (.l2d, 1) := dk_138 (dk_at dksX9_take_6 7 rfl rfl)
theorem dX9_take_147 : decode cX9_take 147 = .ok (.dmul, 1) := dk_107 (dk_at dksX9_take_6 8 rfl rfl)
theorem dX9_take_148 : decode cX9_take 148 = .ok (.invokestatic 431, 3) := dk_184 1 175 (dk_at dksX9_take_6 9 rfl rfl)
theorem dX9_take_151 : decode cX9_take 151 = .ok (.dstore 8, 2) := dk_57 8 (dk_at dksX9_take_6 12 rfl rfl)
theorem dX9_take_153 : decode cX9_take 153 = .ok (.dload 8, 2) := dk_24 8 (dk_at dksX9_take_6 14 rfl rfl)
theorem dX9_take_155 : decode cX9_take 155 = .ok (.ldc2_w 437, 3) := dk_20 1 181 (dk_at dksX9_take_6 16 rfl rfl)
theorem dX9_take_158 : decode cX9_take 158 = .ok (.dcmp .l, 1) := dk_151 (dk_at dksX9_take_6 19 rfl rfl)
theorem dX9_take_159 : decode cX9_take 159 = .ok (.ifCond .le 12, 3) := dk_158 0 12 (dk_at dksX9_take_6 20 rfl rfl)
theorem dX9_take_162 : decode cX9_take 162 = .ok (.dload 8, 2) := dk_24 8 (dk_at dksX9_take_7 0 rfl rfl)
theorem dX9_take_164 : decode cX9_take 164 = .ok (.ldc2_w 439, 3) := dk_20 1 183 (dk_at dksX9_take_7 2 rfl rfl)
theorem dX9_take_167 : decode cX9_take 167 = .ok (.dcmp .g, 1) := dk_152 (dk_at dksX9_take_7 5 rfl rfl)
theorem dX9_take_168 : decode cX9_take 168 = .ok (.ifCond .lt 6, 3) := dk_155 0 6 (dk_at dksX9_take_7 6 rfl rfl)
theorem dX9_take_171 : decode cX9_take 171 = .ok (.bipush (-4), 2) := dk_16 252 (dk_at dksX9_take_7 9 rfl rfl)
theorem dX9_take_173 : decode cX9_take 173 = .ok (.ireturn, 1) := dk_172 (dk_at dksX9_take_7 11 rfl rfl)
theorem dX9_take_174 : decode cX9_take 174 = .ok (.aload_n 0, 1) := dk_42 (dk_at dksX9_take_7 12 rfl rfl)
theorem dX9_take_175 : decode cX9_take 175 = .ok (.iload_n 1, 1) := dk_27 (dk_at dksX9_take_7 13 rfl rfl)
theorem dX9_take_176 : decode cX9_take 176 = .ok (.iconst 1, 1) := dk_4 (dk_at dksX9_take_7 14 rfl rfl)
theorem dX9_take_177 : decode cX9_take 177 = .ok (.dload 8, 2) := dk_24 8 (dk_at dksX9_take_7 15 rfl rfl)
theorem dX9_take_179 : decode cX9_take 179 = .ok (.d2i, 1) := dk_142 (dk_at dksX9_take_7 17 rfl rfl)
theorem dX9_take_180 : decode cX9_take 180 = .ok (.iload 4, 2) := dk_21 4 (dk_at dksX9_take_7 18 rfl rfl)
theorem dX9_take_182 : decode cX9_take 182 = .ok (.invokevirtual 313, 3) := dk_182 1 57 (dk_at dksX9_take_7 20 rfl rfl)
theorem dX9_take_185 : decode cX9_take 185 = .ok (.iconst 1, 1) := dk_4 (dk_at dksX9_take_7 23 rfl rfl)
theorem dX9_take_186 : decode cX9_take 186 = .ok (.ireturn, 1) := dk_172 (dk_at dksX9_take_8 0 rfl rfl)
abbrev cX9_move : ByteArray := prog_31_method_84_code
def yX9_move : MethodName := ⟨RX9, "move", "(IIIII)I"⟩
def dkwX9_move_9 : List UInt8 := [16, 30, 27, 104, 28, 96, 21, 7, 96, 47, 80, 132, 6, 1, 167, 255, 134, 21, 5, 172]
abbrev dktX9_move_9 : List UInt8 := dkwX9_move_9 ++ []
def dkwX9_move_8 : List UInt8 := [96, 21, 7, 96, 49, 82, 42, 180, 0, 131, 16, 30, 29, 104, 21, 4, 96, 21, 7, 96, 42, 180, 0, 131]
abbrev dktX9_move_8 : List UInt8 := dkwX9_move_8 ++ dktX9_move_9
def dkwX9_move_7 : List UInt8 := [81, 42, 180, 0, 127, 16, 30, 29, 104, 21, 4, 96, 21, 7, 96, 42, 180, 0, 127, 16, 30, 27, 104, 28]
abbrev dktX9_move_7 : List UInt8 := dkwX9_move_7 ++ dktX9_move_8
def dkwX9_move_6 : List UInt8 := [16, 30, 29, 104, 21, 4, 96, 21, 7, 96, 42, 180, 0, 123, 16, 30, 27, 104, 28, 96, 21, 7, 96, 48]
abbrev dktX9_move_6 : List UInt8 := dkwX9_move_6 ++ dktX9_move_7
def dkwX9_move_5 : List UInt8 := [28, 21, 4, 162, 0, 13, 21, 5, 4, 100, 21, 6, 100, 167, 0, 5, 21, 6, 54, 7, 42, 180, 0, 123]
abbrev dktX9_move_5 : List UInt8 := dkwX9_move_5 ++ dktX9_move_6
def dkwX9_move_4 : List UInt8 := [21, 4, 100, 164, 0, 6, 16, 244, 172, 3, 54, 6, 21, 6, 21, 5, 162, 0, 121, 27, 29, 160, 0, 19]
abbrev dktX9_move_4 : List UInt8 := dkwX9_move_4 ++ dktX9_move_5
def dkwX9_move_3 : List UInt8 := [155, 0, 30, 21, 5, 42, 180, 0, 117, 27, 46, 28, 100, 163, 0, 17, 21, 5, 42, 180, 0, 117, 29, 46]
abbrev dktX9_move_3 : List UInt8 := dkwX9_move_3 ++ dktX9_move_4
def dkwX9_move_2 : List UInt8 := [180, 0, 120, 29, 46, 159, 0, 6, 16, 243, 172, 21, 5, 155, 0, 39, 28, 155, 0, 35, 21, 4]
abbrev dktX9_move_2 : List UInt8 := dkwX9_move_2 ++ dktX9_move_3
def dkwX9_move_1 : List UInt8 := [155, 0, 12, 42, 180, 0, 117, 29, 46, 156, 0, 6, 16, 245, 172, 42, 180, 0, 120, 27, 46, 42]
abbrev dktX9_move_1 : List UInt8 := dkwX9_move_1 ++ dktX9_move_2
def dkwX9_move_0 : List UInt8 := [27, 184, 1, 164, 153, 0, 10, 29, 184, 1, 164, 154, 0, 5, 2, 172, 42, 180, 0, 117, 27, 46]
abbrev dktX9_move_0 : List UInt8 := dkwX9_move_0 ++ dktX9_move_1
theorem dksX9_move_0 : cX9_move.data.toList.drop 0 = dktX9_move_0 := by decide +kernel
theorem dksX9_move_1 : cX9_move.data.toList.drop 22 = dktX9_move_1 := dk_seg dksX9_move_0 22 rfl rfl
theorem dksX9_move_2 : cX9_move.data.toList.drop 44 = dktX9_move_2 := dk_seg dksX9_move_1 22 rfl rfl
theorem dksX9_move_3 : cX9_move.data.toList.drop 66 = dktX9_move_3 := dk_seg dksX9_move_2 22 rfl rfl
theorem dksX9_move_4 : cX9_move.data.toList.drop 90 = dktX9_move_4 := dk_seg dksX9_move_3 24 rfl rfl
theorem dksX9_move_5 : cX9_move.data.toList.drop 114 = dktX9_move_5 := dk_seg dksX9_move_4 24 rfl rfl
theorem dksX9_move_6 : cX9_move.data.toList.drop 138 = dktX9_move_6 := dk_seg dksX9_move_5 24 rfl rfl
theorem dksX9_move_7 : cX9_move.data.toList.drop 162 = dktX9_move_7 := dk_seg dksX9_move_6 24 rfl rfl
theorem dksX9_move_8 : cX9_move.data.toList.drop 186 = dktX9_move_8 := dk_seg dksX9_move_7 24 rfl rfl
theorem dksX9_move_9 : cX9_move.data.toList.drop 210 = dktX9_move_9 := dk_seg dksX9_move_8 24 rfl rfl
theorem dX9_move_0 : decode cX9_move 0 = .ok (.iload_n 1, 1) := dk_27 (dk_at dksX9_move_0 0 rfl rfl)
theorem dX9_move_1 : decode cX9_move 1 = .ok (.invokestatic 420, 3) := dk_184 1 164 (dk_at dksX9_move_0 1 rfl rfl)
theorem dX9_move_4 : decode cX9_move 4 = .ok (.ifCond .eq 10, 3) := dk_153 0 10 (dk_at dksX9_move_0 4 rfl rfl)
theorem dX9_move_7 : decode cX9_move 7 = .ok (.iload_n 3, 1) := dk_29 (dk_at dksX9_move_0 7 rfl rfl)
theorem dX9_move_8 : decode cX9_move 8 = .ok (.invokestatic 420, 3) := dk_184 1 164 (dk_at dksX9_move_0 8 rfl rfl)
theorem dX9_move_11 : decode cX9_move 11 = .ok (.ifCond .ne 5, 3) := dk_154 0 5 (dk_at dksX9_move_0 11 rfl rfl)
theorem dX9_move_14 : decode cX9_move 14 = .ok (.iconst (-1), 1) := dk_2 (dk_at dksX9_move_0 14 rfl rfl)
theorem dX9_move_15 : decode cX9_move 15 = .ok (.ireturn, 1) := dk_172 (dk_at dksX9_move_0 15 rfl rfl)
theorem dX9_move_16 : decode cX9_move 16 = .ok (.aload_n 0, 1) := dk_42 (dk_at dksX9_move_0 16 rfl rfl)
theorem dX9_move_17 : decode cX9_move 17 = .ok (.getfield 117, 3) := dk_180 0 117 (dk_at dksX9_move_0 17 rfl rfl)
theorem dX9_move_20 : decode cX9_move 20 = .ok (.iload_n 1, 1) := dk_27 (dk_at dksX9_move_0 20 rfl rfl)
theorem dX9_move_21 : decode cX9_move 21 = .ok (.iaload, 1) := dk_46 (dk_at dksX9_move_0 21 rfl rfl)
theorem dX9_move_22 : decode cX9_move 22 = .ok (.ifCond .lt 12, 3) := dk_155 0 12 (dk_at dksX9_move_1 0 rfl rfl)
theorem dX9_move_25 : decode cX9_move 25 = .ok (.aload_n 0, 1) := dk_42 (dk_at dksX9_move_1 3 rfl rfl)
theorem dX9_move_26 : decode cX9_move 26 = .ok (.getfield 117, 3) := dk_180 0 117 (dk_at dksX9_move_1 4 rfl rfl)
theorem dX9_move_29 : decode cX9_move 29 = .ok (.iload_n 3, 1) := dk_29 (dk_at dksX9_move_1 7 rfl rfl)
theorem dX9_move_30 : decode cX9_move 30 = .ok (.iaload, 1) := dk_46 (dk_at dksX9_move_1 8 rfl rfl)
theorem dX9_move_31 : decode cX9_move 31 = .ok (.ifCond .ge 6, 3) := dk_156 0 6 (dk_at dksX9_move_1 9 rfl rfl)
theorem dX9_move_34 : decode cX9_move 34 = .ok (.bipush (-11), 2) := dk_16 245 (dk_at dksX9_move_1 12 rfl rfl)
theorem dX9_move_36 : decode cX9_move 36 = .ok (.ireturn, 1) := dk_172 (dk_at dksX9_move_1 14 rfl rfl)
theorem dX9_move_37 : decode cX9_move 37 = .ok (.aload_n 0, 1) := dk_42 (dk_at dksX9_move_1 15 rfl rfl)
theorem dX9_move_38 : decode cX9_move 38 = .ok (.getfield 120, 3) := dk_180 0 120 (dk_at dksX9_move_1 16 rfl rfl)
theorem dX9_move_41 : decode cX9_move 41 = .ok (.iload_n 1, 1) := dk_27 (dk_at dksX9_move_1 19 rfl rfl)
theorem dX9_move_42 : decode cX9_move 42 = .ok (.iaload, 1) := dk_46 (dk_at dksX9_move_1 20 rfl rfl)
theorem dX9_move_43 : decode cX9_move 43 = .ok (.aload_n 0, 1) := dk_42 (dk_at dksX9_move_1 21 rfl rfl)
theorem dX9_move_44 : decode cX9_move 44 = .ok (.getfield 120, 3) := dk_180 0 120 (dk_at dksX9_move_2 0 rfl rfl)
theorem dX9_move_47 : decode cX9_move 47 = .ok (.iload_n 3, 1) := dk_29 (dk_at dksX9_move_2 3 rfl rfl)
theorem dX9_move_48 : decode cX9_move 48 = .ok (.iaload, 1) := dk_46 (dk_at dksX9_move_2 4 rfl rfl)
theorem dX9_move_49 : decode cX9_move 49 = .ok (.if_icmp .eq 6, 3) := dk_159 0 6 (dk_at dksX9_move_2 5 rfl rfl)
theorem dX9_move_52 : decode cX9_move 52 = .ok (.bipush (-13), 2) := dk_16 243 (dk_at dksX9_move_2 8 rfl rfl)
theorem dX9_move_54 : decode cX9_move 54 = .ok (.ireturn, 1) := dk_172 (dk_at dksX9_move_2 10 rfl rfl)
theorem dX9_move_55 : decode cX9_move 55 = .ok (.iload 5, 2) := dk_21 5 (dk_at dksX9_move_2 11 rfl rfl)
theorem dX9_move_57 : decode cX9_move 57 = .ok (.ifCond .lt 39, 3) := dk_155 0 39 (dk_at dksX9_move_2 13 rfl rfl)
theorem dX9_move_60 : decode cX9_move 60 = .ok (.iload_n 2, 1) := dk_28 (dk_at dksX9_move_2 16 rfl rfl)
theorem dX9_move_61 : decode cX9_move 61 = .ok (.ifCond .lt 35, 3) := dk_155 0 35 (dk_at dksX9_move_2 17 rfl rfl)
theorem dX9_move_64 : decode cX9_move 64 = .ok (.iload 4, 2) := dk_21 4 (dk_at dksX9_move_2 20 rfl rfl)
theorem dX9_move_66 : decode cX9_move 66 = .ok (.ifCond .lt 30, 3) := dk_155 0 30 (dk_at dksX9_move_3 0 rfl rfl)
theorem dX9_move_69 : decode cX9_move 69 = .ok (.iload 5, 2) := dk_21 5 (dk_at dksX9_move_3 3 rfl rfl)
theorem dX9_move_71 : decode cX9_move 71 = .ok (.aload_n 0, 1) := dk_42 (dk_at dksX9_move_3 5 rfl rfl)
theorem dX9_move_72 : decode cX9_move 72 = .ok (.getfield 117, 3) := dk_180 0 117 (dk_at dksX9_move_3 6 rfl rfl)
theorem dX9_move_75 : decode cX9_move 75 = .ok (.iload_n 1, 1) := dk_27 (dk_at dksX9_move_3 9 rfl rfl)
theorem dX9_move_76 : decode cX9_move 76 = .ok (.iaload, 1) := dk_46 (dk_at dksX9_move_3 10 rfl rfl)
theorem dX9_move_77 : decode cX9_move 77 = .ok (.iload_n 2, 1) := dk_28 (dk_at dksX9_move_3 11 rfl rfl)
theorem dX9_move_78 : decode cX9_move 78 = .ok (.isub, 1) := dk_100 (dk_at dksX9_move_3 12 rfl rfl)
theorem dX9_move_79 : decode cX9_move 79 = .ok (.if_icmp .gt 17, 3) := dk_163 0 17 (dk_at dksX9_move_3 13 rfl rfl)
theorem dX9_move_82 : decode cX9_move 82 = .ok (.iload 5, 2) := dk_21 5 (dk_at dksX9_move_3 16 rfl rfl)
theorem dX9_move_84 : decode cX9_move 84 = .ok (.aload_n 0, 1) := dk_42 (dk_at dksX9_move_3 18 rfl rfl)
theorem dX9_move_85 : decode cX9_move 85 = .ok (.getfield 117, 3) := dk_180 0 117 (dk_at dksX9_move_3 19 rfl rfl)
theorem dX9_move_88 : decode cX9_move 88 = .ok (.iload_n 3, 1) := dk_29 (dk_at dksX9_move_3 22 rfl rfl)
theorem dX9_move_89 : decode cX9_move 89 = .ok (.iaload, 1) := dk_46 (dk_at dksX9_move_3 23 rfl rfl)
theorem dX9_move_90 : decode cX9_move 90 = .ok (.iload 4, 2) := dk_21 4 (dk_at dksX9_move_4 0 rfl rfl)
theorem dX9_move_92 : decode cX9_move 92 = .ok (.isub, 1) := dk_100 (dk_at dksX9_move_4 2 rfl rfl)
theorem dX9_move_93 : decode cX9_move 93 = .ok (.if_icmp .le 6, 3) := dk_164 0 6 (dk_at dksX9_move_4 3 rfl rfl)
theorem dX9_move_96 : decode cX9_move 96 = .ok (.bipush (-12), 2) := dk_16 244 (dk_at dksX9_move_4 6 rfl rfl)
theorem dX9_move_98 : decode cX9_move 98 = .ok (.ireturn, 1) := dk_172 (dk_at dksX9_move_4 8 rfl rfl)
theorem dX9_move_99 : decode cX9_move 99 = .ok (.iconst 0, 1) := dk_3 (dk_at dksX9_move_4 9 rfl rfl)
theorem dX9_move_100 : decode cX9_move 100 = .ok (.istore 6, 2) := dk_54 6 (dk_at dksX9_move_4 10 rfl rfl)
theorem dX9_move_102 : decode cX9_move 102 = .ok (.iload 6, 2) := dk_21 6 (dk_at dksX9_move_4 12 rfl rfl)
theorem dX9_move_104 : decode cX9_move 104 = .ok (.iload 5, 2) := dk_21 5 (dk_at dksX9_move_4 14 rfl rfl)
theorem dX9_move_106 : decode cX9_move 106 = .ok (.if_icmp .ge 121, 3) := dk_162 0 121 (dk_at dksX9_move_4 16 rfl rfl)
theorem dX9_move_109 : decode cX9_move 109 = .ok (.iload_n 1, 1) := dk_27 (dk_at dksX9_move_4 19 rfl rfl)
theorem dX9_move_110 : decode cX9_move 110 = .ok (.iload_n 3, 1) := dk_29 (dk_at dksX9_move_4 20 rfl rfl)
theorem dX9_move_111 : decode cX9_move 111 = .ok (.if_icmp .ne 19, 3) := dk_160 0 19 (dk_at dksX9_move_4 21 rfl rfl)
theorem dX9_move_114 : decode cX9_move 114 = .ok (.iload_n 2, 1) := dk_28 (dk_at dksX9_move_5 0 rfl rfl)
theorem dX9_move_115 : decode cX9_move 115 = .ok (.iload 4, 2) := dk_21 4 (dk_at dksX9_move_5 1 rfl rfl)
theorem dX9_move_117 : decode cX9_move 117 = .ok (.if_icmp .ge 13, 3) := dk_162 0 13 (dk_at dksX9_move_5 3 rfl rfl)
theorem dX9_move_120 : decode cX9_move 120 = .ok (.iload 5, 2) := dk_21 5 (dk_at dksX9_move_5 6 rfl rfl)
theorem dX9_move_122 : decode cX9_move 122 = .ok (.iconst 1, 1) := dk_4 (dk_at dksX9_move_5 8 rfl rfl)
theorem dX9_move_123 : decode cX9_move 123 = .ok (.isub, 1) := dk_100 (dk_at dksX9_move_5 9 rfl rfl)
theorem dX9_move_124 : decode cX9_move 124 = .ok (.iload 6, 2) := dk_21 6 (dk_at dksX9_move_5 10 rfl rfl)
theorem dX9_move_126 : decode cX9_move 126 = .ok (.isub, 1) := dk_100 (dk_at dksX9_move_5 12 rfl rfl)
theorem dX9_move_127 : decode cX9_move 127 = .ok (.goto 5, 3) := dk_167 0 5 (dk_at dksX9_move_5 13 rfl rfl)
theorem dX9_move_130 : decode cX9_move 130 = .ok (.iload 6, 2) := dk_21 6 (dk_at dksX9_move_5 16 rfl rfl)
theorem dX9_move_132 : decode cX9_move 132 = .ok (.istore 7, 2) := dk_54 7 (dk_at dksX9_move_5 18 rfl rfl)
theorem dX9_move_134 : decode cX9_move 134 = .ok (.aload_n 0, 1) := dk_42 (dk_at dksX9_move_5 20 rfl rfl)
theorem dX9_move_135 : decode cX9_move 135 = .ok (.getfield 123, 3) := dk_180 0 123 (dk_at dksX9_move_5 21 rfl rfl)
theorem dX9_move_138 : decode cX9_move 138 = .ok (.bipush 30, 2) := dk_16 30 (dk_at dksX9_move_6 0 rfl rfl)
theorem dX9_move_140 : decode cX9_move 140 = .ok (.iload_n 3, 1) := dk_29 (dk_at dksX9_move_6 2 rfl rfl)
theorem dX9_move_141 : decode cX9_move 141 = .ok (.imul, 1) := dk_104 (dk_at dksX9_move_6 3 rfl rfl)
theorem dX9_move_142 : decode cX9_move 142 = .ok (.iload 4, 2) := dk_21 4 (dk_at dksX9_move_6 4 rfl rfl)
theorem dX9_move_144 : decode cX9_move 144 = .ok (.iadd, 1) := dk_96 (dk_at dksX9_move_6 6 rfl rfl)
theorem dX9_move_145 : decode cX9_move 145 = .ok (.iload 7, 2) := dk_21 7 (dk_at dksX9_move_6 7 rfl rfl)
theorem dX9_move_147 : decode cX9_move 147 = .ok (.iadd, 1) := dk_96 (dk_at dksX9_move_6 9 rfl rfl)
theorem dX9_move_148 : decode cX9_move 148 = .ok (.aload_n 0, 1) := dk_42 (dk_at dksX9_move_6 10 rfl rfl)
theorem dX9_move_149 : decode cX9_move 149 = .ok (.getfield 123, 3) := dk_180 0 123 (dk_at dksX9_move_6 11 rfl rfl)
theorem dX9_move_152 : decode cX9_move 152 = .ok (.bipush 30, 2) := dk_16 30 (dk_at dksX9_move_6 14 rfl rfl)
theorem dX9_move_154 : decode cX9_move 154 = .ok (.iload_n 1, 1) := dk_27 (dk_at dksX9_move_6 16 rfl rfl)
theorem dX9_move_155 : decode cX9_move 155 = .ok (.imul, 1) := dk_104 (dk_at dksX9_move_6 17 rfl rfl)
theorem dX9_move_156 : decode cX9_move 156 = .ok (.iload_n 2, 1) := dk_28 (dk_at dksX9_move_6 18 rfl rfl)
theorem dX9_move_157 : decode cX9_move 157 = .ok (.iadd, 1) := dk_96 (dk_at dksX9_move_6 19 rfl rfl)
theorem dX9_move_158 : decode cX9_move 158 = .ok (.iload 7, 2) := dk_21 7 (dk_at dksX9_move_6 20 rfl rfl)
theorem dX9_move_160 : decode cX9_move 160 = .ok (.iadd, 1) := dk_96 (dk_at dksX9_move_6 22 rfl rfl)
theorem dX9_move_161 : decode cX9_move 161 = .ok (.faload, 1) := dk_48 (dk_at dksX9_move_6 23 rfl rfl)
theorem dX9_move_162 : decode cX9_move 162 = .ok (.fastore, 1) := dk_81 (dk_at dksX9_move_7 0 rfl rfl)
theorem dX9_move_163 : decode cX9_move 163 = .ok (.aload_n 0, 1) := dk_42 (dk_at dksX9_move_7 1 rfl rfl)
theorem dX9_move_164 : decode cX9_move 164 = .ok (.getfield 127, 3) := dk_180 0 127 (dk_at dksX9_move_7 2 rfl rfl)
theorem dX9_move_167 : decode cX9_move 167 = .ok (.bipush 30, 2) := dk_16 30 (dk_at dksX9_move_7 5 rfl rfl)
theorem dX9_move_169 : decode cX9_move 169 = .ok (.iload_n 3, 1) := dk_29 (dk_at dksX9_move_7 7 rfl rfl)
theorem dX9_move_170 : decode cX9_move 170 = .ok (.imul, 1) := dk_104 (dk_at dksX9_move_7 8 rfl rfl)
theorem dX9_move_171 : decode cX9_move 171 = .ok (.iload 4, 2) := dk_21 4 (dk_at dksX9_move_7 9 rfl rfl)
theorem dX9_move_173 : decode cX9_move 173 = .ok (.iadd, 1) := dk_96 (dk_at dksX9_move_7 11 rfl rfl)
theorem dX9_move_174 : decode cX9_move 174 = .ok (.iload 7, 2) := dk_21 7 (dk_at dksX9_move_7 12 rfl rfl)
theorem dX9_move_176 : decode cX9_move 176 = .ok (.iadd, 1) := dk_96 (dk_at dksX9_move_7 14 rfl rfl)
theorem dX9_move_177 : decode cX9_move 177 = .ok (.aload_n 0, 1) := dk_42 (dk_at dksX9_move_7 15 rfl rfl)
theorem dX9_move_178 : decode cX9_move 178 = .ok (.getfield 127, 3) := dk_180 0 127 (dk_at dksX9_move_7 16 rfl rfl)
theorem dX9_move_181 : decode cX9_move 181 = .ok (.bipush 30, 2) := dk_16 30 (dk_at dksX9_move_7 19 rfl rfl)
theorem dX9_move_183 : decode cX9_move 183 = .ok (.iload_n 1, 1) := dk_27 (dk_at dksX9_move_7 21 rfl rfl)
theorem dX9_move_184 : decode cX9_move 184 = .ok (.imul, 1) := dk_104 (dk_at dksX9_move_7 22 rfl rfl)
theorem dX9_move_185 : decode cX9_move 185 = .ok (.iload_n 2, 1) := dk_28 (dk_at dksX9_move_7 23 rfl rfl)
theorem dX9_move_186 : decode cX9_move 186 = .ok (.iadd, 1) := dk_96 (dk_at dksX9_move_8 0 rfl rfl)
theorem dX9_move_187 : decode cX9_move 187 = .ok (.iload 7, 2) := dk_21 7 (dk_at dksX9_move_8 1 rfl rfl)
theorem dX9_move_189 : decode cX9_move 189 = .ok (.iadd, 1) := dk_96 (dk_at dksX9_move_8 3 rfl rfl)
theorem dX9_move_190 : decode cX9_move 190 = .ok (.daload, 1) := dk_49 (dk_at dksX9_move_8 4 rfl rfl)
theorem dX9_move_191 : decode cX9_move 191 = .ok (.dastore, 1) := dk_82 (dk_at dksX9_move_8 5 rfl rfl)
theorem dX9_move_192 : decode cX9_move 192 = .ok (.aload_n 0, 1) := dk_42 (dk_at dksX9_move_8 6 rfl rfl)
theorem dX9_move_193 : decode cX9_move 193 = .ok (.getfield 131, 3) := dk_180 0 131 (dk_at dksX9_move_8 7 rfl rfl)
theorem dX9_move_196 : decode cX9_move 196 = .ok (.bipush 30, 2) := dk_16 30 (dk_at dksX9_move_8 10 rfl rfl)
theorem dX9_move_198 : decode cX9_move 198 = .ok (.iload_n 3, 1) := dk_29 (dk_at dksX9_move_8 12 rfl rfl)
theorem dX9_move_199 : decode cX9_move 199 = .ok (.imul, 1) := dk_104 (dk_at dksX9_move_8 13 rfl rfl)
theorem dX9_move_200 : decode cX9_move 200 = .ok (.iload 4, 2) := dk_21 4 (dk_at dksX9_move_8 14 rfl rfl)
theorem dX9_move_202 : decode cX9_move 202 = .ok (.iadd, 1) := dk_96 (dk_at dksX9_move_8 16 rfl rfl)
theorem dX9_move_203 : decode cX9_move 203 = .ok (.iload 7, 2) := dk_21 7 (dk_at dksX9_move_8 17 rfl rfl)
theorem dX9_move_205 : decode cX9_move 205 = .ok (.iadd, 1) := dk_96 (dk_at dksX9_move_8 19 rfl rfl)
theorem dX9_move_206 : decode cX9_move 206 = .ok (.aload_n 0, 1) := dk_42 (dk_at dksX9_move_8 20 rfl rfl)
theorem dX9_move_207 : decode cX9_move 207 = .ok (.getfield 131, 3) := dk_180 0 131 (dk_at dksX9_move_8 21 rfl rfl)
theorem dX9_move_210 : decode cX9_move 210 = .ok (.bipush 30, 2) := dk_16 30 (dk_at dksX9_move_9 0 rfl rfl)
theorem dX9_move_212 : decode cX9_move 212 = .ok (.iload_n 1, 1) := dk_27 (dk_at dksX9_move_9 2 rfl rfl)
theorem dX9_move_213 : decode cX9_move 213 = .ok (.imul, 1) := dk_104 (dk_at dksX9_move_9 3 rfl rfl)
theorem dX9_move_214 : decode cX9_move 214 = .ok (.iload_n 2, 1) := dk_28 (dk_at dksX9_move_9 4 rfl rfl)
theorem dX9_move_215 : decode cX9_move 215 = .ok (.iadd, 1) := dk_96 (dk_at dksX9_move_9 5 rfl rfl)
theorem dX9_move_216 : decode cX9_move 216 = .ok (.iload 7, 2) := dk_21 7 (dk_at dksX9_move_9 6 rfl rfl)
theorem dX9_move_218 : decode cX9_move 218 = .ok (.iadd, 1) := dk_96 (dk_at dksX9_move_9 8 rfl rfl)
theorem dX9_move_219 : decode cX9_move 219 = .ok (.laload, 1) := dk_47 (dk_at dksX9_move_9 9 rfl rfl)
theorem dX9_move_220 : decode cX9_move 220 = .ok (.lastore, 1) := dk_80 (dk_at dksX9_move_9 10 rfl rfl)
theorem dX9_move_221 : decode cX9_move 221 = .ok (.iinc 6 1, 3) := dk_132 6 1 (dk_at dksX9_move_9 11 rfl rfl)
theorem dX9_move_224 : decode cX9_move 224 = .ok (.goto (-122), 3) := dk_167 255 134 (dk_at dksX9_move_9 14 rfl rfl)
theorem dX9_move_227 : decode cX9_move 227 = .ok (.iload 5, 2) := dk_21 5 (dk_at dksX9_move_9 17 rfl rfl)
theorem dX9_move_229 : decode cX9_move 229 = .ok (.ireturn, 1) := dk_172 (dk_at dksX9_move_9 19 rfl rfl)
abbrev cX9_count : ByteArray := prog_31_method_85_code
def yX9_count : MethodName := ⟨RX9, "count", "(I)I"⟩
def dkwX9_count_6 : List UInt8 := [46, 155, 0, 7, 4, 167, 0, 4, 3, 96, 61, 132, 3, 1, 167, 255, 231, 28, 172, 2, 172]
abbrev dktX9_count_6 : List UInt8 := dkwX9_count_6 ++ []
def dkwX9_count_5 : List UInt8 := [172, 42, 180, 0, 157, 172, 42, 180, 1, 158, 172, 3, 62, 29, 6, 162, 0, 26, 28, 42, 180, 0, 117, 29]
abbrev dktX9_count_5 : List UInt8 := dkwX9_count_5 ++ dktX9_count_6
def dkwX9_count_4 : List UInt8 := [153, 0, 9, 4, 29, 120, 167, 0, 4, 3, 128, 61, 132, 3, 1, 167, 255, 229, 28, 172, 42, 180, 0, 199]
abbrev dktX9_count_4 : List UInt8 := dkwX9_count_4 ++ dktX9_count_5
def dkwX9_count_3 : List UInt8 := [128, 61, 132, 3, 1, 167, 255, 229, 28, 172, 3, 62, 29, 8, 162, 0, 28, 28, 42, 180, 0, 99, 29, 46]
abbrev dktX9_count_3 : List UInt8 := dkwX9_count_3 ++ dktX9_count_4
def dkwX9_count_2 : List UInt8 := [3, 62, 29, 7, 162, 0, 28, 28, 42, 180, 0, 33, 29, 46, 155, 0, 9, 4, 29, 120, 167, 0, 4, 3]
abbrev dktX9_count_2 : List UInt8 := dkwX9_count_2 ++ dktX9_count_3
def dkwX9_count_1 : List UInt8 := [170, 0, 0, 0, 152, 0, 0, 0, 0, 0, 0, 0, 5, 0, 0, 0, 37, 0, 0, 0, 71, 0, 0, 0, 105, 0, 0, 0, 110, 0, 0, 0, 115, 0, 0, 0, 120]
abbrev dktX9_count_1 : List UInt8 := dkwX9_count_1 ++ dktX9_count_2
def dkwX9_count_0 : List UInt8 := [3, 61, 27]
abbrev dktX9_count_0 : List UInt8 := dkwX9_count_0 ++ dktX9_count_1
theorem dksX9_count_0 : cX9_count.data.toList.drop 0 = dktX9_count_0 := by decide +kernel
theorem dksX9_count_1 : cX9_count.data.toList.drop 3 = dktX9_count_1 := dk_seg dksX9_count_0 3 rfl rfl
theorem dksX9_count_2 : cX9_count.data.toList.drop 40 = dktX9_count_2 := dk_seg dksX9_count_1 37 rfl rfl
theorem dksX9_count_3 : cX9_count.data.toList.drop 64 = dktX9_count_3 := dk_seg dksX9_count_2 24 rfl rfl
theorem dksX9_count_4 : cX9_count.data.toList.drop 88 = dktX9_count_4 := dk_seg dksX9_count_3 24 rfl rfl
theorem dksX9_count_5 : cX9_count.data.toList.drop 112 = dktX9_count_5 := dk_seg dksX9_count_4 24 rfl rfl
theorem dksX9_count_6 : cX9_count.data.toList.drop 136 = dktX9_count_6 := dk_seg dksX9_count_5 24 rfl rfl
theorem dX9_count_0 : decode cX9_count 0 = .ok (.iconst 0, 1) := dk_3 (dk_at dksX9_count_0 0 rfl rfl)
theorem dX9_count_1 : decode cX9_count 1 = .ok (.istore_n 2, 1) := dk_61 (dk_at dksX9_count_0 1 rfl rfl)
theorem dX9_count_2 : decode cX9_count 2 = .ok (.iload_n 1, 1) := dk_27 (dk_at dksX9_count_0 2 rfl rfl)
theorem dX9_count_3 : decode cX9_count 3 = .ok (.tableswitch 152 0 5 #[37, 71, 105, 110, 115, 120], 37) := by decide +kernel
theorem dX9_count_40 : decode cX9_count 40 = .ok (.iconst 0, 1) := dk_3 (dk_at dksX9_count_2 0 rfl rfl)
theorem dX9_count_41 : decode cX9_count 41 = .ok (.istore_n 3, 1) := dk_62 (dk_at dksX9_count_2 1 rfl rfl)
theorem dX9_count_42 : decode cX9_count 42 = .ok (.iload_n 3, 1) := dk_29 (dk_at dksX9_count_2 2 rfl rfl)
theorem dX9_count_43 : decode cX9_count 43 = .ok (.iconst 4, 1) := dk_7 (dk_at dksX9_count_2 3 rfl rfl)
theorem dX9_count_44 : decode cX9_count 44 = .ok (.if_icmp .ge 28, 3) := dk_162 0 28 (dk_at dksX9_count_2 4 rfl rfl)
theorem dX9_count_47 : decode cX9_count 47 = .ok (.iload_n 2, 1) := dk_28 (dk_at dksX9_count_2 7 rfl rfl)
theorem dX9_count_48 : decode cX9_count 48 = .ok (.aload_n 0, 1) := dk_42 (dk_at dksX9_count_2 8 rfl rfl)
theorem dX9_count_49 : decode cX9_count 49 = .ok (.getfield 33, 3) := dk_180 0 33 (dk_at dksX9_count_2 9 rfl rfl)
theorem dX9_count_52 : decode cX9_count 52 = .ok (.iload_n 3, 1) := dk_29 (dk_at dksX9_count_2 12 rfl rfl)
theorem dX9_count_53 : decode cX9_count 53 = .ok (.iaload, 1) := dk_46 (dk_at dksX9_count_2 13 rfl rfl)
theorem dX9_count_54 : decode cX9_count 54 = .ok (.ifCond .lt 9, 3) := dk_155 0 9 (dk_at dksX9_count_2 14 rfl rfl)
theorem dX9_count_57 : decode cX9_count 57 = .ok (.iconst 1, 1) := dk_4 (dk_at dksX9_count_2 17 rfl rfl)
theorem dX9_count_58 : decode cX9_count 58 = .ok (.iload_n 3, 1) := dk_29 (dk_at dksX9_count_2 18 rfl rfl)
theorem dX9_count_59 : decode cX9_count 59 = .ok (.ishl, 1) := dk_120 (dk_at dksX9_count_2 19 rfl rfl)
theorem dX9_count_60 : decode cX9_count 60 = .ok (.goto 4, 3) := dk_167 0 4 (dk_at dksX9_count_2 20 rfl rfl)
theorem dX9_count_63 : decode cX9_count 63 = .ok (.iconst 0, 1) := dk_3 (dk_at dksX9_count_2 23 rfl rfl)
theorem dX9_count_64 : decode cX9_count 64 = .ok (.ior, 1) := dk_128 (dk_at dksX9_count_3 0 rfl rfl)
theorem dX9_count_65 : decode cX9_count 65 = .ok (.istore_n 2, 1) := dk_61 (dk_at dksX9_count_3 1 rfl rfl)
theorem dX9_count_66 : decode cX9_count 66 = .ok (.iinc 3 1, 3) := dk_132 3 1 (dk_at dksX9_count_3 2 rfl rfl)
theorem dX9_count_69 : decode cX9_count 69 = .ok (.goto (-27), 3) := dk_167 255 229 (dk_at dksX9_count_3 5 rfl rfl)
theorem dX9_count_72 : decode cX9_count 72 = .ok (.iload_n 2, 1) := dk_28 (dk_at dksX9_count_3 8 rfl rfl)
theorem dX9_count_73 : decode cX9_count 73 = .ok (.ireturn, 1) := dk_172 (dk_at dksX9_count_3 9 rfl rfl)
theorem dX9_count_74 : decode cX9_count 74 = .ok (.iconst 0, 1) := dk_3 (dk_at dksX9_count_3 10 rfl rfl)
theorem dX9_count_75 : decode cX9_count 75 = .ok (.istore_n 3, 1) := dk_62 (dk_at dksX9_count_3 11 rfl rfl)
theorem dX9_count_76 : decode cX9_count 76 = .ok (.iload_n 3, 1) := dk_29 (dk_at dksX9_count_3 12 rfl rfl)
theorem dX9_count_77 : decode cX9_count 77 = .ok (.iconst 5, 1) := dk_8 (dk_at dksX9_count_3 13 rfl rfl)
theorem dX9_count_78 : decode cX9_count 78 = .ok (.if_icmp .ge 28, 3) := dk_162 0 28 (dk_at dksX9_count_3 14 rfl rfl)
theorem dX9_count_81 : decode cX9_count 81 = .ok (.iload_n 2, 1) := dk_28 (dk_at dksX9_count_3 17 rfl rfl)
theorem dX9_count_82 : decode cX9_count 82 = .ok (.aload_n 0, 1) := dk_42 (dk_at dksX9_count_3 18 rfl rfl)
theorem dX9_count_83 : decode cX9_count 83 = .ok (.getfield 99, 3) := dk_180 0 99 (dk_at dksX9_count_3 19 rfl rfl)
theorem dX9_count_86 : decode cX9_count 86 = .ok (.iload_n 3, 1) := dk_29 (dk_at dksX9_count_3 22 rfl rfl)
theorem dX9_count_87 : decode cX9_count 87 = .ok (.iaload, 1) := dk_46 (dk_at dksX9_count_3 23 rfl rfl)
theorem dX9_count_88 : decode cX9_count 88 = .ok (.ifCond .eq 9, 3) := dk_153 0 9 (dk_at dksX9_count_4 0 rfl rfl)
theorem dX9_count_91 : decode cX9_count 91 = .ok (.iconst 1, 1) := dk_4 (dk_at dksX9_count_4 3 rfl rfl)
theorem dX9_count_92 : decode cX9_count 92 = .ok (.iload_n 3, 1) := dk_29 (dk_at dksX9_count_4 4 rfl rfl)
theorem dX9_count_93 : decode cX9_count 93 = .ok (.ishl, 1) := dk_120 (dk_at dksX9_count_4 5 rfl rfl)
theorem dX9_count_94 : decode cX9_count 94 = .ok (.goto 4, 3) := dk_167 0 4 (dk_at dksX9_count_4 6 rfl rfl)
theorem dX9_count_97 : decode cX9_count 97 = .ok (.iconst 0, 1) := dk_3 (dk_at dksX9_count_4 9 rfl rfl)
theorem dX9_count_98 : decode cX9_count 98 = .ok (.ior, 1) := dk_128 (dk_at dksX9_count_4 10 rfl rfl)
theorem dX9_count_99 : decode cX9_count 99 = .ok (.istore_n 2, 1) := dk_61 (dk_at dksX9_count_4 11 rfl rfl)
theorem dX9_count_100 : decode cX9_count 100 = .ok (.iinc 3 1, 3) := dk_132 3 1 (dk_at dksX9_count_4 12 rfl rfl)
theorem dX9_count_103 : decode cX9_count 103 = .ok (.goto (-27), 3) := dk_167 255 229 (dk_at dksX9_count_4 15 rfl rfl)
theorem dX9_count_106 : decode cX9_count 106 = .ok (.iload_n 2, 1) := dk_28 (dk_at dksX9_count_4 18 rfl rfl)
theorem dX9_count_107 : decode cX9_count 107 = .ok (.ireturn, 1) := dk_172 (dk_at dksX9_count_4 19 rfl rfl)
theorem dX9_count_108 : decode cX9_count 108 = .ok (.aload_n 0, 1) := dk_42 (dk_at dksX9_count_4 20 rfl rfl)
theorem dX9_count_109 : decode cX9_count 109 = .ok (.getfield 199, 3) := dk_180 0 199 (dk_at dksX9_count_4 21 rfl rfl)
theorem dX9_count_112 : decode cX9_count 112 = .ok (.ireturn, 1) := dk_172 (dk_at dksX9_count_5 0 rfl rfl)
theorem dX9_count_113 : decode cX9_count 113 = .ok (.aload_n 0, 1) := dk_42 (dk_at dksX9_count_5 1 rfl rfl)
theorem dX9_count_114 : decode cX9_count 114 = .ok (.getfield 157, 3) := dk_180 0 157 (dk_at dksX9_count_5 2 rfl rfl)
theorem dX9_count_117 : decode cX9_count 117 = .ok (.ireturn, 1) := dk_172 (dk_at dksX9_count_5 5 rfl rfl)
theorem dX9_count_118 : decode cX9_count 118 = .ok (.aload_n 0, 1) := dk_42 (dk_at dksX9_count_5 6 rfl rfl)
theorem dX9_count_119 : decode cX9_count 119 = .ok (.getfield 414, 3) := dk_180 1 158 (dk_at dksX9_count_5 7 rfl rfl)
theorem dX9_count_122 : decode cX9_count 122 = .ok (.ireturn, 1) := dk_172 (dk_at dksX9_count_5 10 rfl rfl)
theorem dX9_count_123 : decode cX9_count 123 = .ok (.iconst 0, 1) := dk_3 (dk_at dksX9_count_5 11 rfl rfl)
theorem dX9_count_124 : decode cX9_count 124 = .ok (.istore_n 3, 1) := dk_62 (dk_at dksX9_count_5 12 rfl rfl)
theorem dX9_count_125 : decode cX9_count 125 = .ok (.iload_n 3, 1) := dk_29 (dk_at dksX9_count_5 13 rfl rfl)
theorem dX9_count_126 : decode cX9_count 126 = .ok (.iconst 3, 1) := dk_6 (dk_at dksX9_count_5 14 rfl rfl)
theorem dX9_count_127 : decode cX9_count 127 = .ok (.if_icmp .ge 26, 3) := dk_162 0 26 (dk_at dksX9_count_5 15 rfl rfl)
theorem dX9_count_130 : decode cX9_count 130 = .ok (.iload_n 2, 1) := dk_28 (dk_at dksX9_count_5 18 rfl rfl)
theorem dX9_count_131 : decode cX9_count 131 = .ok (.aload_n 0, 1) := dk_42 (dk_at dksX9_count_5 19 rfl rfl)
theorem dX9_count_132 : decode cX9_count 132 = .ok (.getfield 117, 3) := dk_180 0 117 (dk_at dksX9_count_5 20 rfl rfl)
theorem dX9_count_135 : decode cX9_count 135 = .ok (.iload_n 3, 1) := dk_29 (dk_at dksX9_count_5 23 rfl rfl)
theorem dX9_count_136 : decode cX9_count 136 = .ok (.iaload, 1) := dk_46 (dk_at dksX9_count_6 0 rfl rfl)
theorem dX9_count_137 : decode cX9_count 137 = .ok (.ifCond .lt 7, 3) := dk_155 0 7 (dk_at dksX9_count_6 1 rfl rfl)
theorem dX9_count_140 : decode cX9_count 140 = .ok (.iconst 1, 1) := dk_4 (dk_at dksX9_count_6 4 rfl rfl)
theorem dX9_count_141 : decode cX9_count 141 = .ok (.goto 4, 3) := dk_167 0 4 (dk_at dksX9_count_6 5 rfl rfl)
theorem dX9_count_144 : decode cX9_count 144 = .ok (.iconst 0, 1) := dk_3 (dk_at dksX9_count_6 8 rfl rfl)
theorem dX9_count_145 : decode cX9_count 145 = .ok (.iadd, 1) := dk_96 (dk_at dksX9_count_6 9 rfl rfl)
theorem dX9_count_146 : decode cX9_count 146 = .ok (.istore_n 2, 1) := dk_61 (dk_at dksX9_count_6 10 rfl rfl)
theorem dX9_count_147 : decode cX9_count 147 = .ok (.iinc 3 1, 3) := dk_132 3 1 (dk_at dksX9_count_6 11 rfl rfl)
theorem dX9_count_150 : decode cX9_count 150 = .ok (.goto (-25), 3) := dk_167 255 231 (dk_at dksX9_count_6 14 rfl rfl)
theorem dX9_count_153 : decode cX9_count 153 = .ok (.iload_n 2, 1) := dk_28 (dk_at dksX9_count_6 17 rfl rfl)
theorem dX9_count_154 : decode cX9_count 154 = .ok (.ireturn, 1) := dk_172 (dk_at dksX9_count_6 18 rfl rfl)
theorem dX9_count_155 : decode cX9_count 155 = .ok (.iconst (-1), 1) := dk_2 (dk_at dksX9_count_6 19 rfl rfl)
theorem dX9_count_156 : decode cX9_count 156 = .ok (.ireturn, 1) := dk_172 (dk_at dksX9_count_6 20 rfl rfl)
theorem q83 : (Jvm.Cond.initialized "PluralBranchesModel") ∈ lw_all := lw_g (lw_at lw_m1 17 rfl) rfl
theorem q269 : (Jvm.Cond.selects "PluralBranchesModel" ({ cls := "java/lang/Object", name := "getClass", desc := "()Ljava/lang/Class;" } : Jvm.MethodName) ({ cls := "java/lang/Object", name := "getClass", desc := "()Ljava/lang/Class;" } : Jvm.MethodName)) ∈ lw_all := lw_g (lw_at lw_m1 203 rfl) rfl
theorem q1715 : (Jvm.Cond.instantiable "PluralBranchesModel" (56 : Nat)) ∈ lw_all := lw_g (lw_at lw_m7 209 rfl) rfl
theorem q1717 : (Jvm.Cond.instanceMethod ({ cls := "PluralBranchesModel", name := "<init>", desc := "()V" } : Jvm.MethodName)) ∈ lw_all := lw_g (lw_at lw_m7 211 rfl) rfl
theorem q1718 : (Jvm.Cond.code ({ cls := "PluralBranchesModel", name := "<init>", desc := "()V" } : Jvm.MethodName) prog_31_method_1_code (2 : Nat) (Option.none : Option Jvm.ClassFile.FieldType)) ∈ lw_all := lw_g (lw_at lw_m7 212 rfl) rfl
theorem q1719 : (Jvm.Cond.methodLink "PluralBranchesModel" (3 : Nat) ({ cls := "java/lang/Object", name := "<init>", desc := "()V" } : Jvm.MethodName)) ∈ lw_all := lw_g (lw_at lw_m7 213 rfl) rfl
theorem q1720 : (Jvm.Cond.fieldLink "PluralBranchesModel" (157 : Nat) "PluralBranchesModel" "conditions" "I") ∈ lw_all := lw_g (lw_at lw_m7 214 rfl) rfl
theorem q1721 : (Jvm.Cond.fieldLink "PluralBranchesModel" (9 : Nat) "PluralBranchesModel" "forWhich" "[I") ∈ lw_all := lw_g (lw_at lw_m7 215 rfl) rfl
theorem q1722 : (Jvm.Cond.fieldLink "PluralBranchesModel" (15 : Nat) "PluralBranchesModel" "ofWhat" "[I") ∈ lw_all := lw_g (lw_at lw_m7 216 rfl) rfl
theorem q1723 : (Jvm.Cond.fieldLink "PluralBranchesModel" (18 : Nat) "PluralBranchesModel" "by" "[I") ∈ lw_all := lw_g (lw_at lw_m7 217 rfl) rfl
theorem q1724 : (Jvm.Cond.fieldLink "PluralBranchesModel" (21 : Nat) "PluralBranchesModel" "lows" "[I") ∈ lw_all := lw_g (lw_at lw_m7 218 rfl) rfl
theorem q1725 : (Jvm.Cond.fieldLink "PluralBranchesModel" (24 : Nat) "PluralBranchesModel" "highs" "[I") ∈ lw_all := lw_g (lw_at lw_m7 219 rfl) rfl
theorem q1726 : (Jvm.Cond.fieldLink "PluralBranchesModel" (27 : Nat) "PluralBranchesModel" "nots" "[I") ∈ lw_all := lw_g (lw_at lw_m7 220 rfl) rfl
theorem q1727 : (Jvm.Cond.fieldLink "PluralBranchesModel" (30 : Nat) "PluralBranchesModel" "tape" "[I") ∈ lw_all := lw_g (lw_at lw_m7 221 rfl) rfl
theorem q1728 : (Jvm.Cond.fieldLink "PluralBranchesModel" (199 : Nat) "PluralBranchesModel" "taped" "I") ∈ lw_all := lw_g (lw_at lw_m7 222 rfl) rfl
theorem q1729 : (Jvm.Cond.fieldLink "PluralBranchesModel" (33 : Nat) "PluralBranchesModel" "sizes" "[I") ∈ lw_all := lw_g (lw_at lw_m7 223 rfl) rfl
theorem q1730 : (Jvm.Cond.fieldLink "PluralBranchesModel" (36 : Nat) "PluralBranchesModel" "texts" "[I") ∈ lw_all := lw_g (lw_at lw_m7 224 rfl) rfl
theorem q1731 : (Jvm.Cond.fieldLink "PluralBranchesModel" (39 : Nat) "PluralBranchesModel" "parts" "[I") ∈ lw_all := lw_g (lw_at lw_m7 225 rfl) rfl
theorem q1732 : (Jvm.Cond.fieldLink "PluralBranchesModel" (42 : Nat) "PluralBranchesModel" "choices" "[I") ∈ lw_all := lw_g (lw_at lw_m7 226 rfl) rfl
theorem q1733 : (Jvm.Cond.fieldLink "PluralBranchesModel" (45 : Nat) "PluralBranchesModel" "deeps" "[I") ∈ lw_all := lw_g (lw_at lw_m7 227 rfl) rfl
theorem q1734 : (Jvm.Cond.fieldLink "PluralBranchesModel" (48 : Nat) "PluralBranchesModel" "usedSets" "[I") ∈ lw_all := lw_g (lw_at lw_m7 228 rfl) rfl
theorem q1735 : (Jvm.Cond.fieldLink "PluralBranchesModel" (51 : Nat) "PluralBranchesModel" "types" "[I") ∈ lw_all := lw_g (lw_at lw_m7 229 rfl) rfl
theorem q1736 : (Jvm.Cond.fieldLink "PluralBranchesModel" (54 : Nat) "PluralBranchesModel" "choiceArguments" "[I") ∈ lw_all := lw_g (lw_at lw_m7 230 rfl) rfl
theorem q1737 : (Jvm.Cond.fieldLink "PluralBranchesModel" (57 : Nat) "PluralBranchesModel" "choiceKinds" "[I") ∈ lw_all := lw_g (lw_at lw_m7 231 rfl) rfl
theorem q1738 : (Jvm.Cond.fieldLink "PluralBranchesModel" (60 : Nat) "PluralBranchesModel" "choiceAround" "[I") ∈ lw_all := lw_g (lw_at lw_m7 232 rfl) rfl
theorem q1739 : (Jvm.Cond.fieldLink "PluralBranchesModel" (63 : Nat) "PluralBranchesModel" "branchMany" "[I") ∈ lw_all := lw_g (lw_at lw_m7 233 rfl) rfl
theorem q1740 : (Jvm.Cond.fieldLink "PluralBranchesModel" (66 : Nat) "PluralBranchesModel" "branchKeys" "[I") ∈ lw_all := lw_g (lw_at lw_m7 234 rfl) rfl
theorem q1741 : (Jvm.Cond.fieldLink "PluralBranchesModel" (69 : Nat) "PluralBranchesModel" "branchBegins" "[I") ∈ lw_all := lw_g (lw_at lw_m7 235 rfl) rfl
theorem q1742 : (Jvm.Cond.fieldLink "PluralBranchesModel" (72 : Nat) "PluralBranchesModel" "choicePlaces" "[I") ∈ lw_all := lw_g (lw_at lw_m7 236 rfl) rfl
theorem q1743 : (Jvm.Cond.fieldLink "PluralBranchesModel" (202 : Nat) "PluralBranchesModel" "at" "I") ∈ lw_all := lw_g (lw_at lw_m7 237 rfl) rfl
theorem q1744 : (Jvm.Cond.fieldLink "PluralBranchesModel" (223 : Nat) "PluralBranchesModel" "readParts" "I") ∈ lw_all := lw_g (lw_at lw_m7 238 rfl) rfl
theorem q1745 : (Jvm.Cond.fieldLink "PluralBranchesModel" (248 : Nat) "PluralBranchesModel" "readChoices" "I") ∈ lw_all := lw_g (lw_at lw_m7 239 rfl) rfl
theorem q1746 : (Jvm.Cond.fieldLink "PluralBranchesModel" (251 : Nat) "PluralBranchesModel" "readDeep" "I") ∈ lw_all := lw_g (lw_at lw_m8 0 rfl) rfl
theorem q1747 : (Jvm.Cond.fieldLink "PluralBranchesModel" (226 : Nat) "PluralBranchesModel" "readUsed" "I") ∈ lw_all := lw_g (lw_at lw_m8 1 rfl) rfl
theorem q1748 : (Jvm.Cond.fieldLink "PluralBranchesModel" (205 : Nat) "PluralBranchesModel" "wrong" "I") ∈ lw_all := lw_g (lw_at lw_m8 2 rfl) rfl
theorem q1749 : (Jvm.Cond.fieldLink "PluralBranchesModel" (75 : Nat) "PluralBranchesModel" "readTypes" "[I") ∈ lw_all := lw_g (lw_at lw_m8 3 rfl) rfl
theorem q1750 : (Jvm.Cond.fieldLink "PluralBranchesModel" (78 : Nat) "PluralBranchesModel" "readArguments" "[I") ∈ lw_all := lw_g (lw_at lw_m8 4 rfl) rfl
theorem q1751 : (Jvm.Cond.fieldLink "PluralBranchesModel" (81 : Nat) "PluralBranchesModel" "readKinds" "[I") ∈ lw_all := lw_g (lw_at lw_m8 5 rfl) rfl
theorem q1752 : (Jvm.Cond.fieldLink "PluralBranchesModel" (84 : Nat) "PluralBranchesModel" "readAround" "[I") ∈ lw_all := lw_g (lw_at lw_m8 6 rfl) rfl
theorem q1753 : (Jvm.Cond.fieldLink "PluralBranchesModel" (87 : Nat) "PluralBranchesModel" "readMany" "[I") ∈ lw_all := lw_g (lw_at lw_m8 7 rfl) rfl
theorem q1754 : (Jvm.Cond.fieldLink "PluralBranchesModel" (90 : Nat) "PluralBranchesModel" "readKeys" "[I") ∈ lw_all := lw_g (lw_at lw_m8 8 rfl) rfl
theorem q1755 : (Jvm.Cond.fieldLink "PluralBranchesModel" (93 : Nat) "PluralBranchesModel" "readBegins" "[I") ∈ lw_all := lw_g (lw_at lw_m8 9 rfl) rfl
theorem q1756 : (Jvm.Cond.fieldLink "PluralBranchesModel" (96 : Nat) "PluralBranchesModel" "readPlaces" "[I") ∈ lw_all := lw_g (lw_at lw_m8 10 rfl) rfl
theorem q1757 : (Jvm.Cond.fieldLink "PluralBranchesModel" (258 : Nat) "PluralBranchesModel" "grouped" "I") ∈ lw_all := lw_g (lw_at lw_m8 11 rfl) rfl
theorem q1758 : (Jvm.Cond.fieldLink "PluralBranchesModel" (265 : Nat) "PluralBranchesModel" "whole" "I") ∈ lw_all := lw_g (lw_at lw_m8 12 rfl) rfl
theorem q1759 : (Jvm.Cond.fieldLink "PluralBranchesModel" (268 : Nat) "PluralBranchesModel" "least" "I") ∈ lw_all := lw_g (lw_at lw_m8 13 rfl) rfl
theorem q1760 : (Jvm.Cond.fieldLink "PluralBranchesModel" (271 : Nat) "PluralBranchesModel" "most" "I") ∈ lw_all := lw_g (lw_at lw_m8 14 rfl) rfl
theorem q1761 : (Jvm.Cond.fieldLink "PluralBranchesModel" (99 : Nat) "PluralBranchesModel" "holding" "[I") ∈ lw_all := lw_g (lw_at lw_m8 15 rfl) rfl
theorem q1762 : (Jvm.Cond.fieldLink "PluralBranchesModel" (102 : Nat) "PluralBranchesModel" "firsts" "[I") ∈ lw_all := lw_g (lw_at lw_m8 16 rfl) rfl
theorem q1763 : (Jvm.Cond.fieldLink "PluralBranchesModel" (105 : Nat) "PluralBranchesModel" "scales" "[I") ∈ lw_all := lw_g (lw_at lw_m8 17 rfl) rfl
theorem q1764 : (Jvm.Cond.fieldLink "PluralBranchesModel" (108 : Nat) "PluralBranchesModel" "ints" "[I") ∈ lw_all := lw_g (lw_at lw_m8 18 rfl) rfl
theorem q1765 : (Jvm.Cond.fieldLink "PluralBranchesModel" (111 : Nat) "PluralBranchesModel" "output" "[I") ∈ lw_all := lw_g (lw_at lw_m8 19 rfl) rfl
theorem q1766 : (Jvm.Cond.fieldLink "PluralBranchesModel" (414 : Nat) "PluralBranchesModel" "outputSize" "I") ∈ lw_all := lw_g (lw_at lw_m8 20 rfl) rfl
theorem q1767 : (Jvm.Cond.fieldLink "PluralBranchesModel" (114 : Nat) "PluralBranchesModel" "written" "[I") ∈ lw_all := lw_g (lw_at lw_m8 21 rfl) rfl
theorem q1768 : (Jvm.Cond.fieldLink "PluralBranchesModel" (323 : Nat) "PluralBranchesModel" "writtenSize" "I") ∈ lw_all := lw_g (lw_at lw_m8 22 rfl) rfl
theorem q1769 : (Jvm.Cond.fieldLink "PluralBranchesModel" (326 : Nat) "PluralBranchesModel" "language0" "I") ∈ lw_all := lw_g (lw_at lw_m8 23 rfl) rfl
theorem q1770 : (Jvm.Cond.fieldLink "PluralBranchesModel" (390 : Nat) "PluralBranchesModel" "ended" "I") ∈ lw_all := lw_g (lw_at lw_m8 24 rfl) rfl
theorem q1771 : (Jvm.Cond.fieldLink "PluralBranchesModel" (117 : Nat) "PluralBranchesModel" "rowSizes" "[I") ∈ lw_all := lw_g (lw_at lw_m8 25 rfl) rfl
theorem q1772 : (Jvm.Cond.fieldLink "PluralBranchesModel" (120 : Nat) "PluralBranchesModel" "sorts" "[I") ∈ lw_all := lw_g (lw_at lw_m8 26 rfl) rfl
theorem q1773 : (Jvm.Cond.fieldLink "PluralBranchesModel" (123 : Nat) "PluralBranchesModel" "floats" "[F") ∈ lw_all := lw_g (lw_at lw_m8 27 rfl) rfl
theorem q1774 : (Jvm.Cond.fieldLink "PluralBranchesModel" (127 : Nat) "PluralBranchesModel" "doubles" "[D") ∈ lw_all := lw_g (lw_at lw_m8 28 rfl) rfl
theorem q1775 : (Jvm.Cond.fieldLink "PluralBranchesModel" (131 : Nat) "PluralBranchesModel" "longs" "[J") ∈ lw_all := lw_g (lw_at lw_m8 29 rfl) rfl
theorem q1776 : (Jvm.Cond.lays "PluralBranchesModel" "PluralBranchesModel" "conditions" "I") ∈ lw_all := lw_g (lw_at lw_m8 30 rfl) rfl
theorem q1777 : (Jvm.Cond.soleField "PluralBranchesModel" "conditions") ∈ lw_all := lw_g (lw_at lw_m8 31 rfl) rfl
theorem q1778 : (Jvm.Cond.laysFinal "PluralBranchesModel" "PluralBranchesModel" "forWhich" "[I") ∈ lw_all := lw_g (lw_at lw_m8 32 rfl) rfl
theorem q1779 : (Jvm.Cond.soleField "PluralBranchesModel" "forWhich") ∈ lw_all := lw_g (lw_at lw_m8 33 rfl) rfl
theorem q1780 : (Jvm.Cond.laysFinal "PluralBranchesModel" "PluralBranchesModel" "ofWhat" "[I") ∈ lw_all := lw_g (lw_at lw_m8 34 rfl) rfl
theorem q1781 : (Jvm.Cond.soleField "PluralBranchesModel" "ofWhat") ∈ lw_all := lw_g (lw_at lw_m8 35 rfl) rfl
theorem q1782 : (Jvm.Cond.laysFinal "PluralBranchesModel" "PluralBranchesModel" "by" "[I") ∈ lw_all := lw_g (lw_at lw_m8 36 rfl) rfl
theorem q1783 : (Jvm.Cond.soleField "PluralBranchesModel" "by") ∈ lw_all := lw_g (lw_at lw_m8 37 rfl) rfl
theorem q1784 : (Jvm.Cond.laysFinal "PluralBranchesModel" "PluralBranchesModel" "lows" "[I") ∈ lw_all := lw_g (lw_at lw_m8 38 rfl) rfl
theorem q1785 : (Jvm.Cond.soleField "PluralBranchesModel" "lows") ∈ lw_all := lw_g (lw_at lw_m8 39 rfl) rfl
theorem q1786 : (Jvm.Cond.laysFinal "PluralBranchesModel" "PluralBranchesModel" "highs" "[I") ∈ lw_all := lw_g (lw_at lw_m8 40 rfl) rfl
theorem q1787 : (Jvm.Cond.soleField "PluralBranchesModel" "highs") ∈ lw_all := lw_g (lw_at lw_m8 41 rfl) rfl
theorem q1788 : (Jvm.Cond.laysFinal "PluralBranchesModel" "PluralBranchesModel" "nots" "[I") ∈ lw_all := lw_g (lw_at lw_m8 42 rfl) rfl
theorem q1789 : (Jvm.Cond.soleField "PluralBranchesModel" "nots") ∈ lw_all := lw_g (lw_at lw_m8 43 rfl) rfl
theorem q1790 : (Jvm.Cond.laysFinal "PluralBranchesModel" "PluralBranchesModel" "tape" "[I") ∈ lw_all := lw_g (lw_at lw_m8 44 rfl) rfl
theorem q1791 : (Jvm.Cond.soleField "PluralBranchesModel" "tape") ∈ lw_all := lw_g (lw_at lw_m8 45 rfl) rfl
theorem q1792 : (Jvm.Cond.lays "PluralBranchesModel" "PluralBranchesModel" "taped" "I") ∈ lw_all := lw_g (lw_at lw_m8 46 rfl) rfl
theorem q1793 : (Jvm.Cond.soleField "PluralBranchesModel" "taped") ∈ lw_all := lw_g (lw_at lw_m8 47 rfl) rfl
theorem q1794 : (Jvm.Cond.laysFinal "PluralBranchesModel" "PluralBranchesModel" "sizes" "[I") ∈ lw_all := lw_g (lw_at lw_m8 48 rfl) rfl
theorem q1795 : (Jvm.Cond.soleField "PluralBranchesModel" "sizes") ∈ lw_all := lw_g (lw_at lw_m8 49 rfl) rfl
theorem q1796 : (Jvm.Cond.laysFinal "PluralBranchesModel" "PluralBranchesModel" "texts" "[I") ∈ lw_all := lw_g (lw_at lw_m8 50 rfl) rfl
theorem q1797 : (Jvm.Cond.soleField "PluralBranchesModel" "texts") ∈ lw_all := lw_g (lw_at lw_m8 51 rfl) rfl
theorem q1798 : (Jvm.Cond.laysFinal "PluralBranchesModel" "PluralBranchesModel" "parts" "[I") ∈ lw_all := lw_g (lw_at lw_m8 52 rfl) rfl
theorem q1799 : (Jvm.Cond.soleField "PluralBranchesModel" "parts") ∈ lw_all := lw_g (lw_at lw_m8 53 rfl) rfl
theorem q1800 : (Jvm.Cond.laysFinal "PluralBranchesModel" "PluralBranchesModel" "choices" "[I") ∈ lw_all := lw_g (lw_at lw_m8 54 rfl) rfl
theorem q1801 : (Jvm.Cond.soleField "PluralBranchesModel" "choices") ∈ lw_all := lw_g (lw_at lw_m8 55 rfl) rfl
theorem q1802 : (Jvm.Cond.laysFinal "PluralBranchesModel" "PluralBranchesModel" "deeps" "[I") ∈ lw_all := lw_g (lw_at lw_m8 56 rfl) rfl
theorem q1803 : (Jvm.Cond.soleField "PluralBranchesModel" "deeps") ∈ lw_all := lw_g (lw_at lw_m8 57 rfl) rfl
theorem q1804 : (Jvm.Cond.laysFinal "PluralBranchesModel" "PluralBranchesModel" "usedSets" "[I") ∈ lw_all := lw_g (lw_at lw_m8 58 rfl) rfl
theorem q1805 : (Jvm.Cond.soleField "PluralBranchesModel" "usedSets") ∈ lw_all := lw_g (lw_at lw_m8 59 rfl) rfl
theorem q1806 : (Jvm.Cond.laysFinal "PluralBranchesModel" "PluralBranchesModel" "types" "[I") ∈ lw_all := lw_g (lw_at lw_m8 60 rfl) rfl
theorem q1807 : (Jvm.Cond.soleField "PluralBranchesModel" "types") ∈ lw_all := lw_g (lw_at lw_m8 61 rfl) rfl
theorem q1808 : (Jvm.Cond.laysFinal "PluralBranchesModel" "PluralBranchesModel" "choiceArguments" "[I") ∈ lw_all := lw_g (lw_at lw_m8 62 rfl) rfl
theorem q1809 : (Jvm.Cond.soleField "PluralBranchesModel" "choiceArguments") ∈ lw_all := lw_g (lw_at lw_m8 63 rfl) rfl
theorem q1810 : (Jvm.Cond.laysFinal "PluralBranchesModel" "PluralBranchesModel" "choiceKinds" "[I") ∈ lw_all := lw_g (lw_at lw_m8 64 rfl) rfl
theorem q1811 : (Jvm.Cond.soleField "PluralBranchesModel" "choiceKinds") ∈ lw_all := lw_g (lw_at lw_m8 65 rfl) rfl
theorem q1812 : (Jvm.Cond.laysFinal "PluralBranchesModel" "PluralBranchesModel" "choiceAround" "[I") ∈ lw_all := lw_g (lw_at lw_m8 66 rfl) rfl
theorem q1813 : (Jvm.Cond.soleField "PluralBranchesModel" "choiceAround") ∈ lw_all := lw_g (lw_at lw_m8 67 rfl) rfl
theorem q1814 : (Jvm.Cond.laysFinal "PluralBranchesModel" "PluralBranchesModel" "branchMany" "[I") ∈ lw_all := lw_g (lw_at lw_m8 68 rfl) rfl
theorem q1815 : (Jvm.Cond.soleField "PluralBranchesModel" "branchMany") ∈ lw_all := lw_g (lw_at lw_m8 69 rfl) rfl
theorem q1816 : (Jvm.Cond.laysFinal "PluralBranchesModel" "PluralBranchesModel" "branchKeys" "[I") ∈ lw_all := lw_g (lw_at lw_m8 70 rfl) rfl
theorem q1817 : (Jvm.Cond.soleField "PluralBranchesModel" "branchKeys") ∈ lw_all := lw_g (lw_at lw_m8 71 rfl) rfl
theorem q1818 : (Jvm.Cond.laysFinal "PluralBranchesModel" "PluralBranchesModel" "branchBegins" "[I") ∈ lw_all := lw_g (lw_at lw_m8 72 rfl) rfl
theorem q1819 : (Jvm.Cond.soleField "PluralBranchesModel" "branchBegins") ∈ lw_all := lw_g (lw_at lw_m8 73 rfl) rfl
theorem q1820 : (Jvm.Cond.laysFinal "PluralBranchesModel" "PluralBranchesModel" "choicePlaces" "[I") ∈ lw_all := lw_g (lw_at lw_m8 74 rfl) rfl
theorem q1821 : (Jvm.Cond.soleField "PluralBranchesModel" "choicePlaces") ∈ lw_all := lw_g (lw_at lw_m8 75 rfl) rfl
theorem q1822 : (Jvm.Cond.lays "PluralBranchesModel" "PluralBranchesModel" "at" "I") ∈ lw_all := lw_g (lw_at lw_m8 76 rfl) rfl
theorem q1823 : (Jvm.Cond.soleField "PluralBranchesModel" "at") ∈ lw_all := lw_g (lw_at lw_m8 77 rfl) rfl
theorem q1824 : (Jvm.Cond.lays "PluralBranchesModel" "PluralBranchesModel" "readParts" "I") ∈ lw_all := lw_g (lw_at lw_m8 78 rfl) rfl
theorem q1825 : (Jvm.Cond.soleField "PluralBranchesModel" "readParts") ∈ lw_all := lw_g (lw_at lw_m8 79 rfl) rfl
theorem q1826 : (Jvm.Cond.lays "PluralBranchesModel" "PluralBranchesModel" "readChoices" "I") ∈ lw_all := lw_g (lw_at lw_m8 80 rfl) rfl
theorem q1827 : (Jvm.Cond.soleField "PluralBranchesModel" "readChoices") ∈ lw_all := lw_g (lw_at lw_m8 81 rfl) rfl
theorem q1828 : (Jvm.Cond.lays "PluralBranchesModel" "PluralBranchesModel" "readDeep" "I") ∈ lw_all := lw_g (lw_at lw_m8 82 rfl) rfl
theorem q1829 : (Jvm.Cond.soleField "PluralBranchesModel" "readDeep") ∈ lw_all := lw_g (lw_at lw_m8 83 rfl) rfl
theorem q1830 : (Jvm.Cond.lays "PluralBranchesModel" "PluralBranchesModel" "readUsed" "I") ∈ lw_all := lw_g (lw_at lw_m8 84 rfl) rfl
theorem q1831 : (Jvm.Cond.soleField "PluralBranchesModel" "readUsed") ∈ lw_all := lw_g (lw_at lw_m8 85 rfl) rfl
theorem q1832 : (Jvm.Cond.lays "PluralBranchesModel" "PluralBranchesModel" "wrong" "I") ∈ lw_all := lw_g (lw_at lw_m8 86 rfl) rfl
theorem q1833 : (Jvm.Cond.soleField "PluralBranchesModel" "wrong") ∈ lw_all := lw_g (lw_at lw_m8 87 rfl) rfl
theorem q1834 : (Jvm.Cond.laysFinal "PluralBranchesModel" "PluralBranchesModel" "readTypes" "[I") ∈ lw_all := lw_g (lw_at lw_m8 88 rfl) rfl
theorem q1835 : (Jvm.Cond.soleField "PluralBranchesModel" "readTypes") ∈ lw_all := lw_g (lw_at lw_m8 89 rfl) rfl
theorem q1836 : (Jvm.Cond.laysFinal "PluralBranchesModel" "PluralBranchesModel" "readArguments" "[I") ∈ lw_all := lw_g (lw_at lw_m8 90 rfl) rfl
theorem q1837 : (Jvm.Cond.soleField "PluralBranchesModel" "readArguments") ∈ lw_all := lw_g (lw_at lw_m8 91 rfl) rfl
theorem q1838 : (Jvm.Cond.laysFinal "PluralBranchesModel" "PluralBranchesModel" "readKinds" "[I") ∈ lw_all := lw_g (lw_at lw_m8 92 rfl) rfl
theorem q1839 : (Jvm.Cond.soleField "PluralBranchesModel" "readKinds") ∈ lw_all := lw_g (lw_at lw_m8 93 rfl) rfl
theorem q1840 : (Jvm.Cond.laysFinal "PluralBranchesModel" "PluralBranchesModel" "readAround" "[I") ∈ lw_all := lw_g (lw_at lw_m8 94 rfl) rfl
theorem q1841 : (Jvm.Cond.soleField "PluralBranchesModel" "readAround") ∈ lw_all := lw_g (lw_at lw_m8 95 rfl) rfl
theorem q1842 : (Jvm.Cond.laysFinal "PluralBranchesModel" "PluralBranchesModel" "readMany" "[I") ∈ lw_all := lw_g (lw_at lw_m8 96 rfl) rfl
theorem q1843 : (Jvm.Cond.soleField "PluralBranchesModel" "readMany") ∈ lw_all := lw_g (lw_at lw_m8 97 rfl) rfl
theorem q1844 : (Jvm.Cond.laysFinal "PluralBranchesModel" "PluralBranchesModel" "readKeys" "[I") ∈ lw_all := lw_g (lw_at lw_m8 98 rfl) rfl
theorem q1845 : (Jvm.Cond.soleField "PluralBranchesModel" "readKeys") ∈ lw_all := lw_g (lw_at lw_m8 99 rfl) rfl
theorem q1846 : (Jvm.Cond.laysFinal "PluralBranchesModel" "PluralBranchesModel" "readBegins" "[I") ∈ lw_all := lw_g (lw_at lw_m8 100 rfl) rfl
theorem q1847 : (Jvm.Cond.soleField "PluralBranchesModel" "readBegins") ∈ lw_all := lw_g (lw_at lw_m8 101 rfl) rfl
theorem q1848 : (Jvm.Cond.laysFinal "PluralBranchesModel" "PluralBranchesModel" "readPlaces" "[I") ∈ lw_all := lw_g (lw_at lw_m8 102 rfl) rfl
theorem q1849 : (Jvm.Cond.soleField "PluralBranchesModel" "readPlaces") ∈ lw_all := lw_g (lw_at lw_m8 103 rfl) rfl
theorem q1850 : (Jvm.Cond.lays "PluralBranchesModel" "PluralBranchesModel" "grouped" "I") ∈ lw_all := lw_g (lw_at lw_m8 104 rfl) rfl
theorem q1851 : (Jvm.Cond.soleField "PluralBranchesModel" "grouped") ∈ lw_all := lw_g (lw_at lw_m8 105 rfl) rfl
theorem q1852 : (Jvm.Cond.lays "PluralBranchesModel" "PluralBranchesModel" "whole" "I") ∈ lw_all := lw_g (lw_at lw_m8 106 rfl) rfl
theorem q1853 : (Jvm.Cond.soleField "PluralBranchesModel" "whole") ∈ lw_all := lw_g (lw_at lw_m8 107 rfl) rfl
theorem q1854 : (Jvm.Cond.lays "PluralBranchesModel" "PluralBranchesModel" "least" "I") ∈ lw_all := lw_g (lw_at lw_m8 108 rfl) rfl
theorem q1855 : (Jvm.Cond.soleField "PluralBranchesModel" "least") ∈ lw_all := lw_g (lw_at lw_m8 109 rfl) rfl
theorem q1856 : (Jvm.Cond.lays "PluralBranchesModel" "PluralBranchesModel" "most" "I") ∈ lw_all := lw_g (lw_at lw_m8 110 rfl) rfl
theorem q1857 : (Jvm.Cond.soleField "PluralBranchesModel" "most") ∈ lw_all := lw_g (lw_at lw_m8 111 rfl) rfl
theorem q1858 : (Jvm.Cond.laysFinal "PluralBranchesModel" "PluralBranchesModel" "holding" "[I") ∈ lw_all := lw_g (lw_at lw_m8 112 rfl) rfl
theorem q1859 : (Jvm.Cond.soleField "PluralBranchesModel" "holding") ∈ lw_all := lw_g (lw_at lw_m8 113 rfl) rfl
theorem q1860 : (Jvm.Cond.laysFinal "PluralBranchesModel" "PluralBranchesModel" "firsts" "[I") ∈ lw_all := lw_g (lw_at lw_m8 114 rfl) rfl
theorem q1861 : (Jvm.Cond.soleField "PluralBranchesModel" "firsts") ∈ lw_all := lw_g (lw_at lw_m8 115 rfl) rfl
theorem q1862 : (Jvm.Cond.laysFinal "PluralBranchesModel" "PluralBranchesModel" "scales" "[I") ∈ lw_all := lw_g (lw_at lw_m8 116 rfl) rfl
theorem q1863 : (Jvm.Cond.soleField "PluralBranchesModel" "scales") ∈ lw_all := lw_g (lw_at lw_m8 117 rfl) rfl
theorem q1864 : (Jvm.Cond.laysFinal "PluralBranchesModel" "PluralBranchesModel" "ints" "[I") ∈ lw_all := lw_g (lw_at lw_m8 118 rfl) rfl
theorem q1865 : (Jvm.Cond.soleField "PluralBranchesModel" "ints") ∈ lw_all := lw_g (lw_at lw_m8 119 rfl) rfl
theorem q1866 : (Jvm.Cond.laysFinal "PluralBranchesModel" "PluralBranchesModel" "output" "[I") ∈ lw_all := lw_g (lw_at lw_m8 120 rfl) rfl
theorem q1867 : (Jvm.Cond.soleField "PluralBranchesModel" "output") ∈ lw_all := lw_g (lw_at lw_m8 121 rfl) rfl
theorem q1868 : (Jvm.Cond.lays "PluralBranchesModel" "PluralBranchesModel" "outputSize" "I") ∈ lw_all := lw_g (lw_at lw_m8 122 rfl) rfl
theorem q1869 : (Jvm.Cond.soleField "PluralBranchesModel" "outputSize") ∈ lw_all := lw_g (lw_at lw_m8 123 rfl) rfl
theorem q1870 : (Jvm.Cond.laysFinal "PluralBranchesModel" "PluralBranchesModel" "written" "[I") ∈ lw_all := lw_g (lw_at lw_m8 124 rfl) rfl
theorem q1871 : (Jvm.Cond.soleField "PluralBranchesModel" "written") ∈ lw_all := lw_g (lw_at lw_m8 125 rfl) rfl
theorem q1872 : (Jvm.Cond.lays "PluralBranchesModel" "PluralBranchesModel" "writtenSize" "I") ∈ lw_all := lw_g (lw_at lw_m8 126 rfl) rfl
theorem q1873 : (Jvm.Cond.soleField "PluralBranchesModel" "writtenSize") ∈ lw_all := lw_g (lw_at lw_m8 127 rfl) rfl
theorem q1874 : (Jvm.Cond.lays "PluralBranchesModel" "PluralBranchesModel" "language0" "I") ∈ lw_all := lw_g (lw_at lw_m8 128 rfl) rfl
theorem q1875 : (Jvm.Cond.soleField "PluralBranchesModel" "language0") ∈ lw_all := lw_g (lw_at lw_m8 129 rfl) rfl
theorem q1876 : (Jvm.Cond.lays "PluralBranchesModel" "PluralBranchesModel" "ended" "I") ∈ lw_all := lw_g (lw_at lw_m8 130 rfl) rfl
theorem q1877 : (Jvm.Cond.soleField "PluralBranchesModel" "ended") ∈ lw_all := lw_g (lw_at lw_m8 131 rfl) rfl
theorem q1878 : (Jvm.Cond.laysFinal "PluralBranchesModel" "PluralBranchesModel" "rowSizes" "[I") ∈ lw_all := lw_g (lw_at lw_m8 132 rfl) rfl
theorem q1879 : (Jvm.Cond.soleField "PluralBranchesModel" "rowSizes") ∈ lw_all := lw_g (lw_at lw_m8 133 rfl) rfl
theorem q1880 : (Jvm.Cond.laysFinal "PluralBranchesModel" "PluralBranchesModel" "sorts" "[I") ∈ lw_all := lw_g (lw_at lw_m8 134 rfl) rfl
theorem q1881 : (Jvm.Cond.soleField "PluralBranchesModel" "sorts") ∈ lw_all := lw_g (lw_at lw_m8 135 rfl) rfl
theorem q1882 : (Jvm.Cond.laysFinal "PluralBranchesModel" "PluralBranchesModel" "floats" "[F") ∈ lw_all := lw_g (lw_at lw_m8 136 rfl) rfl
theorem q1883 : (Jvm.Cond.soleField "PluralBranchesModel" "floats") ∈ lw_all := lw_g (lw_at lw_m8 137 rfl) rfl
theorem q1884 : (Jvm.Cond.laysFinal "PluralBranchesModel" "PluralBranchesModel" "doubles" "[D") ∈ lw_all := lw_g (lw_at lw_m8 138 rfl) rfl
theorem q1885 : (Jvm.Cond.soleField "PluralBranchesModel" "doubles") ∈ lw_all := lw_g (lw_at lw_m8 139 rfl) rfl
theorem q1886 : (Jvm.Cond.laysFinal "PluralBranchesModel" "PluralBranchesModel" "longs" "[J") ∈ lw_all := lw_g (lw_at lw_m8 140 rfl) rfl
theorem q1887 : (Jvm.Cond.soleField "PluralBranchesModel" "longs") ∈ lw_all := lw_g (lw_at lw_m8 141 rfl) rfl
theorem q1888 : (Jvm.Cond.superclass "PluralBranchesModel" "java/lang/Object") ∈ lw_all := lw_g (lw_at lw_m8 142 rfl) rfl
theorem q1890 : (Jvm.Cond.instanceMethod ({ cls := "PluralBranchesModel", name := "operand", desc := "(III)J" } : Jvm.MethodName)) ∈ lw_all := lw_g (lw_at lw_m8 144 rfl) rfl
theorem q1891 : (Jvm.Cond.selects "PluralBranchesModel" ({ cls := "PluralBranchesModel", name := "operand", desc := "(III)J" } : Jvm.MethodName) ({ cls := "PluralBranchesModel", name := "operand", desc := "(III)J" } : Jvm.MethodName)) ∈ lw_all := lw_g (lw_at lw_m8 145 rfl) rfl
theorem q1892 : (Jvm.Cond.code ({ cls := "PluralBranchesModel", name := "operand", desc := "(III)J" } : Jvm.MethodName) prog_31_method_5_code (4 : Nat) (Option.some Jvm.ClassFile.FieldType.long)) ∈ lw_all := lw_g (lw_at lw_m8 146 rfl) rfl
theorem q1893 : (Jvm.Cond.constantLong "PluralBranchesModel" (141 : Nat) (6 : Int64)) ∈ lw_all := lw_g (lw_at lw_m8 147 rfl) rfl
theorem q1894 : (Jvm.Cond.methodLink "PluralBranchesModel" (143 : Nat) ({ cls := "PluralBranchesModel", name := "in", desc := "(JJJ)Z" } : Jvm.MethodName)) ∈ lw_all := lw_g (lw_at lw_m8 148 rfl) rfl
theorem q1895 : (Jvm.Cond.static ({ cls := "PluralBranchesModel", name := "in", desc := "(JJJ)Z" } : Jvm.MethodName)) ∈ lw_all := lw_g (lw_at lw_m8 149 rfl) rfl
theorem q1896 : (Jvm.Cond.code ({ cls := "PluralBranchesModel", name := "in", desc := "(JJJ)Z" } : Jvm.MethodName) prog_31_method_2_code (6 : Nat) (Option.some Jvm.ClassFile.FieldType.boolean)) ∈ lw_all := lw_g (lw_at lw_m8 150 rfl) rfl
theorem q1897 : (Jvm.Cond.constantLong "PluralBranchesModel" (147 : Nat) (4 : Int64)) ∈ lw_all := lw_g (lw_at lw_m8 151 rfl) rfl
theorem q1898 : (Jvm.Cond.methodLink "PluralBranchesModel" (149 : Nat) ({ cls := "PluralBranchesModel", name := "operandOf", desc := "(III)J" } : Jvm.MethodName)) ∈ lw_all := lw_g (lw_at lw_m8 152 rfl) rfl
theorem q1899 : (Jvm.Cond.static ({ cls := "PluralBranchesModel", name := "operandOf", desc := "(III)J" } : Jvm.MethodName)) ∈ lw_all := lw_g (lw_at lw_m8 153 rfl) rfl
theorem q1900 : (Jvm.Cond.code ({ cls := "PluralBranchesModel", name := "operandOf", desc := "(III)J" } : Jvm.MethodName) prog_31_method_4_code (10 : Nat) (Option.some Jvm.ClassFile.FieldType.long)) ∈ lw_all := lw_g (lw_at lw_m8 154 rfl) rfl
theorem q1901 : (Jvm.Cond.methodLink "PluralBranchesModel" (137 : Nat) ({ cls := "PluralBranchesModel", name := "tens", desc := "(I)J" } : Jvm.MethodName)) ∈ lw_all := lw_g (lw_at lw_m8 155 rfl) rfl
theorem q1902 : (Jvm.Cond.static ({ cls := "PluralBranchesModel", name := "tens", desc := "(I)J" } : Jvm.MethodName)) ∈ lw_all := lw_g (lw_at lw_m8 156 rfl) rfl
theorem q1903 : (Jvm.Cond.code ({ cls := "PluralBranchesModel", name := "tens", desc := "(I)J" } : Jvm.MethodName) prog_31_method_3_code (4 : Nat) (Option.some Jvm.ClassFile.FieldType.long)) ∈ lw_all := lw_g (lw_at lw_m8 157 rfl) rfl
theorem q1904 : (Jvm.Cond.constantLong "PluralBranchesModel" (135 : Nat) (10 : Int64)) ∈ lw_all := lw_g (lw_at lw_m8 158 rfl) rfl
theorem q1905 : (Jvm.Cond.constantLong "PluralBranchesModel" (153 : Nat) (-9223372036854775808 : Int64)) ∈ lw_all := lw_g (lw_at lw_m8 159 rfl) rfl
theorem q1907 : (Jvm.Cond.instanceMethod ({ cls := "PluralBranchesModel", name := "condition", desc := "(IIIIII)I" } : Jvm.MethodName)) ∈ lw_all := lw_g (lw_at lw_m8 161 rfl) rfl
theorem q1908 : (Jvm.Cond.selects "PluralBranchesModel" ({ cls := "PluralBranchesModel", name := "condition", desc := "(IIIIII)I" } : Jvm.MethodName) ({ cls := "PluralBranchesModel", name := "condition", desc := "(IIIIII)I" } : Jvm.MethodName)) ∈ lw_all := lw_g (lw_at lw_m8 162 rfl) rfl
theorem q1909 : (Jvm.Cond.code ({ cls := "PluralBranchesModel", name := "condition", desc := "(IIIIII)I" } : Jvm.MethodName) prog_31_method_6_code (7 : Nat) (Option.some Jvm.ClassFile.FieldType.int)) ∈ lw_all := lw_g (lw_at lw_m8 163 rfl) rfl
theorem q1910 : (Jvm.Cond.constantLong "PluralBranchesModel" (155 : Nat) (1000 : Int64)) ∈ lw_all := lw_g (lw_at lw_m8 164 rfl) rfl
theorem q1912 : (Jvm.Cond.instanceMethod ({ cls := "PluralBranchesModel", name := "plain", desc := "()I" } : Jvm.MethodName)) ∈ lw_all := lw_g (lw_at lw_m8 166 rfl) rfl
theorem q1913 : (Jvm.Cond.selects "PluralBranchesModel" ({ cls := "PluralBranchesModel", name := "plain", desc := "()I" } : Jvm.MethodName) ({ cls := "PluralBranchesModel", name := "plain", desc := "()I" } : Jvm.MethodName)) ∈ lw_all := lw_g (lw_at lw_m8 167 rfl) rfl
theorem q1914 : (Jvm.Cond.code ({ cls := "PluralBranchesModel", name := "plain", desc := "()I" } : Jvm.MethodName) prog_31_method_7_code (2 : Nat) (Option.some Jvm.ClassFile.FieldType.int)) ∈ lw_all := lw_g (lw_at lw_m8 168 rfl) rfl
theorem q1916 : (Jvm.Cond.instanceMethod ({ cls := "PluralBranchesModel", name := "category", desc := "(III)I" } : Jvm.MethodName)) ∈ lw_all := lw_g (lw_at lw_m8 170 rfl) rfl
theorem q1917 : (Jvm.Cond.selects "PluralBranchesModel" ({ cls := "PluralBranchesModel", name := "category", desc := "(III)I" } : Jvm.MethodName) ({ cls := "PluralBranchesModel", name := "category", desc := "(III)I" } : Jvm.MethodName)) ∈ lw_all := lw_g (lw_at lw_m8 171 rfl) rfl
theorem q1918 : (Jvm.Cond.code ({ cls := "PluralBranchesModel", name := "category", desc := "(III)I" } : Jvm.MethodName) prog_31_method_12_code (4 : Nat) (Option.some Jvm.ClassFile.FieldType.int)) ∈ lw_all := lw_g (lw_at lw_m8 172 rfl) rfl
theorem q1919 : (Jvm.Cond.methodLink "PluralBranchesModel" (185 : Nat) ({ cls := "PluralBranchesModel", name := "isLanguage", desc := "(I)Z" } : Jvm.MethodName)) ∈ lw_all := lw_g (lw_at lw_m8 173 rfl) rfl
theorem q1920 : (Jvm.Cond.static ({ cls := "PluralBranchesModel", name := "isLanguage", desc := "(I)Z" } : Jvm.MethodName)) ∈ lw_all := lw_g (lw_at lw_m8 174 rfl) rfl
theorem q1921 : (Jvm.Cond.code ({ cls := "PluralBranchesModel", name := "isLanguage", desc := "(I)Z" } : Jvm.MethodName) prog_31_method_11_code (1 : Nat) (Option.some Jvm.ClassFile.FieldType.boolean)) ∈ lw_all := lw_g (lw_at lw_m8 175 rfl) rfl
theorem q1922 : (Jvm.Cond.methodLink "PluralBranchesModel" (189 : Nat) ({ cls := "PluralBranchesModel", name := "categoryOf", desc := "(III)I" } : Jvm.MethodName)) ∈ lw_all := lw_g (lw_at lw_m8 176 rfl) rfl
theorem q1923 : (Jvm.Cond.privateMethod ({ cls := "PluralBranchesModel", name := "categoryOf", desc := "(III)I" } : Jvm.MethodName)) ∈ lw_tbl := lw_at lw_m8 177 rfl
theorem q1924 : (Jvm.Cond.instanceMethod ({ cls := "PluralBranchesModel", name := "categoryOf", desc := "(III)I" } : Jvm.MethodName)) ∈ lw_all := lw_g (lw_at lw_m8 178 rfl) rfl
theorem q1925 : (Jvm.Cond.code ({ cls := "PluralBranchesModel", name := "categoryOf", desc := "(III)I" } : Jvm.MethodName) prog_31_method_10_code (5 : Nat) (Option.some Jvm.ClassFile.FieldType.int)) ∈ lw_all := lw_g (lw_at lw_m8 179 rfl) rfl
theorem q1926 : (Jvm.Cond.methodLink "PluralBranchesModel" (181 : Nat) ({ cls := "PluralBranchesModel", name := "holds", desc := "(IIII)Z" } : Jvm.MethodName)) ∈ lw_all := lw_g (lw_at lw_m8 180 rfl) rfl
theorem q1927 : (Jvm.Cond.privateMethod ({ cls := "PluralBranchesModel", name := "holds", desc := "(IIII)Z" } : Jvm.MethodName)) ∈ lw_tbl := lw_at lw_m8 181 rfl
theorem q1928 : (Jvm.Cond.instanceMethod ({ cls := "PluralBranchesModel", name := "holds", desc := "(IIII)Z" } : Jvm.MethodName)) ∈ lw_all := lw_g (lw_at lw_m8 182 rfl) rfl
theorem q1929 : (Jvm.Cond.code ({ cls := "PluralBranchesModel", name := "holds", desc := "(IIII)Z" } : Jvm.MethodName) prog_31_method_9_code (14 : Nat) (Option.some Jvm.ClassFile.FieldType.boolean)) ∈ lw_all := lw_g (lw_at lw_m8 183 rfl) rfl
theorem q1930 : (Jvm.Cond.constantLong "PluralBranchesModel" (161 : Nat) (100 : Int64)) ∈ lw_all := lw_g (lw_at lw_m8 184 rfl) rfl
theorem q1931 : (Jvm.Cond.constantLong "PluralBranchesModel" (163 : Nat) (2 : Int64)) ∈ lw_all := lw_g (lw_at lw_m8 185 rfl) rfl
theorem q1932 : (Jvm.Cond.constantLong "PluralBranchesModel" (165 : Nat) (12 : Int64)) ∈ lw_all := lw_g (lw_at lw_m8 186 rfl) rfl
theorem q1933 : (Jvm.Cond.constantLong "PluralBranchesModel" (167 : Nat) (14 : Int64)) ∈ lw_all := lw_g (lw_at lw_m8 187 rfl) rfl
theorem q1934 : (Jvm.Cond.constantLong "PluralBranchesModel" (169 : Nat) (11 : Int64)) ∈ lw_all := lw_g (lw_at lw_m8 188 rfl) rfl
theorem q1935 : (Jvm.Cond.constantLong "PluralBranchesModel" (171 : Nat) (19 : Int64)) ∈ lw_all := lw_g (lw_at lw_m8 189 rfl) rfl
theorem q1936 : (Jvm.Cond.constantLong "PluralBranchesModel" (173 : Nat) (3 : Int64)) ∈ lw_all := lw_g (lw_at lw_m8 190 rfl) rfl
theorem q1937 : (Jvm.Cond.constantLong "PluralBranchesModel" (175 : Nat) (99 : Int64)) ∈ lw_all := lw_g (lw_at lw_m8 191 rfl) rfl
theorem q1938 : (Jvm.Cond.methodLink "PluralBranchesModel" (177 : Nat) ({ cls := "PluralBranchesModel", name := "ownHolds", desc := "(III)Z" } : Jvm.MethodName)) ∈ lw_all := lw_g (lw_at lw_m8 192 rfl) rfl
theorem q1939 : (Jvm.Cond.privateMethod ({ cls := "PluralBranchesModel", name := "ownHolds", desc := "(III)Z" } : Jvm.MethodName)) ∈ lw_tbl := lw_at lw_m8 193 rfl
theorem q1940 : (Jvm.Cond.instanceMethod ({ cls := "PluralBranchesModel", name := "ownHolds", desc := "(III)Z" } : Jvm.MethodName)) ∈ lw_all := lw_g (lw_at lw_m8 194 rfl) rfl
theorem q1941 : (Jvm.Cond.code ({ cls := "PluralBranchesModel", name := "ownHolds", desc := "(III)Z" } : Jvm.MethodName) prog_31_method_8_code (8 : Nat) (Option.some Jvm.ClassFile.FieldType.boolean)) ∈ lw_all := lw_g (lw_at lw_m8 195 rfl) rfl
theorem q1943 : (Jvm.Cond.instanceMethod ({ cls := "PluralBranchesModel", name := "used", desc := "(I)I" } : Jvm.MethodName)) ∈ lw_all := lw_g (lw_at lw_m8 197 rfl) rfl
theorem q1944 : (Jvm.Cond.selects "PluralBranchesModel" ({ cls := "PluralBranchesModel", name := "used", desc := "(I)I" } : Jvm.MethodName) ({ cls := "PluralBranchesModel", name := "used", desc := "(I)I" } : Jvm.MethodName)) ∈ lw_all := lw_g (lw_at lw_m8 198 rfl) rfl
theorem q1945 : (Jvm.Cond.code ({ cls := "PluralBranchesModel", name := "used", desc := "(I)I" } : Jvm.MethodName) prog_31_method_14_code (2 : Nat) (Option.some Jvm.ClassFile.FieldType.int)) ∈ lw_all := lw_g (lw_at lw_m8 199 rfl) rfl
theorem q1946 : (Jvm.Cond.methodLink "PluralBranchesModel" (193 : Nat) ({ cls := "PluralBranchesModel", name := "usedBy", desc := "(I)I" } : Jvm.MethodName)) ∈ lw_all := lw_g (lw_at lw_m8 200 rfl) rfl
theorem q1947 : (Jvm.Cond.privateMethod ({ cls := "PluralBranchesModel", name := "usedBy", desc := "(I)I" } : Jvm.MethodName)) ∈ lw_tbl := lw_at lw_m8 201 rfl
theorem q1948 : (Jvm.Cond.instanceMethod ({ cls := "PluralBranchesModel", name := "usedBy", desc := "(I)I" } : Jvm.MethodName)) ∈ lw_all := lw_g (lw_at lw_m8 202 rfl) rfl
theorem q1949 : (Jvm.Cond.code ({ cls := "PluralBranchesModel", name := "usedBy", desc := "(I)I" } : Jvm.MethodName) prog_31_method_13_code (4 : Nat) (Option.some Jvm.ClassFile.FieldType.int)) ∈ lw_all := lw_g (lw_at lw_m8 203 rfl) rfl
theorem q1951 : (Jvm.Cond.instanceMethod ({ cls := "PluralBranchesModel", name := "feed", desc := "(I)I" } : Jvm.MethodName)) ∈ lw_all := lw_g (lw_at lw_m8 205 rfl) rfl
theorem q1952 : (Jvm.Cond.selects "PluralBranchesModel" ({ cls := "PluralBranchesModel", name := "feed", desc := "(I)I" } : Jvm.MethodName) ({ cls := "PluralBranchesModel", name := "feed", desc := "(I)I" } : Jvm.MethodName)) ∈ lw_all := lw_g (lw_at lw_m8 206 rfl) rfl
theorem q1953 : (Jvm.Cond.code ({ cls := "PluralBranchesModel", name := "feed", desc := "(I)I" } : Jvm.MethodName) prog_31_method_15_code (2 : Nat) (Option.some Jvm.ClassFile.FieldType.int)) ∈ lw_all := lw_g (lw_at lw_m8 207 rfl) rfl
theorem q1954 : (Jvm.Cond.constantLong "PluralBranchesModel" (197 : Nat) (255 : Int64)) ∈ lw_all := lw_g (lw_at lw_m8 208 rfl) rfl
theorem q1956 : (Jvm.Cond.instanceMethod ({ cls := "PluralBranchesModel", name := "wipe", desc := "()I" } : Jvm.MethodName)) ∈ lw_all := lw_g (lw_at lw_m8 210 rfl) rfl
theorem q1957 : (Jvm.Cond.selects "PluralBranchesModel" ({ cls := "PluralBranchesModel", name := "wipe", desc := "()I" } : Jvm.MethodName) ({ cls := "PluralBranchesModel", name := "wipe", desc := "()I" } : Jvm.MethodName)) ∈ lw_all := lw_g (lw_at lw_m8 211 rfl) rfl
theorem q1958 : (Jvm.Cond.code ({ cls := "PluralBranchesModel", name := "wipe", desc := "()I" } : Jvm.MethodName) prog_31_method_16_code (2 : Nat) (Option.some Jvm.ClassFile.FieldType.int)) ∈ lw_all := lw_g (lw_at lw_m8 212 rfl) rfl
theorem q1960 : (Jvm.Cond.instanceMethod ({ cls := "PluralBranchesModel", name := "read", desc := "(I)I" } : Jvm.MethodName)) ∈ lw_all := lw_g (lw_at lw_m8 214 rfl) rfl
theorem q1961 : (Jvm.Cond.selects "PluralBranchesModel" ({ cls := "PluralBranchesModel", name := "read", desc := "(I)I" } : Jvm.MethodName) ({ cls := "PluralBranchesModel", name := "read", desc := "(I)I" } : Jvm.MethodName)) ∈ lw_all := lw_g (lw_at lw_m8 215 rfl) rfl
theorem q1962 : (Jvm.Cond.code ({ cls := "PluralBranchesModel", name := "read", desc := "(I)I" } : Jvm.MethodName) prog_31_method_30_code (5 : Nat) (Option.some Jvm.ClassFile.FieldType.int)) ∈ lw_all := lw_g (lw_at lw_m8 216 rfl) rfl
theorem q1963 : (Jvm.Cond.methodLink "PluralBranchesModel" (287 : Nat) ({ cls := "PluralBranchesModel", name := "isSlot", desc := "(I)Z" } : Jvm.MethodName)) ∈ lw_all := lw_g (lw_at lw_m8 217 rfl) rfl
theorem q1964 : (Jvm.Cond.static ({ cls := "PluralBranchesModel", name := "isSlot", desc := "(I)Z" } : Jvm.MethodName)) ∈ lw_all := lw_g (lw_at lw_m8 218 rfl) rfl
theorem q1965 : (Jvm.Cond.code ({ cls := "PluralBranchesModel", name := "isSlot", desc := "(I)Z" } : Jvm.MethodName) prog_31_method_29_code (1 : Nat) (Option.some Jvm.ClassFile.FieldType.boolean)) ∈ lw_all := lw_g (lw_at lw_m8 219 rfl) rfl
theorem q1966 : (Jvm.Cond.methodLink "PluralBranchesModel" (284 : Nat) ({ cls := "PluralBranchesModel", name := "readsMessage", desc := "(IZ)Z" } : Jvm.MethodName)) ∈ lw_all := lw_g (lw_at lw_m8 220 rfl) rfl
theorem q1967 : (Jvm.Cond.privateMethod ({ cls := "PluralBranchesModel", name := "readsMessage", desc := "(IZ)Z" } : Jvm.MethodName)) ∈ lw_tbl := lw_at lw_m8 221 rfl
theorem q1968 : (Jvm.Cond.instanceMethod ({ cls := "PluralBranchesModel", name := "readsMessage", desc := "(IZ)Z" } : Jvm.MethodName)) ∈ lw_all := lw_g (lw_at lw_m8 222 rfl) rfl
theorem q1969 : (Jvm.Cond.code ({ cls := "PluralBranchesModel", name := "readsMessage", desc := "(IZ)Z" } : Jvm.MethodName) prog_31_method_21_code (4 : Nat) (Option.some Jvm.ClassFile.FieldType.boolean)) ∈ lw_all := lw_g (lw_at lw_m8 223 rfl) rfl
theorem q1970 : (Jvm.Cond.methodLink "PluralBranchesModel" (208 : Nat) ({ cls := "PluralBranchesModel", name := "here", desc := "()I" } : Jvm.MethodName)) ∈ lw_all := lw_g (lw_at lw_m8 224 rfl) rfl
theorem q1971 : (Jvm.Cond.privateMethod ({ cls := "PluralBranchesModel", name := "here", desc := "()I" } : Jvm.MethodName)) ∈ lw_tbl := lw_at lw_m8 225 rfl
theorem q1972 : (Jvm.Cond.instanceMethod ({ cls := "PluralBranchesModel", name := "here", desc := "()I" } : Jvm.MethodName)) ∈ lw_all := lw_g (lw_at lw_m8 226 rfl) rfl
theorem q1973 : (Jvm.Cond.code ({ cls := "PluralBranchesModel", name := "here", desc := "()I" } : Jvm.MethodName) prog_31_method_17_code (1 : Nat) (Option.some Jvm.ClassFile.FieldType.int)) ∈ lw_all := lw_g (lw_at lw_m8 227 rfl) rfl
theorem q1974 : (Jvm.Cond.methodLink "PluralBranchesModel" (216 : Nat) ({ cls := "PluralBranchesModel", name := "isSign", desc := "(I)Z" } : Jvm.MethodName)) ∈ lw_all := lw_g (lw_at lw_m8 228 rfl) rfl
theorem q1975 : (Jvm.Cond.static ({ cls := "PluralBranchesModel", name := "isSign", desc := "(I)Z" } : Jvm.MethodName)) ∈ lw_all := lw_g (lw_at lw_m8 229 rfl) rfl
theorem q1976 : (Jvm.Cond.code ({ cls := "PluralBranchesModel", name := "isSign", desc := "(I)Z" } : Jvm.MethodName) prog_31_method_20_code (1 : Nat) (Option.some Jvm.ClassFile.FieldType.boolean)) ∈ lw_all := lw_g (lw_at lw_m8 230 rfl) rfl
theorem q1977 : (Jvm.Cond.constantLong "PluralBranchesModel" (212 : Nat) (97 : Int64)) ∈ lw_all := lw_g (lw_at lw_m8 231 rfl) rfl
theorem q1978 : (Jvm.Cond.constantLong "PluralBranchesModel" (214 : Nat) (122 : Int64)) ∈ lw_all := lw_g (lw_at lw_m8 232 rfl) rfl
theorem q1979 : (Jvm.Cond.methodLink "PluralBranchesModel" (219 : Nat) ({ cls := "PluralBranchesModel", name := "readsBrace", desc := "(IZ)Z" } : Jvm.MethodName)) ∈ lw_all := lw_g (lw_at lw_m8 233 rfl) rfl
theorem q1980 : (Jvm.Cond.privateMethod ({ cls := "PluralBranchesModel", name := "readsBrace", desc := "(IZ)Z" } : Jvm.MethodName)) ∈ lw_tbl := lw_at lw_m8 234 rfl
theorem q1981 : (Jvm.Cond.instanceMethod ({ cls := "PluralBranchesModel", name := "readsBrace", desc := "(IZ)Z" } : Jvm.MethodName)) ∈ lw_all := lw_g (lw_at lw_m8 235 rfl) rfl
theorem q1982 : (Jvm.Cond.code ({ cls := "PluralBranchesModel", name := "readsBrace", desc := "(IZ)Z" } : Jvm.MethodName) prog_31_method_23_code (8 : Nat) (Option.some Jvm.ClassFile.FieldType.boolean)) ∈ lw_all := lw_g (lw_at lw_m8 236 rfl) rfl
theorem q1983 : (Jvm.Cond.constantLong "PluralBranchesModel" (233 : Nat) (65 : Int64)) ∈ lw_all := lw_g (lw_at lw_m8 237 rfl) rfl
theorem q1984 : (Jvm.Cond.constantLong "PluralBranchesModel" (235 : Nat) (69 : Int64)) ∈ lw_all := lw_g (lw_at lw_m8 238 rfl) rfl
theorem q1985 : (Jvm.Cond.methodLink "PluralBranchesModel" (237 : Nat) ({ cls := "PluralBranchesModel", name := "uses", desc := "(III)V" } : Jvm.MethodName)) ∈ lw_all := lw_g (lw_at lw_m8 239 rfl) rfl
theorem q1986 : (Jvm.Cond.privateMethod ({ cls := "PluralBranchesModel", name := "uses", desc := "(III)V" } : Jvm.MethodName)) ∈ lw_tbl := lw_at lw_m9 0 rfl
theorem q1987 : (Jvm.Cond.instanceMethod ({ cls := "PluralBranchesModel", name := "uses", desc := "(III)V" } : Jvm.MethodName)) ∈ lw_all := lw_g (lw_at lw_m9 1 rfl) rfl
theorem q1988 : (Jvm.Cond.code ({ cls := "PluralBranchesModel", name := "uses", desc := "(III)V" } : Jvm.MethodName) prog_31_method_22_code (4 : Nat) (Option.none : Option Jvm.ClassFile.FieldType)) ∈ lw_all := lw_g (lw_at lw_m9 2 rfl) rfl
theorem q1989 : (Jvm.Cond.methodLink "PluralBranchesModel" (229 : Nat) ({ cls := "PluralBranchesModel", name := "isWrong", desc := "(I)V" } : Jvm.MethodName)) ∈ lw_all := lw_g (lw_at lw_m9 3 rfl) rfl
theorem q1990 : (Jvm.Cond.privateMethod ({ cls := "PluralBranchesModel", name := "isWrong", desc := "(I)V" } : Jvm.MethodName)) ∈ lw_tbl := lw_at lw_m9 4 rfl
theorem q1991 : (Jvm.Cond.instanceMethod ({ cls := "PluralBranchesModel", name := "isWrong", desc := "(I)V" } : Jvm.MethodName)) ∈ lw_all := lw_g (lw_at lw_m9 5 rfl) rfl
theorem q1992 : (Jvm.Cond.code ({ cls := "PluralBranchesModel", name := "isWrong", desc := "(I)V" } : Jvm.MethodName) prog_31_method_18_code (2 : Nat) (Option.none : Option Jvm.ClassFile.FieldType)) ∈ lw_all := lw_g (lw_at lw_m9 6 rfl) rfl
theorem q1993 : (Jvm.Cond.methodLink "PluralBranchesModel" (241 : Nat) ({ cls := "PluralBranchesModel", name := "takes", desc := "(I)Z" } : Jvm.MethodName)) ∈ lw_all := lw_g (lw_at lw_m9 7 rfl) rfl
theorem q1994 : (Jvm.Cond.privateMethod ({ cls := "PluralBranchesModel", name := "takes", desc := "(I)Z" } : Jvm.MethodName)) ∈ lw_tbl := lw_at lw_m9 8 rfl
theorem q1995 : (Jvm.Cond.instanceMethod ({ cls := "PluralBranchesModel", name := "takes", desc := "(I)Z" } : Jvm.MethodName)) ∈ lw_all := lw_g (lw_at lw_m9 9 rfl) rfl
theorem q1996 : (Jvm.Cond.code ({ cls := "PluralBranchesModel", name := "takes", desc := "(I)Z" } : Jvm.MethodName) prog_31_method_19_code (2 : Nat) (Option.some Jvm.ClassFile.FieldType.boolean)) ∈ lw_all := lw_g (lw_at lw_m9 10 rfl) rfl
theorem q1997 : (Jvm.Cond.methodLink "PluralBranchesModel" (244 : Nat) ({ cls := "PluralBranchesModel", name := "readsPattern", desc := "()Z" } : Jvm.MethodName)) ∈ lw_all := lw_g (lw_at lw_m9 11 rfl) rfl
theorem q1998 : (Jvm.Cond.privateMethod ({ cls := "PluralBranchesModel", name := "readsPattern", desc := "()Z" } : Jvm.MethodName)) ∈ lw_tbl := lw_at lw_m9 12 rfl
theorem q1999 : (Jvm.Cond.instanceMethod ({ cls := "PluralBranchesModel", name := "readsPattern", desc := "()Z" } : Jvm.MethodName)) ∈ lw_all := lw_g (lw_at lw_m9 13 rfl) rfl
theorem q2000 : (Jvm.Cond.code ({ cls := "PluralBranchesModel", name := "readsPattern", desc := "()Z" } : Jvm.MethodName) prog_31_method_25_code (1 : Nat) (Option.some Jvm.ClassFile.FieldType.boolean)) ∈ lw_all := lw_g (lw_at lw_m9 14 rfl) rfl
theorem q2001 : (Jvm.Cond.methodLink "PluralBranchesModel" (261 : Nat) ({ cls := "PluralBranchesModel", name := "zeros", desc := "(II)I" } : Jvm.MethodName)) ∈ lw_all := lw_g (lw_at lw_m9 15 rfl) rfl
theorem q2002 : (Jvm.Cond.privateMethod ({ cls := "PluralBranchesModel", name := "zeros", desc := "(II)I" } : Jvm.MethodName)) ∈ lw_tbl := lw_at lw_m9 16 rfl
theorem q2003 : (Jvm.Cond.instanceMethod ({ cls := "PluralBranchesModel", name := "zeros", desc := "(II)I" } : Jvm.MethodName)) ∈ lw_all := lw_g (lw_at lw_m9 17 rfl) rfl
theorem q2004 : (Jvm.Cond.code ({ cls := "PluralBranchesModel", name := "zeros", desc := "(II)I" } : Jvm.MethodName) prog_31_method_24_code (4 : Nat) (Option.some Jvm.ClassFile.FieldType.int)) ∈ lw_all := lw_g (lw_at lw_m9 18 rfl) rfl
theorem q2005 : (Jvm.Cond.methodLink "PluralBranchesModel" (254 : Nat) ({ cls := "PluralBranchesModel", name := "readsBranches", desc := "(IIZ)Z" } : Jvm.MethodName)) ∈ lw_all := lw_g (lw_at lw_m9 19 rfl) rfl
theorem q2006 : (Jvm.Cond.privateMethod ({ cls := "PluralBranchesModel", name := "readsBranches", desc := "(IIZ)Z" } : Jvm.MethodName)) ∈ lw_tbl := lw_at lw_m9 20 rfl
theorem q2007 : (Jvm.Cond.instanceMethod ({ cls := "PluralBranchesModel", name := "readsBranches", desc := "(IIZ)Z" } : Jvm.MethodName)) ∈ lw_all := lw_g (lw_at lw_m9 21 rfl) rfl
theorem q2008 : (Jvm.Cond.code ({ cls := "PluralBranchesModel", name := "readsBranches", desc := "(IIZ)Z" } : Jvm.MethodName) prog_31_method_28_code (8 : Nat) (Option.some Jvm.ClassFile.FieldType.boolean)) ∈ lw_all := lw_g (lw_at lw_m9 22 rfl) rfl
theorem q2009 : (Jvm.Cond.methodLink "PluralBranchesModel" (281 : Nat) ({ cls := "PluralBranchesModel", name := "readsKey", desc := "(I)I" } : Jvm.MethodName)) ∈ lw_all := lw_g (lw_at lw_m9 23 rfl) rfl
theorem q2010 : (Jvm.Cond.privateMethod ({ cls := "PluralBranchesModel", name := "readsKey", desc := "(I)I" } : Jvm.MethodName)) ∈ lw_tbl := lw_at lw_m9 24 rfl
theorem q2011 : (Jvm.Cond.instanceMethod ({ cls := "PluralBranchesModel", name := "readsKey", desc := "(I)I" } : Jvm.MethodName)) ∈ lw_all := lw_g (lw_at lw_m9 25 rfl) rfl
theorem q2012 : (Jvm.Cond.code ({ cls := "PluralBranchesModel", name := "readsKey", desc := "(I)I" } : Jvm.MethodName) prog_31_method_27_code (5 : Nat) (Option.some Jvm.ClassFile.FieldType.int)) ∈ lw_all := lw_g (lw_at lw_m9 26 rfl) rfl
theorem q2013 : (Jvm.Cond.methodLink "PluralBranchesModel" (274 : Nat) ({ cls := "PluralBranchesModel", name := "keyOf", desc := "(II)I" } : Jvm.MethodName)) ∈ lw_all := lw_g (lw_at lw_m9 27 rfl) rfl
theorem q2014 : (Jvm.Cond.static ({ cls := "PluralBranchesModel", name := "keyOf", desc := "(II)I" } : Jvm.MethodName)) ∈ lw_all := lw_g (lw_at lw_m9 28 rfl) rfl
theorem q2015 : (Jvm.Cond.code ({ cls := "PluralBranchesModel", name := "keyOf", desc := "(II)I" } : Jvm.MethodName) prog_31_method_26_code (2 : Nat) (Option.some Jvm.ClassFile.FieldType.int)) ∈ lw_all := lw_g (lw_at lw_m9 29 rfl) rfl
theorem q2016 : (Jvm.Cond.constantLong "PluralBranchesModel" (277 : Nat) (48 : Int64)) ∈ lw_all := lw_g (lw_at lw_m9 30 rfl) rfl
theorem q2017 : (Jvm.Cond.constantLong "PluralBranchesModel" (279 : Nat) (57 : Int64)) ∈ lw_all := lw_g (lw_at lw_m9 31 rfl) rfl
theorem q2019 : (Jvm.Cond.instanceMethod ({ cls := "PluralBranchesModel", name := "copy", desc := "(II)I" } : Jvm.MethodName)) ∈ lw_all := lw_g (lw_at lw_m9 33 rfl) rfl
theorem q2020 : (Jvm.Cond.selects "PluralBranchesModel" ({ cls := "PluralBranchesModel", name := "copy", desc := "(II)I" } : Jvm.MethodName) ({ cls := "PluralBranchesModel", name := "copy", desc := "(II)I" } : Jvm.MethodName)) ∈ lw_all := lw_g (lw_at lw_m9 34 rfl) rfl
theorem q2021 : (Jvm.Cond.code ({ cls := "PluralBranchesModel", name := "copy", desc := "(II)I" } : Jvm.MethodName) prog_31_method_31_code (4 : Nat) (Option.some Jvm.ClassFile.FieldType.int)) ∈ lw_all := lw_g (lw_at lw_m9 35 rfl) rfl
theorem q2023 : (Jvm.Cond.instanceMethod ({ cls := "PluralBranchesModel", name := "told", desc := "(II)I" } : Jvm.MethodName)) ∈ lw_all := lw_g (lw_at lw_m9 37 rfl) rfl
theorem q2024 : (Jvm.Cond.selects "PluralBranchesModel" ({ cls := "PluralBranchesModel", name := "told", desc := "(II)I" } : Jvm.MethodName) ({ cls := "PluralBranchesModel", name := "told", desc := "(II)I" } : Jvm.MethodName)) ∈ lw_all := lw_g (lw_at lw_m9 38 rfl) rfl
theorem q2025 : (Jvm.Cond.code ({ cls := "PluralBranchesModel", name := "told", desc := "(II)I" } : Jvm.MethodName) prog_31_method_32_code (3 : Nat) (Option.some Jvm.ClassFile.FieldType.int)) ∈ lw_all := lw_g (lw_at lw_m9 39 rfl) rfl
theorem q2027 : (Jvm.Cond.instanceMethod ({ cls := "PluralBranchesModel", name := "type", desc := "(II)I" } : Jvm.MethodName)) ∈ lw_all := lw_g (lw_at lw_m9 41 rfl) rfl
theorem q2028 : (Jvm.Cond.selects "PluralBranchesModel" ({ cls := "PluralBranchesModel", name := "type", desc := "(II)I" } : Jvm.MethodName) ({ cls := "PluralBranchesModel", name := "type", desc := "(II)I" } : Jvm.MethodName)) ∈ lw_all := lw_g (lw_at lw_m9 42 rfl) rfl
theorem q2029 : (Jvm.Cond.code ({ cls := "PluralBranchesModel", name := "type", desc := "(II)I" } : Jvm.MethodName) prog_31_method_34_code (3 : Nat) (Option.some Jvm.ClassFile.FieldType.int)) ∈ lw_all := lw_g (lw_at lw_m9 43 rfl) rfl
theorem q2030 : (Jvm.Cond.methodLink "PluralBranchesModel" (290 : Nat) ({ cls := "PluralBranchesModel", name := "isArgument", desc := "(I)Z" } : Jvm.MethodName)) ∈ lw_all := lw_g (lw_at lw_m9 44 rfl) rfl
theorem q2031 : (Jvm.Cond.static ({ cls := "PluralBranchesModel", name := "isArgument", desc := "(I)Z" } : Jvm.MethodName)) ∈ lw_all := lw_g (lw_at lw_m9 45 rfl) rfl
theorem q2032 : (Jvm.Cond.code ({ cls := "PluralBranchesModel", name := "isArgument", desc := "(I)Z" } : Jvm.MethodName) prog_31_method_33_code (1 : Nat) (Option.some Jvm.ClassFile.FieldType.boolean)) ∈ lw_all := lw_g (lw_at lw_m9 46 rfl) rfl
theorem q2034 : (Jvm.Cond.instanceMethod ({ cls := "PluralBranchesModel", name := "choice", desc := "(III)I" } : Jvm.MethodName)) ∈ lw_all := lw_g (lw_at lw_m9 48 rfl) rfl
theorem q2035 : (Jvm.Cond.selects "PluralBranchesModel" ({ cls := "PluralBranchesModel", name := "choice", desc := "(III)I" } : Jvm.MethodName) ({ cls := "PluralBranchesModel", name := "choice", desc := "(III)I" } : Jvm.MethodName)) ∈ lw_all := lw_g (lw_at lw_m9 49 rfl) rfl
theorem q2036 : (Jvm.Cond.code ({ cls := "PluralBranchesModel", name := "choice", desc := "(III)I" } : Jvm.MethodName) prog_31_method_36_code (5 : Nat) (Option.some Jvm.ClassFile.FieldType.int)) ∈ lw_all := lw_g (lw_at lw_m9 50 rfl) rfl
theorem q2037 : (Jvm.Cond.methodLink "PluralBranchesModel" (293 : Nat) ({ cls := "PluralBranchesModel", name := "isChoice", desc := "(II)Z" } : Jvm.MethodName)) ∈ lw_all := lw_g (lw_at lw_m9 51 rfl) rfl
theorem q2038 : (Jvm.Cond.privateMethod ({ cls := "PluralBranchesModel", name := "isChoice", desc := "(II)Z" } : Jvm.MethodName)) ∈ lw_tbl := lw_at lw_m9 52 rfl
theorem q2039 : (Jvm.Cond.instanceMethod ({ cls := "PluralBranchesModel", name := "isChoice", desc := "(II)Z" } : Jvm.MethodName)) ∈ lw_all := lw_g (lw_at lw_m9 53 rfl) rfl
theorem q2040 : (Jvm.Cond.code ({ cls := "PluralBranchesModel", name := "isChoice", desc := "(II)Z" } : Jvm.MethodName) prog_31_method_35_code (3 : Nat) (Option.some Jvm.ClassFile.FieldType.boolean)) ∈ lw_all := lw_g (lw_at lw_m9 54 rfl) rfl
theorem q2042 : (Jvm.Cond.instanceMethod ({ cls := "PluralBranchesModel", name := "key", desc := "(III)I" } : Jvm.MethodName)) ∈ lw_all := lw_g (lw_at lw_m9 56 rfl) rfl
theorem q2043 : (Jvm.Cond.selects "PluralBranchesModel" ({ cls := "PluralBranchesModel", name := "key", desc := "(III)I" } : Jvm.MethodName) ({ cls := "PluralBranchesModel", name := "key", desc := "(III)I" } : Jvm.MethodName)) ∈ lw_all := lw_g (lw_at lw_m9 57 rfl) rfl
theorem q2044 : (Jvm.Cond.code ({ cls := "PluralBranchesModel", name := "key", desc := "(III)I" } : Jvm.MethodName) prog_31_method_38_code (5 : Nat) (Option.some Jvm.ClassFile.FieldType.int)) ∈ lw_all := lw_g (lw_at lw_m9 58 rfl) rfl
theorem q2045 : (Jvm.Cond.methodLink "PluralBranchesModel" (297 : Nat) ({ cls := "PluralBranchesModel", name := "keyAt", desc := "(III)I" } : Jvm.MethodName)) ∈ lw_all := lw_g (lw_at lw_m9 59 rfl) rfl
theorem q2046 : (Jvm.Cond.privateMethod ({ cls := "PluralBranchesModel", name := "keyAt", desc := "(III)I" } : Jvm.MethodName)) ∈ lw_tbl := lw_at lw_m9 60 rfl
theorem q2047 : (Jvm.Cond.instanceMethod ({ cls := "PluralBranchesModel", name := "keyAt", desc := "(III)I" } : Jvm.MethodName)) ∈ lw_all := lw_g (lw_at lw_m9 61 rfl) rfl
theorem q2048 : (Jvm.Cond.code ({ cls := "PluralBranchesModel", name := "keyAt", desc := "(III)I" } : Jvm.MethodName) prog_31_method_37_code (4 : Nat) (Option.some Jvm.ClassFile.FieldType.int)) ∈ lw_all := lw_g (lw_at lw_m9 62 rfl) rfl
theorem q2050 : (Jvm.Cond.instanceMethod ({ cls := "PluralBranchesModel", name := "lacks", desc := "(IIII)I" } : Jvm.MethodName)) ∈ lw_all := lw_g (lw_at lw_m9 64 rfl) rfl
theorem q2051 : (Jvm.Cond.selects "PluralBranchesModel" ({ cls := "PluralBranchesModel", name := "lacks", desc := "(IIII)I" } : Jvm.MethodName) ({ cls := "PluralBranchesModel", name := "lacks", desc := "(IIII)I" } : Jvm.MethodName)) ∈ lw_all := lw_g (lw_at lw_m9 65 rfl) rfl
theorem q2052 : (Jvm.Cond.code ({ cls := "PluralBranchesModel", name := "lacks", desc := "(IIII)I" } : Jvm.MethodName) prog_31_method_42_code (5 : Nat) (Option.some Jvm.ClassFile.FieldType.int)) ∈ lw_all := lw_g (lw_at lw_m9 66 rfl) rfl
theorem q2053 : (Jvm.Cond.methodLink "PluralBranchesModel" (303 : Nat) ({ cls := "PluralBranchesModel", name := "lacksOf", desc := "(III)I" } : Jvm.MethodName)) ∈ lw_all := lw_g (lw_at lw_m9 67 rfl) rfl
theorem q2054 : (Jvm.Cond.privateMethod ({ cls := "PluralBranchesModel", name := "lacksOf", desc := "(III)I" } : Jvm.MethodName)) ∈ lw_tbl := lw_at lw_m9 68 rfl
theorem q2055 : (Jvm.Cond.instanceMethod ({ cls := "PluralBranchesModel", name := "lacksOf", desc := "(III)I" } : Jvm.MethodName)) ∈ lw_all := lw_g (lw_at lw_m9 69 rfl) rfl
theorem q2056 : (Jvm.Cond.code ({ cls := "PluralBranchesModel", name := "lacksOf", desc := "(III)I" } : Jvm.MethodName) prog_31_method_40_code (7 : Nat) (Option.some Jvm.ClassFile.FieldType.int)) ∈ lw_all := lw_g (lw_at lw_m9 70 rfl) rfl
theorem q2057 : (Jvm.Cond.methodLink "PluralBranchesModel" (300 : Nat) ({ cls := "PluralBranchesModel", name := "branchWith", desc := "(III)I" } : Jvm.MethodName)) ∈ lw_all := lw_g (lw_at lw_m9 71 rfl) rfl
theorem q2058 : (Jvm.Cond.privateMethod ({ cls := "PluralBranchesModel", name := "branchWith", desc := "(III)I" } : Jvm.MethodName)) ∈ lw_tbl := lw_at lw_m9 72 rfl
theorem q2059 : (Jvm.Cond.instanceMethod ({ cls := "PluralBranchesModel", name := "branchWith", desc := "(III)I" } : Jvm.MethodName)) ∈ lw_all := lw_g (lw_at lw_m9 73 rfl) rfl
theorem q2060 : (Jvm.Cond.code ({ cls := "PluralBranchesModel", name := "branchWith", desc := "(III)I" } : Jvm.MethodName) prog_31_method_39_code (5 : Nat) (Option.some Jvm.ClassFile.FieldType.int)) ∈ lw_all := lw_g (lw_at lw_m9 74 rfl) rfl
theorem q2061 : (Jvm.Cond.methodLink "PluralBranchesModel" (306 : Nat) ({ cls := "PluralBranchesModel", name := "deadOf", desc := "(III)I" } : Jvm.MethodName)) ∈ lw_all := lw_g (lw_at lw_m9 75 rfl) rfl
theorem q2062 : (Jvm.Cond.privateMethod ({ cls := "PluralBranchesModel", name := "deadOf", desc := "(III)I" } : Jvm.MethodName)) ∈ lw_tbl := lw_at lw_m9 76 rfl
theorem q2063 : (Jvm.Cond.instanceMethod ({ cls := "PluralBranchesModel", name := "deadOf", desc := "(III)I" } : Jvm.MethodName)) ∈ lw_all := lw_g (lw_at lw_m9 77 rfl) rfl
theorem q2064 : (Jvm.Cond.code ({ cls := "PluralBranchesModel", name := "deadOf", desc := "(III)I" } : Jvm.MethodName) prog_31_method_41_code (10 : Nat) (Option.some Jvm.ClassFile.FieldType.int)) ∈ lw_all := lw_g (lw_at lw_m9 78 rfl) rfl
theorem q2066 : (Jvm.Cond.instanceMethod ({ cls := "PluralBranchesModel", name := "branch", desc := "(IIIII)I" } : Jvm.MethodName)) ∈ lw_all := lw_g (lw_at lw_m9 80 rfl) rfl
theorem q2067 : (Jvm.Cond.selects "PluralBranchesModel" ({ cls := "PluralBranchesModel", name := "branch", desc := "(IIIII)I" } : Jvm.MethodName) ({ cls := "PluralBranchesModel", name := "branch", desc := "(IIIII)I" } : Jvm.MethodName)) ∈ lw_all := lw_g (lw_at lw_m9 81 rfl) rfl
theorem q2068 : (Jvm.Cond.code ({ cls := "PluralBranchesModel", name := "branch", desc := "(IIIII)I" } : Jvm.MethodName) prog_31_method_44_code (6 : Nat) (Option.some Jvm.ClassFile.FieldType.int)) ∈ lw_all := lw_g (lw_at lw_m9 82 rfl) rfl
theorem q2069 : (Jvm.Cond.methodLink "PluralBranchesModel" (309 : Nat) ({ cls := "PluralBranchesModel", name := "branchOf", desc := "(IIIII)I" } : Jvm.MethodName)) ∈ lw_all := lw_g (lw_at lw_m9 83 rfl) rfl
theorem q2070 : (Jvm.Cond.privateMethod ({ cls := "PluralBranchesModel", name := "branchOf", desc := "(IIIII)I" } : Jvm.MethodName)) ∈ lw_tbl := lw_at lw_m9 84 rfl
theorem q2071 : (Jvm.Cond.instanceMethod ({ cls := "PluralBranchesModel", name := "branchOf", desc := "(IIIII)I" } : Jvm.MethodName)) ∈ lw_all := lw_g (lw_at lw_m9 85 rfl) rfl
theorem q2072 : (Jvm.Cond.code ({ cls := "PluralBranchesModel", name := "branchOf", desc := "(IIIII)I" } : Jvm.MethodName) prog_31_method_43_code (8 : Nat) (Option.some Jvm.ClassFile.FieldType.int)) ∈ lw_all := lw_g (lw_at lw_m9 86 rfl) rfl
theorem q2074 : (Jvm.Cond.instanceMethod ({ cls := "PluralBranchesModel", name := "same", desc := "(II)I" } : Jvm.MethodName)) ∈ lw_all := lw_g (lw_at lw_m9 88 rfl) rfl
theorem q2075 : (Jvm.Cond.selects "PluralBranchesModel" ({ cls := "PluralBranchesModel", name := "same", desc := "(II)I" } : Jvm.MethodName) ({ cls := "PluralBranchesModel", name := "same", desc := "(II)I" } : Jvm.MethodName)) ∈ lw_all := lw_g (lw_at lw_m9 89 rfl) rfl
theorem q2076 : (Jvm.Cond.code ({ cls := "PluralBranchesModel", name := "same", desc := "(II)I" } : Jvm.MethodName) prog_31_method_45_code (5 : Nat) (Option.some Jvm.ClassFile.FieldType.int)) ∈ lw_all := lw_g (lw_at lw_m9 90 rfl) rfl
theorem q2078 : (Jvm.Cond.instanceMethod ({ cls := "PluralBranchesModel", name := "decimal", desc := "(III)I" } : Jvm.MethodName)) ∈ lw_all := lw_g (lw_at lw_m9 92 rfl) rfl
theorem q2079 : (Jvm.Cond.selects "PluralBranchesModel" ({ cls := "PluralBranchesModel", name := "decimal", desc := "(III)I" } : Jvm.MethodName) ({ cls := "PluralBranchesModel", name := "decimal", desc := "(III)I" } : Jvm.MethodName)) ∈ lw_all := lw_g (lw_at lw_m9 93 rfl) rfl
theorem q2080 : (Jvm.Cond.code ({ cls := "PluralBranchesModel", name := "decimal", desc := "(III)I" } : Jvm.MethodName) prog_31_method_47_code (4 : Nat) (Option.some Jvm.ClassFile.FieldType.int)) ∈ lw_all := lw_g (lw_at lw_m9 94 rfl) rfl
theorem q2081 : (Jvm.Cond.methodLink "PluralBranchesModel" (313 : Nat) ({ cls := "PluralBranchesModel", name := "holdsNow", desc := "(IIII)V" } : Jvm.MethodName)) ∈ lw_all := lw_g (lw_at lw_m9 95 rfl) rfl
theorem q2082 : (Jvm.Cond.privateMethod ({ cls := "PluralBranchesModel", name := "holdsNow", desc := "(IIII)V" } : Jvm.MethodName)) ∈ lw_tbl := lw_at lw_m9 96 rfl
theorem q2083 : (Jvm.Cond.instanceMethod ({ cls := "PluralBranchesModel", name := "holdsNow", desc := "(IIII)V" } : Jvm.MethodName)) ∈ lw_all := lw_g (lw_at lw_m9 97 rfl) rfl
theorem q2084 : (Jvm.Cond.code ({ cls := "PluralBranchesModel", name := "holdsNow", desc := "(IIII)V" } : Jvm.MethodName) prog_31_method_46_code (5 : Nat) (Option.none : Option Jvm.ClassFile.FieldType)) ∈ lw_all := lw_g (lw_at lw_m9 98 rfl) rfl
theorem q2086 : (Jvm.Cond.instanceMethod ({ cls := "PluralBranchesModel", name := "gender", desc := "(II)I" } : Jvm.MethodName)) ∈ lw_all := lw_g (lw_at lw_m9 100 rfl) rfl
theorem q2087 : (Jvm.Cond.selects "PluralBranchesModel" ({ cls := "PluralBranchesModel", name := "gender", desc := "(II)I" } : Jvm.MethodName) ({ cls := "PluralBranchesModel", name := "gender", desc := "(II)I" } : Jvm.MethodName)) ∈ lw_all := lw_g (lw_at lw_m9 101 rfl) rfl
theorem q2088 : (Jvm.Cond.code ({ cls := "PluralBranchesModel", name := "gender", desc := "(II)I" } : Jvm.MethodName) prog_31_method_48_code (3 : Nat) (Option.some Jvm.ClassFile.FieldType.int)) ∈ lw_all := lw_g (lw_at lw_m9 102 rfl) rfl
theorem q2090 : (Jvm.Cond.instanceMethod ({ cls := "PluralBranchesModel", name := "list", desc := "(IIIII)I" } : Jvm.MethodName)) ∈ lw_all := lw_g (lw_at lw_m9 104 rfl) rfl
theorem q2091 : (Jvm.Cond.selects "PluralBranchesModel" ({ cls := "PluralBranchesModel", name := "list", desc := "(IIIII)I" } : Jvm.MethodName) ({ cls := "PluralBranchesModel", name := "list", desc := "(IIIII)I" } : Jvm.MethodName)) ∈ lw_all := lw_g (lw_at lw_m9 105 rfl) rfl
theorem q2092 : (Jvm.Cond.code ({ cls := "PluralBranchesModel", name := "list", desc := "(IIIII)I" } : Jvm.MethodName) prog_31_method_49_code (6 : Nat) (Option.some Jvm.ClassFile.FieldType.int)) ∈ lw_all := lw_g (lw_at lw_m9 106 rfl) rfl
theorem q2094 : (Jvm.Cond.instanceMethod ({ cls := "PluralBranchesModel", name := "more", desc := "(II)I" } : Jvm.MethodName)) ∈ lw_all := lw_g (lw_at lw_m9 108 rfl) rfl
theorem q2095 : (Jvm.Cond.selects "PluralBranchesModel" ({ cls := "PluralBranchesModel", name := "more", desc := "(II)I" } : Jvm.MethodName) ({ cls := "PluralBranchesModel", name := "more", desc := "(II)I" } : Jvm.MethodName)) ∈ lw_all := lw_g (lw_at lw_m9 109 rfl) rfl
theorem q2096 : (Jvm.Cond.code ({ cls := "PluralBranchesModel", name := "more", desc := "(II)I" } : Jvm.MethodName) prog_31_method_50_code (3 : Nat) (Option.some Jvm.ClassFile.FieldType.int)) ∈ lw_all := lw_g (lw_at lw_m9 110 rfl) rfl
theorem q2098 : (Jvm.Cond.instanceMethod ({ cls := "PluralBranchesModel", name := "forget", desc := "(I)I" } : Jvm.MethodName)) ∈ lw_all := lw_g (lw_at lw_m9 112 rfl) rfl
theorem q2099 : (Jvm.Cond.selects "PluralBranchesModel" ({ cls := "PluralBranchesModel", name := "forget", desc := "(I)I" } : Jvm.MethodName) ({ cls := "PluralBranchesModel", name := "forget", desc := "(I)I" } : Jvm.MethodName)) ∈ lw_all := lw_g (lw_at lw_m9 113 rfl) rfl
theorem q2100 : (Jvm.Cond.code ({ cls := "PluralBranchesModel", name := "forget", desc := "(I)I" } : Jvm.MethodName) prog_31_method_51_code (3 : Nat) (Option.some Jvm.ClassFile.FieldType.int)) ∈ lw_all := lw_g (lw_at lw_m9 114 rfl) rfl
theorem q2102 : (Jvm.Cond.instanceMethod ({ cls := "PluralBranchesModel", name := "held", desc := "(II)J" } : Jvm.MethodName)) ∈ lw_all := lw_g (lw_at lw_m9 116 rfl) rfl
theorem q2103 : (Jvm.Cond.selects "PluralBranchesModel" ({ cls := "PluralBranchesModel", name := "held", desc := "(II)J" } : Jvm.MethodName) ({ cls := "PluralBranchesModel", name := "held", desc := "(II)J" } : Jvm.MethodName)) ∈ lw_all := lw_g (lw_at lw_m9 117 rfl) rfl
theorem q2104 : (Jvm.Cond.code ({ cls := "PluralBranchesModel", name := "held", desc := "(II)J" } : Jvm.MethodName) prog_31_method_52_code (3 : Nat) (Option.some Jvm.ClassFile.FieldType.long)) ∈ lw_all := lw_g (lw_at lw_m9 118 rfl) rfl
theorem q2105 : (Jvm.Cond.constantLong "PluralBranchesModel" (317 : Nat) (8 : Int64)) ∈ lw_all := lw_g (lw_at lw_m9 119 rfl) rfl
theorem q2107 : (Jvm.Cond.instanceMethod ({ cls := "PluralBranchesModel", name := "add", desc := "(III)J" } : Jvm.MethodName)) ∈ lw_all := lw_g (lw_at lw_m9 121 rfl) rfl
theorem q2108 : (Jvm.Cond.selects "PluralBranchesModel" ({ cls := "PluralBranchesModel", name := "add", desc := "(III)J" } : Jvm.MethodName) ({ cls := "PluralBranchesModel", name := "add", desc := "(III)J" } : Jvm.MethodName)) ∈ lw_all := lw_g (lw_at lw_m9 122 rfl) rfl
theorem q2109 : (Jvm.Cond.code ({ cls := "PluralBranchesModel", name := "add", desc := "(III)J" } : Jvm.MethodName) prog_31_method_54_code (9 : Nat) (Option.some Jvm.ClassFile.FieldType.long)) ∈ lw_all := lw_g (lw_at lw_m9 123 rfl) rfl
theorem q2110 : (Jvm.Cond.methodLink "PluralBranchesModel" (319 : Nat) ({ cls := "PluralBranchesModel", name := "isInt", desc := "(J)Z" } : Jvm.MethodName)) ∈ lw_all := lw_g (lw_at lw_m9 124 rfl) rfl
theorem q2111 : (Jvm.Cond.static ({ cls := "PluralBranchesModel", name := "isInt", desc := "(J)Z" } : Jvm.MethodName)) ∈ lw_all := lw_g (lw_at lw_m9 125 rfl) rfl
theorem q2112 : (Jvm.Cond.code ({ cls := "PluralBranchesModel", name := "isInt", desc := "(J)Z" } : Jvm.MethodName) prog_31_method_53_code (2 : Nat) (Option.some Jvm.ClassFile.FieldType.boolean)) ∈ lw_all := lw_g (lw_at lw_m9 126 rfl) rfl
theorem q2114 : (Jvm.Cond.instanceMethod ({ cls := "PluralBranchesModel", name := "grow", desc := "(II)J" } : Jvm.MethodName)) ∈ lw_all := lw_g (lw_at lw_m9 128 rfl) rfl
theorem q2115 : (Jvm.Cond.selects "PluralBranchesModel" ({ cls := "PluralBranchesModel", name := "grow", desc := "(II)J" } : Jvm.MethodName) ({ cls := "PluralBranchesModel", name := "grow", desc := "(II)J" } : Jvm.MethodName)) ∈ lw_all := lw_g (lw_at lw_m9 129 rfl) rfl
theorem q2116 : (Jvm.Cond.code ({ cls := "PluralBranchesModel", name := "grow", desc := "(II)J" } : Jvm.MethodName) prog_31_method_55_code (5 : Nat) (Option.some Jvm.ClassFile.FieldType.long)) ∈ lw_all := lw_g (lw_at lw_m9 130 rfl) rfl
theorem q2118 : (Jvm.Cond.instanceMethod ({ cls := "PluralBranchesModel", name := "write", desc := "(II)I" } : Jvm.MethodName)) ∈ lw_all := lw_g (lw_at lw_m9 132 rfl) rfl
theorem q2119 : (Jvm.Cond.selects "PluralBranchesModel" ({ cls := "PluralBranchesModel", name := "write", desc := "(II)I" } : Jvm.MethodName) ({ cls := "PluralBranchesModel", name := "write", desc := "(II)I" } : Jvm.MethodName)) ∈ lw_all := lw_g (lw_at lw_m9 133 rfl) rfl
theorem q2120 : (Jvm.Cond.code ({ cls := "PluralBranchesModel", name := "write", desc := "(II)I" } : Jvm.MethodName) prog_31_method_74_code (3 : Nat) (Option.some Jvm.ClassFile.FieldType.int)) ∈ lw_all := lw_g (lw_at lw_m9 134 rfl) rfl
theorem q2121 : (Jvm.Cond.methodLink "PluralBranchesModel" (405 : Nat) ({ cls := "PluralBranchesModel", name := "writesMessage", desc := "(III)V" } : Jvm.MethodName)) ∈ lw_all := lw_g (lw_at lw_m9 135 rfl) rfl
theorem q2122 : (Jvm.Cond.privateMethod ({ cls := "PluralBranchesModel", name := "writesMessage", desc := "(III)V" } : Jvm.MethodName)) ∈ lw_tbl := lw_at lw_m9 136 rfl
theorem q2123 : (Jvm.Cond.instanceMethod ({ cls := "PluralBranchesModel", name := "writesMessage", desc := "(III)V" } : Jvm.MethodName)) ∈ lw_all := lw_g (lw_at lw_m9 137 rfl) rfl
theorem q2124 : (Jvm.Cond.code ({ cls := "PluralBranchesModel", name := "writesMessage", desc := "(III)V" } : Jvm.MethodName) prog_31_method_72_code (6 : Nat) (Option.none : Option Jvm.ClassFile.FieldType)) ∈ lw_all := lw_g (lw_at lw_m9 138 rfl) rfl
theorem q2125 : (Jvm.Cond.methodLink "PluralBranchesModel" (408 : Nat) ({ cls := "PluralBranchesModel", name := "writesBrace", desc := "(III)V" } : Jvm.MethodName)) ∈ lw_all := lw_g (lw_at lw_m9 139 rfl) rfl
theorem q2126 : (Jvm.Cond.privateMethod ({ cls := "PluralBranchesModel", name := "writesBrace", desc := "(III)V" } : Jvm.MethodName)) ∈ lw_tbl := lw_at lw_m9 140 rfl
theorem q2127 : (Jvm.Cond.instanceMethod ({ cls := "PluralBranchesModel", name := "writesBrace", desc := "(III)V" } : Jvm.MethodName)) ∈ lw_all := lw_g (lw_at lw_m9 141 rfl) rfl
theorem q2128 : (Jvm.Cond.code ({ cls := "PluralBranchesModel", name := "writesBrace", desc := "(III)V" } : Jvm.MethodName) prog_31_method_70_code (10 : Nat) (Option.none : Option Jvm.ClassFile.FieldType)) ∈ lw_all := lw_g (lw_at lw_m9 142 rfl) rfl
theorem q2129 : (Jvm.Cond.methodLink "PluralBranchesModel" (393 : Nat) ({ cls := "PluralBranchesModel", name := "writesPlainly", desc := "(I)V" } : Jvm.MethodName)) ∈ lw_all := lw_g (lw_at lw_m9 143 rfl) rfl
theorem q2130 : (Jvm.Cond.privateMethod ({ cls := "PluralBranchesModel", name := "writesPlainly", desc := "(I)V" } : Jvm.MethodName)) ∈ lw_tbl := lw_at lw_m9 144 rfl
theorem q2131 : (Jvm.Cond.instanceMethod ({ cls := "PluralBranchesModel", name := "writesPlainly", desc := "(I)V" } : Jvm.MethodName)) ∈ lw_all := lw_g (lw_at lw_m9 145 rfl) rfl
theorem q2132 : (Jvm.Cond.code ({ cls := "PluralBranchesModel", name := "writesPlainly", desc := "(I)V" } : Jvm.MethodName) prog_31_method_67_code (2 : Nat) (Option.none : Option Jvm.ClassFile.FieldType)) ∈ lw_all := lw_g (lw_at lw_m9 146 rfl) rfl
theorem q2133 : (Jvm.Cond.methodLink "PluralBranchesModel" (357 : Nat) ({ cls := "PluralBranchesModel", name := "writesDecimal", desc := "(II)V" } : Jvm.MethodName)) ∈ lw_all := lw_g (lw_at lw_m9 147 rfl) rfl
theorem q2134 : (Jvm.Cond.privateMethod ({ cls := "PluralBranchesModel", name := "writesDecimal", desc := "(II)V" } : Jvm.MethodName)) ∈ lw_tbl := lw_at lw_m9 148 rfl
theorem q2135 : (Jvm.Cond.instanceMethod ({ cls := "PluralBranchesModel", name := "writesDecimal", desc := "(II)V" } : Jvm.MethodName)) ∈ lw_all := lw_g (lw_at lw_m9 149 rfl) rfl
theorem q2136 : (Jvm.Cond.code ({ cls := "PluralBranchesModel", name := "writesDecimal", desc := "(II)V" } : Jvm.MethodName) prog_31_method_60_code (5 : Nat) (Option.none : Option Jvm.ClassFile.FieldType)) ∈ lw_all := lw_g (lw_at lw_m9 150 rfl) rfl
theorem q2137 : (Jvm.Cond.methodLink "PluralBranchesModel" (332 : Nat) ({ cls := "PluralBranchesModel", name := "writes", desc := "(I)V" } : Jvm.MethodName)) ∈ lw_all := lw_g (lw_at lw_m9 151 rfl) rfl
theorem q2138 : (Jvm.Cond.privateMethod ({ cls := "PluralBranchesModel", name := "writes", desc := "(I)V" } : Jvm.MethodName)) ∈ lw_tbl := lw_at lw_m9 152 rfl
theorem q2139 : (Jvm.Cond.instanceMethod ({ cls := "PluralBranchesModel", name := "writes", desc := "(I)V" } : Jvm.MethodName)) ∈ lw_all := lw_g (lw_at lw_m9 153 rfl) rfl
theorem q2140 : (Jvm.Cond.code ({ cls := "PluralBranchesModel", name := "writes", desc := "(I)V" } : Jvm.MethodName) prog_31_method_56_code (2 : Nat) (Option.none : Option Jvm.ClassFile.FieldType)) ∈ lw_all := lw_g (lw_at lw_m9 154 rfl) rfl
theorem q2141 : (Jvm.Cond.methodLink "PluralBranchesModel" (337 : Nat) ({ cls := "PluralBranchesModel", name := "writesDigits", desc := "(JI)V" } : Jvm.MethodName)) ∈ lw_all := lw_g (lw_at lw_m9 155 rfl) rfl
theorem q2142 : (Jvm.Cond.privateMethod ({ cls := "PluralBranchesModel", name := "writesDigits", desc := "(JI)V" } : Jvm.MethodName)) ∈ lw_tbl := lw_at lw_m9 156 rfl
theorem q2143 : (Jvm.Cond.instanceMethod ({ cls := "PluralBranchesModel", name := "writesDigits", desc := "(JI)V" } : Jvm.MethodName)) ∈ lw_all := lw_g (lw_at lw_m9 157 rfl) rfl
theorem q2144 : (Jvm.Cond.code ({ cls := "PluralBranchesModel", name := "writesDigits", desc := "(JI)V" } : Jvm.MethodName) prog_31_method_59_code (7 : Nat) (Option.none : Option Jvm.ClassFile.FieldType)) ∈ lw_all := lw_g (lw_at lw_m9 158 rfl) rfl
theorem q2145 : (Jvm.Cond.constantLong "PluralBranchesModel" (335 : Nat) (9 : Int64)) ∈ lw_all := lw_g (lw_at lw_m9 159 rfl) rfl
theorem q2146 : (Jvm.Cond.methodLink "PluralBranchesModel" (341 : Nat) ({ cls := "PluralBranchesModel", name := "writesPoint", desc := "()V" } : Jvm.MethodName)) ∈ lw_all := lw_g (lw_at lw_m9 160 rfl) rfl
theorem q2147 : (Jvm.Cond.privateMethod ({ cls := "PluralBranchesModel", name := "writesPoint", desc := "()V" } : Jvm.MethodName)) ∈ lw_tbl := lw_at lw_m9 161 rfl
theorem q2148 : (Jvm.Cond.instanceMethod ({ cls := "PluralBranchesModel", name := "writesPoint", desc := "()V" } : Jvm.MethodName)) ∈ lw_all := lw_g (lw_at lw_m9 162 rfl) rfl
theorem q2149 : (Jvm.Cond.code ({ cls := "PluralBranchesModel", name := "writesPoint", desc := "()V" } : Jvm.MethodName) prog_31_method_58_code (1 : Nat) (Option.none : Option Jvm.ClassFile.FieldType)) ∈ lw_all := lw_g (lw_at lw_m9 163 rfl) rfl
theorem q2150 : (Jvm.Cond.methodLink "PluralBranchesModel" (329 : Nat) ({ cls := "PluralBranchesModel", name := "isPointed", desc := "(I)Z" } : Jvm.MethodName)) ∈ lw_all := lw_g (lw_at lw_m9 164 rfl) rfl
theorem q2151 : (Jvm.Cond.static ({ cls := "PluralBranchesModel", name := "isPointed", desc := "(I)Z" } : Jvm.MethodName)) ∈ lw_all := lw_g (lw_at lw_m9 165 rfl) rfl
theorem q2152 : (Jvm.Cond.code ({ cls := "PluralBranchesModel", name := "isPointed", desc := "(I)Z" } : Jvm.MethodName) prog_31_method_57_code (1 : Nat) (Option.some Jvm.ClassFile.FieldType.boolean)) ∈ lw_all := lw_g (lw_at lw_m9 166 rfl) rfl
theorem q2153 : (Jvm.Cond.methodLink "PluralBranchesModel" (387 : Nat) ({ cls := "PluralBranchesModel", name := "writesList", desc := "(I)V" } : Jvm.MethodName)) ∈ lw_all := lw_g (lw_at lw_m9 167 rfl) rfl
theorem q2154 : (Jvm.Cond.privateMethod ({ cls := "PluralBranchesModel", name := "writesList", desc := "(I)V" } : Jvm.MethodName)) ∈ lw_tbl := lw_at lw_m9 168 rfl
theorem q2155 : (Jvm.Cond.instanceMethod ({ cls := "PluralBranchesModel", name := "writesList", desc := "(I)V" } : Jvm.MethodName)) ∈ lw_all := lw_g (lw_at lw_m9 169 rfl) rfl
theorem q2156 : (Jvm.Cond.code ({ cls := "PluralBranchesModel", name := "writesList", desc := "(I)V" } : Jvm.MethodName) prog_31_method_66_code (8 : Nat) (Option.none : Option Jvm.ClassFile.FieldType)) ∈ lw_all := lw_g (lw_at lw_m9 170 rfl) rfl
theorem q2157 : (Jvm.Cond.methodLink "PluralBranchesModel" (372 : Nat) ({ cls := "PluralBranchesModel", name := "joinerOfTwo", desc := "(I)Ljava/lang/String;" } : Jvm.MethodName)) ∈ lw_all := lw_g (lw_at lw_m9 171 rfl) rfl
theorem q2158 : (Jvm.Cond.static ({ cls := "PluralBranchesModel", name := "joinerOfTwo", desc := "(I)Ljava/lang/String;" } : Jvm.MethodName)) ∈ lw_all := lw_g (lw_at lw_m9 172 rfl) rfl
theorem q2159 : (Jvm.Cond.code ({ cls := "PluralBranchesModel", name := "joinerOfTwo", desc := "(I)Ljava/lang/String;" } : Jvm.MethodName) prog_31_method_65_code (1 : Nat) (Option.some (Jvm.ClassFile.FieldType.object "java/lang/String"))) ∈ lw_all := lw_g (lw_at lw_m9 173 rfl) rfl
theorem q2160 : (Jvm.Cond.stringRef "PluralBranchesModel" (360 : Nat) " e ") ∈ lw_tbl := lw_at lw_m9 174 rfl
theorem q2161 : (Jvm.Cond.stringRef "PluralBranchesModel" (362 : Nat) " i ") ∈ lw_tbl := lw_at lw_m9 175 rfl
theorem q2162 : (Jvm.Cond.stringRef "PluralBranchesModel" (364 : Nat) " un ") ∈ lw_tbl := lw_at lw_m9 176 rfl
theorem q2163 : (Jvm.Cond.stringRef "PluralBranchesModel" (366 : Nat) " wa ") ∈ lw_tbl := lw_at lw_m9 177 rfl
theorem q2164 : (Jvm.Cond.stringRef "PluralBranchesModel" (368 : Nat) ",") ∈ lw_tbl := lw_at lw_m9 178 rfl
theorem q2165 : (Jvm.Cond.stringRef "PluralBranchesModel" (370 : Nat) " and ") ∈ lw_tbl := lw_at lw_m9 179 rfl
theorem q2166 : (Jvm.Cond.stringRef "PluralBranchesModel" (376 : Nat) ", ") ∈ lw_tbl := lw_at lw_m9 180 rfl
theorem q2167 : (Jvm.Cond.stringRef "PluralBranchesModel" (378 : Nat) ", and ") ∈ lw_tbl := lw_at lw_m9 181 rfl
theorem q2168 : (Jvm.Cond.methodLink "PluralBranchesModel" (380 : Nat) ({ cls := "PluralBranchesModel", name := "writesAll", desc := "(Ljava/lang/String;)V" } : Jvm.MethodName)) ∈ lw_all := lw_g (lw_at lw_m9 182 rfl) rfl
theorem q2169 : (Jvm.Cond.privateMethod ({ cls := "PluralBranchesModel", name := "writesAll", desc := "(Ljava/lang/String;)V" } : Jvm.MethodName)) ∈ lw_tbl := lw_at lw_m9 183 rfl
theorem q2170 : (Jvm.Cond.instanceMethod ({ cls := "PluralBranchesModel", name := "writesAll", desc := "(Ljava/lang/String;)V" } : Jvm.MethodName)) ∈ lw_all := lw_g (lw_at lw_m9 184 rfl) rfl
theorem q2171 : (Jvm.Cond.code ({ cls := "PluralBranchesModel", name := "writesAll", desc := "(Ljava/lang/String;)V" } : Jvm.MethodName) prog_31_method_63_code (3 : Nat) (Option.none : Option Jvm.ClassFile.FieldType)) ∈ lw_all := lw_g (lw_at lw_m9 185 rfl) rfl
theorem q2172 : (Jvm.Cond.methodLink "PluralBranchesModel" (348 : Nat) ({ cls := "java/lang/String", name := "length", desc := "()I" } : Jvm.MethodName)) ∈ lw_all := lw_g (lw_at lw_m9 186 rfl) rfl
theorem q2173 : (Jvm.Cond.methodLink "PluralBranchesModel" (353 : Nat) ({ cls := "java/lang/String", name := "charAt", desc := "(I)C" } : Jvm.MethodName)) ∈ lw_all := lw_g (lw_at lw_m9 187 rfl) rfl
theorem q2174 : (Jvm.Cond.methodLink "PluralBranchesModel" (384 : Nat) ({ cls := "PluralBranchesModel", name := "writesInt", desc := "(I)V" } : Jvm.MethodName)) ∈ lw_all := lw_g (lw_at lw_m9 188 rfl) rfl
theorem q2175 : (Jvm.Cond.privateMethod ({ cls := "PluralBranchesModel", name := "writesInt", desc := "(I)V" } : Jvm.MethodName)) ∈ lw_tbl := lw_at lw_m9 189 rfl
theorem q2176 : (Jvm.Cond.instanceMethod ({ cls := "PluralBranchesModel", name := "writesInt", desc := "(I)V" } : Jvm.MethodName)) ∈ lw_all := lw_g (lw_at lw_m9 190 rfl) rfl
theorem q2177 : (Jvm.Cond.code ({ cls := "PluralBranchesModel", name := "writesInt", desc := "(I)V" } : Jvm.MethodName) prog_31_method_64_code (2 : Nat) (Option.none : Option Jvm.ClassFile.FieldType)) ∈ lw_all := lw_g (lw_at lw_m9 191 rfl) rfl
theorem q2178 : (Jvm.Cond.methodLink "PluralBranchesModel" (396 : Nat) ({ cls := "PluralBranchesModel", name := "shapes", desc := "(II)V" } : Jvm.MethodName)) ∈ lw_all := lw_g (lw_at lw_m9 192 rfl) rfl
theorem q2179 : (Jvm.Cond.privateMethod ({ cls := "PluralBranchesModel", name := "shapes", desc := "(II)V" } : Jvm.MethodName)) ∈ lw_tbl := lw_at lw_m9 193 rfl
theorem q2180 : (Jvm.Cond.instanceMethod ({ cls := "PluralBranchesModel", name := "shapes", desc := "(II)V" } : Jvm.MethodName)) ∈ lw_all := lw_g (lw_at lw_m9 194 rfl) rfl
theorem q2181 : (Jvm.Cond.code ({ cls := "PluralBranchesModel", name := "shapes", desc := "(II)V" } : Jvm.MethodName) prog_31_method_71_code (4 : Nat) (Option.none : Option Jvm.ClassFile.FieldType)) ∈ lw_all := lw_g (lw_at lw_m9 195 rfl) rfl
theorem q2182 : (Jvm.Cond.methodLink "PluralBranchesModel" (399 : Nat) ({ cls := "PluralBranchesModel", name := "writesShaped", desc := "(II)V" } : Jvm.MethodName)) ∈ lw_all := lw_g (lw_at lw_m9 196 rfl) rfl
theorem q2183 : (Jvm.Cond.privateMethod ({ cls := "PluralBranchesModel", name := "writesShaped", desc := "(II)V" } : Jvm.MethodName)) ∈ lw_tbl := lw_at lw_m9 197 rfl
theorem q2184 : (Jvm.Cond.instanceMethod ({ cls := "PluralBranchesModel", name := "writesShaped", desc := "(II)V" } : Jvm.MethodName)) ∈ lw_all := lw_g (lw_at lw_m9 198 rfl) rfl
theorem q2185 : (Jvm.Cond.code ({ cls := "PluralBranchesModel", name := "writesShaped", desc := "(II)V" } : Jvm.MethodName) prog_31_method_61_code (10 : Nat) (Option.none : Option Jvm.ClassFile.FieldType)) ∈ lw_all := lw_g (lw_at lw_m9 199 rfl) rfl
theorem q2186 : (Jvm.Cond.methodLink "PluralBranchesModel" (344 : Nat) ({ cls := "PluralBranchesModel", name := "groups", desc := "(II)V" } : Jvm.MethodName)) ∈ lw_all := lw_g (lw_at lw_m9 200 rfl) rfl
theorem q2187 : (Jvm.Cond.privateMethod ({ cls := "PluralBranchesModel", name := "groups", desc := "(II)V" } : Jvm.MethodName)) ∈ lw_tbl := lw_at lw_m9 201 rfl
theorem q2188 : (Jvm.Cond.instanceMethod ({ cls := "PluralBranchesModel", name := "groups", desc := "(II)V" } : Jvm.MethodName)) ∈ lw_all := lw_g (lw_at lw_m9 202 rfl) rfl
theorem q2189 : (Jvm.Cond.code ({ cls := "PluralBranchesModel", name := "groups", desc := "(II)V" } : Jvm.MethodName) prog_31_method_62_code (8 : Nat) (Option.none : Option Jvm.ClassFile.FieldType)) ∈ lw_all := lw_g (lw_at lw_m9 203 rfl) rfl
theorem q2190 : (Jvm.Cond.methodLink "PluralBranchesModel" (402 : Nat) ({ cls := "PluralBranchesModel", name := "choiceAt", desc := "(II)I" } : Jvm.MethodName)) ∈ lw_all := lw_g (lw_at lw_m9 204 rfl) rfl
theorem q2191 : (Jvm.Cond.privateMethod ({ cls := "PluralBranchesModel", name := "choiceAt", desc := "(II)I" } : Jvm.MethodName)) ∈ lw_tbl := lw_at lw_m9 205 rfl
theorem q2192 : (Jvm.Cond.instanceMethod ({ cls := "PluralBranchesModel", name := "choiceAt", desc := "(II)I" } : Jvm.MethodName)) ∈ lw_all := lw_g (lw_at lw_m9 206 rfl) rfl
theorem q2193 : (Jvm.Cond.code ({ cls := "PluralBranchesModel", name := "choiceAt", desc := "(II)I" } : Jvm.MethodName) prog_31_method_68_code (4 : Nat) (Option.some Jvm.ClassFile.FieldType.int)) ∈ lw_all := lw_g (lw_at lw_m9 207 rfl) rfl
theorem q2194 : (Jvm.Cond.methodLink "PluralBranchesModel" (411 : Nat) ({ cls := "PluralBranchesModel", name := "behindBrace", desc := "(II)I" } : Jvm.MethodName)) ∈ lw_all := lw_g (lw_at lw_m9 208 rfl) rfl
theorem q2195 : (Jvm.Cond.privateMethod ({ cls := "PluralBranchesModel", name := "behindBrace", desc := "(II)I" } : Jvm.MethodName)) ∈ lw_tbl := lw_at lw_m9 209 rfl
theorem q2196 : (Jvm.Cond.instanceMethod ({ cls := "PluralBranchesModel", name := "behindBrace", desc := "(II)I" } : Jvm.MethodName)) ∈ lw_all := lw_g (lw_at lw_m9 210 rfl) rfl
theorem q2197 : (Jvm.Cond.code ({ cls := "PluralBranchesModel", name := "behindBrace", desc := "(II)I" } : Jvm.MethodName) prog_31_method_69_code (6 : Nat) (Option.some Jvm.ClassFile.FieldType.int)) ∈ lw_all := lw_g (lw_at lw_m9 211 rfl) rfl
theorem q2198 : (Jvm.Cond.methodLink "PluralBranchesModel" (417 : Nat) ({ cls := "PluralBranchesModel", name := "puts", desc := "()I" } : Jvm.MethodName)) ∈ lw_all := lw_g (lw_at lw_m9 212 rfl) rfl
theorem q2199 : (Jvm.Cond.privateMethod ({ cls := "PluralBranchesModel", name := "puts", desc := "()I" } : Jvm.MethodName)) ∈ lw_tbl := lw_at lw_m9 213 rfl
theorem q2200 : (Jvm.Cond.instanceMethod ({ cls := "PluralBranchesModel", name := "puts", desc := "()I" } : Jvm.MethodName)) ∈ lw_all := lw_g (lw_at lw_m9 214 rfl) rfl
theorem q2201 : (Jvm.Cond.code ({ cls := "PluralBranchesModel", name := "puts", desc := "()I" } : Jvm.MethodName) prog_31_method_73_code (2 : Nat) (Option.some Jvm.ClassFile.FieldType.int)) ∈ lw_all := lw_g (lw_at lw_m9 215 rfl) rfl
theorem q2203 : (Jvm.Cond.instanceMethod ({ cls := "PluralBranchesModel", name := "out", desc := "(I)I" } : Jvm.MethodName)) ∈ lw_all := lw_g (lw_at lw_m9 217 rfl) rfl
theorem q2204 : (Jvm.Cond.selects "PluralBranchesModel" ({ cls := "PluralBranchesModel", name := "out", desc := "(I)I" } : Jvm.MethodName) ({ cls := "PluralBranchesModel", name := "out", desc := "(I)I" } : Jvm.MethodName)) ∈ lw_all := lw_g (lw_at lw_m9 218 rfl) rfl
theorem q2205 : (Jvm.Cond.code ({ cls := "PluralBranchesModel", name := "out", desc := "(I)I" } : Jvm.MethodName) prog_31_method_75_code (2 : Nat) (Option.some Jvm.ClassFile.FieldType.int)) ∈ lw_all := lw_g (lw_at lw_m9 219 rfl) rfl
theorem q2207 : (Jvm.Cond.instanceMethod ({ cls := "PluralBranchesModel", name := "shape", desc := "(IIIIIII)I" } : Jvm.MethodName)) ∈ lw_all := lw_g (lw_at lw_m9 221 rfl) rfl
theorem q2208 : (Jvm.Cond.selects "PluralBranchesModel" ({ cls := "PluralBranchesModel", name := "shape", desc := "(IIIIIII)I" } : Jvm.MethodName) ({ cls := "PluralBranchesModel", name := "shape", desc := "(IIIIIII)I" } : Jvm.MethodName)) ∈ lw_all := lw_g (lw_at lw_m9 222 rfl) rfl
theorem q2209 : (Jvm.Cond.code ({ cls := "PluralBranchesModel", name := "shape", desc := "(IIIIIII)I" } : Jvm.MethodName) prog_31_method_76_code (8 : Nat) (Option.some Jvm.ClassFile.FieldType.int)) ∈ lw_all := lw_g (lw_at lw_m9 223 rfl) rfl
theorem q2211 : (Jvm.Cond.instanceMethod ({ cls := "PluralBranchesModel", name := "row", desc := "(III)I" } : Jvm.MethodName)) ∈ lw_all := lw_g (lw_at lw_m9 225 rfl) rfl
theorem q2212 : (Jvm.Cond.selects "PluralBranchesModel" ({ cls := "PluralBranchesModel", name := "row", desc := "(III)I" } : Jvm.MethodName) ({ cls := "PluralBranchesModel", name := "row", desc := "(III)I" } : Jvm.MethodName)) ∈ lw_all := lw_g (lw_at lw_m9 226 rfl) rfl
theorem q2213 : (Jvm.Cond.code ({ cls := "PluralBranchesModel", name := "row", desc := "(III)I" } : Jvm.MethodName) prog_31_method_78_code (5 : Nat) (Option.some Jvm.ClassFile.FieldType.int)) ∈ lw_all := lw_g (lw_at lw_m9 227 rfl) rfl
theorem q2214 : (Jvm.Cond.methodLink "PluralBranchesModel" (420 : Nat) ({ cls := "PluralBranchesModel", name := "isRow", desc := "(I)Z" } : Jvm.MethodName)) ∈ lw_all := lw_g (lw_at lw_m9 228 rfl) rfl
theorem q2215 : (Jvm.Cond.static ({ cls := "PluralBranchesModel", name := "isRow", desc := "(I)Z" } : Jvm.MethodName)) ∈ lw_all := lw_g (lw_at lw_m9 229 rfl) rfl
theorem q2216 : (Jvm.Cond.code ({ cls := "PluralBranchesModel", name := "isRow", desc := "(I)Z" } : Jvm.MethodName) prog_31_method_77_code (1 : Nat) (Option.some Jvm.ClassFile.FieldType.boolean)) ∈ lw_all := lw_g (lw_at lw_m9 230 rfl) rfl
theorem q2217 : (Jvm.Cond.constantLong "PluralBranchesModel" (423 : Nat) (-1 : Int64)) ∈ lw_all := lw_g (lw_at lw_m9 231 rfl) rfl
theorem q2219 : (Jvm.Cond.instanceMethod ({ cls := "PluralBranchesModel", name := "ratio", desc := "(IIII)I" } : Jvm.MethodName)) ∈ lw_all := lw_g (lw_at lw_m9 233 rfl) rfl
theorem q2220 : (Jvm.Cond.selects "PluralBranchesModel" ({ cls := "PluralBranchesModel", name := "ratio", desc := "(IIII)I" } : Jvm.MethodName) ({ cls := "PluralBranchesModel", name := "ratio", desc := "(IIII)I" } : Jvm.MethodName)) ∈ lw_all := lw_g (lw_at lw_m9 234 rfl) rfl
theorem q2221 : (Jvm.Cond.code ({ cls := "PluralBranchesModel", name := "ratio", desc := "(IIII)I" } : Jvm.MethodName) prog_31_method_80_code (5 : Nat) (Option.some Jvm.ClassFile.FieldType.int)) ∈ lw_all := lw_g (lw_at lw_m9 235 rfl) rfl
theorem q2222 : (Jvm.Cond.methodLink "PluralBranchesModel" (425 : Nat) ({ cls := "PluralBranchesModel", name := "isThere", desc := "(II)Z" } : Jvm.MethodName)) ∈ lw_all := lw_g (lw_at lw_m9 236 rfl) rfl
theorem q2223 : (Jvm.Cond.privateMethod ({ cls := "PluralBranchesModel", name := "isThere", desc := "(II)Z" } : Jvm.MethodName)) ∈ lw_tbl := lw_at lw_m9 237 rfl
theorem q2224 : (Jvm.Cond.instanceMethod ({ cls := "PluralBranchesModel", name := "isThere", desc := "(II)Z" } : Jvm.MethodName)) ∈ lw_all := lw_g (lw_at lw_m9 238 rfl) rfl
theorem q2225 : (Jvm.Cond.code ({ cls := "PluralBranchesModel", name := "isThere", desc := "(II)Z" } : Jvm.MethodName) prog_31_method_79_code (3 : Nat) (Option.some Jvm.ClassFile.FieldType.boolean)) ∈ lw_all := lw_g (lw_at lw_m9 239 rfl) rfl
theorem q2227 : (Jvm.Cond.instanceMethod ({ cls := "PluralBranchesModel", name := "cut", desc := "(III)J" } : Jvm.MethodName)) ∈ lw_all := lw_g (lw_at lw_m10 1 rfl) rfl
theorem q2228 : (Jvm.Cond.selects "PluralBranchesModel" ({ cls := "PluralBranchesModel", name := "cut", desc := "(III)J" } : Jvm.MethodName) ({ cls := "PluralBranchesModel", name := "cut", desc := "(III)J" } : Jvm.MethodName)) ∈ lw_all := lw_g (lw_at lw_m10 2 rfl) rfl
theorem q2229 : (Jvm.Cond.code ({ cls := "PluralBranchesModel", name := "cut", desc := "(III)J" } : Jvm.MethodName) prog_31_method_81_code (5 : Nat) (Option.some Jvm.ClassFile.FieldType.long)) ∈ lw_all := lw_g (lw_at lw_m10 3 rfl) rfl
theorem q2231 : (Jvm.Cond.instanceMethod ({ cls := "PluralBranchesModel", name := "remains", desc := "(III)J" } : Jvm.MethodName)) ∈ lw_all := lw_g (lw_at lw_m10 5 rfl) rfl
theorem q2232 : (Jvm.Cond.selects "PluralBranchesModel" ({ cls := "PluralBranchesModel", name := "remains", desc := "(III)J" } : Jvm.MethodName) ({ cls := "PluralBranchesModel", name := "remains", desc := "(III)J" } : Jvm.MethodName)) ∈ lw_all := lw_g (lw_at lw_m10 6 rfl) rfl
theorem q2233 : (Jvm.Cond.code ({ cls := "PluralBranchesModel", name := "remains", desc := "(III)J" } : Jvm.MethodName) prog_31_method_82_code (6 : Nat) (Option.some Jvm.ClassFile.FieldType.long)) ∈ lw_all := lw_g (lw_at lw_m10 7 rfl) rfl
theorem q2234 : (Jvm.Cond.constantFloat "PluralBranchesModel" (428 : Nat) (1148846080 : UInt32)) ∈ lw_all := lw_g (lw_at lw_m10 8 rfl) rfl
theorem q2235 : (Jvm.Cond.constantDouble "PluralBranchesModel" (429 : Nat) (4652007308841189376 : UInt64)) ∈ lw_all := lw_g (lw_at lw_m10 9 rfl) rfl
theorem q2237 : (Jvm.Cond.instanceMethod ({ cls := "PluralBranchesModel", name := "take", desc := "(IIII)I" } : Jvm.MethodName)) ∈ lw_all := lw_g (lw_at lw_m10 11 rfl) rfl
theorem q2238 : (Jvm.Cond.selects "PluralBranchesModel" ({ cls := "PluralBranchesModel", name := "take", desc := "(IIII)I" } : Jvm.MethodName) ({ cls := "PluralBranchesModel", name := "take", desc := "(IIII)I" } : Jvm.MethodName)) ∈ lw_all := lw_g (lw_at lw_m10 12 rfl) rfl
theorem q2239 : (Jvm.Cond.code ({ cls := "PluralBranchesModel", name := "take", desc := "(IIII)I" } : Jvm.MethodName) prog_31_method_83_code (10 : Nat) (Option.some Jvm.ClassFile.FieldType.int)) ∈ lw_all := lw_g (lw_at lw_m10 13 rfl) rfl
theorem q2240 : (Jvm.Cond.methodLink "PluralBranchesModel" (431 : Nat) ({ cls := "java/lang/Math", name := "rint", desc := "(D)D" } : Jvm.MethodName)) ∈ lw_all := lw_g (lw_at lw_m10 14 rfl) rfl
theorem q2241 : (Jvm.Cond.constantDouble "PluralBranchesModel" (437 : Nat) (13970166044105375744 : UInt64)) ∈ lw_all := lw_g (lw_at lw_m10 15 rfl) rfl
theorem q2242 : (Jvm.Cond.constantDouble "PluralBranchesModel" (439 : Nat) (4746794007248502784 : UInt64)) ∈ lw_all := lw_g (lw_at lw_m10 16 rfl) rfl
theorem q2244 : (Jvm.Cond.instanceMethod ({ cls := "PluralBranchesModel", name := "move", desc := "(IIIII)I" } : Jvm.MethodName)) ∈ lw_all := lw_g (lw_at lw_m10 18 rfl) rfl
theorem q2245 : (Jvm.Cond.selects "PluralBranchesModel" ({ cls := "PluralBranchesModel", name := "move", desc := "(IIIII)I" } : Jvm.MethodName) ({ cls := "PluralBranchesModel", name := "move", desc := "(IIIII)I" } : Jvm.MethodName)) ∈ lw_all := lw_g (lw_at lw_m10 19 rfl) rfl
theorem q2246 : (Jvm.Cond.code ({ cls := "PluralBranchesModel", name := "move", desc := "(IIIII)I" } : Jvm.MethodName) prog_31_method_84_code (8 : Nat) (Option.some Jvm.ClassFile.FieldType.int)) ∈ lw_all := lw_g (lw_at lw_m10 20 rfl) rfl
theorem q2248 : (Jvm.Cond.instanceMethod ({ cls := "PluralBranchesModel", name := "count", desc := "(I)I" } : Jvm.MethodName)) ∈ lw_all := lw_g (lw_at lw_m10 22 rfl) rfl
theorem q2249 : (Jvm.Cond.selects "PluralBranchesModel" ({ cls := "PluralBranchesModel", name := "count", desc := "(I)I" } : Jvm.MethodName) ({ cls := "PluralBranchesModel", name := "count", desc := "(I)I" } : Jvm.MethodName)) ∈ lw_all := lw_g (lw_at lw_m10 23 rfl) rfl
theorem q2250 : (Jvm.Cond.code ({ cls := "PluralBranchesModel", name := "count", desc := "(I)I" } : Jvm.MethodName) prog_31_method_85_code (4 : Nat) (Option.some Jvm.ClassFile.FieldType.int)) ∈ lw_all := lw_g (lw_at lw_m10 24 rfl) rfl
theorem q2288 : (Jvm.Cond.castable "PluralBranchesModel" "java/lang/Object") ∈ lw_tbl := lw_at lw_m10 62 rfl
theorem in_X9 : ∀ w ∈ wsX90, w ∈ lw_all := lw_in wsX90 [1776, 1778, 1780, 1782, 1784, 1786, 1788, 1790, 1792, 1794, 1796, 1798, 1800, 1802, 1804, 1806, 1808, 1810, 1812, 1814, 1816, 1818, 1820, 1822, 1824, 1826, 1828, 1830, 1832, 1834, 1836, 1838, 1840, 1842, 1844, 1846, 1848, 1850, 1852, 1854, 1856, 1858, 1860, 1862, 1864, 1866, 1868, 1870, 1872, 1874, 1876, 1878, 1880, 1882, 1884, 1886] (by decide +kernel) (by decide +kernel)
