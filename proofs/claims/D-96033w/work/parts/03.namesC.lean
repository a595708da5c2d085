/-! ChairOld -/
set_option maxRecDepth 100000
def RX0 : String := "ChairOld"
def TX0 : u_T := fun k => match k with
  | 0 => ("ChairOld", "parts", "[LChairOld$Part;", true)
  | 1 => ("ChairOld", "kinds", "[LChairOld$Kind;", true)
  | 2 => ("ChairOld", "marks", "[LChairOld$Mark;", true)
  | 3 => ("ChairOld", "partMany", "I", false)
  | 4 => ("ChairOld", "changes", "[LChairOld$Change;", true)
  | 5 => ("ChairOld", "doneMany", "I", false)
  | 6 => ("ChairOld", "undoneMany", "I", false)
  | 7 => ("ChairOld", "tape", "[B", true)
  | 8 => ("ChairOld", "taped", "I", false)
  | 9 => ("ChairOld", "facts", "LChairOld$Facts;", true)
  | 10 => ("ChairOld", "numbers", "[I", true)
  | 11 => ("ChairOld", "weights", "[J", true)
  | 12 => ("ChairOld", "sums", "[J", true)
  | 13 => ("ChairOld", "asked", "[B", true)
  | 14 => ("ChairOld", "all", "J", false)
  | 15 => ("ChairOld", "whens", "[I", true)
  | 16 => ("ChairOld", "ordered", "[I", true)
  | 17 => ("ChairOld", "papers", "[LChairOld$Paper;", true)
  | 18 => ("ChairOld", "paperMany", "I", false)
  | 19 => ("ChairOld", "imageMany", "I", false)
  | 20 => ("ChairOld", "traces", "I", false)
  | 21 => ("ChairOld", "traced", "[B", true)
  | 22 => ("ChairOld", "bodies", "[LChairOld$Plain;", true)
  | 23 => ("ChairOld", "bodyMany", "I", false)
  | _ => ("ChairOld", "shelves", "[LChairOld$Held;", true)
def tyX0 : Nat → FieldType := fun k => match k with
  | 0 => .array (.object "ChairOld$Part")
  | 1 => .array (.object "ChairOld$Kind")
  | 2 => .array (.object "ChairOld$Mark")
  | 3 => .int
  | 4 => .array (.object "ChairOld$Change")
  | 5 => .int
  | 6 => .int
  | 7 => .array .byte
  | 8 => .int
  | 9 => .object "ChairOld$Facts"
  | 10 => .array .int
  | 11 => .array .long
  | 12 => .array .long
  | 13 => .array .byte
  | 14 => .long
  | 15 => .array .int
  | 16 => .array .int
  | 17 => .array (.object "ChairOld$Paper")
  | 18 => .int
  | 19 => .int
  | 20 => .int
  | 21 => .array .byte
  | 22 => .array (.object "ChairOld$Plain")
  | 23 => .int
  | _ => .array (.object "ChairOld$Held")
abbrev wsX00 : List Cond := u_ws RX0 TX0 25
set_option maxRecDepth 100000 in
theorem nmX0 : ∀ a, a < 25 → ∀ b, b < 25 → a ≠ b → (TX0 a).2.1 ≠ (TX0 b).2.1 := by decide +kernel
set_option maxRecDepth 100000 in
theorem tyX0_ok : ∀ k, k < 25 → parseFieldDescriptor (TX0 k).2.2.1 = some (tyX0 k) := by decide +kernel
abbrev cX0_init : ByteArray := prog_1_method_1_code
def yX0_init : MethodName := ⟨RX0, "<init>", "()V"⟩
def dkwX0_init_11 : List UInt8 := [189, 0, 79, 181, 0, 81, 42, 16, 6, 189, 0, 85, 181, 0, 87, 177]
abbrev dktX0_init_11 : List UInt8 := dkwX0_init_11 ++ []
def dkwX0_init_10 : List UInt8 := [189, 0, 66, 181, 0, 68, 42, 2, 181, 0, 72, 42, 16, 24, 188, 8, 181, 0, 76, 42, 16, 50]
abbrev dktX0_init_10 : List UInt8 := dkwX0_init_10 ++ dktX0_init_11
def dkwX0_init_9 : List UInt8 := [188, 8, 181, 0, 57, 42, 16, 8, 188, 10, 181, 0, 60, 42, 16, 8, 188, 10, 181, 0, 63, 42, 16, 10]
abbrev dktX0_init_9 : List UInt8 := dkwX0_init_9 ++ dktX0_init_10
def dkwX0_init_8 : List UInt8 := [181, 0, 46, 42, 17, 0, 180, 188, 11, 181, 0, 50, 42, 16, 6, 188, 11, 181, 0, 54, 42, 16, 6]
abbrev dktX0_init_8 : List UInt8 := dkwX0_init_8 ++ dktX0_init_9
def dkwX0_init_7 : List UInt8 := [188, 8, 181, 0, 35, 42, 187, 0, 39, 89, 183, 0, 41, 181, 0, 42, 42, 17, 4, 56, 188, 10]
abbrev dktX0_init_7 : List UInt8 := dkwX0_init_7 ++ dktX0_init_8
def dkwX0_init_6 : List UInt8 := [187, 0, 22, 89, 183, 0, 24, 83, 181, 0, 25, 42, 16, 40, 189, 0, 29, 181, 0, 31, 42, 16, 120]
abbrev dktX0_init_6 : List UInt8 := dkwX0_init_6 ++ dktX0_init_7
def dkwX0_init_5 : List UInt8 := [89, 6, 187, 0, 22, 89, 183, 0, 24, 83, 89, 7, 187, 0, 22, 89, 183, 0, 24, 83, 89, 8]
abbrev dktX0_init_5 : List UInt8 := dkwX0_init_5 ++ dktX0_init_6
def dkwX0_init_4 : List UInt8 := [183, 0, 24, 83, 89, 4, 187, 0, 22, 89, 183, 0, 24, 83, 89, 5, 187, 0, 22, 89, 183, 0, 24, 83]
abbrev dktX0_init_4 : List UInt8 := dkwX0_init_4 ++ dktX0_init_5
def dkwX0_init_3 : List UInt8 := [187, 0, 15, 89, 183, 0, 17, 83, 181, 0, 18, 42, 16, 6, 189, 0, 22, 89, 3, 187, 0, 22, 89]
abbrev dktX0_init_3 : List UInt8 := dkwX0_init_3 ++ dktX0_init_4
def dkwX0_init_2 : List UInt8 := [83, 89, 6, 187, 0, 15, 89, 183, 0, 17, 83, 89, 7, 187, 0, 15, 89, 183, 0, 17, 83, 89, 8]
abbrev dktX0_init_2 : List UInt8 := dkwX0_init_2 ++ dktX0_init_3
def dkwX0_init_1 : List UInt8 := [89, 183, 0, 17, 83, 89, 4, 187, 0, 15, 89, 183, 0, 17, 83, 89, 5, 187, 0, 15, 89, 183, 0, 17]
abbrev dktX0_init_1 : List UInt8 := dkwX0_init_1 ++ dktX0_init_2
def dkwX0_init_0 : List UInt8 := [42, 183, 0, 1, 42, 16, 8, 189, 0, 9, 181, 0, 11, 42, 16, 6, 189, 0, 15, 89, 3, 187, 0, 15]
abbrev dktX0_init_0 : List UInt8 := dkwX0_init_0 ++ dktX0_init_1
theorem dksX0_init_0 : cX0_init.data.toList.drop 0 = dktX0_init_0 := by decide +kernel
theorem dksX0_init_1 : cX0_init.data.toList.drop 24 = dktX0_init_1 := dk_seg dksX0_init_0 24 rfl rfl
theorem dksX0_init_2 : cX0_init.data.toList.drop 48 = dktX0_init_2 := dk_seg dksX0_init_1 24 rfl rfl
theorem dksX0_init_3 : cX0_init.data.toList.drop 71 = dktX0_init_3 := dk_seg dksX0_init_2 23 rfl rfl
theorem dksX0_init_4 : cX0_init.data.toList.drop 94 = dktX0_init_4 := dk_seg dksX0_init_3 23 rfl rfl
theorem dksX0_init_5 : cX0_init.data.toList.drop 118 = dktX0_init_5 := dk_seg dksX0_init_4 24 rfl rfl
theorem dksX0_init_6 : cX0_init.data.toList.drop 140 = dktX0_init_6 := dk_seg dksX0_init_5 22 rfl rfl
theorem dksX0_init_7 : cX0_init.data.toList.drop 163 = dktX0_init_7 := dk_seg dksX0_init_6 23 rfl rfl
theorem dksX0_init_8 : cX0_init.data.toList.drop 185 = dktX0_init_8 := dk_seg dksX0_init_7 22 rfl rfl
theorem dksX0_init_9 : cX0_init.data.toList.drop 208 = dktX0_init_9 := dk_seg dksX0_init_8 23 rfl rfl
theorem dksX0_init_10 : cX0_init.data.toList.drop 232 = dktX0_init_10 := dk_seg dksX0_init_9 24 rfl rfl
theorem dksX0_init_11 : cX0_init.data.toList.drop 254 = dktX0_init_11 := dk_seg dksX0_init_10 22 rfl rfl
theorem dX0_init_0 : decode cX0_init 0 = .ok (.aload_n 0, 1) := dk_42 (dk_at dksX0_init_0 0 rfl rfl)
theorem dX0_init_1 : decode cX0_init 1 = .ok (.invokespecial 1, 3) := dk_183 0 1 (dk_at dksX0_init_0 1 rfl rfl)
theorem dX0_init_4 : decode cX0_init 4 = .ok (.aload_n 0, 1) := dk_42 (dk_at dksX0_init_0 4 rfl rfl)
theorem dX0_init_5 : decode cX0_init 5 = .ok (.bipush 8, 2) := dk_16 8 (dk_at dksX0_init_0 5 rfl rfl)
theorem dX0_init_7 : decode cX0_init 7 = .ok (.anewarray 9, 3) := dk_189 0 9 (dk_at dksX0_init_0 7 rfl rfl)
theorem dX0_init_10 : decode cX0_init 10 = .ok (.putfield 11, 3) := dk_181 0 11 (dk_at dksX0_init_0 10 rfl rfl)
theorem dX0_init_13 : decode cX0_init 13 = .ok (.aload_n 0, 1) := dk_42 (dk_at dksX0_init_0 13 rfl rfl)
theorem dX0_init_14 : decode cX0_init 14 = .ok (.bipush 6, 2) := dk_16 6 (dk_at dksX0_init_0 14 rfl rfl)
theorem dX0_init_16 : decode cX0_init 16 = .ok (.anewarray 15, 3) := dk_189 0 15 (dk_at dksX0_init_0 16 rfl rfl)
theorem dX0_init_19 : decode cX0_init 19 = .ok (.dup, 1) := dk_89 (dk_at dksX0_init_0 19 rfl rfl)
theorem dX0_init_20 : decode cX0_init 20 = .ok (.iconst 0, 1) := dk_3 (dk_at dksX0_init_0 20 rfl rfl)
theorem dX0_init_21 : decode cX0_init 21 = .ok (.new 15, 3) := dk_187 0 15 (dk_at dksX0_init_0 21 rfl rfl)
theorem dX0_init_24 : decode cX0_init 24 = .ok (.dup, 1) := dk_89 (dk_at dksX0_init_1 0 rfl rfl)
theorem dX0_init_25 : decode cX0_init 25 = .ok (.invokespecial 17, 3) := dk_183 0 17 (dk_at dksX0_init_1 1 rfl rfl)
theorem dX0_init_28 : decode cX0_init 28 = .ok (.aastore, 1) := dk_83 (dk_at dksX0_init_1 4 rfl rfl)
theorem dX0_init_29 : decode cX0_init 29 = .ok (.dup, 1) := dk_89 (dk_at dksX0_init_1 5 rfl rfl)
theorem dX0_init_30 : decode cX0_init 30 = .ok (.iconst 1, 1) := dk_4 (dk_at dksX0_init_1 6 rfl rfl)
theorem dX0_init_31 : decode cX0_init 31 = .ok (.new 15, 3) := dk_187 0 15 (dk_at dksX0_init_1 7 rfl rfl)
theorem dX0_init_34 : decode cX0_init 34 = .ok (.dup, 1) := dk_89 (dk_at dksX0_init_1 10 rfl rfl)
theorem dX0_init_35 : decode cX0_init 35 = .ok (.invokespecial 17, 3) := dk_183 0 17 (dk_at dksX0_init_1 11 rfl rfl)
theorem dX0_init_38 : decode cX0_init 38 = .ok (.aastore, 1) := dk_83 (dk_at dksX0_init_1 14 rfl rfl)
theorem dX0_init_39 : decode cX0_init 39 = .ok (.dup, 1) := dk_89 (dk_at dksX0_init_1 15 rfl rfl)
theorem dX0_init_40 : decode cX0_init 40 = .ok (.iconst 2, 1) := dk_5 (dk_at dksX0_init_1 16 rfl rfl)
theorem dX0_init_41 : decode cX0_init 41 = .ok (.new 15, 3) := dk_187 0 15 (dk_at dksX0_init_1 17 rfl rfl)
theorem dX0_init_44 : decode cX0_init 44 = .ok (.dup, 1) := dk_89 (dk_at dksX0_init_1 20 rfl rfl)
theorem dX0_init_45 : decode cX0_init 45 = .ok (.invokespecial 17, 3) := dk_183 0 17 (dk_at dksX0_init_1 21 rfl rfl)
theorem dX0_init_48 : decode cX0_init 48 = .ok (.aastore, 1) := dk_83 (dk_at dksX0_init_2 0 rfl rfl)
theorem dX0_init_49 : decode cX0_init 49 = .ok (.dup, 1) := dk_89 (dk_at dksX0_init_2 1 rfl rfl)
theorem dX0_init_50 : decode cX0_init 50 = .ok (.iconst 3, 1) := dk_6 (dk_at dksX0_init_2 2 rfl rfl)
theorem dX0_init_51 : decode cX0_init 51 = .ok (.new 15, 3) := dk_187 0 15 (dk_at dksX0_init_2 3 rfl rfl)
theorem dX0_init_54 : decode cX0_init 54 = .ok (.dup, 1) := dk_89 (dk_at dksX0_init_2 6 rfl rfl)
theorem dX0_init_55 : decode cX0_init 55 = .ok (.invokespecial 17, 3) := dk_183 0 17 (dk_at dksX0_init_2 7 rfl rfl)
theorem dX0_init_58 : decode cX0_init 58 = .ok (.aastore, 1) := dk_83 (dk_at dksX0_init_2 10 rfl rfl)
theorem dX0_init_59 : decode cX0_init 59 = .ok (.dup, 1) := dk_89 (dk_at dksX0_init_2 11 rfl rfl)
theorem dX0_init_60 : decode cX0_init 60 = .ok (.iconst 4, 1) := dk_7 (dk_at dksX0_init_2 12 rfl rfl)
theorem dX0_init_61 : decode cX0_init 61 = .ok (.new 15, 3) := dk_187 0 15 (dk_at dksX0_init_2 13 rfl rfl)
theorem dX0_init_64 : decode cX0_init 64 = .ok (.dup, 1) := dk_89 (dk_at dksX0_init_2 16 rfl rfl)
theorem dX0_init_65 : decode cX0_init 65 = .ok (.invokespecial 17, 3) := dk_183 0 17 (dk_at dksX0_init_2 17 rfl rfl)
theorem dX0_init_68 : decode cX0_init 68 = .ok (.aastore, 1) := dk_83 (dk_at dksX0_init_2 20 rfl rfl)
theorem dX0_init_69 : decode cX0_init 69 = .ok (.dup, 1) := dk_89 (dk_at dksX0_init_2 21 rfl rfl)
theorem dX0_init_70 : decode cX0_init 70 = .ok (.iconst 5, 1) := dk_8 (dk_at dksX0_init_2 22 rfl rfl)
theorem dX0_init_71 : decode cX0_init 71 = .ok (.new 15, 3) := dk_187 0 15 (dk_at dksX0_init_3 0 rfl rfl)
theorem dX0_init_74 : decode cX0_init 74 = .ok (.dup, 1) := dk_89 (dk_at dksX0_init_3 3 rfl rfl)
theorem dX0_init_75 : decode cX0_init 75 = .ok (.invokespecial 17, 3) := dk_183 0 17 (dk_at dksX0_init_3 4 rfl rfl)
theorem dX0_init_78 : decode cX0_init 78 = .ok (.aastore, 1) := dk_83 (dk_at dksX0_init_3 7 rfl rfl)
theorem dX0_init_79 : decode cX0_init 79 = .ok (.putfield 18, 3) := dk_181 0 18 (dk_at dksX0_init_3 8 rfl rfl)
theorem dX0_init_82 : decode cX0_init 82 = .ok (.aload_n 0, 1) := dk_42 (dk_at dksX0_init_3 11 rfl rfl)
theorem dX0_init_83 : decode cX0_init 83 = .ok (.bipush 6, 2) := dk_16 6 (dk_at dksX0_init_3 12 rfl rfl)
theorem dX0_init_85 : decode cX0_init 85 = .ok (.anewarray 22, 3) := dk_189 0 22 (dk_at dksX0_init_3 14 rfl rfl)
theorem dX0_init_88 : decode cX0_init 88 = .ok (.dup, 1) := dk_89 (dk_at dksX0_init_3 17 rfl rfl)
theorem dX0_init_89 : decode cX0_init 89 = .ok (.iconst 0, 1) := dk_3 (dk_at dksX0_init_3 18 rfl rfl)
theorem dX0_init_90 : decode cX0_init 90 = .ok (.new 22, 3) := dk_187 0 22 (dk_at dksX0_init_3 19 rfl rfl)
theorem dX0_init_93 : decode cX0_init 93 = .ok (.dup, 1) := dk_89 (dk_at dksX0_init_3 22 rfl rfl)
theorem dX0_init_94 : decode cX0_init 94 = .ok (.invokespecial 24, 3) := dk_183 0 24 (dk_at dksX0_init_4 0 rfl rfl)
theorem dX0_init_97 : decode cX0_init 97 = .ok (.aastore, 1) := dk_83 (dk_at dksX0_init_4 3 rfl rfl)
theorem dX0_init_98 : decode cX0_init 98 = .ok (.dup, 1) := dk_89 (dk_at dksX0_init_4 4 rfl rfl)
theorem dX0_init_99 : decode cX0_init 99 = .ok (.iconst 1, 1) := dk_4 (dk_at dksX0_init_4 5 rfl rfl)
theorem dX0_init_100 : decode cX0_init 100 = .ok (.new 22, 3) := dk_187 0 22 (dk_at dksX0_init_4 6 rfl rfl)
theorem dX0_init_103 : decode cX0_init 103 = .ok (.dup, 1) := dk_89 (dk_at dksX0_init_4 9 rfl rfl)
theorem dX0_init_104 : decode cX0_init 104 = .ok (.invokespecial 24, 3) := dk_183 0 24 (dk_at dksX0_init_4 10 rfl rfl)
theorem dX0_init_107 : decode cX0_init 107 = .ok (.aastore, 1) := dk_83 (dk_at dksX0_init_4 13 rfl rfl)
theorem dX0_init_108 : decode cX0_init 108 = .ok (.dup, 1) := dk_89 (dk_at dksX0_init_4 14 rfl rfl)
theorem dX0_init_109 : decode cX0_init 109 = .ok (.iconst 2, 1) := dk_5 (dk_at dksX0_init_4 15 rfl rfl)
theorem dX0_init_110 : decode cX0_init 110 = .ok (.new 22, 3) := dk_187 0 22 (dk_at dksX0_init_4 16 rfl rfl)
theorem dX0_init_113 : decode cX0_init 113 = .ok (.dup, 1) := dk_89 (dk_at dksX0_init_4 19 rfl rfl)
theorem dX0_init_114 : decode cX0_init 114 = .ok (.invokespecial 24, 3) := dk_183 0 24 (dk_at dksX0_init_4 20 rfl rfl)
theorem dX0_init_117 : decode cX0_init 117 = .ok (.aastore, 1) := dk_83 (dk_at dksX0_init_4 23 rfl rfl)
theorem dX0_init_118 : decode cX0_init 118 = .ok (.dup, 1) := dk_89 (dk_at dksX0_init_5 0 rfl rfl)
theorem dX0_init_119 : decode cX0_init 119 = .ok (.iconst 3, 1) := dk_6 (dk_at dksX0_init_5 1 rfl rfl)
theorem dX0_init_120 : decode cX0_init 120 = .ok (.new 22, 3) := dk_187 0 22 (dk_at dksX0_init_5 2 rfl rfl)
theorem dX0_init_123 : decode cX0_init 123 = .ok (.dup, 1) := dk_89 (dk_at dksX0_init_5 5 rfl rfl)
theorem dX0_init_124 : decode cX0_init 124 = .ok (.invokespecial 24, 3) := dk_183 0 24 (dk_at dksX0_init_5 6 rfl rfl)
theorem dX0_init_127 : decode cX0_init 127 = .ok (.aastore, 1) := dk_83 (dk_at dksX0_init_5 9 rfl rfl)
theorem dX0_init_128 : decode cX0_init 128 = .ok (.dup, 1) := dk_89 (dk_at dksX0_init_5 10 rfl rfl)
theorem dX0_init_129 : decode cX0_init 129 = .ok (.iconst 4, 1) := dk_7 (dk_at dksX0_init_5 11 rfl rfl)
theorem dX0_init_130 : decode cX0_init 130 = .ok (.new 22, 3) := dk_187 0 22 (dk_at dksX0_init_5 12 rfl rfl)
theorem dX0_init_133 : decode cX0_init 133 = .ok (.dup, 1) := dk_89 (dk_at dksX0_init_5 15 rfl rfl)
theorem dX0_init_134 : decode cX0_init 134 = .ok (.invokespecial 24, 3) := dk_183 0 24 (dk_at dksX0_init_5 16 rfl rfl)
theorem dX0_init_137 : decode cX0_init 137 = .ok (.aastore, 1) := dk_83 (dk_at dksX0_init_5 19 rfl rfl)
theorem dX0_init_138 : decode cX0_init 138 = .ok (.dup, 1) := dk_89 (dk_at dksX0_init_5 20 rfl rfl)
theorem dX0_init_139 : decode cX0_init 139 = .ok (.iconst 5, 1) := dk_8 (dk_at dksX0_init_5 21 rfl rfl)
theorem dX0_init_140 : decode cX0_init 140 = .ok (.new 22, 3) := dk_187 0 22 (dk_at dksX0_init_6 0 rfl rfl)
theorem dX0_init_143 : decode cX0_init 143 = .ok (.dup, 1) := dk_89 (dk_at dksX0_init_6 3 rfl rfl)
theorem dX0_init_144 : decode cX0_init 144 = .ok (.invokespecial 24, 3) := dk_183 0 24 (dk_at dksX0_init_6 4 rfl rfl)
theorem dX0_init_147 : decode cX0_init 147 = .ok (.aastore, 1) := dk_83 (dk_at dksX0_init_6 7 rfl rfl)
theorem dX0_init_148 : decode cX0_init 148 = .ok (.putfield 25, 3) := dk_181 0 25 (dk_at dksX0_init_6 8 rfl rfl)
theorem dX0_init_151 : decode cX0_init 151 = .ok (.aload_n 0, 1) := dk_42 (dk_at dksX0_init_6 11 rfl rfl)
theorem dX0_init_152 : decode cX0_init 152 = .ok (.bipush 40, 2) := dk_16 40 (dk_at dksX0_init_6 12 rfl rfl)
theorem dX0_init_154 : decode cX0_init 154 = .ok (.anewarray 29, 3) := dk_189 0 29 (dk_at dksX0_init_6 14 rfl rfl)
theorem dX0_init_157 : decode cX0_init 157 = .ok (.putfield 31, 3) := dk_181 0 31 (dk_at dksX0_init_6 17 rfl rfl)
theorem dX0_init_160 : decode cX0_init 160 = .ok (.aload_n 0, 1) := dk_42 (dk_at dksX0_init_6 20 rfl rfl)
theorem dX0_init_161 : decode cX0_init 161 = .ok (.bipush 120, 2) := dk_16 120 (dk_at dksX0_init_6 21 rfl rfl)
theorem dX0_init_163 : decode cX0_init 163 = .ok (.newarray .byte, 2) := dk_188_8 (dk_at dksX0_init_7 0 rfl rfl)
theorem dX0_init_165 : decode cX0_init 165 = .ok (.putfield 35, 3) := dk_181 0 35 (dk_at dksX0_init_7 2 rfl rfl)
theorem dX0_init_168 : decode cX0_init 168 = .ok (.aload_n 0, 1) := dk_42 (dk_at dksX0_init_7 5 rfl rfl)
theorem dX0_init_169 : decode cX0_init 169 = .ok (.new 39, 3) := dk_187 0 39 (dk_at dksX0_init_7 6 rfl rfl)
theorem dX0_init_172 : decode cX0_init 172 = .ok (.dup, 1) := dk_89 (dk_at dksX0_init_7 9 rfl rfl)
theorem dX0_init_173 : decode cX0_init 173 = .ok (.invokespecial 41, 3) := dk_183 0 41 (dk_at dksX0_init_7 10 rfl rfl)
theorem dX0_init_176 : decode cX0_init 176 = .ok (.putfield 42, 3) := dk_181 0 42 (dk_at dksX0_init_7 13 rfl rfl)
theorem dX0_init_179 : decode cX0_init 179 = .ok (.aload_n 0, 1) := dk_42 (dk_at dksX0_init_7 16 rfl rfl)
theorem dX0_init_180 : decode cX0_init 180 = .ok (.sipush 1080, 3) := dk_17 4 56 (dk_at dksX0_init_7 17 rfl rfl)
theorem dX0_init_183 : decode cX0_init 183 = .ok (.newarray .int, 2) := dk_188_10 (dk_at dksX0_init_7 20 rfl rfl)
theorem dX0_init_185 : decode cX0_init 185 = .ok (.putfield 46, 3) := dk_181 0 46 (dk_at dksX0_init_8 0 rfl rfl)
theorem dX0_init_188 : decode cX0_init 188 = .ok (.aload_n 0, 1) := dk_42 (dk_at dksX0_init_8 3 rfl rfl)
theorem dX0_init_189 : decode cX0_init 189 = .ok (.sipush 180, 3) := dk_17 0 180 (dk_at dksX0_init_8 4 rfl rfl)
theorem dX0_init_192 : decode cX0_init 192 = .ok (.newarray .long, 2) := dk_188_11 (dk_at dksX0_init_8 7 rfl rfl)
theorem dX0_init_194 : decode cX0_init 194 = .ok (.putfield 50, 3) := dk_181 0 50 (dk_at dksX0_init_8 9 rfl rfl)
theorem dX0_init_197 : decode cX0_init 197 = .ok (.aload_n 0, 1) := dk_42 (dk_at dksX0_init_8 12 rfl rfl)
theorem dX0_init_198 : decode cX0_init 198 = .ok (.bipush 6, 2) := dk_16 6 (dk_at dksX0_init_8 13 rfl rfl)
theorem dX0_init_200 : decode cX0_init 200 = .ok (.newarray .long, 2) := dk_188_11 (dk_at dksX0_init_8 15 rfl rfl)
theorem dX0_init_202 : decode cX0_init 202 = .ok (.putfield 54, 3) := dk_181 0 54 (dk_at dksX0_init_8 17 rfl rfl)
theorem dX0_init_205 : decode cX0_init 205 = .ok (.aload_n 0, 1) := dk_42 (dk_at dksX0_init_8 20 rfl rfl)
theorem dX0_init_206 : decode cX0_init 206 = .ok (.bipush 6, 2) := dk_16 6 (dk_at dksX0_init_8 21 rfl rfl)
theorem dX0_init_208 : decode cX0_init 208 = .ok (.newarray .byte, 2) := dk_188_8 (dk_at dksX0_init_9 0 rfl rfl)
theorem dX0_init_210 : decode cX0_init 210 = .ok (.putfield 57, 3) := dk_181 0 57 (dk_at dksX0_init_9 2 rfl rfl)
theorem dX0_init_213 : decode cX0_init 213 = .ok (.aload_n 0, 1) := dk_42 (dk_at dksX0_init_9 5 rfl rfl)
theorem dX0_init_214 : decode cX0_init 214 = .ok (.bipush 8, 2) := dk_16 8 (dk_at dksX0_init_9 6 rfl rfl)
theorem dX0_init_216 : decode cX0_init 216 = .ok (.newarray .int, 2) := dk_188_10 (dk_at dksX0_init_9 8 rfl rfl)
theorem dX0_init_218 : decode cX0_init 218 = .ok (.putfield 60, 3) := dk_181 0 60 (dk_at dksX0_init_9 10 rfl rfl)
theorem dX0_init_221 : decode cX0_init 221 = .ok (.aload_n 0, 1) := dk_42 (dk_at dksX0_init_9 13 rfl rfl)
theorem dX0_init_222 : decode cX0_init 222 = .ok (.bipush 8, 2) := dk_16 8 (dk_at dksX0_init_9 14 rfl rfl)
theorem dX0_init_224 : decode cX0_init 224 = .ok (.newarray .int, 2) := dk_188_10 (dk_at dksX0_init_9 16 rfl rfl)
theorem dX0_init_226 : decode cX0_init 226 = .ok (.putfield 63, 3) := dk_181 0 63 (dk_at dksX0_init_9 18 rfl rfl)
theorem dX0_init_229 : decode cX0_init 229 = .ok (.aload_n 0, 1) := dk_42 (dk_at dksX0_init_9 21 rfl rfl)
theorem dX0_init_230 : decode cX0_init 230 = .ok (.bipush 10, 2) := dk_16 10 (dk_at dksX0_init_9 22 rfl rfl)
theorem dX0_init_232 : decode cX0_init 232 = .ok (.anewarray 66, 3) := dk_189 0 66 (dk_at dksX0_init_10 0 rfl rfl)
theorem dX0_init_235 : decode cX0_init 235 = .ok (.putfield 68, 3) := dk_181 0 68 (dk_at dksX0_init_10 3 rfl rfl)
theorem dX0_init_238 : decode cX0_init 238 = .ok (.aload_n 0, 1) := dk_42 (dk_at dksX0_init_10 6 rfl rfl)
theorem dX0_init_239 : decode cX0_init 239 = .ok (.iconst (-1), 1) := dk_2 (dk_at dksX0_init_10 7 rfl rfl)
theorem dX0_init_240 : decode cX0_init 240 = .ok (.putfield 72, 3) := dk_181 0 72 (dk_at dksX0_init_10 8 rfl rfl)
theorem dX0_init_243 : decode cX0_init 243 = .ok (.aload_n 0, 1) := dk_42 (dk_at dksX0_init_10 11 rfl rfl)
theorem dX0_init_244 : decode cX0_init 244 = .ok (.bipush 24, 2) := dk_16 24 (dk_at dksX0_init_10 12 rfl rfl)
theorem dX0_init_246 : decode cX0_init 246 = .ok (.newarray .byte, 2) := dk_188_8 (dk_at dksX0_init_10 14 rfl rfl)
theorem dX0_init_248 : decode cX0_init 248 = .ok (.putfield 76, 3) := dk_181 0 76 (dk_at dksX0_init_10 16 rfl rfl)
theorem dX0_init_251 : decode cX0_init 251 = .ok (.aload_n 0, 1) := dk_42 (dk_at dksX0_init_10 19 rfl rfl)
theorem dX0_init_252 : decode cX0_init 252 = .ok (.bipush 50, 2) := dk_16 50 (dk_at dksX0_init_10 20 rfl rfl)
theorem dX0_init_254 : decode cX0_init 254 = .ok (.anewarray 79, 3) := dk_189 0 79 (dk_at dksX0_init_11 0 rfl rfl)
theorem dX0_init_257 : decode cX0_init 257 = .ok (.putfield 81, 3) := dk_181 0 81 (dk_at dksX0_init_11 3 rfl rfl)
theorem dX0_init_260 : decode cX0_init 260 = .ok (.aload_n 0, 1) := dk_42 (dk_at dksX0_init_11 6 rfl rfl)
theorem dX0_init_261 : decode cX0_init 261 = .ok (.bipush 6, 2) := dk_16 6 (dk_at dksX0_init_11 7 rfl rfl)
theorem dX0_init_263 : decode cX0_init 263 = .ok (.anewarray 85, 3) := dk_189 0 85 (dk_at dksX0_init_11 9 rfl rfl)
theorem dX0_init_266 : decode cX0_init 266 = .ok (.putfield 87, 3) := dk_181 0 87 (dk_at dksX0_init_11 12 rfl rfl)
theorem dX0_init_269 : decode cX0_init 269 = .ok (.return_, 1) := dk_177 (dk_at dksX0_init_11 15 rfl rfl)
abbrev cX0_part : ByteArray := prog_1_method_11_code
def yX0_part : MethodName := ⟨RX0, "part", "(I)I"⟩
def dkwX0_part_1 : List UInt8 := [167, 0, 15, 42, 27, 16, 10, 108, 27, 16, 10, 112, 182, 0, 111, 172]
abbrev dktX0_part_1 : List UInt8 := dkwX0_part_1 ++ []
def dkwX0_part_0 : List UInt8 := [27, 3, 16, 99, 184, 0, 94, 154, 0, 5, 2, 172, 42, 180, 0, 91, 16, 8, 160, 0, 8, 16, 253]
abbrev dktX0_part_0 : List UInt8 := dkwX0_part_0 ++ dktX0_part_1
theorem dksX0_part_0 : cX0_part.data.toList.drop 0 = dktX0_part_0 := by decide +kernel
theorem dksX0_part_1 : cX0_part.data.toList.drop 23 = dktX0_part_1 := dk_seg dksX0_part_0 23 rfl rfl
theorem dX0_part_0 : decode cX0_part 0 = .ok (.iload_n 1, 1) := dk_27 (dk_at dksX0_part_0 0 rfl rfl)
theorem dX0_part_1 : decode cX0_part 1 = .ok (.iconst 0, 1) := dk_3 (dk_at dksX0_part_0 1 rfl rfl)
theorem dX0_part_2 : decode cX0_part 2 = .ok (.bipush 99, 2) := dk_16 99 (dk_at dksX0_part_0 2 rfl rfl)
theorem dX0_part_4 : decode cX0_part 4 = .ok (.invokestatic 94, 3) := dk_184 0 94 (dk_at dksX0_part_0 4 rfl rfl)
theorem dX0_part_7 : decode cX0_part 7 = .ok (.ifCond .ne 5, 3) := dk_154 0 5 (dk_at dksX0_part_0 7 rfl rfl)
theorem dX0_part_10 : decode cX0_part 10 = .ok (.iconst (-1), 1) := dk_2 (dk_at dksX0_part_0 10 rfl rfl)
theorem dX0_part_11 : decode cX0_part 11 = .ok (.ireturn, 1) := dk_172 (dk_at dksX0_part_0 11 rfl rfl)
theorem dX0_part_12 : decode cX0_part 12 = .ok (.aload_n 0, 1) := dk_42 (dk_at dksX0_part_0 12 rfl rfl)
theorem dX0_part_13 : decode cX0_part 13 = .ok (.getfield 91, 3) := dk_180 0 91 (dk_at dksX0_part_0 13 rfl rfl)
theorem dX0_part_16 : decode cX0_part 16 = .ok (.bipush 8, 2) := dk_16 8 (dk_at dksX0_part_0 16 rfl rfl)
theorem dX0_part_18 : decode cX0_part 18 = .ok (.if_icmp .ne 8, 3) := dk_160 0 8 (dk_at dksX0_part_0 18 rfl rfl)
theorem dX0_part_21 : decode cX0_part 21 = .ok (.bipush (-3), 2) := dk_16 253 (dk_at dksX0_part_0 21 rfl rfl)
theorem dX0_part_23 : decode cX0_part 23 = .ok (.goto 15, 3) := dk_167 0 15 (dk_at dksX0_part_1 0 rfl rfl)
theorem dX0_part_26 : decode cX0_part 26 = .ok (.aload_n 0, 1) := dk_42 (dk_at dksX0_part_1 3 rfl rfl)
theorem dX0_part_27 : decode cX0_part 27 = .ok (.iload_n 1, 1) := dk_27 (dk_at dksX0_part_1 4 rfl rfl)
theorem dX0_part_28 : decode cX0_part 28 = .ok (.bipush 10, 2) := dk_16 10 (dk_at dksX0_part_1 5 rfl rfl)
theorem dX0_part_30 : decode cX0_part 30 = .ok (.idiv, 1) := dk_108 (dk_at dksX0_part_1 7 rfl rfl)
theorem dX0_part_31 : decode cX0_part 31 = .ok (.iload_n 1, 1) := dk_27 (dk_at dksX0_part_1 8 rfl rfl)
theorem dX0_part_32 : decode cX0_part 32 = .ok (.bipush 10, 2) := dk_16 10 (dk_at dksX0_part_1 9 rfl rfl)
theorem dX0_part_34 : decode cX0_part 34 = .ok (.irem, 1) := dk_112 (dk_at dksX0_part_1 11 rfl rfl)
theorem dX0_part_35 : decode cX0_part 35 = .ok (.invokevirtual 111, 3) := dk_182 0 111 (dk_at dksX0_part_1 12 rfl rfl)
theorem dX0_part_38 : decode cX0_part 38 = .ok (.ireturn, 1) := dk_172 (dk_at dksX0_part_1 15 rfl rfl)
abbrev cX0_in : ByteArray := prog_1_method_2_code
def yX0_in : MethodName := ⟨RX0, "in", "(III)Z"⟩
def dkwX0_in_0 : List UInt8 := [26, 27, 161, 0, 12, 26, 28, 163, 0, 7, 4, 167, 0, 4, 3, 172]
abbrev dktX0_in_0 : List UInt8 := dkwX0_in_0 ++ []
theorem dksX0_in_0 : cX0_in.data.toList.drop 0 = dktX0_in_0 := by decide +kernel
theorem dX0_in_0 : decode cX0_in 0 = .ok (.iload_n 0, 1) := dk_26 (dk_at dksX0_in_0 0 rfl rfl)
theorem dX0_in_1 : decode cX0_in 1 = .ok (.iload_n 1, 1) := dk_27 (dk_at dksX0_in_0 1 rfl rfl)
theorem dX0_in_2 : decode cX0_in 2 = .ok (.if_icmp .lt 12, 3) := dk_161 0 12 (dk_at dksX0_in_0 2 rfl rfl)
theorem dX0_in_5 : decode cX0_in 5 = .ok (.iload_n 0, 1) := dk_26 (dk_at dksX0_in_0 5 rfl rfl)
theorem dX0_in_6 : decode cX0_in 6 = .ok (.iload_n 2, 1) := dk_28 (dk_at dksX0_in_0 6 rfl rfl)
theorem dX0_in_7 : decode cX0_in 7 = .ok (.if_icmp .gt 7, 3) := dk_163 0 7 (dk_at dksX0_in_0 7 rfl rfl)
theorem dX0_in_10 : decode cX0_in 10 = .ok (.iconst 1, 1) := dk_4 (dk_at dksX0_in_0 10 rfl rfl)
theorem dX0_in_11 : decode cX0_in 11 = .ok (.goto 4, 3) := dk_167 0 4 (dk_at dksX0_in_0 11 rfl rfl)
theorem dX0_in_14 : decode cX0_in 14 = .ok (.iconst 0, 1) := dk_3 (dk_at dksX0_in_0 14 rfl rfl)
theorem dX0_in_15 : decode cX0_in 15 = .ok (.ireturn, 1) := dk_172 (dk_at dksX0_in_0 15 rfl rfl)
abbrev cX0_addPart : ByteArray := prog_1_method_10_code
def yX0_addPart : MethodName := ⟨RX0, "addPart", "(II)I"⟩
def dkwX0_addPart_1 : List UInt8 := [96, 181, 0, 91, 42, 180, 0, 91, 4, 100, 172]
abbrev dktX0_addPart_1 : List UInt8 := dkwX0_addPart_1 ++ []
def dkwX0_addPart_0 : List UInt8 := [42, 180, 0, 11, 42, 180, 0, 91, 187, 0, 9, 89, 27, 28, 183, 0, 108, 83, 42, 89, 180, 0, 91, 4]
abbrev dktX0_addPart_0 : List UInt8 := dkwX0_addPart_0 ++ dktX0_addPart_1
theorem dksX0_addPart_0 : cX0_addPart.data.toList.drop 0 = dktX0_addPart_0 := by decide +kernel
theorem dksX0_addPart_1 : cX0_addPart.data.toList.drop 24 = dktX0_addPart_1 := dk_seg dksX0_addPart_0 24 rfl rfl
theorem dX0_addPart_0 : decode cX0_addPart 0 = .ok (.aload_n 0, 1) := dk_42 (dk_at dksX0_addPart_0 0 rfl rfl)
theorem dX0_addPart_1 : decode cX0_addPart 1 = .ok (.getfield 11, 3) := dk_180 0 11 (dk_at dksX0_addPart_0 1 rfl rfl)
theorem dX0_addPart_4 : decode cX0_addPart 4 = .ok (.aload_n 0, 1) := dk_42 (dk_at dksX0_addPart_0 4 rfl rfl)
theorem dX0_addPart_5 : decode cX0_addPart 5 = .ok (.getfield 91, 3) := dk_180 0 91 (dk_at dksX0_addPart_0 5 rfl rfl)
theorem dX0_addPart_8 : decode cX0_addPart 8 = .ok (.new 9, 3) := dk_187 0 9 (dk_at dksX0_addPart_0 8 rfl rfl)
theorem dX0_addPart_11 : decode cX0_addPart 11 = .ok (.dup, 1) := dk_89 (dk_at dksX0_addPart_0 11 rfl rfl)
theorem dX0_addPart_12 : decode cX0_addPart 12 = .ok (.iload_n 1, 1) := dk_27 (dk_at dksX0_addPart_0 12 rfl rfl)
theorem dX0_addPart_13 : decode cX0_addPart 13 = .ok (.iload_n 2, 1) := dk_28 (dk_at dksX0_addPart_0 13 rfl rfl)
theorem dX0_addPart_14 : decode cX0_addPart 14 = .ok (.invokespecial 108, 3) := dk_183 0 108 (dk_at dksX0_addPart_0 14 rfl rfl)
theorem dX0_addPart_17 : decode cX0_addPart 17 = .ok (.aastore, 1) := dk_83 (dk_at dksX0_addPart_0 17 rfl rfl)
theorem dX0_addPart_18 : decode cX0_addPart 18 = .ok (.aload_n 0, 1) := dk_42 (dk_at dksX0_addPart_0 18 rfl rfl)
theorem dX0_addPart_19 : decode cX0_addPart 19 = .ok (.dup, 1) := dk_89 (dk_at dksX0_addPart_0 19 rfl rfl)
theorem dX0_addPart_20 : decode cX0_addPart 20 = .ok (.getfield 91, 3) := dk_180 0 91 (dk_at dksX0_addPart_0 20 rfl rfl)
theorem dX0_addPart_23 : decode cX0_addPart 23 = .ok (.iconst 1, 1) := dk_4 (dk_at dksX0_addPart_0 23 rfl rfl)
theorem dX0_addPart_24 : decode cX0_addPart 24 = .ok (.iadd, 1) := dk_96 (dk_at dksX0_addPart_1 0 rfl rfl)
theorem dX0_addPart_25 : decode cX0_addPart 25 = .ok (.putfield 91, 3) := dk_181 0 91 (dk_at dksX0_addPart_1 1 rfl rfl)
theorem dX0_addPart_28 : decode cX0_addPart 28 = .ok (.aload_n 0, 1) := dk_42 (dk_at dksX0_addPart_1 4 rfl rfl)
theorem dX0_addPart_29 : decode cX0_addPart 29 = .ok (.getfield 91, 3) := dk_180 0 91 (dk_at dksX0_addPart_1 5 rfl rfl)
theorem dX0_addPart_32 : decode cX0_addPart 32 = .ok (.iconst 1, 1) := dk_4 (dk_at dksX0_addPart_1 8 rfl rfl)
theorem dX0_addPart_33 : decode cX0_addPart 33 = .ok (.isub, 1) := dk_100 (dk_at dksX0_addPart_1 9 rfl rfl)
theorem dX0_addPart_34 : decode cX0_addPart 34 = .ok (.ireturn, 1) := dk_172 (dk_at dksX0_addPart_1 10 rfl rfl)
abbrev cX0_parts : ByteArray := prog_1_method_12_code
def yX0_parts : MethodName := ⟨RX0, "parts", "(III)I"⟩
def dkwX0_parts_6 : List UInt8 := [21, 4, 172, 21, 4, 172]
abbrev dktX0_parts_6 : List UInt8 := dkwX0_parts_6 ++ []
def dkwX0_parts_5 : List UInt8 := [132, 4, 1, 132, 6, 1, 167, 255, 171, 167, 0, 18, 58, 5, 16, 244, 172, 58, 5, 21, 4, 172, 58, 5]
abbrev dktX0_parts_5 : List UInt8 := dkwX0_parts_5 ++ dktX0_parts_6
def dkwX0_parts_4 : List UInt8 := [21, 8, 3, 16, 9, 184, 0, 94, 154, 0, 6, 21, 4, 172, 42, 21, 7, 21, 8, 182, 0, 111, 87]
abbrev dktX0_parts_4 : List UInt8 := dkwX0_parts_4 ++ dktX0_parts_5
def dkwX0_parts_3 : List UInt8 := [21, 6, 104, 96, 4, 96, 182, 0, 120, 136, 54, 8, 21, 7, 3, 16, 9, 184, 0, 94, 153, 0, 14]
abbrev dktX0_parts_3 : List UInt8 := dkwX0_parts_3 ++ dktX0_parts_4
def dkwX0_parts_2 : List UInt8 := [16, 8, 162, 0, 76, 25, 5, 28, 5, 21, 6, 104, 96, 182, 0, 120, 136, 54, 7, 25, 5, 28, 5]
abbrev dktX0_parts_2 : List UInt8 := dkwX0_parts_2 ++ dktX0_parts_3
def dkwX0_parts_1 : List UInt8 := [180, 0, 87, 27, 50, 192, 0, 118, 58, 5, 3, 54, 6, 21, 6, 29, 162, 0, 85, 42, 180, 0, 91]
abbrev dktX0_parts_1 : List UInt8 := dkwX0_parts_1 ++ dktX0_parts_2
def dkwX0_parts_0 : List UInt8 := [27, 184, 0, 115, 153, 0, 13, 29, 4, 16, 8, 184, 0, 94, 154, 0, 5, 2, 172, 3, 54, 4, 42]
abbrev dktX0_parts_0 : List UInt8 := dkwX0_parts_0 ++ dktX0_parts_1
theorem dksX0_parts_0 : cX0_parts.data.toList.drop 0 = dktX0_parts_0 := by decide +kernel
theorem dksX0_parts_1 : cX0_parts.data.toList.drop 23 = dktX0_parts_1 := dk_seg dksX0_parts_0 23 rfl rfl
theorem dksX0_parts_2 : cX0_parts.data.toList.drop 46 = dktX0_parts_2 := dk_seg dksX0_parts_1 23 rfl rfl
theorem dksX0_parts_3 : cX0_parts.data.toList.drop 69 = dktX0_parts_3 := dk_seg dksX0_parts_2 23 rfl rfl
theorem dksX0_parts_4 : cX0_parts.data.toList.drop 92 = dktX0_parts_4 := dk_seg dksX0_parts_3 23 rfl rfl
theorem dksX0_parts_5 : cX0_parts.data.toList.drop 115 = dktX0_parts_5 := dk_seg dksX0_parts_4 23 rfl rfl
theorem dksX0_parts_6 : cX0_parts.data.toList.drop 139 = dktX0_parts_6 := dk_seg dksX0_parts_5 24 rfl rfl
theorem dX0_parts_0 : decode cX0_parts 0 = .ok (.iload_n 1, 1) := dk_27 (dk_at dksX0_parts_0 0 rfl rfl)
theorem dX0_parts_1 : decode cX0_parts 1 = .ok (.invokestatic 115, 3) := dk_184 0 115 (dk_at dksX0_parts_0 1 rfl rfl)
theorem dX0_parts_4 : decode cX0_parts 4 = .ok (.ifCond .eq 13, 3) := dk_153 0 13 (dk_at dksX0_parts_0 4 rfl rfl)
theorem dX0_parts_7 : decode cX0_parts 7 = .ok (.iload_n 3, 1) := dk_29 (dk_at dksX0_parts_0 7 rfl rfl)
theorem dX0_parts_8 : decode cX0_parts 8 = .ok (.iconst 1, 1) := dk_4 (dk_at dksX0_parts_0 8 rfl rfl)
theorem dX0_parts_9 : decode cX0_parts 9 = .ok (.bipush 8, 2) := dk_16 8 (dk_at dksX0_parts_0 9 rfl rfl)
theorem dX0_parts_11 : decode cX0_parts 11 = .ok (.invokestatic 94, 3) := dk_184 0 94 (dk_at dksX0_parts_0 11 rfl rfl)
theorem dX0_parts_14 : decode cX0_parts 14 = .ok (.ifCond .ne 5, 3) := dk_154 0 5 (dk_at dksX0_parts_0 14 rfl rfl)
theorem dX0_parts_17 : decode cX0_parts 17 = .ok (.iconst (-1), 1) := dk_2 (dk_at dksX0_parts_0 17 rfl rfl)
theorem dX0_parts_18 : decode cX0_parts 18 = .ok (.ireturn, 1) := dk_172 (dk_at dksX0_parts_0 18 rfl rfl)
theorem dX0_parts_19 : decode cX0_parts 19 = .ok (.iconst 0, 1) := dk_3 (dk_at dksX0_parts_0 19 rfl rfl)
theorem dX0_parts_20 : decode cX0_parts 20 = .ok (.istore 4, 2) := dk_54 4 (dk_at dksX0_parts_0 20 rfl rfl)
theorem dX0_parts_22 : decode cX0_parts 22 = .ok (.aload_n 0, 1) := dk_42 (dk_at dksX0_parts_0 22 rfl rfl)
theorem dX0_parts_23 : decode cX0_parts 23 = .ok (.getfield 87, 3) := dk_180 0 87 (dk_at dksX0_parts_1 0 rfl rfl)
theorem dX0_parts_26 : decode cX0_parts 26 = .ok (.iload_n 1, 1) := dk_27 (dk_at dksX0_parts_1 3 rfl rfl)
theorem dX0_parts_27 : decode cX0_parts 27 = .ok (.aaload, 1) := dk_50 (dk_at dksX0_parts_1 4 rfl rfl)
theorem dX0_parts_28 : decode cX0_parts 28 = .ok (.checkcast 118, 3) := dk_192 0 118 (dk_at dksX0_parts_1 5 rfl rfl)
theorem dX0_parts_31 : decode cX0_parts 31 = .ok (.astore 5, 2) := dk_58 5 (dk_at dksX0_parts_1 8 rfl rfl)
theorem dX0_parts_33 : decode cX0_parts 33 = .ok (.iconst 0, 1) := dk_3 (dk_at dksX0_parts_1 10 rfl rfl)
theorem dX0_parts_34 : decode cX0_parts 34 = .ok (.istore 6, 2) := dk_54 6 (dk_at dksX0_parts_1 11 rfl rfl)
theorem dX0_parts_36 : decode cX0_parts 36 = .ok (.iload 6, 2) := dk_21 6 (dk_at dksX0_parts_1 13 rfl rfl)
theorem dX0_parts_38 : decode cX0_parts 38 = .ok (.iload_n 3, 1) := dk_29 (dk_at dksX0_parts_1 15 rfl rfl)
theorem dX0_parts_39 : decode cX0_parts 39 = .ok (.if_icmp .ge 85, 3) := dk_162 0 85 (dk_at dksX0_parts_1 16 rfl rfl)
theorem dX0_parts_42 : decode cX0_parts 42 = .ok (.aload_n 0, 1) := dk_42 (dk_at dksX0_parts_1 19 rfl rfl)
theorem dX0_parts_43 : decode cX0_parts 43 = .ok (.getfield 91, 3) := dk_180 0 91 (dk_at dksX0_parts_1 20 rfl rfl)
theorem dX0_parts_46 : decode cX0_parts 46 = .ok (.bipush 8, 2) := dk_16 8 (dk_at dksX0_parts_2 0 rfl rfl)
theorem dX0_parts_48 : decode cX0_parts 48 = .ok (.if_icmp .ge 76, 3) := dk_162 0 76 (dk_at dksX0_parts_2 2 rfl rfl)
theorem dX0_parts_51 : decode cX0_parts 51 = .ok (.aload 5, 2) := dk_25 5 (dk_at dksX0_parts_2 5 rfl rfl)
theorem dX0_parts_53 : decode cX0_parts 53 = .ok (.iload_n 2, 1) := dk_28 (dk_at dksX0_parts_2 7 rfl rfl)
theorem dX0_parts_54 : decode cX0_parts 54 = .ok (.iconst 2, 1) := dk_5 (dk_at dksX0_parts_2 8 rfl rfl)
theorem dX0_parts_55 : decode cX0_parts 55 = .ok (.iload 6, 2) := dk_21 6 (dk_at dksX0_parts_2 9 rfl rfl)
theorem dX0_parts_57 : decode cX0_parts 57 = .ok (.imul, 1) := dk_104 (dk_at dksX0_parts_2 11 rfl rfl)
theorem dX0_parts_58 : decode cX0_parts 58 = .ok (.iadd, 1) := dk_96 (dk_at dksX0_parts_2 12 rfl rfl)
theorem dX0_parts_59 : decode cX0_parts 59 = .ok (.invokevirtual 120, 3) := dk_182 0 120 (dk_at dksX0_parts_2 13 rfl rfl)
theorem dX0_parts_62 : decode cX0_parts 62 = .ok (.l2i, 1) := dk_136 (dk_at dksX0_parts_2 16 rfl rfl)
theorem dX0_parts_63 : decode cX0_parts 63 = .ok (.istore 7, 2) := dk_54 7 (dk_at dksX0_parts_2 17 rfl rfl)
theorem dX0_parts_65 : decode cX0_parts 65 = .ok (.aload 5, 2) := dk_25 5 (dk_at dksX0_parts_2 19 rfl rfl)
theorem dX0_parts_67 : decode cX0_parts 67 = .ok (.iload_n 2, 1) := dk_28 (dk_at dksX0_parts_2 21 rfl rfl)
theorem dX0_parts_68 : decode cX0_parts 68 = .ok (.iconst 2, 1) := dk_5 (dk_at dksX0_parts_2 22 rfl rfl)
theorem dX0_parts_69 : decode cX0_parts 69 = .ok (.iload 6, 2) := dk_21 6 (dk_at dksX0_parts_3 0 rfl rfl)
theorem dX0_parts_71 : decode cX0_parts 71 = .ok (.imul, 1) := dk_104 (dk_at dksX0_parts_3 2 rfl rfl)
theorem dX0_parts_72 : decode cX0_parts 72 = .ok (.iadd, 1) := dk_96 (dk_at dksX0_parts_3 3 rfl rfl)
theorem dX0_parts_73 : decode cX0_parts 73 = .ok (.iconst 1, 1) := dk_4 (dk_at dksX0_parts_3 4 rfl rfl)
theorem dX0_parts_74 : decode cX0_parts 74 = .ok (.iadd, 1) := dk_96 (dk_at dksX0_parts_3 5 rfl rfl)
theorem dX0_parts_75 : decode cX0_parts 75 = .ok (.invokevirtual 120, 3) := dk_182 0 120 (dk_at dksX0_parts_3 6 rfl rfl)
theorem dX0_parts_78 : decode cX0_parts 78 = .ok (.l2i, 1) := dk_136 (dk_at dksX0_parts_3 9 rfl rfl)
theorem dX0_parts_79 : decode cX0_parts 79 = .ok (.istore 8, 2) := dk_54 8 (dk_at dksX0_parts_3 10 rfl rfl)
theorem dX0_parts_81 : decode cX0_parts 81 = .ok (.iload 7, 2) := dk_21 7 (dk_at dksX0_parts_3 12 rfl rfl)
theorem dX0_parts_83 : decode cX0_parts 83 = .ok (.iconst 0, 1) := dk_3 (dk_at dksX0_parts_3 14 rfl rfl)
theorem dX0_parts_84 : decode cX0_parts 84 = .ok (.bipush 9, 2) := dk_16 9 (dk_at dksX0_parts_3 15 rfl rfl)
theorem dX0_parts_86 : decode cX0_parts 86 = .ok (.invokestatic 94, 3) := dk_184 0 94 (dk_at dksX0_parts_3 17 rfl rfl)
theorem dX0_parts_89 : decode cX0_parts 89 = .ok (.ifCond .eq 14, 3) := dk_153 0 14 (dk_at dksX0_parts_3 20 rfl rfl)
theorem dX0_parts_92 : decode cX0_parts 92 = .ok (.iload 8, 2) := dk_21 8 (dk_at dksX0_parts_4 0 rfl rfl)
theorem dX0_parts_94 : decode cX0_parts 94 = .ok (.iconst 0, 1) := dk_3 (dk_at dksX0_parts_4 2 rfl rfl)
theorem dX0_parts_95 : decode cX0_parts 95 = .ok (.bipush 9, 2) := dk_16 9 (dk_at dksX0_parts_4 3 rfl rfl)
theorem dX0_parts_97 : decode cX0_parts 97 = .ok (.invokestatic 94, 3) := dk_184 0 94 (dk_at dksX0_parts_4 5 rfl rfl)
theorem dX0_parts_100 : decode cX0_parts 100 = .ok (.ifCond .ne 6, 3) := dk_154 0 6 (dk_at dksX0_parts_4 8 rfl rfl)
theorem dX0_parts_103 : decode cX0_parts 103 = .ok (.iload 4, 2) := dk_21 4 (dk_at dksX0_parts_4 11 rfl rfl)
theorem dX0_parts_105 : decode cX0_parts 105 = .ok (.ireturn, 1) := dk_172 (dk_at dksX0_parts_4 13 rfl rfl)
theorem dX0_parts_106 : decode cX0_parts 106 = .ok (.aload_n 0, 1) := dk_42 (dk_at dksX0_parts_4 14 rfl rfl)
theorem dX0_parts_107 : decode cX0_parts 107 = .ok (.iload 7, 2) := dk_21 7 (dk_at dksX0_parts_4 15 rfl rfl)
theorem dX0_parts_109 : decode cX0_parts 109 = .ok (.iload 8, 2) := dk_21 8 (dk_at dksX0_parts_4 17 rfl rfl)
theorem dX0_parts_111 : decode cX0_parts 111 = .ok (.invokevirtual 111, 3) := dk_182 0 111 (dk_at dksX0_parts_4 19 rfl rfl)
theorem dX0_parts_114 : decode cX0_parts 114 = .ok (.pop, 1) := dk_87 (dk_at dksX0_parts_4 22 rfl rfl)
theorem dX0_parts_115 : decode cX0_parts 115 = .ok (.iinc 4 1, 3) := dk_132 4 1 (dk_at dksX0_parts_5 0 rfl rfl)
theorem dX0_parts_118 : decode cX0_parts 118 = .ok (.iinc 6 1, 3) := dk_132 6 1 (dk_at dksX0_parts_5 3 rfl rfl)
theorem dX0_parts_121 : decode cX0_parts 121 = .ok (.goto (-85), 3) := dk_167 255 171 (dk_at dksX0_parts_5 6 rfl rfl)
theorem dX0_parts_124 : decode cX0_parts 124 = .ok (.goto 18, 3) := dk_167 0 18 (dk_at dksX0_parts_5 9 rfl rfl)
theorem dX0_parts_127 : decode cX0_parts 127 = .ok (.astore 5, 2) := dk_58 5 (dk_at dksX0_parts_5 12 rfl rfl)
theorem dX0_parts_129 : decode cX0_parts 129 = .ok (.bipush (-12), 2) := dk_16 244 (dk_at dksX0_parts_5 14 rfl rfl)
theorem dX0_parts_131 : decode cX0_parts 131 = .ok (.ireturn, 1) := dk_172 (dk_at dksX0_parts_5 16 rfl rfl)
theorem dX0_parts_132 : decode cX0_parts 132 = .ok (.astore 5, 2) := dk_58 5 (dk_at dksX0_parts_5 17 rfl rfl)
theorem dX0_parts_134 : decode cX0_parts 134 = .ok (.iload 4, 2) := dk_21 4 (dk_at dksX0_parts_5 19 rfl rfl)
theorem dX0_parts_136 : decode cX0_parts 136 = .ok (.ireturn, 1) := dk_172 (dk_at dksX0_parts_5 21 rfl rfl)
theorem dX0_parts_137 : decode cX0_parts 137 = .ok (.astore 5, 2) := dk_58 5 (dk_at dksX0_parts_5 22 rfl rfl)
theorem dX0_parts_139 : decode cX0_parts 139 = .ok (.iload 4, 2) := dk_21 4 (dk_at dksX0_parts_6 0 rfl rfl)
theorem dX0_parts_141 : decode cX0_parts 141 = .ok (.ireturn, 1) := dk_172 (dk_at dksX0_parts_6 2 rfl rfl)
theorem dX0_parts_142 : decode cX0_parts 142 = .ok (.iload 4, 2) := dk_21 4 (dk_at dksX0_parts_6 3 rfl rfl)
theorem dX0_parts_144 : decode cX0_parts 144 = .ok (.ireturn, 1) := dk_172 (dk_at dksX0_parts_6 5 rfl rfl)
abbrev cX0_isShelf : ByteArray := prog_1_method_69_code
def yX0_isShelf : MethodName := ⟨RX0, "isShelf", "(I)Z"⟩
def dkwX0_isShelf_0 : List UInt8 := [26, 3, 8, 184, 0, 94, 172]
abbrev dktX0_isShelf_0 : List UInt8 := dkwX0_isShelf_0 ++ []
theorem dksX0_isShelf_0 : cX0_isShelf.data.toList.drop 0 = dktX0_isShelf_0 := by decide +kernel
theorem dX0_isShelf_0 : decode cX0_isShelf 0 = .ok (.iload_n 0, 1) := dk_26 (dk_at dksX0_isShelf_0 0 rfl rfl)
theorem dX0_isShelf_1 : decode cX0_isShelf 1 = .ok (.iconst 0, 1) := dk_3 (dk_at dksX0_isShelf_0 1 rfl rfl)
theorem dX0_isShelf_2 : decode cX0_isShelf 2 = .ok (.iconst 5, 1) := dk_8 (dk_at dksX0_isShelf_0 2 rfl rfl)
theorem dX0_isShelf_3 : decode cX0_isShelf 3 = .ok (.invokestatic 94, 3) := dk_184 0 94 (dk_at dksX0_isShelf_0 3 rfl rfl)
theorem dX0_isShelf_6 : decode cX0_isShelf 6 = .ok (.ireturn, 1) := dk_172 (dk_at dksX0_isShelf_0 6 rfl rfl)
abbrev cX0_find : ByteArray := prog_1_method_13_code
def yX0_find : MethodName := ⟨RX0, "find", "(II)I"⟩
def dkwX0_find_2 : List UInt8 := [28, 145, 84, 21, 4, 172]
abbrev dktX0_find_2 : List UInt8 := dkwX0_find_2 ++ []
def dkwX0_find_1 : List UInt8 := [16, 10, 108, 50, 78, 45, 180, 0, 133, 27, 16, 10, 112, 51, 54, 4, 45, 180, 0, 133, 27, 16, 10, 112]
abbrev dktX0_find_1 : List UInt8 := dkwX0_find_1 ++ dktX0_find_2
def dkwX0_find_0 : List UInt8 := [42, 27, 182, 0, 130, 153, 0, 12, 28, 3, 5, 184, 0, 94, 154, 0, 5, 2, 172, 42, 180, 0, 11, 27]
abbrev dktX0_find_0 : List UInt8 := dkwX0_find_0 ++ dktX0_find_1
theorem dksX0_find_0 : cX0_find.data.toList.drop 0 = dktX0_find_0 := by decide +kernel
theorem dksX0_find_1 : cX0_find.data.toList.drop 24 = dktX0_find_1 := dk_seg dksX0_find_0 24 rfl rfl
theorem dksX0_find_2 : cX0_find.data.toList.drop 48 = dktX0_find_2 := dk_seg dksX0_find_1 24 rfl rfl
theorem dX0_find_0 : decode cX0_find 0 = .ok (.aload_n 0, 1) := dk_42 (dk_at dksX0_find_0 0 rfl rfl)
theorem dX0_find_1 : decode cX0_find 1 = .ok (.iload_n 1, 1) := dk_27 (dk_at dksX0_find_0 1 rfl rfl)
theorem dX0_find_2 : decode cX0_find 2 = .ok (.invokevirtual 130, 3) := dk_182 0 130 (dk_at dksX0_find_0 2 rfl rfl)
theorem dX0_find_5 : decode cX0_find 5 = .ok (.ifCond .eq 12, 3) := dk_153 0 12 (dk_at dksX0_find_0 5 rfl rfl)
theorem dX0_find_8 : decode cX0_find 8 = .ok (.iload_n 2, 1) := dk_28 (dk_at dksX0_find_0 8 rfl rfl)
theorem dX0_find_9 : decode cX0_find 9 = .ok (.iconst 0, 1) := dk_3 (dk_at dksX0_find_0 9 rfl rfl)
theorem dX0_find_10 : decode cX0_find 10 = .ok (.iconst 2, 1) := dk_5 (dk_at dksX0_find_0 10 rfl rfl)
theorem dX0_find_11 : decode cX0_find 11 = .ok (.invokestatic 94, 3) := dk_184 0 94 (dk_at dksX0_find_0 11 rfl rfl)
theorem dX0_find_14 : decode cX0_find 14 = .ok (.ifCond .ne 5, 3) := dk_154 0 5 (dk_at dksX0_find_0 14 rfl rfl)
theorem dX0_find_17 : decode cX0_find 17 = .ok (.iconst (-1), 1) := dk_2 (dk_at dksX0_find_0 17 rfl rfl)
theorem dX0_find_18 : decode cX0_find 18 = .ok (.ireturn, 1) := dk_172 (dk_at dksX0_find_0 18 rfl rfl)
theorem dX0_find_19 : decode cX0_find 19 = .ok (.aload_n 0, 1) := dk_42 (dk_at dksX0_find_0 19 rfl rfl)
theorem dX0_find_20 : decode cX0_find 20 = .ok (.getfield 11, 3) := dk_180 0 11 (dk_at dksX0_find_0 20 rfl rfl)
theorem dX0_find_23 : decode cX0_find 23 = .ok (.iload_n 1, 1) := dk_27 (dk_at dksX0_find_0 23 rfl rfl)
theorem dX0_find_24 : decode cX0_find 24 = .ok (.bipush 10, 2) := dk_16 10 (dk_at dksX0_find_1 0 rfl rfl)
theorem dX0_find_26 : decode cX0_find 26 = .ok (.idiv, 1) := dk_108 (dk_at dksX0_find_1 2 rfl rfl)
theorem dX0_find_27 : decode cX0_find 27 = .ok (.aaload, 1) := dk_50 (dk_at dksX0_find_1 3 rfl rfl)
theorem dX0_find_28 : decode cX0_find 28 = .ok (.astore_n 3, 1) := dk_78 (dk_at dksX0_find_1 4 rfl rfl)
theorem dX0_find_29 : decode cX0_find 29 = .ok (.aload_n 3, 1) := dk_45 (dk_at dksX0_find_1 5 rfl rfl)
theorem dX0_find_30 : decode cX0_find 30 = .ok (.getfield 133, 3) := dk_180 0 133 (dk_at dksX0_find_1 6 rfl rfl)
theorem dX0_find_33 : decode cX0_find 33 = .ok (.iload_n 1, 1) := dk_27 (dk_at dksX0_find_1 9 rfl rfl)
theorem dX0_find_34 : decode cX0_find 34 = .ok (.bipush 10, 2) := dk_16 10 (dk_at dksX0_find_1 10 rfl rfl)
theorem dX0_find_36 : decode cX0_find 36 = .ok (.irem, 1) := dk_112 (dk_at dksX0_find_1 12 rfl rfl)
theorem dX0_find_37 : decode cX0_find 37 = .ok (.baload, 1) := dk_51 (dk_at dksX0_find_1 13 rfl rfl)
theorem dX0_find_38 : decode cX0_find 38 = .ok (.istore 4, 2) := dk_54 4 (dk_at dksX0_find_1 14 rfl rfl)
theorem dX0_find_40 : decode cX0_find 40 = .ok (.aload_n 3, 1) := dk_45 (dk_at dksX0_find_1 16 rfl rfl)
theorem dX0_find_41 : decode cX0_find 41 = .ok (.getfield 133, 3) := dk_180 0 133 (dk_at dksX0_find_1 17 rfl rfl)
theorem dX0_find_44 : decode cX0_find 44 = .ok (.iload_n 1, 1) := dk_27 (dk_at dksX0_find_1 20 rfl rfl)
theorem dX0_find_45 : decode cX0_find 45 = .ok (.bipush 10, 2) := dk_16 10 (dk_at dksX0_find_1 21 rfl rfl)
theorem dX0_find_47 : decode cX0_find 47 = .ok (.irem, 1) := dk_112 (dk_at dksX0_find_1 23 rfl rfl)
theorem dX0_find_48 : decode cX0_find 48 = .ok (.iload_n 2, 1) := dk_28 (dk_at dksX0_find_2 0 rfl rfl)
theorem dX0_find_49 : decode cX0_find 49 = .ok (.i2b, 1) := dk_145 (dk_at dksX0_find_2 1 rfl rfl)
theorem dX0_find_50 : decode cX0_find 50 = .ok (.bastore, 1) := dk_84 (dk_at dksX0_find_2 2 rfl rfl)
theorem dX0_find_51 : decode cX0_find 51 = .ok (.iload 4, 2) := dk_21 4 (dk_at dksX0_find_2 3 rfl rfl)
theorem dX0_find_53 : decode cX0_find 53 = .ok (.ireturn, 1) := dk_172 (dk_at dksX0_find_2 5 rfl rfl)
abbrev cX0_isFound : ByteArray := prog_1_method_8_code
def yX0_isFound : MethodName := ⟨RX0, "isFound", "(I)Z"⟩
def dkwX0_isFound_1 : List UInt8 := [153, 0, 7, 4, 167, 0, 4, 3, 172]
abbrev dktX0_isFound_1 : List UInt8 := dkwX0_isFound_1 ++ []
def dkwX0_isFound_0 : List UInt8 := [27, 155, 0, 28, 42, 27, 16, 10, 108, 182, 0, 98, 153, 0, 17, 27, 16, 10, 112, 184, 0, 102]
abbrev dktX0_isFound_0 : List UInt8 := dkwX0_isFound_0 ++ dktX0_isFound_1
theorem dksX0_isFound_0 : cX0_isFound.data.toList.drop 0 = dktX0_isFound_0 := by decide +kernel
theorem dksX0_isFound_1 : cX0_isFound.data.toList.drop 22 = dktX0_isFound_1 := dk_seg dksX0_isFound_0 22 rfl rfl
theorem dX0_isFound_0 : decode cX0_isFound 0 = .ok (.iload_n 1, 1) := dk_27 (dk_at dksX0_isFound_0 0 rfl rfl)
theorem dX0_isFound_1 : decode cX0_isFound 1 = .ok (.ifCond .lt 28, 3) := dk_155 0 28 (dk_at dksX0_isFound_0 1 rfl rfl)
theorem dX0_isFound_4 : decode cX0_isFound 4 = .ok (.aload_n 0, 1) := dk_42 (dk_at dksX0_isFound_0 4 rfl rfl)
theorem dX0_isFound_5 : decode cX0_isFound 5 = .ok (.iload_n 1, 1) := dk_27 (dk_at dksX0_isFound_0 5 rfl rfl)
theorem dX0_isFound_6 : decode cX0_isFound 6 = .ok (.bipush 10, 2) := dk_16 10 (dk_at dksX0_isFound_0 6 rfl rfl)
theorem dX0_isFound_8 : decode cX0_isFound 8 = .ok (.idiv, 1) := dk_108 (dk_at dksX0_isFound_0 8 rfl rfl)
theorem dX0_isFound_9 : decode cX0_isFound 9 = .ok (.invokevirtual 98, 3) := dk_182 0 98 (dk_at dksX0_isFound_0 9 rfl rfl)
theorem dX0_isFound_12 : decode cX0_isFound 12 = .ok (.ifCond .eq 17, 3) := dk_153 0 17 (dk_at dksX0_isFound_0 12 rfl rfl)
theorem dX0_isFound_15 : decode cX0_isFound 15 = .ok (.iload_n 1, 1) := dk_27 (dk_at dksX0_isFound_0 15 rfl rfl)
theorem dX0_isFound_16 : decode cX0_isFound 16 = .ok (.bipush 10, 2) := dk_16 10 (dk_at dksX0_isFound_0 16 rfl rfl)
theorem dX0_isFound_18 : decode cX0_isFound 18 = .ok (.irem, 1) := dk_112 (dk_at dksX0_isFound_0 18 rfl rfl)
theorem dX0_isFound_19 : decode cX0_isFound 19 = .ok (.invokestatic 102, 3) := dk_184 0 102 (dk_at dksX0_isFound_0 19 rfl rfl)
theorem dX0_isFound_22 : decode cX0_isFound 22 = .ok (.ifCond .eq 7, 3) := dk_153 0 7 (dk_at dksX0_isFound_1 0 rfl rfl)
theorem dX0_isFound_25 : decode cX0_isFound 25 = .ok (.iconst 1, 1) := dk_4 (dk_at dksX0_isFound_1 3 rfl rfl)
theorem dX0_isFound_26 : decode cX0_isFound 26 = .ok (.goto 4, 3) := dk_167 0 4 (dk_at dksX0_isFound_1 4 rfl rfl)
theorem dX0_isFound_29 : decode cX0_isFound 29 = .ok (.iconst 0, 1) := dk_3 (dk_at dksX0_isFound_1 7 rfl rfl)
theorem dX0_isFound_30 : decode cX0_isFound 30 = .ok (.ireturn, 1) := dk_172 (dk_at dksX0_isFound_1 8 rfl rfl)
abbrev cX0_isPart : ByteArray := prog_1_method_3_code
def yX0_isPart : MethodName := ⟨RX0, "isPart", "(I)Z"⟩
def dkwX0_isPart_0 : List UInt8 := [27, 3, 42, 180, 0, 91, 4, 100, 184, 0, 94, 172]
abbrev dktX0_isPart_0 : List UInt8 := dkwX0_isPart_0 ++ []
theorem dksX0_isPart_0 : cX0_isPart.data.toList.drop 0 = dktX0_isPart_0 := by decide +kernel
theorem dX0_isPart_0 : decode cX0_isPart 0 = .ok (.iload_n 1, 1) := dk_27 (dk_at dksX0_isPart_0 0 rfl rfl)
theorem dX0_isPart_1 : decode cX0_isPart 1 = .ok (.iconst 0, 1) := dk_3 (dk_at dksX0_isPart_0 1 rfl rfl)
theorem dX0_isPart_2 : decode cX0_isPart 2 = .ok (.aload_n 0, 1) := dk_42 (dk_at dksX0_isPart_0 2 rfl rfl)
theorem dX0_isPart_3 : decode cX0_isPart 3 = .ok (.getfield 91, 3) := dk_180 0 91 (dk_at dksX0_isPart_0 3 rfl rfl)
theorem dX0_isPart_6 : decode cX0_isPart 6 = .ok (.iconst 1, 1) := dk_4 (dk_at dksX0_isPart_0 6 rfl rfl)
theorem dX0_isPart_7 : decode cX0_isPart 7 = .ok (.isub, 1) := dk_100 (dk_at dksX0_isPart_0 7 rfl rfl)
theorem dX0_isPart_8 : decode cX0_isPart 8 = .ok (.invokestatic 94, 3) := dk_184 0 94 (dk_at dksX0_isPart_0 8 rfl rfl)
theorem dX0_isPart_11 : decode cX0_isPart 11 = .ok (.ireturn, 1) := dk_172 (dk_at dksX0_isPart_0 11 rfl rfl)
abbrev cX0_isMark : ByteArray := prog_1_method_5_code
def yX0_isMark : MethodName := ⟨RX0, "isMark", "(I)Z"⟩
def dkwX0_isMark_0 : List UInt8 := [26, 3, 8, 184, 0, 94, 172]
abbrev dktX0_isMark_0 : List UInt8 := dkwX0_isMark_0 ++ []
theorem dksX0_isMark_0 : cX0_isMark.data.toList.drop 0 = dktX0_isMark_0 := by decide +kernel
theorem dX0_isMark_0 : decode cX0_isMark 0 = .ok (.iload_n 0, 1) := dk_26 (dk_at dksX0_isMark_0 0 rfl rfl)
theorem dX0_isMark_1 : decode cX0_isMark 1 = .ok (.iconst 0, 1) := dk_3 (dk_at dksX0_isMark_0 1 rfl rfl)
theorem dX0_isMark_2 : decode cX0_isMark 2 = .ok (.iconst 5, 1) := dk_8 (dk_at dksX0_isMark_0 2 rfl rfl)
theorem dX0_isMark_3 : decode cX0_isMark 3 = .ok (.invokestatic 94, 3) := dk_184 0 94 (dk_at dksX0_isMark_0 3 rfl rfl)
theorem dX0_isMark_6 : decode cX0_isMark 6 = .ok (.ireturn, 1) := dk_172 (dk_at dksX0_isMark_0 6 rfl rfl)
abbrev cX0_of : ByteArray := prog_1_method_14_code
def yX0_of : MethodName := ⟨RX0, "of", "(II)I"⟩
def dkwX0_of_7 : List UInt8 := [180, 0, 133, 28, 16, 10, 100, 51, 167, 0, 4, 2, 172]
abbrev dktX0_of_7 : List UInt8 := dkwX0_of_7 ++ []
def dkwX0_of_6 : List UInt8 := [180, 0, 151, 167, 0, 32, 28, 16, 10, 16, 15, 184, 0, 94, 153, 0, 20, 42, 180, 0, 11, 27, 50]
abbrev dktX0_of_6 : List UInt8 := dkwX0_of_6 ++ dktX0_of_7
def dkwX0_of_5 : List UInt8 := [180, 0, 11, 27, 50, 180, 0, 148, 167, 0, 49, 28, 4, 160, 0, 15, 42, 180, 0, 11, 27, 50]
abbrev dktX0_of_5 : List UInt8 := dkwX0_of_5 ++ dktX0_of_6
def dkwX0_of_4 : List UInt8 := [180, 0, 25, 27, 50, 180, 0, 145, 172, 42, 27, 182, 0, 98, 154, 0, 5, 2, 172, 28, 154, 0, 15, 42]
abbrev dktX0_of_4 : List UInt8 := dkwX0_of_4 ++ dktX0_of_5
def dkwX0_of_3 : List UInt8 := [167, 0, 30, 28, 16, 30, 160, 0, 15, 42, 180, 0, 25, 27, 50, 180, 0, 142, 167, 0, 12, 42]
abbrev dktX0_of_3 : List UInt8 := dkwX0_of_3 ++ dktX0_of_4
def dkwX0_of_2 : List UInt8 := [180, 0, 139, 172, 28, 16, 30, 16, 31, 184, 0, 94, 153, 0, 42, 27, 184, 0, 102, 154, 0, 7, 2]
abbrev dktX0_of_2 : List UInt8 := dkwX0_of_2 ++ dktX0_of_3
def dkwX0_of_1 : List UInt8 := [16, 20, 160, 0, 15, 42, 180, 0, 18, 27, 50, 180, 0, 136, 167, 0, 12, 42, 180, 0, 18, 27, 50]
abbrev dktX0_of_1 : List UInt8 := dkwX0_of_1 ++ dktX0_of_2
def dkwX0_of_0 : List UInt8 := [28, 16, 20, 16, 21, 184, 0, 94, 153, 0, 42, 27, 184, 0, 105, 154, 0, 7, 2, 167, 0, 30, 28]
abbrev dktX0_of_0 : List UInt8 := dkwX0_of_0 ++ dktX0_of_1
theorem dksX0_of_0 : cX0_of.data.toList.drop 0 = dktX0_of_0 := by decide +kernel
theorem dksX0_of_1 : cX0_of.data.toList.drop 23 = dktX0_of_1 := dk_seg dksX0_of_0 23 rfl rfl
theorem dksX0_of_2 : cX0_of.data.toList.drop 46 = dktX0_of_2 := dk_seg dksX0_of_1 23 rfl rfl
theorem dksX0_of_3 : cX0_of.data.toList.drop 69 = dktX0_of_3 := dk_seg dksX0_of_2 23 rfl rfl
theorem dksX0_of_4 : cX0_of.data.toList.drop 91 = dktX0_of_4 := dk_seg dksX0_of_3 22 rfl rfl
theorem dksX0_of_5 : cX0_of.data.toList.drop 115 = dktX0_of_5 := dk_seg dksX0_of_4 24 rfl rfl
theorem dksX0_of_6 : cX0_of.data.toList.drop 137 = dktX0_of_6 := dk_seg dksX0_of_5 22 rfl rfl
theorem dksX0_of_7 : cX0_of.data.toList.drop 160 = dktX0_of_7 := dk_seg dksX0_of_6 23 rfl rfl
theorem dX0_of_0 : decode cX0_of 0 = .ok (.iload_n 2, 1) := dk_28 (dk_at dksX0_of_0 0 rfl rfl)
theorem dX0_of_1 : decode cX0_of 1 = .ok (.bipush 20, 2) := dk_16 20 (dk_at dksX0_of_0 1 rfl rfl)
theorem dX0_of_3 : decode cX0_of 3 = .ok (.bipush 21, 2) := dk_16 21 (dk_at dksX0_of_0 3 rfl rfl)
theorem dX0_of_5 : decode cX0_of 5 = .ok (.invokestatic 94, 3) := dk_184 0 94 (dk_at dksX0_of_0 5 rfl rfl)
theorem dX0_of_8 : decode cX0_of 8 = .ok (.ifCond .eq 42, 3) := dk_153 0 42 (dk_at dksX0_of_0 8 rfl rfl)
theorem dX0_of_11 : decode cX0_of 11 = .ok (.iload_n 1, 1) := dk_27 (dk_at dksX0_of_0 11 rfl rfl)
theorem dX0_of_12 : decode cX0_of 12 = .ok (.invokestatic 105, 3) := dk_184 0 105 (dk_at dksX0_of_0 12 rfl rfl)
theorem dX0_of_15 : decode cX0_of 15 = .ok (.ifCond .ne 7, 3) := dk_154 0 7 (dk_at dksX0_of_0 15 rfl rfl)
theorem dX0_of_18 : decode cX0_of 18 = .ok (.iconst (-1), 1) := dk_2 (dk_at dksX0_of_0 18 rfl rfl)
theorem dX0_of_19 : decode cX0_of 19 = .ok (.goto 30, 3) := dk_167 0 30 (dk_at dksX0_of_0 19 rfl rfl)
theorem dX0_of_22 : decode cX0_of 22 = .ok (.iload_n 2, 1) := dk_28 (dk_at dksX0_of_0 22 rfl rfl)
theorem dX0_of_23 : decode cX0_of 23 = .ok (.bipush 20, 2) := dk_16 20 (dk_at dksX0_of_1 0 rfl rfl)
theorem dX0_of_25 : decode cX0_of 25 = .ok (.if_icmp .ne 15, 3) := dk_160 0 15 (dk_at dksX0_of_1 2 rfl rfl)
theorem dX0_of_28 : decode cX0_of 28 = .ok (.aload_n 0, 1) := dk_42 (dk_at dksX0_of_1 5 rfl rfl)
theorem dX0_of_29 : decode cX0_of 29 = .ok (.getfield 18, 3) := dk_180 0 18 (dk_at dksX0_of_1 6 rfl rfl)
theorem dX0_of_32 : decode cX0_of 32 = .ok (.iload_n 1, 1) := dk_27 (dk_at dksX0_of_1 9 rfl rfl)
theorem dX0_of_33 : decode cX0_of 33 = .ok (.aaload, 1) := dk_50 (dk_at dksX0_of_1 10 rfl rfl)
theorem dX0_of_34 : decode cX0_of 34 = .ok (.getfield 136, 3) := dk_180 0 136 (dk_at dksX0_of_1 11 rfl rfl)
theorem dX0_of_37 : decode cX0_of 37 = .ok (.goto 12, 3) := dk_167 0 12 (dk_at dksX0_of_1 14 rfl rfl)
theorem dX0_of_40 : decode cX0_of 40 = .ok (.aload_n 0, 1) := dk_42 (dk_at dksX0_of_1 17 rfl rfl)
theorem dX0_of_41 : decode cX0_of 41 = .ok (.getfield 18, 3) := dk_180 0 18 (dk_at dksX0_of_1 18 rfl rfl)
theorem dX0_of_44 : decode cX0_of 44 = .ok (.iload_n 1, 1) := dk_27 (dk_at dksX0_of_1 21 rfl rfl)
theorem dX0_of_45 : decode cX0_of 45 = .ok (.aaload, 1) := dk_50 (dk_at dksX0_of_1 22 rfl rfl)
theorem dX0_of_46 : decode cX0_of 46 = .ok (.getfield 139, 3) := dk_180 0 139 (dk_at dksX0_of_2 0 rfl rfl)
theorem dX0_of_49 : decode cX0_of 49 = .ok (.ireturn, 1) := dk_172 (dk_at dksX0_of_2 3 rfl rfl)
theorem dX0_of_50 : decode cX0_of 50 = .ok (.iload_n 2, 1) := dk_28 (dk_at dksX0_of_2 4 rfl rfl)
theorem dX0_of_51 : decode cX0_of 51 = .ok (.bipush 30, 2) := dk_16 30 (dk_at dksX0_of_2 5 rfl rfl)
theorem dX0_of_53 : decode cX0_of 53 = .ok (.bipush 31, 2) := dk_16 31 (dk_at dksX0_of_2 7 rfl rfl)
theorem dX0_of_55 : decode cX0_of 55 = .ok (.invokestatic 94, 3) := dk_184 0 94 (dk_at dksX0_of_2 9 rfl rfl)
theorem dX0_of_58 : decode cX0_of 58 = .ok (.ifCond .eq 42, 3) := dk_153 0 42 (dk_at dksX0_of_2 12 rfl rfl)
theorem dX0_of_61 : decode cX0_of 61 = .ok (.iload_n 1, 1) := dk_27 (dk_at dksX0_of_2 15 rfl rfl)
theorem dX0_of_62 : decode cX0_of 62 = .ok (.invokestatic 102, 3) := dk_184 0 102 (dk_at dksX0_of_2 16 rfl rfl)
theorem dX0_of_65 : decode cX0_of 65 = .ok (.ifCond .ne 7, 3) := dk_154 0 7 (dk_at dksX0_of_2 19 rfl rfl)
theorem dX0_of_68 : decode cX0_of 68 = .ok (.iconst (-1), 1) := dk_2 (dk_at dksX0_of_2 22 rfl rfl)
theorem dX0_of_69 : decode cX0_of 69 = .ok (.goto 30, 3) := dk_167 0 30 (dk_at dksX0_of_3 0 rfl rfl)
theorem dX0_of_72 : decode cX0_of 72 = .ok (.iload_n 2, 1) := dk_28 (dk_at dksX0_of_3 3 rfl rfl)
theorem dX0_of_73 : decode cX0_of 73 = .ok (.bipush 30, 2) := dk_16 30 (dk_at dksX0_of_3 4 rfl rfl)
theorem dX0_of_75 : decode cX0_of 75 = .ok (.if_icmp .ne 15, 3) := dk_160 0 15 (dk_at dksX0_of_3 6 rfl rfl)
theorem dX0_of_78 : decode cX0_of 78 = .ok (.aload_n 0, 1) := dk_42 (dk_at dksX0_of_3 9 rfl rfl)
theorem dX0_of_79 : decode cX0_of 79 = .ok (.getfield 25, 3) := dk_180 0 25 (dk_at dksX0_of_3 10 rfl rfl)
theorem dX0_of_82 : decode cX0_of 82 = .ok (.iload_n 1, 1) := dk_27 (dk_at dksX0_of_3 13 rfl rfl)
theorem dX0_of_83 : decode cX0_of 83 = .ok (.aaload, 1) := dk_50 (dk_at dksX0_of_3 14 rfl rfl)
theorem dX0_of_84 : decode cX0_of 84 = .ok (.getfield 142, 3) := dk_180 0 142 (dk_at dksX0_of_3 15 rfl rfl)
theorem dX0_of_87 : decode cX0_of 87 = .ok (.goto 12, 3) := dk_167 0 12 (dk_at dksX0_of_3 18 rfl rfl)
theorem dX0_of_90 : decode cX0_of 90 = .ok (.aload_n 0, 1) := dk_42 (dk_at dksX0_of_3 21 rfl rfl)
theorem dX0_of_91 : decode cX0_of 91 = .ok (.getfield 25, 3) := dk_180 0 25 (dk_at dksX0_of_4 0 rfl rfl)
theorem dX0_of_94 : decode cX0_of 94 = .ok (.iload_n 1, 1) := dk_27 (dk_at dksX0_of_4 3 rfl rfl)
theorem dX0_of_95 : decode cX0_of 95 = .ok (.aaload, 1) := dk_50 (dk_at dksX0_of_4 4 rfl rfl)
theorem dX0_of_96 : decode cX0_of 96 = .ok (.getfield 145, 3) := dk_180 0 145 (dk_at dksX0_of_4 5 rfl rfl)
theorem dX0_of_99 : decode cX0_of 99 = .ok (.ireturn, 1) := dk_172 (dk_at dksX0_of_4 8 rfl rfl)
theorem dX0_of_100 : decode cX0_of 100 = .ok (.aload_n 0, 1) := dk_42 (dk_at dksX0_of_4 9 rfl rfl)
theorem dX0_of_101 : decode cX0_of 101 = .ok (.iload_n 1, 1) := dk_27 (dk_at dksX0_of_4 10 rfl rfl)
theorem dX0_of_102 : decode cX0_of 102 = .ok (.invokevirtual 98, 3) := dk_182 0 98 (dk_at dksX0_of_4 11 rfl rfl)
theorem dX0_of_105 : decode cX0_of 105 = .ok (.ifCond .ne 5, 3) := dk_154 0 5 (dk_at dksX0_of_4 14 rfl rfl)
theorem dX0_of_108 : decode cX0_of 108 = .ok (.iconst (-1), 1) := dk_2 (dk_at dksX0_of_4 17 rfl rfl)
theorem dX0_of_109 : decode cX0_of 109 = .ok (.ireturn, 1) := dk_172 (dk_at dksX0_of_4 18 rfl rfl)
theorem dX0_of_110 : decode cX0_of 110 = .ok (.iload_n 2, 1) := dk_28 (dk_at dksX0_of_4 19 rfl rfl)
theorem dX0_of_111 : decode cX0_of 111 = .ok (.ifCond .ne 15, 3) := dk_154 0 15 (dk_at dksX0_of_4 20 rfl rfl)
theorem dX0_of_114 : decode cX0_of 114 = .ok (.aload_n 0, 1) := dk_42 (dk_at dksX0_of_4 23 rfl rfl)
theorem dX0_of_115 : decode cX0_of 115 = .ok (.getfield 11, 3) := dk_180 0 11 (dk_at dksX0_of_5 0 rfl rfl)
theorem dX0_of_118 : decode cX0_of 118 = .ok (.iload_n 1, 1) := dk_27 (dk_at dksX0_of_5 3 rfl rfl)
theorem dX0_of_119 : decode cX0_of 119 = .ok (.aaload, 1) := dk_50 (dk_at dksX0_of_5 4 rfl rfl)
theorem dX0_of_120 : decode cX0_of 120 = .ok (.getfield 148, 3) := dk_180 0 148 (dk_at dksX0_of_5 5 rfl rfl)
theorem dX0_of_123 : decode cX0_of 123 = .ok (.goto 49, 3) := dk_167 0 49 (dk_at dksX0_of_5 8 rfl rfl)
theorem dX0_of_126 : decode cX0_of 126 = .ok (.iload_n 2, 1) := dk_28 (dk_at dksX0_of_5 11 rfl rfl)
theorem dX0_of_127 : decode cX0_of 127 = .ok (.iconst 1, 1) := dk_4 (dk_at dksX0_of_5 12 rfl rfl)
theorem dX0_of_128 : decode cX0_of 128 = .ok (.if_icmp .ne 15, 3) := dk_160 0 15 (dk_at dksX0_of_5 13 rfl rfl)
theorem dX0_of_131 : decode cX0_of 131 = .ok (.aload_n 0, 1) := dk_42 (dk_at dksX0_of_5 16 rfl rfl)
theorem dX0_of_132 : decode cX0_of 132 = .ok (.getfield 11, 3) := dk_180 0 11 (dk_at dksX0_of_5 17 rfl rfl)
theorem dX0_of_135 : decode cX0_of 135 = .ok (.iload_n 1, 1) := dk_27 (dk_at dksX0_of_5 20 rfl rfl)
theorem dX0_of_136 : decode cX0_of 136 = .ok (.aaload, 1) := dk_50 (dk_at dksX0_of_5 21 rfl rfl)
theorem dX0_of_137 : decode cX0_of 137 = .ok (.getfield 151, 3) := dk_180 0 151 (dk_at dksX0_of_6 0 rfl rfl)
theorem dX0_of_140 : decode cX0_of 140 = .ok (.goto 32, 3) := dk_167 0 32 (dk_at dksX0_of_6 3 rfl rfl)
theorem dX0_of_143 : decode cX0_of 143 = .ok (.iload_n 2, 1) := dk_28 (dk_at dksX0_of_6 6 rfl rfl)
theorem dX0_of_144 : decode cX0_of 144 = .ok (.bipush 10, 2) := dk_16 10 (dk_at dksX0_of_6 7 rfl rfl)
theorem dX0_of_146 : decode cX0_of 146 = .ok (.bipush 15, 2) := dk_16 15 (dk_at dksX0_of_6 9 rfl rfl)
theorem dX0_of_148 : decode cX0_of 148 = .ok (.invokestatic 94, 3) := dk_184 0 94 (dk_at dksX0_of_6 11 rfl rfl)
theorem dX0_of_151 : decode cX0_of 151 = .ok (.ifCond .eq 20, 3) := dk_153 0 20 (dk_at dksX0_of_6 14 rfl rfl)
theorem dX0_of_154 : decode cX0_of 154 = .ok (.aload_n 0, 1) := dk_42 (dk_at dksX0_of_6 17 rfl rfl)
theorem dX0_of_155 : decode cX0_of 155 = .ok (.getfield 11, 3) := dk_180 0 11 (dk_at dksX0_of_6 18 rfl rfl)
theorem dX0_of_158 : decode cX0_of 158 = .ok (.iload_n 1, 1) := dk_27 (dk_at dksX0_of_6 21 rfl rfl)
theorem dX0_of_159 : decode cX0_of 159 = .ok (.aaload, 1) := dk_50 (dk_at dksX0_of_6 22 rfl rfl)
theorem dX0_of_160 : decode cX0_of 160 = .ok (.getfield 133, 3) := dk_180 0 133 (dk_at dksX0_of_7 0 rfl rfl)
theorem dX0_of_163 : decode cX0_of 163 = .ok (.iload_n 2, 1) := dk_28 (dk_at dksX0_of_7 3 rfl rfl)
theorem dX0_of_164 : decode cX0_of 164 = .ok (.bipush 10, 2) := dk_16 10 (dk_at dksX0_of_7 4 rfl rfl)
theorem dX0_of_166 : decode cX0_of 166 = .ok (.isub, 1) := dk_100 (dk_at dksX0_of_7 6 rfl rfl)
theorem dX0_of_167 : decode cX0_of 167 = .ok (.baload, 1) := dk_51 (dk_at dksX0_of_7 7 rfl rfl)
theorem dX0_of_168 : decode cX0_of 168 = .ok (.goto 4, 3) := dk_167 0 4 (dk_at dksX0_of_7 8 rfl rfl)
theorem dX0_of_171 : decode cX0_of 171 = .ok (.iconst (-1), 1) := dk_2 (dk_at dksX0_of_7 11 rfl rfl)
theorem dX0_of_172 : decode cX0_of 172 = .ok (.ireturn, 1) := dk_172 (dk_at dksX0_of_7 12 rfl rfl)
abbrev cX0_isKind : ByteArray := prog_1_method_4_code
def yX0_isKind : MethodName := ⟨RX0, "isKind", "(I)Z"⟩
def dkwX0_isKind_0 : List UInt8 := [26, 3, 8, 184, 0, 94, 172]
abbrev dktX0_isKind_0 : List UInt8 := dkwX0_isKind_0 ++ []
theorem dksX0_isKind_0 : cX0_isKind.data.toList.drop 0 = dktX0_isKind_0 := by decide +kernel
theorem dX0_isKind_0 : decode cX0_isKind 0 = .ok (.iload_n 0, 1) := dk_26 (dk_at dksX0_isKind_0 0 rfl rfl)
theorem dX0_isKind_1 : decode cX0_isKind 1 = .ok (.iconst 0, 1) := dk_3 (dk_at dksX0_isKind_0 1 rfl rfl)
theorem dX0_isKind_2 : decode cX0_isKind 2 = .ok (.iconst 5, 1) := dk_8 (dk_at dksX0_isKind_0 2 rfl rfl)
theorem dX0_isKind_3 : decode cX0_isKind 3 = .ok (.invokestatic 94, 3) := dk_184 0 94 (dk_at dksX0_isKind_0 3 rfl rfl)
theorem dX0_isKind_6 : decode cX0_isKind 6 = .ok (.ireturn, 1) := dk_172 (dk_at dksX0_isKind_0 6 rfl rfl)
abbrev cX0_undo : ByteArray := prog_1_method_17_code
def yX0_undo : MethodName := ⟨RX0, "undo", "()I"⟩
def dkwX0_undo_3 : List UInt8 := [182, 0, 163, 42, 180, 0, 157, 172]
abbrev dktX0_undo_3 : List UInt8 := dkwX0_undo_3 ++ []
def dkwX0_undo_2 : List UInt8 := [180, 0, 31, 42, 180, 0, 157, 50, 180, 0, 170, 42, 180, 0, 31, 42, 180, 0, 157, 50, 180, 0, 172]
abbrev dktX0_undo_2 : List UInt8 := dkwX0_undo_2 ++ dktX0_undo_3
def dkwX0_undo_1 : List UInt8 := [180, 0, 154, 4, 96, 181, 0, 154, 42, 42, 180, 0, 31, 42, 180, 0, 157, 50, 180, 0, 167, 42]
abbrev dktX0_undo_1 : List UInt8 := dkwX0_undo_1 ++ dktX0_undo_2
def dkwX0_undo_0 : List UInt8 := [42, 180, 0, 157, 154, 0, 6, 16, 251, 172, 42, 89, 180, 0, 157, 4, 100, 181, 0, 157, 42, 89]
abbrev dktX0_undo_0 : List UInt8 := dkwX0_undo_0 ++ dktX0_undo_1
theorem dksX0_undo_0 : cX0_undo.data.toList.drop 0 = dktX0_undo_0 := by decide +kernel
theorem dksX0_undo_1 : cX0_undo.data.toList.drop 22 = dktX0_undo_1 := dk_seg dksX0_undo_0 22 rfl rfl
theorem dksX0_undo_2 : cX0_undo.data.toList.drop 44 = dktX0_undo_2 := dk_seg dksX0_undo_1 22 rfl rfl
theorem dksX0_undo_3 : cX0_undo.data.toList.drop 67 = dktX0_undo_3 := dk_seg dksX0_undo_2 23 rfl rfl
theorem dX0_undo_0 : decode cX0_undo 0 = .ok (.aload_n 0, 1) := dk_42 (dk_at dksX0_undo_0 0 rfl rfl)
theorem dX0_undo_1 : decode cX0_undo 1 = .ok (.getfield 157, 3) := dk_180 0 157 (dk_at dksX0_undo_0 1 rfl rfl)
theorem dX0_undo_4 : decode cX0_undo 4 = .ok (.ifCond .ne 6, 3) := dk_154 0 6 (dk_at dksX0_undo_0 4 rfl rfl)
theorem dX0_undo_7 : decode cX0_undo 7 = .ok (.bipush (-5), 2) := dk_16 251 (dk_at dksX0_undo_0 7 rfl rfl)
theorem dX0_undo_9 : decode cX0_undo 9 = .ok (.ireturn, 1) := dk_172 (dk_at dksX0_undo_0 9 rfl rfl)
theorem dX0_undo_10 : decode cX0_undo 10 = .ok (.aload_n 0, 1) := dk_42 (dk_at dksX0_undo_0 10 rfl rfl)
theorem dX0_undo_11 : decode cX0_undo 11 = .ok (.dup, 1) := dk_89 (dk_at dksX0_undo_0 11 rfl rfl)
theorem dX0_undo_12 : decode cX0_undo 12 = .ok (.getfield 157, 3) := dk_180 0 157 (dk_at dksX0_undo_0 12 rfl rfl)
theorem dX0_undo_15 : decode cX0_undo 15 = .ok (.iconst 1, 1) := dk_4 (dk_at dksX0_undo_0 15 rfl rfl)
theorem dX0_undo_16 : decode cX0_undo 16 = .ok (.isub, 1) := dk_100 (dk_at dksX0_undo_0 16 rfl rfl)
theorem dX0_undo_17 : decode cX0_undo 17 = .ok (.putfield 157, 3) := dk_181 0 157 (dk_at dksX0_undo_0 17 rfl rfl)
theorem dX0_undo_20 : decode cX0_undo 20 = .ok (.aload_n 0, 1) := dk_42 (dk_at dksX0_undo_0 20 rfl rfl)
theorem dX0_undo_21 : decode cX0_undo 21 = .ok (.dup, 1) := dk_89 (dk_at dksX0_undo_0 21 rfl rfl)
theorem dX0_undo_22 : decode cX0_undo 22 = .ok (.getfield 154, 3) := dk_180 0 154 (dk_at dksX0_undo_1 0 rfl rfl)
theorem dX0_undo_25 : decode cX0_undo 25 = .ok (.iconst 1, 1) := dk_4 (dk_at dksX0_undo_1 3 rfl rfl)
theorem dX0_undo_26 : decode cX0_undo 26 = .ok (.iadd, 1) := dk_96 (dk_at dksX0_undo_1 4 rfl rfl)
theorem dX0_undo_27 : decode cX0_undo 27 = .ok (.putfield 154, 3) := dk_181 0 154 (dk_at dksX0_undo_1 5 rfl rfl)
theorem dX0_undo_30 : decode cX0_undo 30 = .ok (.aload_n 0, 1) := dk_42 (dk_at dksX0_undo_1 8 rfl rfl)
theorem dX0_undo_31 : decode cX0_undo 31 = .ok (.aload_n 0, 1) := dk_42 (dk_at dksX0_undo_1 9 rfl rfl)
theorem dX0_undo_32 : decode cX0_undo 32 = .ok (.getfield 31, 3) := dk_180 0 31 (dk_at dksX0_undo_1 10 rfl rfl)
theorem dX0_undo_35 : decode cX0_undo 35 = .ok (.aload_n 0, 1) := dk_42 (dk_at dksX0_undo_1 13 rfl rfl)
theorem dX0_undo_36 : decode cX0_undo 36 = .ok (.getfield 157, 3) := dk_180 0 157 (dk_at dksX0_undo_1 14 rfl rfl)
theorem dX0_undo_39 : decode cX0_undo 39 = .ok (.aaload, 1) := dk_50 (dk_at dksX0_undo_1 17 rfl rfl)
theorem dX0_undo_40 : decode cX0_undo 40 = .ok (.getfield 167, 3) := dk_180 0 167 (dk_at dksX0_undo_1 18 rfl rfl)
theorem dX0_undo_43 : decode cX0_undo 43 = .ok (.aload_n 0, 1) := dk_42 (dk_at dksX0_undo_1 21 rfl rfl)
theorem dX0_undo_44 : decode cX0_undo 44 = .ok (.getfield 31, 3) := dk_180 0 31 (dk_at dksX0_undo_2 0 rfl rfl)
theorem dX0_undo_47 : decode cX0_undo 47 = .ok (.aload_n 0, 1) := dk_42 (dk_at dksX0_undo_2 3 rfl rfl)
theorem dX0_undo_48 : decode cX0_undo 48 = .ok (.getfield 157, 3) := dk_180 0 157 (dk_at dksX0_undo_2 4 rfl rfl)
theorem dX0_undo_51 : decode cX0_undo 51 = .ok (.aaload, 1) := dk_50 (dk_at dksX0_undo_2 7 rfl rfl)
theorem dX0_undo_52 : decode cX0_undo 52 = .ok (.getfield 170, 3) := dk_180 0 170 (dk_at dksX0_undo_2 8 rfl rfl)
theorem dX0_undo_55 : decode cX0_undo 55 = .ok (.aload_n 0, 1) := dk_42 (dk_at dksX0_undo_2 11 rfl rfl)
theorem dX0_undo_56 : decode cX0_undo 56 = .ok (.getfield 31, 3) := dk_180 0 31 (dk_at dksX0_undo_2 12 rfl rfl)
theorem dX0_undo_59 : decode cX0_undo 59 = .ok (.aload_n 0, 1) := dk_42 (dk_at dksX0_undo_2 15 rfl rfl)
theorem dX0_undo_60 : decode cX0_undo 60 = .ok (.getfield 157, 3) := dk_180 0 157 (dk_at dksX0_undo_2 16 rfl rfl)
theorem dX0_undo_63 : decode cX0_undo 63 = .ok (.aaload, 1) := dk_50 (dk_at dksX0_undo_2 19 rfl rfl)
theorem dX0_undo_64 : decode cX0_undo 64 = .ok (.getfield 172, 3) := dk_180 0 172 (dk_at dksX0_undo_2 20 rfl rfl)
theorem dX0_undo_67 : decode cX0_undo 67 = .ok (.invokevirtual 163, 3) := dk_182 0 163 (dk_at dksX0_undo_3 0 rfl rfl)
theorem dX0_undo_70 : decode cX0_undo 70 = .ok (.aload_n 0, 1) := dk_42 (dk_at dksX0_undo_3 3 rfl rfl)
theorem dX0_undo_71 : decode cX0_undo 71 = .ok (.getfield 157, 3) := dk_180 0 157 (dk_at dksX0_undo_3 4 rfl rfl)
theorem dX0_undo_74 : decode cX0_undo 74 = .ok (.ireturn, 1) := dk_172 (dk_at dksX0_undo_3 7 rfl rfl)
abbrev cX0_setTo : ByteArray := prog_1_method_15_code
def yX0_setTo : MethodName := ⟨RX0, "setTo", "(III)V"⟩
def dkwX0_setTo_4 : List UInt8 := [181, 0, 145, 177]
abbrev dktX0_setTo_4 : List UInt8 := dkwX0_setTo_4 ++ []
def dkwX0_setTo_3 : List UInt8 := [167, 0, 26, 42, 180, 0, 25, 28, 50, 29, 181, 0, 142, 167, 0, 13, 42, 180, 0, 25, 28, 50, 29]
abbrev dktX0_setTo_3 : List UInt8 := dkwX0_setTo_3 ++ dktX0_setTo_4
def dkwX0_setTo_2 : List UInt8 := [42, 180, 0, 18, 28, 50, 29, 181, 0, 136, 167, 0, 39, 42, 180, 0, 18, 28, 50, 29, 181, 0, 139]
abbrev dktX0_setTo_2 : List UInt8 := dkwX0_setTo_2 ++ dktX0_setTo_3
def dkwX0_setTo_1 : List UInt8 := [170, 0, 0, 0, 0, 0, 66, 0, 0, 0, 0, 0, 0, 0, 2, 0, 0, 0, 27, 0, 0, 0, 40, 0, 0, 0, 53]
abbrev dktX0_setTo_1 : List UInt8 := dkwX0_setTo_1 ++ dktX0_setTo_2
def dkwX0_setTo_0 : List UInt8 := [27]
abbrev dktX0_setTo_0 : List UInt8 := dkwX0_setTo_0 ++ dktX0_setTo_1
theorem dksX0_setTo_0 : cX0_setTo.data.toList.drop 0 = dktX0_setTo_0 := by decide +kernel
theorem dksX0_setTo_1 : cX0_setTo.data.toList.drop 1 = dktX0_setTo_1 := dk_seg dksX0_setTo_0 1 rfl rfl
theorem dksX0_setTo_2 : cX0_setTo.data.toList.drop 28 = dktX0_setTo_2 := dk_seg dksX0_setTo_1 27 rfl rfl
theorem dksX0_setTo_3 : cX0_setTo.data.toList.drop 51 = dktX0_setTo_3 := dk_seg dksX0_setTo_2 23 rfl rfl
theorem dksX0_setTo_4 : cX0_setTo.data.toList.drop 74 = dktX0_setTo_4 := dk_seg dksX0_setTo_3 23 rfl rfl
theorem dX0_setTo_0 : decode cX0_setTo 0 = .ok (.iload_n 1, 1) := dk_27 (dk_at dksX0_setTo_0 0 rfl rfl)
theorem dX0_setTo_1 : decode cX0_setTo 1 = .ok (.tableswitch 66 0 2 #[27, 40, 53], 27) := by decide +kernel
theorem dX0_setTo_28 : decode cX0_setTo 28 = .ok (.aload_n 0, 1) := dk_42 (dk_at dksX0_setTo_2 0 rfl rfl)
theorem dX0_setTo_29 : decode cX0_setTo 29 = .ok (.getfield 18, 3) := dk_180 0 18 (dk_at dksX0_setTo_2 1 rfl rfl)
theorem dX0_setTo_32 : decode cX0_setTo 32 = .ok (.iload_n 2, 1) := dk_28 (dk_at dksX0_setTo_2 4 rfl rfl)
theorem dX0_setTo_33 : decode cX0_setTo 33 = .ok (.aaload, 1) := dk_50 (dk_at dksX0_setTo_2 5 rfl rfl)
theorem dX0_setTo_34 : decode cX0_setTo 34 = .ok (.iload_n 3, 1) := dk_29 (dk_at dksX0_setTo_2 6 rfl rfl)
theorem dX0_setTo_35 : decode cX0_setTo 35 = .ok (.putfield 136, 3) := dk_181 0 136 (dk_at dksX0_setTo_2 7 rfl rfl)
theorem dX0_setTo_38 : decode cX0_setTo 38 = .ok (.goto 39, 3) := dk_167 0 39 (dk_at dksX0_setTo_2 10 rfl rfl)
theorem dX0_setTo_41 : decode cX0_setTo 41 = .ok (.aload_n 0, 1) := dk_42 (dk_at dksX0_setTo_2 13 rfl rfl)
theorem dX0_setTo_42 : decode cX0_setTo 42 = .ok (.getfield 18, 3) := dk_180 0 18 (dk_at dksX0_setTo_2 14 rfl rfl)
theorem dX0_setTo_45 : decode cX0_setTo 45 = .ok (.iload_n 2, 1) := dk_28 (dk_at dksX0_setTo_2 17 rfl rfl)
theorem dX0_setTo_46 : decode cX0_setTo 46 = .ok (.aaload, 1) := dk_50 (dk_at dksX0_setTo_2 18 rfl rfl)
theorem dX0_setTo_47 : decode cX0_setTo 47 = .ok (.iload_n 3, 1) := dk_29 (dk_at dksX0_setTo_2 19 rfl rfl)
theorem dX0_setTo_48 : decode cX0_setTo 48 = .ok (.putfield 139, 3) := dk_181 0 139 (dk_at dksX0_setTo_2 20 rfl rfl)
theorem dX0_setTo_51 : decode cX0_setTo 51 = .ok (.goto 26, 3) := dk_167 0 26 (dk_at dksX0_setTo_3 0 rfl rfl)
theorem dX0_setTo_54 : decode cX0_setTo 54 = .ok (.aload_n 0, 1) := dk_42 (dk_at dksX0_setTo_3 3 rfl rfl)
theorem dX0_setTo_55 : decode cX0_setTo 55 = .ok (.getfield 25, 3) := dk_180 0 25 (dk_at dksX0_setTo_3 4 rfl rfl)
theorem dX0_setTo_58 : decode cX0_setTo 58 = .ok (.iload_n 2, 1) := dk_28 (dk_at dksX0_setTo_3 7 rfl rfl)
theorem dX0_setTo_59 : decode cX0_setTo 59 = .ok (.aaload, 1) := dk_50 (dk_at dksX0_setTo_3 8 rfl rfl)
theorem dX0_setTo_60 : decode cX0_setTo 60 = .ok (.iload_n 3, 1) := dk_29 (dk_at dksX0_setTo_3 9 rfl rfl)
theorem dX0_setTo_61 : decode cX0_setTo 61 = .ok (.putfield 142, 3) := dk_181 0 142 (dk_at dksX0_setTo_3 10 rfl rfl)
theorem dX0_setTo_64 : decode cX0_setTo 64 = .ok (.goto 13, 3) := dk_167 0 13 (dk_at dksX0_setTo_3 13 rfl rfl)
theorem dX0_setTo_67 : decode cX0_setTo 67 = .ok (.aload_n 0, 1) := dk_42 (dk_at dksX0_setTo_3 16 rfl rfl)
theorem dX0_setTo_68 : decode cX0_setTo 68 = .ok (.getfield 25, 3) := dk_180 0 25 (dk_at dksX0_setTo_3 17 rfl rfl)
theorem dX0_setTo_71 : decode cX0_setTo 71 = .ok (.iload_n 2, 1) := dk_28 (dk_at dksX0_setTo_3 20 rfl rfl)
theorem dX0_setTo_72 : decode cX0_setTo 72 = .ok (.aaload, 1) := dk_50 (dk_at dksX0_setTo_3 21 rfl rfl)
theorem dX0_setTo_73 : decode cX0_setTo 73 = .ok (.iload_n 3, 1) := dk_29 (dk_at dksX0_setTo_3 22 rfl rfl)
theorem dX0_setTo_74 : decode cX0_setTo 74 = .ok (.putfield 145, 3) := dk_181 0 145 (dk_at dksX0_setTo_4 0 rfl rfl)
theorem dX0_setTo_77 : decode cX0_setTo 77 = .ok (.return_, 1) := dk_177 (dk_at dksX0_setTo_4 3 rfl rfl)
abbrev cX0_redo : ByteArray := prog_1_method_18_code
def yX0_redo : MethodName := ⟨RX0, "redo", "()I"⟩
def dkwX0_redo_3 : List UInt8 := [180, 0, 154, 172]
abbrev dktX0_redo_3 : List UInt8 := dkwX0_redo_3 ++ []
def dkwX0_redo_2 : List UInt8 := [182, 0, 163, 42, 89, 180, 0, 157, 4, 96, 181, 0, 157, 42, 89, 180, 0, 154, 4, 100, 181, 0, 154, 42]
abbrev dktX0_redo_2 : List UInt8 := dkwX0_redo_2 ++ dktX0_redo_3
def dkwX0_redo_1 : List UInt8 := [180, 0, 31, 42, 180, 0, 157, 50, 180, 0, 170, 42, 180, 0, 31, 42, 180, 0, 157, 50, 180, 0, 175]
abbrev dktX0_redo_1 : List UInt8 := dkwX0_redo_1 ++ dktX0_redo_2
def dkwX0_redo_0 : List UInt8 := [42, 180, 0, 154, 154, 0, 6, 16, 251, 172, 42, 42, 180, 0, 31, 42, 180, 0, 157, 50, 180, 0, 167, 42]
abbrev dktX0_redo_0 : List UInt8 := dkwX0_redo_0 ++ dktX0_redo_1
theorem dksX0_redo_0 : cX0_redo.data.toList.drop 0 = dktX0_redo_0 := by decide +kernel
theorem dksX0_redo_1 : cX0_redo.data.toList.drop 24 = dktX0_redo_1 := dk_seg dksX0_redo_0 24 rfl rfl
theorem dksX0_redo_2 : cX0_redo.data.toList.drop 47 = dktX0_redo_2 := dk_seg dksX0_redo_1 23 rfl rfl
theorem dksX0_redo_3 : cX0_redo.data.toList.drop 71 = dktX0_redo_3 := dk_seg dksX0_redo_2 24 rfl rfl
theorem dX0_redo_0 : decode cX0_redo 0 = .ok (.aload_n 0, 1) := dk_42 (dk_at dksX0_redo_0 0 rfl rfl)
theorem dX0_redo_1 : decode cX0_redo 1 = .ok (.getfield 154, 3) := dk_180 0 154 (dk_at dksX0_redo_0 1 rfl rfl)
theorem dX0_redo_4 : decode cX0_redo 4 = .ok (.ifCond .ne 6, 3) := dk_154 0 6 (dk_at dksX0_redo_0 4 rfl rfl)
theorem dX0_redo_7 : decode cX0_redo 7 = .ok (.bipush (-5), 2) := dk_16 251 (dk_at dksX0_redo_0 7 rfl rfl)
theorem dX0_redo_9 : decode cX0_redo 9 = .ok (.ireturn, 1) := dk_172 (dk_at dksX0_redo_0 9 rfl rfl)
theorem dX0_redo_10 : decode cX0_redo 10 = .ok (.aload_n 0, 1) := dk_42 (dk_at dksX0_redo_0 10 rfl rfl)
theorem dX0_redo_11 : decode cX0_redo 11 = .ok (.aload_n 0, 1) := dk_42 (dk_at dksX0_redo_0 11 rfl rfl)
theorem dX0_redo_12 : decode cX0_redo 12 = .ok (.getfield 31, 3) := dk_180 0 31 (dk_at dksX0_redo_0 12 rfl rfl)
theorem dX0_redo_15 : decode cX0_redo 15 = .ok (.aload_n 0, 1) := dk_42 (dk_at dksX0_redo_0 15 rfl rfl)
theorem dX0_redo_16 : decode cX0_redo 16 = .ok (.getfield 157, 3) := dk_180 0 157 (dk_at dksX0_redo_0 16 rfl rfl)
theorem dX0_redo_19 : decode cX0_redo 19 = .ok (.aaload, 1) := dk_50 (dk_at dksX0_redo_0 19 rfl rfl)
theorem dX0_redo_20 : decode cX0_redo 20 = .ok (.getfield 167, 3) := dk_180 0 167 (dk_at dksX0_redo_0 20 rfl rfl)
theorem dX0_redo_23 : decode cX0_redo 23 = .ok (.aload_n 0, 1) := dk_42 (dk_at dksX0_redo_0 23 rfl rfl)
theorem dX0_redo_24 : decode cX0_redo 24 = .ok (.getfield 31, 3) := dk_180 0 31 (dk_at dksX0_redo_1 0 rfl rfl)
theorem dX0_redo_27 : decode cX0_redo 27 = .ok (.aload_n 0, 1) := dk_42 (dk_at dksX0_redo_1 3 rfl rfl)
theorem dX0_redo_28 : decode cX0_redo 28 = .ok (.getfield 157, 3) := dk_180 0 157 (dk_at dksX0_redo_1 4 rfl rfl)
theorem dX0_redo_31 : decode cX0_redo 31 = .ok (.aaload, 1) := dk_50 (dk_at dksX0_redo_1 7 rfl rfl)
theorem dX0_redo_32 : decode cX0_redo 32 = .ok (.getfield 170, 3) := dk_180 0 170 (dk_at dksX0_redo_1 8 rfl rfl)
theorem dX0_redo_35 : decode cX0_redo 35 = .ok (.aload_n 0, 1) := dk_42 (dk_at dksX0_redo_1 11 rfl rfl)
theorem dX0_redo_36 : decode cX0_redo 36 = .ok (.getfield 31, 3) := dk_180 0 31 (dk_at dksX0_redo_1 12 rfl rfl)
theorem dX0_redo_39 : decode cX0_redo 39 = .ok (.aload_n 0, 1) := dk_42 (dk_at dksX0_redo_1 15 rfl rfl)
theorem dX0_redo_40 : decode cX0_redo 40 = .ok (.getfield 157, 3) := dk_180 0 157 (dk_at dksX0_redo_1 16 rfl rfl)
theorem dX0_redo_43 : decode cX0_redo 43 = .ok (.aaload, 1) := dk_50 (dk_at dksX0_redo_1 19 rfl rfl)
theorem dX0_redo_44 : decode cX0_redo 44 = .ok (.getfield 175, 3) := dk_180 0 175 (dk_at dksX0_redo_1 20 rfl rfl)
theorem dX0_redo_47 : decode cX0_redo 47 = .ok (.invokevirtual 163, 3) := dk_182 0 163 (dk_at dksX0_redo_2 0 rfl rfl)
theorem dX0_redo_50 : decode cX0_redo 50 = .ok (.aload_n 0, 1) := dk_42 (dk_at dksX0_redo_2 3 rfl rfl)
theorem dX0_redo_51 : decode cX0_redo 51 = .ok (.dup, 1) := dk_89 (dk_at dksX0_redo_2 4 rfl rfl)
theorem dX0_redo_52 : decode cX0_redo 52 = .ok (.getfield 157, 3) := dk_180 0 157 (dk_at dksX0_redo_2 5 rfl rfl)
theorem dX0_redo_55 : decode cX0_redo 55 = .ok (.iconst 1, 1) := dk_4 (dk_at dksX0_redo_2 8 rfl rfl)
theorem dX0_redo_56 : decode cX0_redo 56 = .ok (.iadd, 1) := dk_96 (dk_at dksX0_redo_2 9 rfl rfl)
theorem dX0_redo_57 : decode cX0_redo 57 = .ok (.putfield 157, 3) := dk_181 0 157 (dk_at dksX0_redo_2 10 rfl rfl)
theorem dX0_redo_60 : decode cX0_redo 60 = .ok (.aload_n 0, 1) := dk_42 (dk_at dksX0_redo_2 13 rfl rfl)
theorem dX0_redo_61 : decode cX0_redo 61 = .ok (.dup, 1) := dk_89 (dk_at dksX0_redo_2 14 rfl rfl)
theorem dX0_redo_62 : decode cX0_redo 62 = .ok (.getfield 154, 3) := dk_180 0 154 (dk_at dksX0_redo_2 15 rfl rfl)
theorem dX0_redo_65 : decode cX0_redo 65 = .ok (.iconst 1, 1) := dk_4 (dk_at dksX0_redo_2 18 rfl rfl)
theorem dX0_redo_66 : decode cX0_redo 66 = .ok (.isub, 1) := dk_100 (dk_at dksX0_redo_2 19 rfl rfl)
theorem dX0_redo_67 : decode cX0_redo 67 = .ok (.putfield 154, 3) := dk_181 0 154 (dk_at dksX0_redo_2 20 rfl rfl)
theorem dX0_redo_70 : decode cX0_redo 70 = .ok (.aload_n 0, 1) := dk_42 (dk_at dksX0_redo_2 23 rfl rfl)
theorem dX0_redo_71 : decode cX0_redo 71 = .ok (.getfield 154, 3) := dk_180 0 154 (dk_at dksX0_redo_3 0 rfl rfl)
theorem dX0_redo_74 : decode cX0_redo 74 = .ok (.ireturn, 1) := dk_172 (dk_at dksX0_redo_3 3 rfl rfl)
abbrev cX0_mend : ByteArray := prog_1_method_19_code
def yX0_mend : MethodName := ⟨RX0, "mend", "(III)I"⟩
def dkwX0_mend_8 : List UInt8 := [180, 0, 145, 29, 182, 0, 178, 167, 0, 4, 2, 172, 2, 172]
abbrev dktX0_mend_8 : List UInt8 := dkwX0_mend_8 ++ []
def dkwX0_mend_7 : List UInt8 := [153, 0, 32, 29, 3, 16, 99, 184, 0, 94, 153, 0, 22, 42, 6, 27, 42, 180, 0, 25, 27, 50]
abbrev dktX0_mend_7 : List UInt8 := dkwX0_mend_7 ++ dktX0_mend_8
def dkwX0_mend_6 : List UInt8 := [27, 42, 180, 0, 25, 27, 50, 180, 0, 142, 29, 182, 0, 178, 167, 0, 4, 2, 172, 27, 184, 0, 102]
abbrev dktX0_mend_6 : List UInt8 := dkwX0_mend_6 ++ dktX0_mend_7
def dkwX0_mend_5 : List UInt8 := [167, 0, 4, 2, 172, 27, 184, 0, 102, 153, 0, 32, 29, 4, 16, 9, 184, 0, 94, 153, 0, 22, 42, 5]
abbrev dktX0_mend_5 : List UInt8 := dkwX0_mend_5 ++ dktX0_mend_6
def dkwX0_mend_4 : List UInt8 := [16, 99, 184, 0, 94, 153, 0, 22, 42, 4, 27, 42, 180, 0, 18, 27, 50, 180, 0, 139, 29, 182, 0, 178]
abbrev dktX0_mend_4 : List UInt8 := dkwX0_mend_4 ++ dktX0_mend_5
def dkwX0_mend_3 : List UInt8 := [27, 50, 180, 0, 136, 29, 182, 0, 178, 167, 0, 4, 2, 172, 27, 184, 0, 105, 153, 0, 32, 29, 3]
abbrev dktX0_mend_3 : List UInt8 := dkwX0_mend_3 ++ dktX0_mend_4
def dkwX0_mend_2 : List UInt8 := [27, 184, 0, 105, 153, 0, 32, 29, 3, 16, 9, 184, 0, 94, 153, 0, 22, 42, 3, 27, 42, 180, 0, 18]
abbrev dktX0_mend_2 : List UInt8 := dkwX0_mend_2 ++ dktX0_mend_3
def dkwX0_mend_1 : List UInt8 := [170, 0, 0, 0, 0, 0, 183, 0, 0, 0, 0, 0, 0, 0, 3, 0, 0, 0, 31, 0, 0, 0, 69, 0, 0, 0, 107, 0, 0, 0, 145]
abbrev dktX0_mend_1 : List UInt8 := dkwX0_mend_1 ++ dktX0_mend_2
def dkwX0_mend_0 : List UInt8 := [28]
abbrev dktX0_mend_0 : List UInt8 := dkwX0_mend_0 ++ dktX0_mend_1
theorem dksX0_mend_0 : cX0_mend.data.toList.drop 0 = dktX0_mend_0 := by decide +kernel
theorem dksX0_mend_1 : cX0_mend.data.toList.drop 1 = dktX0_mend_1 := dk_seg dksX0_mend_0 1 rfl rfl
theorem dksX0_mend_2 : cX0_mend.data.toList.drop 32 = dktX0_mend_2 := dk_seg dksX0_mend_1 31 rfl rfl
theorem dksX0_mend_3 : cX0_mend.data.toList.drop 56 = dktX0_mend_3 := dk_seg dksX0_mend_2 24 rfl rfl
theorem dksX0_mend_4 : cX0_mend.data.toList.drop 79 = dktX0_mend_4 := dk_seg dksX0_mend_3 23 rfl rfl
theorem dksX0_mend_5 : cX0_mend.data.toList.drop 103 = dktX0_mend_5 := dk_seg dksX0_mend_4 24 rfl rfl
theorem dksX0_mend_6 : cX0_mend.data.toList.drop 127 = dktX0_mend_6 := dk_seg dksX0_mend_5 24 rfl rfl
theorem dksX0_mend_7 : cX0_mend.data.toList.drop 150 = dktX0_mend_7 := dk_seg dksX0_mend_6 23 rfl rfl
theorem dksX0_mend_8 : cX0_mend.data.toList.drop 172 = dktX0_mend_8 := dk_seg dksX0_mend_7 22 rfl rfl
theorem dX0_mend_0 : decode cX0_mend 0 = .ok (.iload_n 2, 1) := dk_28 (dk_at dksX0_mend_0 0 rfl rfl)
theorem dX0_mend_1 : decode cX0_mend 1 = .ok (.tableswitch 183 0 3 #[31, 69, 107, 145], 31) := by decide +kernel
theorem dX0_mend_32 : decode cX0_mend 32 = .ok (.iload_n 1, 1) := dk_27 (dk_at dksX0_mend_2 0 rfl rfl)
theorem dX0_mend_33 : decode cX0_mend 33 = .ok (.invokestatic 105, 3) := dk_184 0 105 (dk_at dksX0_mend_2 1 rfl rfl)
theorem dX0_mend_36 : decode cX0_mend 36 = .ok (.ifCond .eq 32, 3) := dk_153 0 32 (dk_at dksX0_mend_2 4 rfl rfl)
theorem dX0_mend_39 : decode cX0_mend 39 = .ok (.iload_n 3, 1) := dk_29 (dk_at dksX0_mend_2 7 rfl rfl)
theorem dX0_mend_40 : decode cX0_mend 40 = .ok (.iconst 0, 1) := dk_3 (dk_at dksX0_mend_2 8 rfl rfl)
theorem dX0_mend_41 : decode cX0_mend 41 = .ok (.bipush 9, 2) := dk_16 9 (dk_at dksX0_mend_2 9 rfl rfl)
theorem dX0_mend_43 : decode cX0_mend 43 = .ok (.invokestatic 94, 3) := dk_184 0 94 (dk_at dksX0_mend_2 11 rfl rfl)
theorem dX0_mend_46 : decode cX0_mend 46 = .ok (.ifCond .eq 22, 3) := dk_153 0 22 (dk_at dksX0_mend_2 14 rfl rfl)
theorem dX0_mend_49 : decode cX0_mend 49 = .ok (.aload_n 0, 1) := dk_42 (dk_at dksX0_mend_2 17 rfl rfl)
theorem dX0_mend_50 : decode cX0_mend 50 = .ok (.iconst 0, 1) := dk_3 (dk_at dksX0_mend_2 18 rfl rfl)
theorem dX0_mend_51 : decode cX0_mend 51 = .ok (.iload_n 1, 1) := dk_27 (dk_at dksX0_mend_2 19 rfl rfl)
theorem dX0_mend_52 : decode cX0_mend 52 = .ok (.aload_n 0, 1) := dk_42 (dk_at dksX0_mend_2 20 rfl rfl)
theorem dX0_mend_53 : decode cX0_mend 53 = .ok (.getfield 18, 3) := dk_180 0 18 (dk_at dksX0_mend_2 21 rfl rfl)
theorem dX0_mend_56 : decode cX0_mend 56 = .ok (.iload_n 1, 1) := dk_27 (dk_at dksX0_mend_3 0 rfl rfl)
theorem dX0_mend_57 : decode cX0_mend 57 = .ok (.aaload, 1) := dk_50 (dk_at dksX0_mend_3 1 rfl rfl)
theorem dX0_mend_58 : decode cX0_mend 58 = .ok (.getfield 136, 3) := dk_180 0 136 (dk_at dksX0_mend_3 2 rfl rfl)
theorem dX0_mend_61 : decode cX0_mend 61 = .ok (.iload_n 3, 1) := dk_29 (dk_at dksX0_mend_3 5 rfl rfl)
theorem dX0_mend_62 : decode cX0_mend 62 = .ok (.invokevirtual 178, 3) := dk_182 0 178 (dk_at dksX0_mend_3 6 rfl rfl)
theorem dX0_mend_65 : decode cX0_mend 65 = .ok (.goto 4, 3) := dk_167 0 4 (dk_at dksX0_mend_3 9 rfl rfl)
theorem dX0_mend_68 : decode cX0_mend 68 = .ok (.iconst (-1), 1) := dk_2 (dk_at dksX0_mend_3 12 rfl rfl)
theorem dX0_mend_69 : decode cX0_mend 69 = .ok (.ireturn, 1) := dk_172 (dk_at dksX0_mend_3 13 rfl rfl)
theorem dX0_mend_70 : decode cX0_mend 70 = .ok (.iload_n 1, 1) := dk_27 (dk_at dksX0_mend_3 14 rfl rfl)
theorem dX0_mend_71 : decode cX0_mend 71 = .ok (.invokestatic 105, 3) := dk_184 0 105 (dk_at dksX0_mend_3 15 rfl rfl)
theorem dX0_mend_74 : decode cX0_mend 74 = .ok (.ifCond .eq 32, 3) := dk_153 0 32 (dk_at dksX0_mend_3 18 rfl rfl)
theorem dX0_mend_77 : decode cX0_mend 77 = .ok (.iload_n 3, 1) := dk_29 (dk_at dksX0_mend_3 21 rfl rfl)
theorem dX0_mend_78 : decode cX0_mend 78 = .ok (.iconst 0, 1) := dk_3 (dk_at dksX0_mend_3 22 rfl rfl)
theorem dX0_mend_79 : decode cX0_mend 79 = .ok (.bipush 99, 2) := dk_16 99 (dk_at dksX0_mend_4 0 rfl rfl)
theorem dX0_mend_81 : decode cX0_mend 81 = .ok (.invokestatic 94, 3) := dk_184 0 94 (dk_at dksX0_mend_4 2 rfl rfl)
theorem dX0_mend_84 : decode cX0_mend 84 = .ok (.ifCond .eq 22, 3) := dk_153 0 22 (dk_at dksX0_mend_4 5 rfl rfl)
theorem dX0_mend_87 : decode cX0_mend 87 = .ok (.aload_n 0, 1) := dk_42 (dk_at dksX0_mend_4 8 rfl rfl)
theorem dX0_mend_88 : decode cX0_mend 88 = .ok (.iconst 1, 1) := dk_4 (dk_at dksX0_mend_4 9 rfl rfl)
theorem dX0_mend_89 : decode cX0_mend 89 = .ok (.iload_n 1, 1) := dk_27 (dk_at dksX0_mend_4 10 rfl rfl)
theorem dX0_mend_90 : decode cX0_mend 90 = .ok (.aload_n 0, 1) := dk_42 (dk_at dksX0_mend_4 11 rfl rfl)
theorem dX0_mend_91 : decode cX0_mend 91 = .ok (.getfield 18, 3) := dk_180 0 18 (dk_at dksX0_mend_4 12 rfl rfl)
theorem dX0_mend_94 : decode cX0_mend 94 = .ok (.iload_n 1, 1) := dk_27 (dk_at dksX0_mend_4 15 rfl rfl)
theorem dX0_mend_95 : decode cX0_mend 95 = .ok (.aaload, 1) := dk_50 (dk_at dksX0_mend_4 16 rfl rfl)
theorem dX0_mend_96 : decode cX0_mend 96 = .ok (.getfield 139, 3) := dk_180 0 139 (dk_at dksX0_mend_4 17 rfl rfl)
theorem dX0_mend_99 : decode cX0_mend 99 = .ok (.iload_n 3, 1) := dk_29 (dk_at dksX0_mend_4 20 rfl rfl)
theorem dX0_mend_100 : decode cX0_mend 100 = .ok (.invokevirtual 178, 3) := dk_182 0 178 (dk_at dksX0_mend_4 21 rfl rfl)
theorem dX0_mend_103 : decode cX0_mend 103 = .ok (.goto 4, 3) := dk_167 0 4 (dk_at dksX0_mend_5 0 rfl rfl)
theorem dX0_mend_106 : decode cX0_mend 106 = .ok (.iconst (-1), 1) := dk_2 (dk_at dksX0_mend_5 3 rfl rfl)
theorem dX0_mend_107 : decode cX0_mend 107 = .ok (.ireturn, 1) := dk_172 (dk_at dksX0_mend_5 4 rfl rfl)
theorem dX0_mend_108 : decode cX0_mend 108 = .ok (.iload_n 1, 1) := dk_27 (dk_at dksX0_mend_5 5 rfl rfl)
theorem dX0_mend_109 : decode cX0_mend 109 = .ok (.invokestatic 102, 3) := dk_184 0 102 (dk_at dksX0_mend_5 6 rfl rfl)
theorem dX0_mend_112 : decode cX0_mend 112 = .ok (.ifCond .eq 32, 3) := dk_153 0 32 (dk_at dksX0_mend_5 9 rfl rfl)
theorem dX0_mend_115 : decode cX0_mend 115 = .ok (.iload_n 3, 1) := dk_29 (dk_at dksX0_mend_5 12 rfl rfl)
theorem dX0_mend_116 : decode cX0_mend 116 = .ok (.iconst 1, 1) := dk_4 (dk_at dksX0_mend_5 13 rfl rfl)
theorem dX0_mend_117 : decode cX0_mend 117 = .ok (.bipush 9, 2) := dk_16 9 (dk_at dksX0_mend_5 14 rfl rfl)
theorem dX0_mend_119 : decode cX0_mend 119 = .ok (.invokestatic 94, 3) := dk_184 0 94 (dk_at dksX0_mend_5 16 rfl rfl)
theorem dX0_mend_122 : decode cX0_mend 122 = .ok (.ifCond .eq 22, 3) := dk_153 0 22 (dk_at dksX0_mend_5 19 rfl rfl)
theorem dX0_mend_125 : decode cX0_mend 125 = .ok (.aload_n 0, 1) := dk_42 (dk_at dksX0_mend_5 22 rfl rfl)
theorem dX0_mend_126 : decode cX0_mend 126 = .ok (.iconst 2, 1) := dk_5 (dk_at dksX0_mend_5 23 rfl rfl)
theorem dX0_mend_127 : decode cX0_mend 127 = .ok (.iload_n 1, 1) := dk_27 (dk_at dksX0_mend_6 0 rfl rfl)
theorem dX0_mend_128 : decode cX0_mend 128 = .ok (.aload_n 0, 1) := dk_42 (dk_at dksX0_mend_6 1 rfl rfl)
theorem dX0_mend_129 : decode cX0_mend 129 = .ok (.getfield 25, 3) := dk_180 0 25 (dk_at dksX0_mend_6 2 rfl rfl)
theorem dX0_mend_132 : decode cX0_mend 132 = .ok (.iload_n 1, 1) := dk_27 (dk_at dksX0_mend_6 5 rfl rfl)
theorem dX0_mend_133 : decode cX0_mend 133 = .ok (.aaload, 1) := dk_50 (dk_at dksX0_mend_6 6 rfl rfl)
theorem dX0_mend_134 : decode cX0_mend 134 = .ok (.getfield 142, 3) := dk_180 0 142 (dk_at dksX0_mend_6 7 rfl rfl)
theorem dX0_mend_137 : decode cX0_mend 137 = .ok (.iload_n 3, 1) := dk_29 (dk_at dksX0_mend_6 10 rfl rfl)
theorem dX0_mend_138 : decode cX0_mend 138 = .ok (.invokevirtual 178, 3) := dk_182 0 178 (dk_at dksX0_mend_6 11 rfl rfl)
theorem dX0_mend_141 : decode cX0_mend 141 = .ok (.goto 4, 3) := dk_167 0 4 (dk_at dksX0_mend_6 14 rfl rfl)
theorem dX0_mend_144 : decode cX0_mend 144 = .ok (.iconst (-1), 1) := dk_2 (dk_at dksX0_mend_6 17 rfl rfl)
theorem dX0_mend_145 : decode cX0_mend 145 = .ok (.ireturn, 1) := dk_172 (dk_at dksX0_mend_6 18 rfl rfl)
theorem dX0_mend_146 : decode cX0_mend 146 = .ok (.iload_n 1, 1) := dk_27 (dk_at dksX0_mend_6 19 rfl rfl)
theorem dX0_mend_147 : decode cX0_mend 147 = .ok (.invokestatic 102, 3) := dk_184 0 102 (dk_at dksX0_mend_6 20 rfl rfl)
theorem dX0_mend_150 : decode cX0_mend 150 = .ok (.ifCond .eq 32, 3) := dk_153 0 32 (dk_at dksX0_mend_7 0 rfl rfl)
theorem dX0_mend_153 : decode cX0_mend 153 = .ok (.iload_n 3, 1) := dk_29 (dk_at dksX0_mend_7 3 rfl rfl)
theorem dX0_mend_154 : decode cX0_mend 154 = .ok (.iconst 0, 1) := dk_3 (dk_at dksX0_mend_7 4 rfl rfl)
theorem dX0_mend_155 : decode cX0_mend 155 = .ok (.bipush 99, 2) := dk_16 99 (dk_at dksX0_mend_7 5 rfl rfl)
theorem dX0_mend_157 : decode cX0_mend 157 = .ok (.invokestatic 94, 3) := dk_184 0 94 (dk_at dksX0_mend_7 7 rfl rfl)
theorem dX0_mend_160 : decode cX0_mend 160 = .ok (.ifCond .eq 22, 3) := dk_153 0 22 (dk_at dksX0_mend_7 10 rfl rfl)
theorem dX0_mend_163 : decode cX0_mend 163 = .ok (.aload_n 0, 1) := dk_42 (dk_at dksX0_mend_7 13 rfl rfl)
theorem dX0_mend_164 : decode cX0_mend 164 = .ok (.iconst 3, 1) := dk_6 (dk_at dksX0_mend_7 14 rfl rfl)
theorem dX0_mend_165 : decode cX0_mend 165 = .ok (.iload_n 1, 1) := dk_27 (dk_at dksX0_mend_7 15 rfl rfl)
theorem dX0_mend_166 : decode cX0_mend 166 = .ok (.aload_n 0, 1) := dk_42 (dk_at dksX0_mend_7 16 rfl rfl)
theorem dX0_mend_167 : decode cX0_mend 167 = .ok (.getfield 25, 3) := dk_180 0 25 (dk_at dksX0_mend_7 17 rfl rfl)
theorem dX0_mend_170 : decode cX0_mend 170 = .ok (.iload_n 1, 1) := dk_27 (dk_at dksX0_mend_7 20 rfl rfl)
theorem dX0_mend_171 : decode cX0_mend 171 = .ok (.aaload, 1) := dk_50 (dk_at dksX0_mend_7 21 rfl rfl)
theorem dX0_mend_172 : decode cX0_mend 172 = .ok (.getfield 145, 3) := dk_180 0 145 (dk_at dksX0_mend_8 0 rfl rfl)
theorem dX0_mend_175 : decode cX0_mend 175 = .ok (.iload_n 3, 1) := dk_29 (dk_at dksX0_mend_8 3 rfl rfl)
theorem dX0_mend_176 : decode cX0_mend 176 = .ok (.invokevirtual 178, 3) := dk_182 0 178 (dk_at dksX0_mend_8 4 rfl rfl)
theorem dX0_mend_179 : decode cX0_mend 179 = .ok (.goto 4, 3) := dk_167 0 4 (dk_at dksX0_mend_8 7 rfl rfl)
theorem dX0_mend_182 : decode cX0_mend 182 = .ok (.iconst (-1), 1) := dk_2 (dk_at dksX0_mend_8 10 rfl rfl)
theorem dX0_mend_183 : decode cX0_mend 183 = .ok (.ireturn, 1) := dk_172 (dk_at dksX0_mend_8 11 rfl rfl)
theorem dX0_mend_184 : decode cX0_mend 184 = .ok (.iconst (-1), 1) := dk_2 (dk_at dksX0_mend_8 12 rfl rfl)
theorem dX0_mend_185 : decode cX0_mend 185 = .ok (.ireturn, 1) := dk_172 (dk_at dksX0_mend_8 13 rfl rfl)
abbrev cX0_become : ByteArray := prog_1_method_16_code
def yX0_become : MethodName := ⟨RX0, "become", "(IIII)I"⟩
def dkwX0_become_4 : List UInt8 := [181, 0, 157, 42, 27, 28, 21, 4, 182, 0, 163, 29, 172]
abbrev dktX0_become_4 : List UInt8 := dkwX0_become_4 ++ []
def dkwX0_become_3 : List UInt8 := [180, 0, 157, 187, 0, 29, 89, 27, 28, 29, 21, 4, 183, 0, 160, 83, 42, 89, 180, 0, 157, 4, 96]
abbrev dktX0_become_3 : List UInt8 := dkwX0_become_3 ++ dktX0_become_4
def dkwX0_become_2 : List UInt8 := [83, 132, 5, 1, 167, 255, 230, 42, 89, 180, 0, 157, 4, 100, 181, 0, 157, 42, 180, 0, 31, 42]
abbrev dktX0_become_2 : List UInt8 := dkwX0_become_2 ++ dktX0_become_3
def dkwX0_become_1 : List UInt8 := [54, 5, 21, 5, 16, 40, 162, 0, 25, 42, 180, 0, 31, 21, 5, 4, 100, 42, 180, 0, 31, 21, 5, 50]
abbrev dktX0_become_1 : List UInt8 := dkwX0_become_1 ++ dktX0_become_2
def dkwX0_become_0 : List UInt8 := [29, 21, 4, 160, 0, 5, 29, 172, 42, 3, 181, 0, 154, 42, 180, 0, 157, 16, 40, 160, 0, 45, 4]
abbrev dktX0_become_0 : List UInt8 := dkwX0_become_0 ++ dktX0_become_1
theorem dksX0_become_0 : cX0_become.data.toList.drop 0 = dktX0_become_0 := by decide +kernel
theorem dksX0_become_1 : cX0_become.data.toList.drop 23 = dktX0_become_1 := dk_seg dksX0_become_0 23 rfl rfl
theorem dksX0_become_2 : cX0_become.data.toList.drop 47 = dktX0_become_2 := dk_seg dksX0_become_1 24 rfl rfl
theorem dksX0_become_3 : cX0_become.data.toList.drop 69 = dktX0_become_3 := dk_seg dksX0_become_2 22 rfl rfl
theorem dksX0_become_4 : cX0_become.data.toList.drop 92 = dktX0_become_4 := dk_seg dksX0_become_3 23 rfl rfl
theorem dX0_become_0 : decode cX0_become 0 = .ok (.iload_n 3, 1) := dk_29 (dk_at dksX0_become_0 0 rfl rfl)
theorem dX0_become_1 : decode cX0_become 1 = .ok (.iload 4, 2) := dk_21 4 (dk_at dksX0_become_0 1 rfl rfl)
theorem dX0_become_3 : decode cX0_become 3 = .ok (.if_icmp .ne 5, 3) := dk_160 0 5 (dk_at dksX0_become_0 3 rfl rfl)
theorem dX0_become_6 : decode cX0_become 6 = .ok (.iload_n 3, 1) := dk_29 (dk_at dksX0_become_0 6 rfl rfl)
theorem dX0_become_7 : decode cX0_become 7 = .ok (.ireturn, 1) := dk_172 (dk_at dksX0_become_0 7 rfl rfl)
theorem dX0_become_8 : decode cX0_become 8 = .ok (.aload_n 0, 1) := dk_42 (dk_at dksX0_become_0 8 rfl rfl)
theorem dX0_become_9 : decode cX0_become 9 = .ok (.iconst 0, 1) := dk_3 (dk_at dksX0_become_0 9 rfl rfl)
theorem dX0_become_10 : decode cX0_become 10 = .ok (.putfield 154, 3) := dk_181 0 154 (dk_at dksX0_become_0 10 rfl rfl)
theorem dX0_become_13 : decode cX0_become 13 = .ok (.aload_n 0, 1) := dk_42 (dk_at dksX0_become_0 13 rfl rfl)
theorem dX0_become_14 : decode cX0_become 14 = .ok (.getfield 157, 3) := dk_180 0 157 (dk_at dksX0_become_0 14 rfl rfl)
theorem dX0_become_17 : decode cX0_become 17 = .ok (.bipush 40, 2) := dk_16 40 (dk_at dksX0_become_0 17 rfl rfl)
theorem dX0_become_19 : decode cX0_become 19 = .ok (.if_icmp .ne 45, 3) := dk_160 0 45 (dk_at dksX0_become_0 19 rfl rfl)
theorem dX0_become_22 : decode cX0_become 22 = .ok (.iconst 1, 1) := dk_4 (dk_at dksX0_become_0 22 rfl rfl)
theorem dX0_become_23 : decode cX0_become 23 = .ok (.istore 5, 2) := dk_54 5 (dk_at dksX0_become_1 0 rfl rfl)
theorem dX0_become_25 : decode cX0_become 25 = .ok (.iload 5, 2) := dk_21 5 (dk_at dksX0_become_1 2 rfl rfl)
theorem dX0_become_27 : decode cX0_become 27 = .ok (.bipush 40, 2) := dk_16 40 (dk_at dksX0_become_1 4 rfl rfl)
theorem dX0_become_29 : decode cX0_become 29 = .ok (.if_icmp .ge 25, 3) := dk_162 0 25 (dk_at dksX0_become_1 6 rfl rfl)
theorem dX0_become_32 : decode cX0_become 32 = .ok (.aload_n 0, 1) := dk_42 (dk_at dksX0_become_1 9 rfl rfl)
theorem dX0_become_33 : decode cX0_become 33 = .ok (.getfield 31, 3) := dk_180 0 31 (dk_at dksX0_become_1 10 rfl rfl)
theorem dX0_become_36 : decode cX0_become 36 = .ok (.iload 5, 2) := dk_21 5 (dk_at dksX0_become_1 13 rfl rfl)
theorem dX0_become_38 : decode cX0_become 38 = .ok (.iconst 1, 1) := dk_4 (dk_at dksX0_become_1 15 rfl rfl)
theorem dX0_become_39 : decode cX0_become 39 = .ok (.isub, 1) := dk_100 (dk_at dksX0_become_1 16 rfl rfl)
theorem dX0_become_40 : decode cX0_become 40 = .ok (.aload_n 0, 1) := dk_42 (dk_at dksX0_become_1 17 rfl rfl)
theorem dX0_become_41 : decode cX0_become 41 = .ok (.getfield 31, 3) := dk_180 0 31 (dk_at dksX0_become_1 18 rfl rfl)
theorem dX0_become_44 : decode cX0_become 44 = .ok (.iload 5, 2) := dk_21 5 (dk_at dksX0_become_1 21 rfl rfl)
theorem dX0_become_46 : decode cX0_become 46 = .ok (.aaload, 1) := dk_50 (dk_at dksX0_become_1 23 rfl rfl)
theorem dX0_become_47 : decode cX0_become 47 = .ok (.aastore, 1) := dk_83 (dk_at dksX0_become_2 0 rfl rfl)
theorem dX0_become_48 : decode cX0_become 48 = .ok (.iinc 5 1, 3) := dk_132 5 1 (dk_at dksX0_become_2 1 rfl rfl)
theorem dX0_become_51 : decode cX0_become 51 = .ok (.goto (-26), 3) := dk_167 255 230 (dk_at dksX0_become_2 4 rfl rfl)
theorem dX0_become_54 : decode cX0_become 54 = .ok (.aload_n 0, 1) := dk_42 (dk_at dksX0_become_2 7 rfl rfl)
theorem dX0_become_55 : decode cX0_become 55 = .ok (.dup, 1) := dk_89 (dk_at dksX0_become_2 8 rfl rfl)
theorem dX0_become_56 : decode cX0_become 56 = .ok (.getfield 157, 3) := dk_180 0 157 (dk_at dksX0_become_2 9 rfl rfl)
theorem dX0_become_59 : decode cX0_become 59 = .ok (.iconst 1, 1) := dk_4 (dk_at dksX0_become_2 12 rfl rfl)
theorem dX0_become_60 : decode cX0_become 60 = .ok (.isub, 1) := dk_100 (dk_at dksX0_become_2 13 rfl rfl)
theorem dX0_become_61 : decode cX0_become 61 = .ok (.putfield 157, 3) := dk_181 0 157 (dk_at dksX0_become_2 14 rfl rfl)
theorem dX0_become_64 : decode cX0_become 64 = .ok (.aload_n 0, 1) := dk_42 (dk_at dksX0_become_2 17 rfl rfl)
theorem dX0_become_65 : decode cX0_become 65 = .ok (.getfield 31, 3) := dk_180 0 31 (dk_at dksX0_become_2 18 rfl rfl)
theorem dX0_become_68 : decode cX0_become 68 = .ok (.aload_n 0, 1) := dk_42 (dk_at dksX0_become_2 21 rfl rfl)
theorem dX0_become_69 : decode cX0_become 69 = .ok (.getfield 157, 3) := dk_180 0 157 (dk_at dksX0_become_3 0 rfl rfl)
theorem dX0_become_72 : decode cX0_become 72 = .ok (.new 29, 3) := dk_187 0 29 (dk_at dksX0_become_3 3 rfl rfl)
theorem dX0_become_75 : decode cX0_become 75 = .ok (.dup, 1) := dk_89 (dk_at dksX0_become_3 6 rfl rfl)
theorem dX0_become_76 : decode cX0_become 76 = .ok (.iload_n 1, 1) := dk_27 (dk_at dksX0_become_3 7 rfl rfl)
theorem dX0_become_77 : decode cX0_become 77 = .ok (.iload_n 2, 1) := dk_28 (dk_at dksX0_become_3 8 rfl rfl)
theorem dX0_become_78 : decode cX0_become 78 = .ok (.iload_n 3, 1) := dk_29 (dk_at dksX0_become_3 9 rfl rfl)
theorem dX0_become_79 : decode cX0_become 79 = .ok (.iload 4, 2) := dk_21 4 (dk_at dksX0_become_3 10 rfl rfl)
theorem dX0_become_81 : decode cX0_become 81 = .ok (.invokespecial 160, 3) := dk_183 0 160 (dk_at dksX0_become_3 12 rfl rfl)
theorem dX0_become_84 : decode cX0_become 84 = .ok (.aastore, 1) := dk_83 (dk_at dksX0_become_3 15 rfl rfl)
theorem dX0_become_85 : decode cX0_become 85 = .ok (.aload_n 0, 1) := dk_42 (dk_at dksX0_become_3 16 rfl rfl)
theorem dX0_become_86 : decode cX0_become 86 = .ok (.dup, 1) := dk_89 (dk_at dksX0_become_3 17 rfl rfl)
theorem dX0_become_87 : decode cX0_become 87 = .ok (.getfield 157, 3) := dk_180 0 157 (dk_at dksX0_become_3 18 rfl rfl)
theorem dX0_become_90 : decode cX0_become 90 = .ok (.iconst 1, 1) := dk_4 (dk_at dksX0_become_3 21 rfl rfl)
theorem dX0_become_91 : decode cX0_become 91 = .ok (.iadd, 1) := dk_96 (dk_at dksX0_become_3 22 rfl rfl)
theorem dX0_become_92 : decode cX0_become 92 = .ok (.putfield 157, 3) := dk_181 0 157 (dk_at dksX0_become_4 0 rfl rfl)
theorem dX0_become_95 : decode cX0_become 95 = .ok (.aload_n 0, 1) := dk_42 (dk_at dksX0_become_4 3 rfl rfl)
theorem dX0_become_96 : decode cX0_become 96 = .ok (.iload_n 1, 1) := dk_27 (dk_at dksX0_become_4 4 rfl rfl)
theorem dX0_become_97 : decode cX0_become 97 = .ok (.iload_n 2, 1) := dk_28 (dk_at dksX0_become_4 5 rfl rfl)
theorem dX0_become_98 : decode cX0_become 98 = .ok (.iload 4, 2) := dk_21 4 (dk_at dksX0_become_4 6 rfl rfl)
theorem dX0_become_100 : decode cX0_become 100 = .ok (.invokevirtual 163, 3) := dk_182 0 163 (dk_at dksX0_become_4 8 rfl rfl)
theorem dX0_become_103 : decode cX0_become 103 = .ok (.iload_n 3, 1) := dk_29 (dk_at dksX0_become_4 11 rfl rfl)
theorem dX0_become_104 : decode cX0_become 104 = .ok (.ireturn, 1) := dk_172 (dk_at dksX0_become_4 12 rfl rfl)
abbrev cX0_feed : ByteArray := prog_1_method_20_code
def yX0_feed : MethodName := ⟨RX0, "feed", "(I)I"⟩
def dkwX0_feed_2 : List UInt8 := [180, 0, 182, 172]
abbrev dktX0_feed_2 : List UInt8 := dkwX0_feed_2 ++ []
def dkwX0_feed_1 : List UInt8 := [172, 42, 180, 0, 35, 42, 180, 0, 182, 27, 145, 84, 42, 89, 180, 0, 182, 4, 96, 181, 0, 182, 42]
abbrev dktX0_feed_1 : List UInt8 := dkwX0_feed_1 ++ dktX0_feed_2
def dkwX0_feed_0 : List UInt8 := [27, 3, 17, 0, 255, 184, 0, 94, 154, 0, 5, 2, 172, 42, 180, 0, 182, 16, 120, 160, 0, 6, 16, 253]
abbrev dktX0_feed_0 : List UInt8 := dkwX0_feed_0 ++ dktX0_feed_1
theorem dksX0_feed_0 : cX0_feed.data.toList.drop 0 = dktX0_feed_0 := by decide +kernel
theorem dksX0_feed_1 : cX0_feed.data.toList.drop 24 = dktX0_feed_1 := dk_seg dksX0_feed_0 24 rfl rfl
theorem dksX0_feed_2 : cX0_feed.data.toList.drop 47 = dktX0_feed_2 := dk_seg dksX0_feed_1 23 rfl rfl
theorem dX0_feed_0 : decode cX0_feed 0 = .ok (.iload_n 1, 1) := dk_27 (dk_at dksX0_feed_0 0 rfl rfl)
theorem dX0_feed_1 : decode cX0_feed 1 = .ok (.iconst 0, 1) := dk_3 (dk_at dksX0_feed_0 1 rfl rfl)
theorem dX0_feed_2 : decode cX0_feed 2 = .ok (.sipush 255, 3) := dk_17 0 255 (dk_at dksX0_feed_0 2 rfl rfl)
theorem dX0_feed_5 : decode cX0_feed 5 = .ok (.invokestatic 94, 3) := dk_184 0 94 (dk_at dksX0_feed_0 5 rfl rfl)
theorem dX0_feed_8 : decode cX0_feed 8 = .ok (.ifCond .ne 5, 3) := dk_154 0 5 (dk_at dksX0_feed_0 8 rfl rfl)
theorem dX0_feed_11 : decode cX0_feed 11 = .ok (.iconst (-1), 1) := dk_2 (dk_at dksX0_feed_0 11 rfl rfl)
theorem dX0_feed_12 : decode cX0_feed 12 = .ok (.ireturn, 1) := dk_172 (dk_at dksX0_feed_0 12 rfl rfl)
theorem dX0_feed_13 : decode cX0_feed 13 = .ok (.aload_n 0, 1) := dk_42 (dk_at dksX0_feed_0 13 rfl rfl)
theorem dX0_feed_14 : decode cX0_feed 14 = .ok (.getfield 182, 3) := dk_180 0 182 (dk_at dksX0_feed_0 14 rfl rfl)
theorem dX0_feed_17 : decode cX0_feed 17 = .ok (.bipush 120, 2) := dk_16 120 (dk_at dksX0_feed_0 17 rfl rfl)
theorem dX0_feed_19 : decode cX0_feed 19 = .ok (.if_icmp .ne 6, 3) := dk_160 0 6 (dk_at dksX0_feed_0 19 rfl rfl)
theorem dX0_feed_22 : decode cX0_feed 22 = .ok (.bipush (-3), 2) := dk_16 253 (dk_at dksX0_feed_0 22 rfl rfl)
theorem dX0_feed_24 : decode cX0_feed 24 = .ok (.ireturn, 1) := dk_172 (dk_at dksX0_feed_1 0 rfl rfl)
theorem dX0_feed_25 : decode cX0_feed 25 = .ok (.aload_n 0, 1) := dk_42 (dk_at dksX0_feed_1 1 rfl rfl)
theorem dX0_feed_26 : decode cX0_feed 26 = .ok (.getfield 35, 3) := dk_180 0 35 (dk_at dksX0_feed_1 2 rfl rfl)
theorem dX0_feed_29 : decode cX0_feed 29 = .ok (.aload_n 0, 1) := dk_42 (dk_at dksX0_feed_1 5 rfl rfl)
theorem dX0_feed_30 : decode cX0_feed 30 = .ok (.getfield 182, 3) := dk_180 0 182 (dk_at dksX0_feed_1 6 rfl rfl)
theorem dX0_feed_33 : decode cX0_feed 33 = .ok (.iload_n 1, 1) := dk_27 (dk_at dksX0_feed_1 9 rfl rfl)
theorem dX0_feed_34 : decode cX0_feed 34 = .ok (.i2b, 1) := dk_145 (dk_at dksX0_feed_1 10 rfl rfl)
theorem dX0_feed_35 : decode cX0_feed 35 = .ok (.bastore, 1) := dk_84 (dk_at dksX0_feed_1 11 rfl rfl)
theorem dX0_feed_36 : decode cX0_feed 36 = .ok (.aload_n 0, 1) := dk_42 (dk_at dksX0_feed_1 12 rfl rfl)
theorem dX0_feed_37 : decode cX0_feed 37 = .ok (.dup, 1) := dk_89 (dk_at dksX0_feed_1 13 rfl rfl)
theorem dX0_feed_38 : decode cX0_feed 38 = .ok (.getfield 182, 3) := dk_180 0 182 (dk_at dksX0_feed_1 14 rfl rfl)
theorem dX0_feed_41 : decode cX0_feed 41 = .ok (.iconst 1, 1) := dk_4 (dk_at dksX0_feed_1 17 rfl rfl)
theorem dX0_feed_42 : decode cX0_feed 42 = .ok (.iadd, 1) := dk_96 (dk_at dksX0_feed_1 18 rfl rfl)
theorem dX0_feed_43 : decode cX0_feed 43 = .ok (.putfield 182, 3) := dk_181 0 182 (dk_at dksX0_feed_1 19 rfl rfl)
theorem dX0_feed_46 : decode cX0_feed 46 = .ok (.aload_n 0, 1) := dk_42 (dk_at dksX0_feed_1 22 rfl rfl)
theorem dX0_feed_47 : decode cX0_feed 47 = .ok (.getfield 182, 3) := dk_180 0 182 (dk_at dksX0_feed_2 0 rfl rfl)
theorem dX0_feed_50 : decode cX0_feed 50 = .ok (.ireturn, 1) := dk_172 (dk_at dksX0_feed_2 3 rfl rfl)
abbrev cX0_law : ByteArray := prog_1_method_21_code
def yX0_law : MethodName := ⟨RX0, "law", "(I)I"⟩
def dkwX0_law_2 : List UInt8 := [50, 45, 181, 0, 197, 4, 172]
abbrev dktX0_law_2 : List UInt8 := dkwX0_law_2 ++ []
def dkwX0_law_1 : List UInt8 := [3, 181, 0, 182, 44, 180, 0, 194, 155, 0, 11, 16, 156, 44, 180, 0, 194, 100, 172, 42, 180, 0, 25, 27]
abbrev dktX0_law_1 : List UInt8 := dkwX0_law_1 ++ dktX0_law_2
def dkwX0_law_0 : List UInt8 := [27, 184, 0, 102, 154, 0, 5, 2, 172, 187, 0, 185, 89, 42, 183, 0, 187, 77, 44, 182, 0, 190, 78, 42]
abbrev dktX0_law_0 : List UInt8 := dkwX0_law_0 ++ dktX0_law_1
theorem dksX0_law_0 : cX0_law.data.toList.drop 0 = dktX0_law_0 := by decide +kernel
theorem dksX0_law_1 : cX0_law.data.toList.drop 24 = dktX0_law_1 := dk_seg dksX0_law_0 24 rfl rfl
theorem dksX0_law_2 : cX0_law.data.toList.drop 48 = dktX0_law_2 := dk_seg dksX0_law_1 24 rfl rfl
theorem dX0_law_0 : decode cX0_law 0 = .ok (.iload_n 1, 1) := dk_27 (dk_at dksX0_law_0 0 rfl rfl)
theorem dX0_law_1 : decode cX0_law 1 = .ok (.invokestatic 102, 3) := dk_184 0 102 (dk_at dksX0_law_0 1 rfl rfl)
theorem dX0_law_4 : decode cX0_law 4 = .ok (.ifCond .ne 5, 3) := dk_154 0 5 (dk_at dksX0_law_0 4 rfl rfl)
theorem dX0_law_7 : decode cX0_law 7 = .ok (.iconst (-1), 1) := dk_2 (dk_at dksX0_law_0 7 rfl rfl)
theorem dX0_law_8 : decode cX0_law 8 = .ok (.ireturn, 1) := dk_172 (dk_at dksX0_law_0 8 rfl rfl)
theorem dX0_law_9 : decode cX0_law 9 = .ok (.new 185, 3) := dk_187 0 185 (dk_at dksX0_law_0 9 rfl rfl)
theorem dX0_law_12 : decode cX0_law 12 = .ok (.dup, 1) := dk_89 (dk_at dksX0_law_0 12 rfl rfl)
theorem dX0_law_13 : decode cX0_law 13 = .ok (.aload_n 0, 1) := dk_42 (dk_at dksX0_law_0 13 rfl rfl)
theorem dX0_law_14 : decode cX0_law 14 = .ok (.invokespecial 187, 3) := dk_183 0 187 (dk_at dksX0_law_0 14 rfl rfl)
theorem dX0_law_17 : decode cX0_law 17 = .ok (.astore_n 2, 1) := dk_77 (dk_at dksX0_law_0 17 rfl rfl)
theorem dX0_law_18 : decode cX0_law 18 = .ok (.aload_n 2, 1) := dk_44 (dk_at dksX0_law_0 18 rfl rfl)
theorem dX0_law_19 : decode cX0_law 19 = .ok (.invokevirtual 190, 3) := dk_182 0 190 (dk_at dksX0_law_0 19 rfl rfl)
theorem dX0_law_22 : decode cX0_law 22 = .ok (.astore_n 3, 1) := dk_78 (dk_at dksX0_law_0 22 rfl rfl)
theorem dX0_law_23 : decode cX0_law 23 = .ok (.aload_n 0, 1) := dk_42 (dk_at dksX0_law_0 23 rfl rfl)
theorem dX0_law_24 : decode cX0_law 24 = .ok (.iconst 0, 1) := dk_3 (dk_at dksX0_law_1 0 rfl rfl)
theorem dX0_law_25 : decode cX0_law 25 = .ok (.putfield 182, 3) := dk_181 0 182 (dk_at dksX0_law_1 1 rfl rfl)
theorem dX0_law_28 : decode cX0_law 28 = .ok (.aload_n 2, 1) := dk_44 (dk_at dksX0_law_1 4 rfl rfl)
theorem dX0_law_29 : decode cX0_law 29 = .ok (.getfield 194, 3) := dk_180 0 194 (dk_at dksX0_law_1 5 rfl rfl)
theorem dX0_law_32 : decode cX0_law 32 = .ok (.ifCond .lt 11, 3) := dk_155 0 11 (dk_at dksX0_law_1 8 rfl rfl)
theorem dX0_law_35 : decode cX0_law 35 = .ok (.bipush (-100), 2) := dk_16 156 (dk_at dksX0_law_1 11 rfl rfl)
theorem dX0_law_37 : decode cX0_law 37 = .ok (.aload_n 2, 1) := dk_44 (dk_at dksX0_law_1 13 rfl rfl)
theorem dX0_law_38 : decode cX0_law 38 = .ok (.getfield 194, 3) := dk_180 0 194 (dk_at dksX0_law_1 14 rfl rfl)
theorem dX0_law_41 : decode cX0_law 41 = .ok (.isub, 1) := dk_100 (dk_at dksX0_law_1 17 rfl rfl)
theorem dX0_law_42 : decode cX0_law 42 = .ok (.ireturn, 1) := dk_172 (dk_at dksX0_law_1 18 rfl rfl)
theorem dX0_law_43 : decode cX0_law 43 = .ok (.aload_n 0, 1) := dk_42 (dk_at dksX0_law_1 19 rfl rfl)
theorem dX0_law_44 : decode cX0_law 44 = .ok (.getfield 25, 3) := dk_180 0 25 (dk_at dksX0_law_1 20 rfl rfl)
theorem dX0_law_47 : decode cX0_law 47 = .ok (.iload_n 1, 1) := dk_27 (dk_at dksX0_law_1 23 rfl rfl)
theorem dX0_law_48 : decode cX0_law 48 = .ok (.aaload, 1) := dk_50 (dk_at dksX0_law_2 0 rfl rfl)
theorem dX0_law_49 : decode cX0_law 49 = .ok (.aload_n 3, 1) := dk_45 (dk_at dksX0_law_2 1 rfl rfl)
theorem dX0_law_50 : decode cX0_law 50 = .ok (.putfield 197, 3) := dk_181 0 197 (dk_at dksX0_law_2 2 rfl rfl)
theorem dX0_law_53 : decode cX0_law 53 = .ok (.iconst 1, 1) := dk_4 (dk_at dksX0_law_2 5 rfl rfl)
theorem dX0_law_54 : decode cX0_law 54 = .ok (.ireturn, 1) := dk_172 (dk_at dksX0_law_2 6 rfl rfl)
abbrev cX0_number : ByteArray := prog_1_method_24_code
def yX0_number : MethodName := ⟨RX0, "number", "(II)I"⟩
def dkwX0_number_2 : List UInt8 := [16, 100, 108, 28, 16, 100, 112, 182, 0, 238, 167, 0, 4, 2, 172]
abbrev dktX0_number_2 : List UInt8 := dkwX0_number_2 ++ []
def dkwX0_number_1 : List UInt8 := [16, 100, 112, 184, 0, 235, 153, 0, 31, 42, 42, 180, 0, 11, 27, 16, 10, 108, 50, 27, 16, 10, 112, 28]
abbrev dktX0_number_1 : List UInt8 := dkwX0_number_1 ++ dktX0_number_2
def dkwX0_number_0 : List UInt8 := [42, 27, 182, 0, 130, 153, 0, 55, 28, 155, 0, 51, 28, 16, 100, 108, 184, 0, 105, 153, 0, 41, 28]
abbrev dktX0_number_0 : List UInt8 := dkwX0_number_0 ++ dktX0_number_1
theorem dksX0_number_0 : cX0_number.data.toList.drop 0 = dktX0_number_0 := by decide +kernel
theorem dksX0_number_1 : cX0_number.data.toList.drop 23 = dktX0_number_1 := dk_seg dksX0_number_0 23 rfl rfl
theorem dksX0_number_2 : cX0_number.data.toList.drop 47 = dktX0_number_2 := dk_seg dksX0_number_1 24 rfl rfl
theorem dX0_number_0 : decode cX0_number 0 = .ok (.aload_n 0, 1) := dk_42 (dk_at dksX0_number_0 0 rfl rfl)
theorem dX0_number_1 : decode cX0_number 1 = .ok (.iload_n 1, 1) := dk_27 (dk_at dksX0_number_0 1 rfl rfl)
theorem dX0_number_2 : decode cX0_number 2 = .ok (.invokevirtual 130, 3) := dk_182 0 130 (dk_at dksX0_number_0 2 rfl rfl)
theorem dX0_number_5 : decode cX0_number 5 = .ok (.ifCond .eq 55, 3) := dk_153 0 55 (dk_at dksX0_number_0 5 rfl rfl)
theorem dX0_number_8 : decode cX0_number 8 = .ok (.iload_n 2, 1) := dk_28 (dk_at dksX0_number_0 8 rfl rfl)
theorem dX0_number_9 : decode cX0_number 9 = .ok (.ifCond .lt 51, 3) := dk_155 0 51 (dk_at dksX0_number_0 9 rfl rfl)
theorem dX0_number_12 : decode cX0_number 12 = .ok (.iload_n 2, 1) := dk_28 (dk_at dksX0_number_0 12 rfl rfl)
theorem dX0_number_13 : decode cX0_number 13 = .ok (.bipush 100, 2) := dk_16 100 (dk_at dksX0_number_0 13 rfl rfl)
theorem dX0_number_15 : decode cX0_number 15 = .ok (.idiv, 1) := dk_108 (dk_at dksX0_number_0 15 rfl rfl)
theorem dX0_number_16 : decode cX0_number 16 = .ok (.invokestatic 105, 3) := dk_184 0 105 (dk_at dksX0_number_0 16 rfl rfl)
theorem dX0_number_19 : decode cX0_number 19 = .ok (.ifCond .eq 41, 3) := dk_153 0 41 (dk_at dksX0_number_0 19 rfl rfl)
theorem dX0_number_22 : decode cX0_number 22 = .ok (.iload_n 2, 1) := dk_28 (dk_at dksX0_number_0 22 rfl rfl)
theorem dX0_number_23 : decode cX0_number 23 = .ok (.bipush 100, 2) := dk_16 100 (dk_at dksX0_number_1 0 rfl rfl)
theorem dX0_number_25 : decode cX0_number 25 = .ok (.irem, 1) := dk_112 (dk_at dksX0_number_1 2 rfl rfl)
theorem dX0_number_26 : decode cX0_number 26 = .ok (.invokestatic 235, 3) := dk_184 0 235 (dk_at dksX0_number_1 3 rfl rfl)
theorem dX0_number_29 : decode cX0_number 29 = .ok (.ifCond .eq 31, 3) := dk_153 0 31 (dk_at dksX0_number_1 6 rfl rfl)
theorem dX0_number_32 : decode cX0_number 32 = .ok (.aload_n 0, 1) := dk_42 (dk_at dksX0_number_1 9 rfl rfl)
theorem dX0_number_33 : decode cX0_number 33 = .ok (.aload_n 0, 1) := dk_42 (dk_at dksX0_number_1 10 rfl rfl)
theorem dX0_number_34 : decode cX0_number 34 = .ok (.getfield 11, 3) := dk_180 0 11 (dk_at dksX0_number_1 11 rfl rfl)
theorem dX0_number_37 : decode cX0_number 37 = .ok (.iload_n 1, 1) := dk_27 (dk_at dksX0_number_1 14 rfl rfl)
theorem dX0_number_38 : decode cX0_number 38 = .ok (.bipush 10, 2) := dk_16 10 (dk_at dksX0_number_1 15 rfl rfl)
theorem dX0_number_40 : decode cX0_number 40 = .ok (.idiv, 1) := dk_108 (dk_at dksX0_number_1 17 rfl rfl)
theorem dX0_number_41 : decode cX0_number 41 = .ok (.aaload, 1) := dk_50 (dk_at dksX0_number_1 18 rfl rfl)
theorem dX0_number_42 : decode cX0_number 42 = .ok (.iload_n 1, 1) := dk_27 (dk_at dksX0_number_1 19 rfl rfl)
theorem dX0_number_43 : decode cX0_number 43 = .ok (.bipush 10, 2) := dk_16 10 (dk_at dksX0_number_1 20 rfl rfl)
theorem dX0_number_45 : decode cX0_number 45 = .ok (.irem, 1) := dk_112 (dk_at dksX0_number_1 22 rfl rfl)
theorem dX0_number_46 : decode cX0_number 46 = .ok (.iload_n 2, 1) := dk_28 (dk_at dksX0_number_1 23 rfl rfl)
theorem dX0_number_47 : decode cX0_number 47 = .ok (.bipush 100, 2) := dk_16 100 (dk_at dksX0_number_2 0 rfl rfl)
theorem dX0_number_49 : decode cX0_number 49 = .ok (.idiv, 1) := dk_108 (dk_at dksX0_number_2 2 rfl rfl)
theorem dX0_number_50 : decode cX0_number 50 = .ok (.iload_n 2, 1) := dk_28 (dk_at dksX0_number_2 3 rfl rfl)
theorem dX0_number_51 : decode cX0_number 51 = .ok (.bipush 100, 2) := dk_16 100 (dk_at dksX0_number_2 4 rfl rfl)
theorem dX0_number_53 : decode cX0_number 53 = .ok (.irem, 1) := dk_112 (dk_at dksX0_number_2 6 rfl rfl)
theorem dX0_number_54 : decode cX0_number 54 = .ok (.invokevirtual 238, 3) := dk_182 0 238 (dk_at dksX0_number_2 7 rfl rfl)
theorem dX0_number_57 : decode cX0_number 57 = .ok (.goto 4, 3) := dk_167 0 4 (dk_at dksX0_number_2 10 rfl rfl)
theorem dX0_number_60 : decode cX0_number 60 = .ok (.iconst (-1), 1) := dk_2 (dk_at dksX0_number_2 13 rfl rfl)
theorem dX0_number_61 : decode cX0_number 61 = .ok (.ireturn, 1) := dk_172 (dk_at dksX0_number_2 14 rfl rfl)
abbrev cX0_isTime : ByteArray := prog_1_method_6_code
def yX0_isTime : MethodName := ⟨RX0, "isTime", "(I)Z"⟩
def dkwX0_isTime_0 : List UInt8 := [26, 3, 16, 29, 184, 0, 94, 172]
abbrev dktX0_isTime_0 : List UInt8 := dkwX0_isTime_0 ++ []
theorem dksX0_isTime_0 : cX0_isTime.data.toList.drop 0 = dktX0_isTime_0 := by decide +kernel
theorem dX0_isTime_0 : decode cX0_isTime 0 = .ok (.iload_n 0, 1) := dk_26 (dk_at dksX0_isTime_0 0 rfl rfl)
theorem dX0_isTime_1 : decode cX0_isTime 1 = .ok (.iconst 0, 1) := dk_3 (dk_at dksX0_isTime_0 1 rfl rfl)
theorem dX0_isTime_2 : decode cX0_isTime 2 = .ok (.bipush 29, 2) := dk_16 29 (dk_at dksX0_isTime_0 2 rfl rfl)
theorem dX0_isTime_4 : decode cX0_isTime 4 = .ok (.invokestatic 94, 3) := dk_184 0 94 (dk_at dksX0_isTime_0 4 rfl rfl)
theorem dX0_isTime_7 : decode cX0_isTime 7 = .ok (.ireturn, 1) := dk_172 (dk_at dksX0_isTime_0 7 rfl rfl)
abbrev cX0_numberOf : ByteArray := prog_1_method_23_code
def yX0_numberOf : MethodName := ⟨RX0, "numberOf", "(LChairOld$Part;III)I"⟩
def dkwX0_numberOf_4 : List UInt8 := [184, 0, 227, 184, 0, 232, 172]
abbrev dktX0_numberOf_4 : List UInt8 := dkwX0_numberOf_4 ++ []
def dkwX0_numberOf_3 : List UInt8 := [180, 0, 151, 79, 3, 16, 100, 42, 180, 0, 25, 28, 50, 180, 0, 197, 42, 180, 0, 42, 184, 0, 224]
abbrev dktX0_numberOf_3 : List UInt8 := dkwX0_numberOf_3 ++ dktX0_numberOf_4
def dkwX0_numberOf_2 : List UInt8 := [180, 0, 42, 180, 0, 221, 16, 119, 43, 180, 0, 148, 79, 42, 180, 0, 42, 180, 0, 221, 16, 112, 43]
abbrev dktX0_numberOf_2 : List UInt8 := dkwX0_numberOf_2 ++ dktX0_numberOf_3
def dkwX0_numberOf_1 : List UInt8 := [180, 0, 42, 180, 0, 221, 16, 121, 21, 4, 79, 42, 180, 0, 42, 180, 0, 221, 16, 107, 29, 79, 42]
abbrev dktX0_numberOf_1 : List UInt8 := dkwX0_numberOf_1 ++ dktX0_numberOf_2
def dkwX0_numberOf_0 : List UInt8 := [42, 180, 0, 25, 28, 50, 180, 0, 197, 199, 0, 6, 16, 50, 172, 42, 180, 0, 42, 182, 0, 218, 42]
abbrev dktX0_numberOf_0 : List UInt8 := dkwX0_numberOf_0 ++ dktX0_numberOf_1
theorem dksX0_numberOf_0 : cX0_numberOf.data.toList.drop 0 = dktX0_numberOf_0 := by decide +kernel
theorem dksX0_numberOf_1 : cX0_numberOf.data.toList.drop 23 = dktX0_numberOf_1 := dk_seg dksX0_numberOf_0 23 rfl rfl
theorem dksX0_numberOf_2 : cX0_numberOf.data.toList.drop 46 = dktX0_numberOf_2 := dk_seg dksX0_numberOf_1 23 rfl rfl
theorem dksX0_numberOf_3 : cX0_numberOf.data.toList.drop 69 = dktX0_numberOf_3 := dk_seg dksX0_numberOf_2 23 rfl rfl
theorem dksX0_numberOf_4 : cX0_numberOf.data.toList.drop 92 = dktX0_numberOf_4 := dk_seg dksX0_numberOf_3 23 rfl rfl
theorem dX0_numberOf_0 : decode cX0_numberOf 0 = .ok (.aload_n 0, 1) := dk_42 (dk_at dksX0_numberOf_0 0 rfl rfl)
theorem dX0_numberOf_1 : decode cX0_numberOf 1 = .ok (.getfield 25, 3) := dk_180 0 25 (dk_at dksX0_numberOf_0 1 rfl rfl)
theorem dX0_numberOf_4 : decode cX0_numberOf 4 = .ok (.iload_n 2, 1) := dk_28 (dk_at dksX0_numberOf_0 4 rfl rfl)
theorem dX0_numberOf_5 : decode cX0_numberOf 5 = .ok (.aaload, 1) := dk_50 (dk_at dksX0_numberOf_0 5 rfl rfl)
theorem dX0_numberOf_6 : decode cX0_numberOf 6 = .ok (.getfield 197, 3) := dk_180 0 197 (dk_at dksX0_numberOf_0 6 rfl rfl)
theorem dX0_numberOf_9 : decode cX0_numberOf 9 = .ok (.ifnonnull 6, 3) := dk_199 0 6 (dk_at dksX0_numberOf_0 9 rfl rfl)
theorem dX0_numberOf_12 : decode cX0_numberOf 12 = .ok (.bipush 50, 2) := dk_16 50 (dk_at dksX0_numberOf_0 12 rfl rfl)
theorem dX0_numberOf_14 : decode cX0_numberOf 14 = .ok (.ireturn, 1) := dk_172 (dk_at dksX0_numberOf_0 14 rfl rfl)
theorem dX0_numberOf_15 : decode cX0_numberOf 15 = .ok (.aload_n 0, 1) := dk_42 (dk_at dksX0_numberOf_0 15 rfl rfl)
theorem dX0_numberOf_16 : decode cX0_numberOf 16 = .ok (.getfield 42, 3) := dk_180 0 42 (dk_at dksX0_numberOf_0 16 rfl rfl)
theorem dX0_numberOf_19 : decode cX0_numberOf 19 = .ok (.invokevirtual 218, 3) := dk_182 0 218 (dk_at dksX0_numberOf_0 19 rfl rfl)
theorem dX0_numberOf_22 : decode cX0_numberOf 22 = .ok (.aload_n 0, 1) := dk_42 (dk_at dksX0_numberOf_0 22 rfl rfl)
theorem dX0_numberOf_23 : decode cX0_numberOf 23 = .ok (.getfield 42, 3) := dk_180 0 42 (dk_at dksX0_numberOf_1 0 rfl rfl)
theorem dX0_numberOf_26 : decode cX0_numberOf 26 = .ok (.getfield 221, 3) := dk_180 0 221 (dk_at dksX0_numberOf_1 3 rfl rfl)
theorem dX0_numberOf_29 : decode cX0_numberOf 29 = .ok (.bipush 121, 2) := dk_16 121 (dk_at dksX0_numberOf_1 6 rfl rfl)
theorem dX0_numberOf_31 : decode cX0_numberOf 31 = .ok (.iload 4, 2) := dk_21 4 (dk_at dksX0_numberOf_1 8 rfl rfl)
theorem dX0_numberOf_33 : decode cX0_numberOf 33 = .ok (.iastore, 1) := dk_79 (dk_at dksX0_numberOf_1 10 rfl rfl)
theorem dX0_numberOf_34 : decode cX0_numberOf 34 = .ok (.aload_n 0, 1) := dk_42 (dk_at dksX0_numberOf_1 11 rfl rfl)
theorem dX0_numberOf_35 : decode cX0_numberOf 35 = .ok (.getfield 42, 3) := dk_180 0 42 (dk_at dksX0_numberOf_1 12 rfl rfl)
theorem dX0_numberOf_38 : decode cX0_numberOf 38 = .ok (.getfield 221, 3) := dk_180 0 221 (dk_at dksX0_numberOf_1 15 rfl rfl)
theorem dX0_numberOf_41 : decode cX0_numberOf 41 = .ok (.bipush 107, 2) := dk_16 107 (dk_at dksX0_numberOf_1 18 rfl rfl)
theorem dX0_numberOf_43 : decode cX0_numberOf 43 = .ok (.iload_n 3, 1) := dk_29 (dk_at dksX0_numberOf_1 20 rfl rfl)
theorem dX0_numberOf_44 : decode cX0_numberOf 44 = .ok (.iastore, 1) := dk_79 (dk_at dksX0_numberOf_1 21 rfl rfl)
theorem dX0_numberOf_45 : decode cX0_numberOf 45 = .ok (.aload_n 0, 1) := dk_42 (dk_at dksX0_numberOf_1 22 rfl rfl)
theorem dX0_numberOf_46 : decode cX0_numberOf 46 = .ok (.getfield 42, 3) := dk_180 0 42 (dk_at dksX0_numberOf_2 0 rfl rfl)
theorem dX0_numberOf_49 : decode cX0_numberOf 49 = .ok (.getfield 221, 3) := dk_180 0 221 (dk_at dksX0_numberOf_2 3 rfl rfl)
theorem dX0_numberOf_52 : decode cX0_numberOf 52 = .ok (.bipush 119, 2) := dk_16 119 (dk_at dksX0_numberOf_2 6 rfl rfl)
theorem dX0_numberOf_54 : decode cX0_numberOf 54 = .ok (.aload_n 1, 1) := dk_43 (dk_at dksX0_numberOf_2 8 rfl rfl)
theorem dX0_numberOf_55 : decode cX0_numberOf 55 = .ok (.getfield 148, 3) := dk_180 0 148 (dk_at dksX0_numberOf_2 9 rfl rfl)
theorem dX0_numberOf_58 : decode cX0_numberOf 58 = .ok (.iastore, 1) := dk_79 (dk_at dksX0_numberOf_2 12 rfl rfl)
theorem dX0_numberOf_59 : decode cX0_numberOf 59 = .ok (.aload_n 0, 1) := dk_42 (dk_at dksX0_numberOf_2 13 rfl rfl)
theorem dX0_numberOf_60 : decode cX0_numberOf 60 = .ok (.getfield 42, 3) := dk_180 0 42 (dk_at dksX0_numberOf_2 14 rfl rfl)
theorem dX0_numberOf_63 : decode cX0_numberOf 63 = .ok (.getfield 221, 3) := dk_180 0 221 (dk_at dksX0_numberOf_2 17 rfl rfl)
theorem dX0_numberOf_66 : decode cX0_numberOf 66 = .ok (.bipush 112, 2) := dk_16 112 (dk_at dksX0_numberOf_2 20 rfl rfl)
theorem dX0_numberOf_68 : decode cX0_numberOf 68 = .ok (.aload_n 1, 1) := dk_43 (dk_at dksX0_numberOf_2 22 rfl rfl)
theorem dX0_numberOf_69 : decode cX0_numberOf 69 = .ok (.getfield 151, 3) := dk_180 0 151 (dk_at dksX0_numberOf_3 0 rfl rfl)
theorem dX0_numberOf_72 : decode cX0_numberOf 72 = .ok (.iastore, 1) := dk_79 (dk_at dksX0_numberOf_3 3 rfl rfl)
theorem dX0_numberOf_73 : decode cX0_numberOf 73 = .ok (.iconst 0, 1) := dk_3 (dk_at dksX0_numberOf_3 4 rfl rfl)
theorem dX0_numberOf_74 : decode cX0_numberOf 74 = .ok (.bipush 100, 2) := dk_16 100 (dk_at dksX0_numberOf_3 5 rfl rfl)
theorem dX0_numberOf_76 : decode cX0_numberOf 76 = .ok (.aload_n 0, 1) := dk_42 (dk_at dksX0_numberOf_3 7 rfl rfl)
theorem dX0_numberOf_77 : decode cX0_numberOf 77 = .ok (.getfield 25, 3) := dk_180 0 25 (dk_at dksX0_numberOf_3 8 rfl rfl)
theorem dX0_numberOf_80 : decode cX0_numberOf 80 = .ok (.iload_n 2, 1) := dk_28 (dk_at dksX0_numberOf_3 11 rfl rfl)
theorem dX0_numberOf_81 : decode cX0_numberOf 81 = .ok (.aaload, 1) := dk_50 (dk_at dksX0_numberOf_3 12 rfl rfl)
theorem dX0_numberOf_82 : decode cX0_numberOf 82 = .ok (.getfield 197, 3) := dk_180 0 197 (dk_at dksX0_numberOf_3 13 rfl rfl)
theorem dX0_numberOf_85 : decode cX0_numberOf 85 = .ok (.aload_n 0, 1) := dk_42 (dk_at dksX0_numberOf_3 16 rfl rfl)
theorem dX0_numberOf_86 : decode cX0_numberOf 86 = .ok (.getfield 42, 3) := dk_180 0 42 (dk_at dksX0_numberOf_3 17 rfl rfl)
theorem dX0_numberOf_89 : decode cX0_numberOf 89 = .ok (.invokestatic 224, 3) := dk_184 0 224 (dk_at dksX0_numberOf_3 20 rfl rfl)
theorem dX0_numberOf_92 : decode cX0_numberOf 92 = .ok (.invokestatic 227, 3) := dk_184 0 227 (dk_at dksX0_numberOf_4 0 rfl rfl)
theorem dX0_numberOf_95 : decode cX0_numberOf 95 = .ok (.invokestatic 232, 3) := dk_184 0 232 (dk_at dksX0_numberOf_4 3 rfl rfl)
theorem dX0_numberOf_98 : decode cX0_numberOf 98 = .ok (.ireturn, 1) := dk_172 (dk_at dksX0_numberOf_4 6 rfl rfl)
abbrev cX0_gives : ByteArray := prog_1_method_22_code
def yX0_gives : MethodName := ⟨RX0, "gives", "(LChairOld$Line;LChairOld$Facts;)I"⟩
def dkwX0_gives_1 : List UInt8 := [44, 180, 0, 212, 43, 182, 0, 207, 172, 44, 180, 0, 215, 77, 167, 255, 220, 3, 172]
abbrev dktX0_gives_1 : List UInt8 := dkwX0_gives_1 ++ []
def dkwX0_gives_0 : List UInt8 := [42, 77, 44, 198, 0, 38, 44, 180, 0, 201, 198, 0, 14, 44, 180, 0, 201, 43, 182, 0, 207, 153, 0, 12]
abbrev dktX0_gives_0 : List UInt8 := dkwX0_gives_0 ++ dktX0_gives_1
theorem dksX0_gives_0 : cX0_gives.data.toList.drop 0 = dktX0_gives_0 := by decide +kernel
theorem dksX0_gives_1 : cX0_gives.data.toList.drop 24 = dktX0_gives_1 := dk_seg dksX0_gives_0 24 rfl rfl
theorem dX0_gives_0 : decode cX0_gives 0 = .ok (.aload_n 0, 1) := dk_42 (dk_at dksX0_gives_0 0 rfl rfl)
theorem dX0_gives_1 : decode cX0_gives 1 = .ok (.astore_n 2, 1) := dk_77 (dk_at dksX0_gives_0 1 rfl rfl)
theorem dX0_gives_2 : decode cX0_gives 2 = .ok (.aload_n 2, 1) := dk_44 (dk_at dksX0_gives_0 2 rfl rfl)
theorem dX0_gives_3 : decode cX0_gives 3 = .ok (.ifnull 38, 3) := dk_198 0 38 (dk_at dksX0_gives_0 3 rfl rfl)
theorem dX0_gives_6 : decode cX0_gives 6 = .ok (.aload_n 2, 1) := dk_44 (dk_at dksX0_gives_0 6 rfl rfl)
theorem dX0_gives_7 : decode cX0_gives 7 = .ok (.getfield 201, 3) := dk_180 0 201 (dk_at dksX0_gives_0 7 rfl rfl)
theorem dX0_gives_10 : decode cX0_gives 10 = .ok (.ifnull 14, 3) := dk_198 0 14 (dk_at dksX0_gives_0 10 rfl rfl)
theorem dX0_gives_13 : decode cX0_gives 13 = .ok (.aload_n 2, 1) := dk_44 (dk_at dksX0_gives_0 13 rfl rfl)
theorem dX0_gives_14 : decode cX0_gives 14 = .ok (.getfield 201, 3) := dk_180 0 201 (dk_at dksX0_gives_0 14 rfl rfl)
theorem dX0_gives_17 : decode cX0_gives 17 = .ok (.aload_n 1, 1) := dk_43 (dk_at dksX0_gives_0 17 rfl rfl)
theorem dX0_gives_18 : decode cX0_gives 18 = .ok (.invokevirtual 207, 3) := dk_182 0 207 (dk_at dksX0_gives_0 18 rfl rfl)
theorem dX0_gives_21 : decode cX0_gives 21 = .ok (.ifCond .eq 12, 3) := dk_153 0 12 (dk_at dksX0_gives_0 21 rfl rfl)
theorem dX0_gives_24 : decode cX0_gives 24 = .ok (.aload_n 2, 1) := dk_44 (dk_at dksX0_gives_1 0 rfl rfl)
theorem dX0_gives_25 : decode cX0_gives 25 = .ok (.getfield 212, 3) := dk_180 0 212 (dk_at dksX0_gives_1 1 rfl rfl)
theorem dX0_gives_28 : decode cX0_gives 28 = .ok (.aload_n 1, 1) := dk_43 (dk_at dksX0_gives_1 4 rfl rfl)
theorem dX0_gives_29 : decode cX0_gives 29 = .ok (.invokevirtual 207, 3) := dk_182 0 207 (dk_at dksX0_gives_1 5 rfl rfl)
theorem dX0_gives_32 : decode cX0_gives 32 = .ok (.ireturn, 1) := dk_172 (dk_at dksX0_gives_1 8 rfl rfl)
theorem dX0_gives_33 : decode cX0_gives 33 = .ok (.aload_n 2, 1) := dk_44 (dk_at dksX0_gives_1 9 rfl rfl)
theorem dX0_gives_34 : decode cX0_gives 34 = .ok (.getfield 215, 3) := dk_180 0 215 (dk_at dksX0_gives_1 10 rfl rfl)
theorem dX0_gives_37 : decode cX0_gives 37 = .ok (.astore_n 2, 1) := dk_77 (dk_at dksX0_gives_1 13 rfl rfl)
theorem dX0_gives_38 : decode cX0_gives 38 = .ok (.goto (-36), 3) := dk_167 255 220 (dk_at dksX0_gives_1 14 rfl rfl)
theorem dX0_gives_41 : decode cX0_gives 41 = .ok (.iconst 0, 1) := dk_3 (dk_at dksX0_gives_1 17 rfl rfl)
theorem dX0_gives_42 : decode cX0_gives 42 = .ok (.ireturn, 1) := dk_172 (dk_at dksX0_gives_1 18 rfl rfl)
abbrev cX0_likely : ByteArray := prog_1_method_31_code
def yX0_likely : MethodName := ⟨RX0, "likely", "(II)J"⟩
def dkwX0_likely_3 : List UInt8 := [47, 33, 109, 167, 0, 9, 42, 180, 0, 242, 33, 109, 173]
abbrev dktX0_likely_3 : List UInt8 := dkwX0_likely_3 ++ []
def dkwX0_likely_2 : List UInt8 := [16, 10, 112, 47, 42, 180, 0, 242, 184, 1, 11, 66, 28, 154, 0, 17, 42, 180, 0, 54, 27, 16, 10, 112]
abbrev dktX0_likely_2 : List UInt8 := dkwX0_likely_2 ++ dktX0_likely_3
def dkwX0_likely_1 : List UInt8 := [16, 10, 108, 182, 1, 7, 42, 180, 0, 242, 9, 148, 154, 0, 6, 28, 133, 173, 42, 180, 0, 54, 27]
abbrev dktX0_likely_1 : List UInt8 := dkwX0_likely_1 ++ dktX0_likely_2
def dkwX0_likely_0 : List UInt8 := [42, 27, 182, 1, 0, 153, 0, 12, 28, 3, 4, 184, 0, 94, 154, 0, 7, 20, 1, 5, 173, 42, 27]
abbrev dktX0_likely_0 : List UInt8 := dkwX0_likely_0 ++ dktX0_likely_1
theorem dksX0_likely_0 : cX0_likely.data.toList.drop 0 = dktX0_likely_0 := by decide +kernel
theorem dksX0_likely_1 : cX0_likely.data.toList.drop 23 = dktX0_likely_1 := dk_seg dksX0_likely_0 23 rfl rfl
theorem dksX0_likely_2 : cX0_likely.data.toList.drop 46 = dktX0_likely_2 := dk_seg dksX0_likely_1 23 rfl rfl
theorem dksX0_likely_3 : cX0_likely.data.toList.drop 70 = dktX0_likely_3 := dk_seg dksX0_likely_2 24 rfl rfl
theorem dX0_likely_0 : decode cX0_likely 0 = .ok (.aload_n 0, 1) := dk_42 (dk_at dksX0_likely_0 0 rfl rfl)
theorem dX0_likely_1 : decode cX0_likely 1 = .ok (.iload_n 1, 1) := dk_27 (dk_at dksX0_likely_0 1 rfl rfl)
theorem dX0_likely_2 : decode cX0_likely 2 = .ok (.invokevirtual 256, 3) := dk_182 1 0 (dk_at dksX0_likely_0 2 rfl rfl)
theorem dX0_likely_5 : decode cX0_likely 5 = .ok (.ifCond .eq 12, 3) := dk_153 0 12 (dk_at dksX0_likely_0 5 rfl rfl)
theorem dX0_likely_8 : decode cX0_likely 8 = .ok (.iload_n 2, 1) := dk_28 (dk_at dksX0_likely_0 8 rfl rfl)
theorem dX0_likely_9 : decode cX0_likely 9 = .ok (.iconst 0, 1) := dk_3 (dk_at dksX0_likely_0 9 rfl rfl)
theorem dX0_likely_10 : decode cX0_likely 10 = .ok (.iconst 1, 1) := dk_4 (dk_at dksX0_likely_0 10 rfl rfl)
theorem dX0_likely_11 : decode cX0_likely 11 = .ok (.invokestatic 94, 3) := dk_184 0 94 (dk_at dksX0_likely_0 11 rfl rfl)
theorem dX0_likely_14 : decode cX0_likely 14 = .ok (.ifCond .ne 7, 3) := dk_154 0 7 (dk_at dksX0_likely_0 14 rfl rfl)
theorem dX0_likely_17 : decode cX0_likely 17 = .ok (.ldc2_w 261, 3) := dk_20 1 5 (dk_at dksX0_likely_0 17 rfl rfl)
theorem dX0_likely_20 : decode cX0_likely 20 = .ok (.lreturn, 1) := dk_173 (dk_at dksX0_likely_0 20 rfl rfl)
theorem dX0_likely_21 : decode cX0_likely 21 = .ok (.aload_n 0, 1) := dk_42 (dk_at dksX0_likely_0 21 rfl rfl)
theorem dX0_likely_22 : decode cX0_likely 22 = .ok (.iload_n 1, 1) := dk_27 (dk_at dksX0_likely_0 22 rfl rfl)
theorem dX0_likely_23 : decode cX0_likely 23 = .ok (.bipush 10, 2) := dk_16 10 (dk_at dksX0_likely_1 0 rfl rfl)
theorem dX0_likely_25 : decode cX0_likely 25 = .ok (.idiv, 1) := dk_108 (dk_at dksX0_likely_1 2 rfl rfl)
theorem dX0_likely_26 : decode cX0_likely 26 = .ok (.invokevirtual 263, 3) := dk_182 1 7 (dk_at dksX0_likely_1 3 rfl rfl)
theorem dX0_likely_29 : decode cX0_likely 29 = .ok (.aload_n 0, 1) := dk_42 (dk_at dksX0_likely_1 6 rfl rfl)
theorem dX0_likely_30 : decode cX0_likely 30 = .ok (.getfield 242, 3) := dk_180 0 242 (dk_at dksX0_likely_1 7 rfl rfl)
theorem dX0_likely_33 : decode cX0_likely 33 = .ok (.lconst 0, 1) := dk_9 (dk_at dksX0_likely_1 10 rfl rfl)
theorem dX0_likely_34 : decode cX0_likely 34 = .ok (.lcmp, 1) := dk_148 (dk_at dksX0_likely_1 11 rfl rfl)
theorem dX0_likely_35 : decode cX0_likely 35 = .ok (.ifCond .ne 6, 3) := dk_154 0 6 (dk_at dksX0_likely_1 12 rfl rfl)
theorem dX0_likely_38 : decode cX0_likely 38 = .ok (.iload_n 2, 1) := dk_28 (dk_at dksX0_likely_1 15 rfl rfl)
theorem dX0_likely_39 : decode cX0_likely 39 = .ok (.i2l, 1) := dk_133 (dk_at dksX0_likely_1 16 rfl rfl)
theorem dX0_likely_40 : decode cX0_likely 40 = .ok (.lreturn, 1) := dk_173 (dk_at dksX0_likely_1 17 rfl rfl)
theorem dX0_likely_41 : decode cX0_likely 41 = .ok (.aload_n 0, 1) := dk_42 (dk_at dksX0_likely_1 18 rfl rfl)
theorem dX0_likely_42 : decode cX0_likely 42 = .ok (.getfield 54, 3) := dk_180 0 54 (dk_at dksX0_likely_1 19 rfl rfl)
theorem dX0_likely_45 : decode cX0_likely 45 = .ok (.iload_n 1, 1) := dk_27 (dk_at dksX0_likely_1 22 rfl rfl)
theorem dX0_likely_46 : decode cX0_likely 46 = .ok (.bipush 10, 2) := dk_16 10 (dk_at dksX0_likely_2 0 rfl rfl)
theorem dX0_likely_48 : decode cX0_likely 48 = .ok (.irem, 1) := dk_112 (dk_at dksX0_likely_2 2 rfl rfl)
theorem dX0_likely_49 : decode cX0_likely 49 = .ok (.laload, 1) := dk_47 (dk_at dksX0_likely_2 3 rfl rfl)
theorem dX0_likely_50 : decode cX0_likely 50 = .ok (.aload_n 0, 1) := dk_42 (dk_at dksX0_likely_2 4 rfl rfl)
theorem dX0_likely_51 : decode cX0_likely 51 = .ok (.getfield 242, 3) := dk_180 0 242 (dk_at dksX0_likely_2 5 rfl rfl)
theorem dX0_likely_54 : decode cX0_likely 54 = .ok (.invokestatic 267, 3) := dk_184 1 11 (dk_at dksX0_likely_2 8 rfl rfl)
theorem dX0_likely_57 : decode cX0_likely 57 = .ok (.lstore_n 3, 1) := dk_66 (dk_at dksX0_likely_2 11 rfl rfl)
theorem dX0_likely_58 : decode cX0_likely 58 = .ok (.iload_n 2, 1) := dk_28 (dk_at dksX0_likely_2 12 rfl rfl)
theorem dX0_likely_59 : decode cX0_likely 59 = .ok (.ifCond .ne 17, 3) := dk_154 0 17 (dk_at dksX0_likely_2 13 rfl rfl)
theorem dX0_likely_62 : decode cX0_likely 62 = .ok (.aload_n 0, 1) := dk_42 (dk_at dksX0_likely_2 16 rfl rfl)
theorem dX0_likely_63 : decode cX0_likely 63 = .ok (.getfield 54, 3) := dk_180 0 54 (dk_at dksX0_likely_2 17 rfl rfl)
theorem dX0_likely_66 : decode cX0_likely 66 = .ok (.iload_n 1, 1) := dk_27 (dk_at dksX0_likely_2 20 rfl rfl)
theorem dX0_likely_67 : decode cX0_likely 67 = .ok (.bipush 10, 2) := dk_16 10 (dk_at dksX0_likely_2 21 rfl rfl)
theorem dX0_likely_69 : decode cX0_likely 69 = .ok (.irem, 1) := dk_112 (dk_at dksX0_likely_2 23 rfl rfl)
theorem dX0_likely_70 : decode cX0_likely 70 = .ok (.laload, 1) := dk_47 (dk_at dksX0_likely_3 0 rfl rfl)
theorem dX0_likely_71 : decode cX0_likely 71 = .ok (.lload_n 3, 1) := dk_33 (dk_at dksX0_likely_3 1 rfl rfl)
theorem dX0_likely_72 : decode cX0_likely 72 = .ok (.ldiv, 1) := dk_109 (dk_at dksX0_likely_3 2 rfl rfl)
theorem dX0_likely_73 : decode cX0_likely 73 = .ok (.goto 9, 3) := dk_167 0 9 (dk_at dksX0_likely_3 3 rfl rfl)
theorem dX0_likely_76 : decode cX0_likely 76 = .ok (.aload_n 0, 1) := dk_42 (dk_at dksX0_likely_3 6 rfl rfl)
theorem dX0_likely_77 : decode cX0_likely 77 = .ok (.getfield 242, 3) := dk_180 0 242 (dk_at dksX0_likely_3 7 rfl rfl)
theorem dX0_likely_80 : decode cX0_likely 80 = .ok (.lload_n 3, 1) := dk_33 (dk_at dksX0_likely_3 10 rfl rfl)
theorem dX0_likely_81 : decode cX0_likely 81 = .ok (.ldiv, 1) := dk_109 (dk_at dksX0_likely_3 11 rfl rfl)
theorem dX0_likely_82 : decode cX0_likely 82 = .ok (.lreturn, 1) := dk_173 (dk_at dksX0_likely_3 12 rfl rfl)
abbrev cX0_isPartKind : ByteArray := prog_1_method_9_code
def yX0_isPartKind : MethodName := ⟨RX0, "isPartKind", "(I)Z"⟩
def dkwX0_isPartKind_1 : List UInt8 := [153, 0, 7, 4, 167, 0, 4, 3, 172]
abbrev dktX0_isPartKind_1 : List UInt8 := dkwX0_isPartKind_1 ++ []
def dkwX0_isPartKind_0 : List UInt8 := [27, 155, 0, 28, 42, 27, 16, 10, 108, 182, 0, 98, 153, 0, 17, 27, 16, 10, 112, 184, 0, 105]
abbrev dktX0_isPartKind_0 : List UInt8 := dkwX0_isPartKind_0 ++ dktX0_isPartKind_1
theorem dksX0_isPartKind_0 : cX0_isPartKind.data.toList.drop 0 = dktX0_isPartKind_0 := by decide +kernel
theorem dksX0_isPartKind_1 : cX0_isPartKind.data.toList.drop 22 = dktX0_isPartKind_1 := dk_seg dksX0_isPartKind_0 22 rfl rfl
theorem dX0_isPartKind_0 : decode cX0_isPartKind 0 = .ok (.iload_n 1, 1) := dk_27 (dk_at dksX0_isPartKind_0 0 rfl rfl)
theorem dX0_isPartKind_1 : decode cX0_isPartKind 1 = .ok (.ifCond .lt 28, 3) := dk_155 0 28 (dk_at dksX0_isPartKind_0 1 rfl rfl)
theorem dX0_isPartKind_4 : decode cX0_isPartKind 4 = .ok (.aload_n 0, 1) := dk_42 (dk_at dksX0_isPartKind_0 4 rfl rfl)
theorem dX0_isPartKind_5 : decode cX0_isPartKind 5 = .ok (.iload_n 1, 1) := dk_27 (dk_at dksX0_isPartKind_0 5 rfl rfl)
theorem dX0_isPartKind_6 : decode cX0_isPartKind 6 = .ok (.bipush 10, 2) := dk_16 10 (dk_at dksX0_isPartKind_0 6 rfl rfl)
theorem dX0_isPartKind_8 : decode cX0_isPartKind 8 = .ok (.idiv, 1) := dk_108 (dk_at dksX0_isPartKind_0 8 rfl rfl)
theorem dX0_isPartKind_9 : decode cX0_isPartKind 9 = .ok (.invokevirtual 98, 3) := dk_182 0 98 (dk_at dksX0_isPartKind_0 9 rfl rfl)
theorem dX0_isPartKind_12 : decode cX0_isPartKind 12 = .ok (.ifCond .eq 17, 3) := dk_153 0 17 (dk_at dksX0_isPartKind_0 12 rfl rfl)
theorem dX0_isPartKind_15 : decode cX0_isPartKind 15 = .ok (.iload_n 1, 1) := dk_27 (dk_at dksX0_isPartKind_0 15 rfl rfl)
theorem dX0_isPartKind_16 : decode cX0_isPartKind 16 = .ok (.bipush 10, 2) := dk_16 10 (dk_at dksX0_isPartKind_0 16 rfl rfl)
theorem dX0_isPartKind_18 : decode cX0_isPartKind 18 = .ok (.irem, 1) := dk_112 (dk_at dksX0_isPartKind_0 18 rfl rfl)
theorem dX0_isPartKind_19 : decode cX0_isPartKind 19 = .ok (.invokestatic 105, 3) := dk_184 0 105 (dk_at dksX0_isPartKind_0 19 rfl rfl)
theorem dX0_isPartKind_22 : decode cX0_isPartKind 22 = .ok (.ifCond .eq 7, 3) := dk_153 0 7 (dk_at dksX0_isPartKind_1 0 rfl rfl)
theorem dX0_isPartKind_25 : decode cX0_isPartKind 25 = .ok (.iconst 1, 1) := dk_4 (dk_at dksX0_isPartKind_1 3 rfl rfl)
theorem dX0_isPartKind_26 : decode cX0_isPartKind 26 = .ok (.goto 4, 3) := dk_167 0 4 (dk_at dksX0_isPartKind_1 4 rfl rfl)
theorem dX0_isPartKind_29 : decode cX0_isPartKind 29 = .ok (.iconst 0, 1) := dk_3 (dk_at dksX0_isPartKind_1 7 rfl rfl)
theorem dX0_isPartKind_30 : decode cX0_isPartKind 30 = .ok (.ireturn, 1) := dk_172 (dk_at dksX0_isPartKind_1 8 rfl rfl)
abbrev cX0_findWeights : ByteArray := prog_1_method_28_code
def yX0_findWeights : MethodName := ⟨RX0, "findWeights", "(I)V"⟩
def dkwX0_findWeights_1 : List UInt8 := [180, 0, 11, 27, 50, 180, 0, 133, 28, 51, 84, 132, 2, 1, 167, 255, 230, 42, 182, 0, 253, 177]
abbrev dktX0_findWeights_1 : List UInt8 := dkwX0_findWeights_1 ++ []
def dkwX0_findWeights_0 : List UInt8 := [42, 42, 180, 0, 11, 27, 50, 182, 0, 249, 3, 61, 28, 16, 6, 162, 0, 26, 42, 180, 0, 57, 28, 42]
abbrev dktX0_findWeights_0 : List UInt8 := dkwX0_findWeights_0 ++ dktX0_findWeights_1
theorem dksX0_findWeights_0 : cX0_findWeights.data.toList.drop 0 = dktX0_findWeights_0 := by decide +kernel
theorem dksX0_findWeights_1 : cX0_findWeights.data.toList.drop 24 = dktX0_findWeights_1 := dk_seg dksX0_findWeights_0 24 rfl rfl
theorem dX0_findWeights_0 : decode cX0_findWeights 0 = .ok (.aload_n 0, 1) := dk_42 (dk_at dksX0_findWeights_0 0 rfl rfl)
theorem dX0_findWeights_1 : decode cX0_findWeights 1 = .ok (.aload_n 0, 1) := dk_42 (dk_at dksX0_findWeights_0 1 rfl rfl)
theorem dX0_findWeights_2 : decode cX0_findWeights 2 = .ok (.getfield 11, 3) := dk_180 0 11 (dk_at dksX0_findWeights_0 2 rfl rfl)
theorem dX0_findWeights_5 : decode cX0_findWeights 5 = .ok (.iload_n 1, 1) := dk_27 (dk_at dksX0_findWeights_0 5 rfl rfl)
theorem dX0_findWeights_6 : decode cX0_findWeights 6 = .ok (.aaload, 1) := dk_50 (dk_at dksX0_findWeights_0 6 rfl rfl)
theorem dX0_findWeights_7 : decode cX0_findWeights 7 = .ok (.invokevirtual 249, 3) := dk_182 0 249 (dk_at dksX0_findWeights_0 7 rfl rfl)
theorem dX0_findWeights_10 : decode cX0_findWeights 10 = .ok (.iconst 0, 1) := dk_3 (dk_at dksX0_findWeights_0 10 rfl rfl)
theorem dX0_findWeights_11 : decode cX0_findWeights 11 = .ok (.istore_n 2, 1) := dk_61 (dk_at dksX0_findWeights_0 11 rfl rfl)
theorem dX0_findWeights_12 : decode cX0_findWeights 12 = .ok (.iload_n 2, 1) := dk_28 (dk_at dksX0_findWeights_0 12 rfl rfl)
theorem dX0_findWeights_13 : decode cX0_findWeights 13 = .ok (.bipush 6, 2) := dk_16 6 (dk_at dksX0_findWeights_0 13 rfl rfl)
theorem dX0_findWeights_15 : decode cX0_findWeights 15 = .ok (.if_icmp .ge 26, 3) := dk_162 0 26 (dk_at dksX0_findWeights_0 15 rfl rfl)
theorem dX0_findWeights_18 : decode cX0_findWeights 18 = .ok (.aload_n 0, 1) := dk_42 (dk_at dksX0_findWeights_0 18 rfl rfl)
theorem dX0_findWeights_19 : decode cX0_findWeights 19 = .ok (.getfield 57, 3) := dk_180 0 57 (dk_at dksX0_findWeights_0 19 rfl rfl)
theorem dX0_findWeights_22 : decode cX0_findWeights 22 = .ok (.iload_n 2, 1) := dk_28 (dk_at dksX0_findWeights_0 22 rfl rfl)
theorem dX0_findWeights_23 : decode cX0_findWeights 23 = .ok (.aload_n 0, 1) := dk_42 (dk_at dksX0_findWeights_0 23 rfl rfl)
theorem dX0_findWeights_24 : decode cX0_findWeights 24 = .ok (.getfield 11, 3) := dk_180 0 11 (dk_at dksX0_findWeights_1 0 rfl rfl)
theorem dX0_findWeights_27 : decode cX0_findWeights 27 = .ok (.iload_n 1, 1) := dk_27 (dk_at dksX0_findWeights_1 3 rfl rfl)
theorem dX0_findWeights_28 : decode cX0_findWeights 28 = .ok (.aaload, 1) := dk_50 (dk_at dksX0_findWeights_1 4 rfl rfl)
theorem dX0_findWeights_29 : decode cX0_findWeights 29 = .ok (.getfield 133, 3) := dk_180 0 133 (dk_at dksX0_findWeights_1 5 rfl rfl)
theorem dX0_findWeights_32 : decode cX0_findWeights 32 = .ok (.iload_n 2, 1) := dk_28 (dk_at dksX0_findWeights_1 8 rfl rfl)
theorem dX0_findWeights_33 : decode cX0_findWeights 33 = .ok (.baload, 1) := dk_51 (dk_at dksX0_findWeights_1 9 rfl rfl)
theorem dX0_findWeights_34 : decode cX0_findWeights 34 = .ok (.bastore, 1) := dk_84 (dk_at dksX0_findWeights_1 10 rfl rfl)
theorem dX0_findWeights_35 : decode cX0_findWeights 35 = .ok (.iinc 2 1, 3) := dk_132 2 1 (dk_at dksX0_findWeights_1 11 rfl rfl)
theorem dX0_findWeights_38 : decode cX0_findWeights 38 = .ok (.goto (-26), 3) := dk_167 255 230 (dk_at dksX0_findWeights_1 14 rfl rfl)
theorem dX0_findWeights_41 : decode cX0_findWeights 41 = .ok (.aload_n 0, 1) := dk_42 (dk_at dksX0_findWeights_1 17 rfl rfl)
theorem dX0_findWeights_42 : decode cX0_findWeights 42 = .ok (.invokevirtual 253, 3) := dk_182 0 253 (dk_at dksX0_findWeights_1 18 rfl rfl)
theorem dX0_findWeights_45 : decode cX0_findWeights 45 = .ok (.return_, 1) := dk_177 (dk_at dksX0_findWeights_1 21 rfl rfl)
abbrev cX0_findNumbers : ByteArray := prog_1_method_25_code
def yX0_findNumbers : MethodName := ⟨RX0, "findNumbers", "(LChairOld$Part;)V"⟩
def dkwX0_findNumbers_3 : List UInt8 := [177]
abbrev dktX0_findNumbers_3 : List UInt8 := dkwX0_findNumbers_3 ++ []
def dkwX0_findNumbers_2 : List UInt8 := [21, 4, 182, 0, 238, 79, 132, 4, 1, 167, 255, 219, 132, 3, 1, 167, 255, 204, 132, 2, 1, 167, 255, 190]
abbrev dktX0_findNumbers_2 : List UInt8 := dkwX0_findNumbers_2 ++ dktX0_findNumbers_3
def dkwX0_findNumbers_1 : List UInt8 := [162, 0, 36, 42, 180, 0, 46, 17, 0, 180, 28, 104, 16, 30, 29, 104, 96, 21, 4, 96, 42, 43, 28, 29]
abbrev dktX0_findNumbers_1 : List UInt8 := dkwX0_findNumbers_1 ++ dktX0_findNumbers_2
def dkwX0_findNumbers_0 : List UInt8 := [3, 61, 28, 16, 6, 162, 0, 66, 3, 62, 29, 16, 6, 162, 0, 52, 3, 54, 4, 21, 4, 16, 30]
abbrev dktX0_findNumbers_0 : List UInt8 := dkwX0_findNumbers_0 ++ dktX0_findNumbers_1
theorem dksX0_findNumbers_0 : cX0_findNumbers.data.toList.drop 0 = dktX0_findNumbers_0 := by decide +kernel
theorem dksX0_findNumbers_1 : cX0_findNumbers.data.toList.drop 23 = dktX0_findNumbers_1 := dk_seg dksX0_findNumbers_0 23 rfl rfl
theorem dksX0_findNumbers_2 : cX0_findNumbers.data.toList.drop 47 = dktX0_findNumbers_2 := dk_seg dksX0_findNumbers_1 24 rfl rfl
theorem dksX0_findNumbers_3 : cX0_findNumbers.data.toList.drop 71 = dktX0_findNumbers_3 := dk_seg dksX0_findNumbers_2 24 rfl rfl
theorem dX0_findNumbers_0 : decode cX0_findNumbers 0 = .ok (.iconst 0, 1) := dk_3 (dk_at dksX0_findNumbers_0 0 rfl rfl)
theorem dX0_findNumbers_1 : decode cX0_findNumbers 1 = .ok (.istore_n 2, 1) := dk_61 (dk_at dksX0_findNumbers_0 1 rfl rfl)
theorem dX0_findNumbers_2 : decode cX0_findNumbers 2 = .ok (.iload_n 2, 1) := dk_28 (dk_at dksX0_findNumbers_0 2 rfl rfl)
theorem dX0_findNumbers_3 : decode cX0_findNumbers 3 = .ok (.bipush 6, 2) := dk_16 6 (dk_at dksX0_findNumbers_0 3 rfl rfl)
theorem dX0_findNumbers_5 : decode cX0_findNumbers 5 = .ok (.if_icmp .ge 66, 3) := dk_162 0 66 (dk_at dksX0_findNumbers_0 5 rfl rfl)
theorem dX0_findNumbers_8 : decode cX0_findNumbers 8 = .ok (.iconst 0, 1) := dk_3 (dk_at dksX0_findNumbers_0 8 rfl rfl)
theorem dX0_findNumbers_9 : decode cX0_findNumbers 9 = .ok (.istore_n 3, 1) := dk_62 (dk_at dksX0_findNumbers_0 9 rfl rfl)
theorem dX0_findNumbers_10 : decode cX0_findNumbers 10 = .ok (.iload_n 3, 1) := dk_29 (dk_at dksX0_findNumbers_0 10 rfl rfl)
theorem dX0_findNumbers_11 : decode cX0_findNumbers 11 = .ok (.bipush 6, 2) := dk_16 6 (dk_at dksX0_findNumbers_0 11 rfl rfl)
theorem dX0_findNumbers_13 : decode cX0_findNumbers 13 = .ok (.if_icmp .ge 52, 3) := dk_162 0 52 (dk_at dksX0_findNumbers_0 13 rfl rfl)
theorem dX0_findNumbers_16 : decode cX0_findNumbers 16 = .ok (.iconst 0, 1) := dk_3 (dk_at dksX0_findNumbers_0 16 rfl rfl)
theorem dX0_findNumbers_17 : decode cX0_findNumbers 17 = .ok (.istore 4, 2) := dk_54 4 (dk_at dksX0_findNumbers_0 17 rfl rfl)
theorem dX0_findNumbers_19 : decode cX0_findNumbers 19 = .ok (.iload 4, 2) := dk_21 4 (dk_at dksX0_findNumbers_0 19 rfl rfl)
theorem dX0_findNumbers_21 : decode cX0_findNumbers 21 = .ok (.bipush 30, 2) := dk_16 30 (dk_at dksX0_findNumbers_0 21 rfl rfl)
theorem dX0_findNumbers_23 : decode cX0_findNumbers 23 = .ok (.if_icmp .ge 36, 3) := dk_162 0 36 (dk_at dksX0_findNumbers_1 0 rfl rfl)
theorem dX0_findNumbers_26 : decode cX0_findNumbers 26 = .ok (.aload_n 0, 1) := dk_42 (dk_at dksX0_findNumbers_1 3 rfl rfl)
theorem dX0_findNumbers_27 : decode cX0_findNumbers 27 = .ok (.getfield 46, 3) := dk_180 0 46 (dk_at dksX0_findNumbers_1 4 rfl rfl)
theorem dX0_findNumbers_30 : decode cX0_findNumbers 30 = .ok (.sipush 180, 3) := dk_17 0 180 (dk_at dksX0_findNumbers_1 7 rfl rfl)
theorem dX0_findNumbers_33 : decode cX0_findNumbers 33 = .ok (.iload_n 2, 1) := dk_28 (dk_at dksX0_findNumbers_1 10 rfl rfl)
theorem dX0_findNumbers_34 : decode cX0_findNumbers 34 = .ok (.imul, 1) := dk_104 (dk_at dksX0_findNumbers_1 11 rfl rfl)
theorem dX0_findNumbers_35 : decode cX0_findNumbers 35 = .ok (.bipush 30, 2) := dk_16 30 (dk_at dksX0_findNumbers_1 12 rfl rfl)
theorem dX0_findNumbers_37 : decode cX0_findNumbers 37 = .ok (.iload_n 3, 1) := dk_29 (dk_at dksX0_findNumbers_1 14 rfl rfl)
theorem dX0_findNumbers_38 : decode cX0_findNumbers 38 = .ok (.imul, 1) := dk_104 (dk_at dksX0_findNumbers_1 15 rfl rfl)
theorem dX0_findNumbers_39 : decode cX0_findNumbers 39 = .ok (.iadd, 1) := dk_96 (dk_at dksX0_findNumbers_1 16 rfl rfl)
theorem dX0_findNumbers_40 : decode cX0_findNumbers 40 = .ok (.iload 4, 2) := dk_21 4 (dk_at dksX0_findNumbers_1 17 rfl rfl)
theorem dX0_findNumbers_42 : decode cX0_findNumbers 42 = .ok (.iadd, 1) := dk_96 (dk_at dksX0_findNumbers_1 19 rfl rfl)
theorem dX0_findNumbers_43 : decode cX0_findNumbers 43 = .ok (.aload_n 0, 1) := dk_42 (dk_at dksX0_findNumbers_1 20 rfl rfl)
theorem dX0_findNumbers_44 : decode cX0_findNumbers 44 = .ok (.aload_n 1, 1) := dk_43 (dk_at dksX0_findNumbers_1 21 rfl rfl)
theorem dX0_findNumbers_45 : decode cX0_findNumbers 45 = .ok (.iload_n 2, 1) := dk_28 (dk_at dksX0_findNumbers_1 22 rfl rfl)
theorem dX0_findNumbers_46 : decode cX0_findNumbers 46 = .ok (.iload_n 3, 1) := dk_29 (dk_at dksX0_findNumbers_1 23 rfl rfl)
theorem dX0_findNumbers_47 : decode cX0_findNumbers 47 = .ok (.iload 4, 2) := dk_21 4 (dk_at dksX0_findNumbers_2 0 rfl rfl)
theorem dX0_findNumbers_49 : decode cX0_findNumbers 49 = .ok (.invokevirtual 238, 3) := dk_182 0 238 (dk_at dksX0_findNumbers_2 2 rfl rfl)
theorem dX0_findNumbers_52 : decode cX0_findNumbers 52 = .ok (.iastore, 1) := dk_79 (dk_at dksX0_findNumbers_2 5 rfl rfl)
theorem dX0_findNumbers_53 : decode cX0_findNumbers 53 = .ok (.iinc 4 1, 3) := dk_132 4 1 (dk_at dksX0_findNumbers_2 6 rfl rfl)
theorem dX0_findNumbers_56 : decode cX0_findNumbers 56 = .ok (.goto (-37), 3) := dk_167 255 219 (dk_at dksX0_findNumbers_2 9 rfl rfl)
theorem dX0_findNumbers_59 : decode cX0_findNumbers 59 = .ok (.iinc 3 1, 3) := dk_132 3 1 (dk_at dksX0_findNumbers_2 12 rfl rfl)
theorem dX0_findNumbers_62 : decode cX0_findNumbers 62 = .ok (.goto (-52), 3) := dk_167 255 204 (dk_at dksX0_findNumbers_2 15 rfl rfl)
theorem dX0_findNumbers_65 : decode cX0_findNumbers 65 = .ok (.iinc 2 1, 3) := dk_132 2 1 (dk_at dksX0_findNumbers_2 18 rfl rfl)
theorem dX0_findNumbers_68 : decode cX0_findNumbers 68 = .ok (.goto (-66), 3) := dk_167 255 190 (dk_at dksX0_findNumbers_2 21 rfl rfl)
theorem dX0_findNumbers_71 : decode cX0_findNumbers 71 = .ok (.return_, 1) := dk_177 (dk_at dksX0_findNumbers_3 0 rfl rfl)
abbrev cX0_weigh : ByteArray := prog_1_method_27_code
def yX0_weigh : MethodName := ⟨RX0, "weigh", "()V"⟩
def dkwX0_weigh_6 : List UInt8 := [180, 0, 54, 27, 47, 97, 181, 0, 242, 132, 1, 1, 167, 255, 109, 177]
abbrev dktX0_weigh_6 : List UInt8 := dkwX0_weigh_6 ++ []
def dkwX0_weigh_5 : List UInt8 := [80, 42, 180, 0, 54, 27, 92, 47, 22, 4, 97, 80, 132, 2, 1, 167, 255, 145, 42, 89, 180, 0, 242, 42]
abbrev dktX0_weigh_5 : List UInt8 := dkwX0_weigh_5 ++ dktX0_weigh_6
def dkwX0_weigh_4 : List UInt8 := [21, 6, 29, 182, 0, 246, 100, 133, 105, 55, 4, 132, 6, 1, 167, 255, 198, 42, 180, 0, 50, 29, 22, 4]
abbrev dktX0_weigh_4 : List UInt8 := dkwX0_weigh_4 ++ dktX0_weigh_5
def dkwX0_weigh_3 : List UInt8 := [180, 0, 57, 21, 6, 51, 4, 160, 0, 14, 42, 21, 6, 29, 182, 0, 246, 133, 167, 0, 14, 16, 100, 42]
abbrev dktX0_weigh_3 : List UInt8 := dkwX0_weigh_3 ++ dktX0_weigh_4
def dkwX0_weigh_2 : List UInt8 := [3, 54, 6, 21, 6, 16, 6, 162, 0, 57, 42, 180, 0, 57, 21, 6, 51, 153, 0, 41, 22, 4, 42]
abbrev dktX0_weigh_2 : List UInt8 := dkwX0_weigh_2 ++ dktX0_weigh_3
def dkwX0_weigh_1 : List UInt8 := [16, 30, 162, 0, 111, 16, 30, 27, 104, 28, 96, 62, 42, 180, 0, 18, 27, 50, 180, 0, 136, 133, 55, 4]
abbrev dktX0_weigh_1 : List UInt8 := dkwX0_weigh_1 ++ dktX0_weigh_2
def dkwX0_weigh_0 : List UInt8 := [42, 9, 181, 0, 242, 3, 60, 27, 16, 6, 162, 0, 147, 42, 180, 0, 54, 27, 9, 80, 3, 61, 28]
abbrev dktX0_weigh_0 : List UInt8 := dkwX0_weigh_0 ++ dktX0_weigh_1
theorem dksX0_weigh_0 : cX0_weigh.data.toList.drop 0 = dktX0_weigh_0 := by decide +kernel
theorem dksX0_weigh_1 : cX0_weigh.data.toList.drop 23 = dktX0_weigh_1 := dk_seg dksX0_weigh_0 23 rfl rfl
theorem dksX0_weigh_2 : cX0_weigh.data.toList.drop 47 = dktX0_weigh_2 := dk_seg dksX0_weigh_1 24 rfl rfl
theorem dksX0_weigh_3 : cX0_weigh.data.toList.drop 70 = dktX0_weigh_3 := dk_seg dksX0_weigh_2 23 rfl rfl
theorem dksX0_weigh_4 : cX0_weigh.data.toList.drop 94 = dktX0_weigh_4 := dk_seg dksX0_weigh_3 24 rfl rfl
theorem dksX0_weigh_5 : cX0_weigh.data.toList.drop 118 = dktX0_weigh_5 := dk_seg dksX0_weigh_4 24 rfl rfl
theorem dksX0_weigh_6 : cX0_weigh.data.toList.drop 142 = dktX0_weigh_6 := dk_seg dksX0_weigh_5 24 rfl rfl
theorem dX0_weigh_0 : decode cX0_weigh 0 = .ok (.aload_n 0, 1) := dk_42 (dk_at dksX0_weigh_0 0 rfl rfl)
theorem dX0_weigh_1 : decode cX0_weigh 1 = .ok (.lconst 0, 1) := dk_9 (dk_at dksX0_weigh_0 1 rfl rfl)
theorem dX0_weigh_2 : decode cX0_weigh 2 = .ok (.putfield 242, 3) := dk_181 0 242 (dk_at dksX0_weigh_0 2 rfl rfl)
theorem dX0_weigh_5 : decode cX0_weigh 5 = .ok (.iconst 0, 1) := dk_3 (dk_at dksX0_weigh_0 5 rfl rfl)
theorem dX0_weigh_6 : decode cX0_weigh 6 = .ok (.istore_n 1, 1) := dk_60 (dk_at dksX0_weigh_0 6 rfl rfl)
theorem dX0_weigh_7 : decode cX0_weigh 7 = .ok (.iload_n 1, 1) := dk_27 (dk_at dksX0_weigh_0 7 rfl rfl)
theorem dX0_weigh_8 : decode cX0_weigh 8 = .ok (.bipush 6, 2) := dk_16 6 (dk_at dksX0_weigh_0 8 rfl rfl)
theorem dX0_weigh_10 : decode cX0_weigh 10 = .ok (.if_icmp .ge 147, 3) := dk_162 0 147 (dk_at dksX0_weigh_0 10 rfl rfl)
theorem dX0_weigh_13 : decode cX0_weigh 13 = .ok (.aload_n 0, 1) := dk_42 (dk_at dksX0_weigh_0 13 rfl rfl)
theorem dX0_weigh_14 : decode cX0_weigh 14 = .ok (.getfield 54, 3) := dk_180 0 54 (dk_at dksX0_weigh_0 14 rfl rfl)
theorem dX0_weigh_17 : decode cX0_weigh 17 = .ok (.iload_n 1, 1) := dk_27 (dk_at dksX0_weigh_0 17 rfl rfl)
theorem dX0_weigh_18 : decode cX0_weigh 18 = .ok (.lconst 0, 1) := dk_9 (dk_at dksX0_weigh_0 18 rfl rfl)
theorem dX0_weigh_19 : decode cX0_weigh 19 = .ok (.lastore, 1) := dk_80 (dk_at dksX0_weigh_0 19 rfl rfl)
theorem dX0_weigh_20 : decode cX0_weigh 20 = .ok (.iconst 0, 1) := dk_3 (dk_at dksX0_weigh_0 20 rfl rfl)
theorem dX0_weigh_21 : decode cX0_weigh 21 = .ok (.istore_n 2, 1) := dk_61 (dk_at dksX0_weigh_0 21 rfl rfl)
theorem dX0_weigh_22 : decode cX0_weigh 22 = .ok (.iload_n 2, 1) := dk_28 (dk_at dksX0_weigh_0 22 rfl rfl)
theorem dX0_weigh_23 : decode cX0_weigh 23 = .ok (.bipush 30, 2) := dk_16 30 (dk_at dksX0_weigh_1 0 rfl rfl)
theorem dX0_weigh_25 : decode cX0_weigh 25 = .ok (.if_icmp .ge 111, 3) := dk_162 0 111 (dk_at dksX0_weigh_1 2 rfl rfl)
theorem dX0_weigh_28 : decode cX0_weigh 28 = .ok (.bipush 30, 2) := dk_16 30 (dk_at dksX0_weigh_1 5 rfl rfl)
theorem dX0_weigh_30 : decode cX0_weigh 30 = .ok (.iload_n 1, 1) := dk_27 (dk_at dksX0_weigh_1 7 rfl rfl)
theorem dX0_weigh_31 : decode cX0_weigh 31 = .ok (.imul, 1) := dk_104 (dk_at dksX0_weigh_1 8 rfl rfl)
theorem dX0_weigh_32 : decode cX0_weigh 32 = .ok (.iload_n 2, 1) := dk_28 (dk_at dksX0_weigh_1 9 rfl rfl)
theorem dX0_weigh_33 : decode cX0_weigh 33 = .ok (.iadd, 1) := dk_96 (dk_at dksX0_weigh_1 10 rfl rfl)
theorem dX0_weigh_34 : decode cX0_weigh 34 = .ok (.istore_n 3, 1) := dk_62 (dk_at dksX0_weigh_1 11 rfl rfl)
theorem dX0_weigh_35 : decode cX0_weigh 35 = .ok (.aload_n 0, 1) := dk_42 (dk_at dksX0_weigh_1 12 rfl rfl)
theorem dX0_weigh_36 : decode cX0_weigh 36 = .ok (.getfield 18, 3) := dk_180 0 18 (dk_at dksX0_weigh_1 13 rfl rfl)
theorem dX0_weigh_39 : decode cX0_weigh 39 = .ok (.iload_n 1, 1) := dk_27 (dk_at dksX0_weigh_1 16 rfl rfl)
theorem dX0_weigh_40 : decode cX0_weigh 40 = .ok (.aaload, 1) := dk_50 (dk_at dksX0_weigh_1 17 rfl rfl)
theorem dX0_weigh_41 : decode cX0_weigh 41 = .ok (.getfield 136, 3) := dk_180 0 136 (dk_at dksX0_weigh_1 18 rfl rfl)
theorem dX0_weigh_44 : decode cX0_weigh 44 = .ok (.i2l, 1) := dk_133 (dk_at dksX0_weigh_1 21 rfl rfl)
theorem dX0_weigh_45 : decode cX0_weigh 45 = .ok (.lstore 4, 2) := dk_55 4 (dk_at dksX0_weigh_1 22 rfl rfl)
theorem dX0_weigh_47 : decode cX0_weigh 47 = .ok (.iconst 0, 1) := dk_3 (dk_at dksX0_weigh_2 0 rfl rfl)
theorem dX0_weigh_48 : decode cX0_weigh 48 = .ok (.istore 6, 2) := dk_54 6 (dk_at dksX0_weigh_2 1 rfl rfl)
theorem dX0_weigh_50 : decode cX0_weigh 50 = .ok (.iload 6, 2) := dk_21 6 (dk_at dksX0_weigh_2 3 rfl rfl)
theorem dX0_weigh_52 : decode cX0_weigh 52 = .ok (.bipush 6, 2) := dk_16 6 (dk_at dksX0_weigh_2 5 rfl rfl)
theorem dX0_weigh_54 : decode cX0_weigh 54 = .ok (.if_icmp .ge 57, 3) := dk_162 0 57 (dk_at dksX0_weigh_2 7 rfl rfl)
theorem dX0_weigh_57 : decode cX0_weigh 57 = .ok (.aload_n 0, 1) := dk_42 (dk_at dksX0_weigh_2 10 rfl rfl)
theorem dX0_weigh_58 : decode cX0_weigh 58 = .ok (.getfield 57, 3) := dk_180 0 57 (dk_at dksX0_weigh_2 11 rfl rfl)
theorem dX0_weigh_61 : decode cX0_weigh 61 = .ok (.iload 6, 2) := dk_21 6 (dk_at dksX0_weigh_2 14 rfl rfl)
theorem dX0_weigh_63 : decode cX0_weigh 63 = .ok (.baload, 1) := dk_51 (dk_at dksX0_weigh_2 16 rfl rfl)
theorem dX0_weigh_64 : decode cX0_weigh 64 = .ok (.ifCond .eq 41, 3) := dk_153 0 41 (dk_at dksX0_weigh_2 17 rfl rfl)
theorem dX0_weigh_67 : decode cX0_weigh 67 = .ok (.lload 4, 2) := dk_22 4 (dk_at dksX0_weigh_2 20 rfl rfl)
theorem dX0_weigh_69 : decode cX0_weigh 69 = .ok (.aload_n 0, 1) := dk_42 (dk_at dksX0_weigh_2 22 rfl rfl)
theorem dX0_weigh_70 : decode cX0_weigh 70 = .ok (.getfield 57, 3) := dk_180 0 57 (dk_at dksX0_weigh_3 0 rfl rfl)
theorem dX0_weigh_73 : decode cX0_weigh 73 = .ok (.iload 6, 2) := dk_21 6 (dk_at dksX0_weigh_3 3 rfl rfl)
theorem dX0_weigh_75 : decode cX0_weigh 75 = .ok (.baload, 1) := dk_51 (dk_at dksX0_weigh_3 5 rfl rfl)
theorem dX0_weigh_76 : decode cX0_weigh 76 = .ok (.iconst 1, 1) := dk_4 (dk_at dksX0_weigh_3 6 rfl rfl)
theorem dX0_weigh_77 : decode cX0_weigh 77 = .ok (.if_icmp .ne 14, 3) := dk_160 0 14 (dk_at dksX0_weigh_3 7 rfl rfl)
theorem dX0_weigh_80 : decode cX0_weigh 80 = .ok (.aload_n 0, 1) := dk_42 (dk_at dksX0_weigh_3 10 rfl rfl)
theorem dX0_weigh_81 : decode cX0_weigh 81 = .ok (.iload 6, 2) := dk_21 6 (dk_at dksX0_weigh_3 11 rfl rfl)
theorem dX0_weigh_83 : decode cX0_weigh 83 = .ok (.iload_n 3, 1) := dk_29 (dk_at dksX0_weigh_3 13 rfl rfl)
theorem dX0_weigh_84 : decode cX0_weigh 84 = .ok (.invokevirtual 246, 3) := dk_182 0 246 (dk_at dksX0_weigh_3 14 rfl rfl)
theorem dX0_weigh_87 : decode cX0_weigh 87 = .ok (.i2l, 1) := dk_133 (dk_at dksX0_weigh_3 17 rfl rfl)
theorem dX0_weigh_88 : decode cX0_weigh 88 = .ok (.goto 14, 3) := dk_167 0 14 (dk_at dksX0_weigh_3 18 rfl rfl)
theorem dX0_weigh_91 : decode cX0_weigh 91 = .ok (.bipush 100, 2) := dk_16 100 (dk_at dksX0_weigh_3 21 rfl rfl)
theorem dX0_weigh_93 : decode cX0_weigh 93 = .ok (.aload_n 0, 1) := dk_42 (dk_at dksX0_weigh_3 23 rfl rfl)
theorem dX0_weigh_94 : decode cX0_weigh 94 = .ok (.iload 6, 2) := dk_21 6 (dk_at dksX0_weigh_4 0 rfl rfl)
theorem dX0_weigh_96 : decode cX0_weigh 96 = .ok (.iload_n 3, 1) := dk_29 (dk_at dksX0_weigh_4 2 rfl rfl)
theorem dX0_weigh_97 : decode cX0_weigh 97 = .ok (.invokevirtual 246, 3) := dk_182 0 246 (dk_at dksX0_weigh_4 3 rfl rfl)
theorem dX0_weigh_100 : decode cX0_weigh 100 = .ok (.isub, 1) := dk_100 (dk_at dksX0_weigh_4 6 rfl rfl)
theorem dX0_weigh_101 : decode cX0_weigh 101 = .ok (.i2l, 1) := dk_133 (dk_at dksX0_weigh_4 7 rfl rfl)
theorem dX0_weigh_102 : decode cX0_weigh 102 = .ok (.lmul, 1) := dk_105 (dk_at dksX0_weigh_4 8 rfl rfl)
theorem dX0_weigh_103 : decode cX0_weigh 103 = .ok (.lstore 4, 2) := dk_55 4 (dk_at dksX0_weigh_4 9 rfl rfl)
theorem dX0_weigh_105 : decode cX0_weigh 105 = .ok (.iinc 6 1, 3) := dk_132 6 1 (dk_at dksX0_weigh_4 11 rfl rfl)
theorem dX0_weigh_108 : decode cX0_weigh 108 = .ok (.goto (-58), 3) := dk_167 255 198 (dk_at dksX0_weigh_4 14 rfl rfl)
theorem dX0_weigh_111 : decode cX0_weigh 111 = .ok (.aload_n 0, 1) := dk_42 (dk_at dksX0_weigh_4 17 rfl rfl)
theorem dX0_weigh_112 : decode cX0_weigh 112 = .ok (.getfield 50, 3) := dk_180 0 50 (dk_at dksX0_weigh_4 18 rfl rfl)
theorem dX0_weigh_115 : decode cX0_weigh 115 = .ok (.iload_n 3, 1) := dk_29 (dk_at dksX0_weigh_4 21 rfl rfl)
theorem dX0_weigh_116 : decode cX0_weigh 116 = .ok (.lload 4, 2) := dk_22 4 (dk_at dksX0_weigh_4 22 rfl rfl)
theorem dX0_weigh_118 : decode cX0_weigh 118 = .ok (.lastore, 1) := dk_80 (dk_at dksX0_weigh_5 0 rfl rfl)
theorem dX0_weigh_119 : decode cX0_weigh 119 = .ok (.aload_n 0, 1) := dk_42 (dk_at dksX0_weigh_5 1 rfl rfl)
theorem dX0_weigh_120 : decode cX0_weigh 120 = .ok (.getfield 54, 3) := dk_180 0 54 (dk_at dksX0_weigh_5 2 rfl rfl)
theorem dX0_weigh_123 : decode cX0_weigh 123 = .ok (.iload_n 1, 1) := dk_27 (dk_at dksX0_weigh_5 5 rfl rfl)
theorem dX0_weigh_124 : decode cX0_weigh 124 = .ok (.dup2, 1) := dk_92 (dk_at dksX0_weigh_5 6 rfl rfl)
theorem dX0_weigh_125 : decode cX0_weigh 125 = .ok (.laload, 1) := dk_47 (dk_at dksX0_weigh_5 7 rfl rfl)
theorem dX0_weigh_126 : decode cX0_weigh 126 = .ok (.lload 4, 2) := dk_22 4 (dk_at dksX0_weigh_5 8 rfl rfl)
theorem dX0_weigh_128 : decode cX0_weigh 128 = .ok (.ladd, 1) := dk_97 (dk_at dksX0_weigh_5 10 rfl rfl)
theorem dX0_weigh_129 : decode cX0_weigh 129 = .ok (.lastore, 1) := dk_80 (dk_at dksX0_weigh_5 11 rfl rfl)
theorem dX0_weigh_130 : decode cX0_weigh 130 = .ok (.iinc 2 1, 3) := dk_132 2 1 (dk_at dksX0_weigh_5 12 rfl rfl)
theorem dX0_weigh_133 : decode cX0_weigh 133 = .ok (.goto (-111), 3) := dk_167 255 145 (dk_at dksX0_weigh_5 15 rfl rfl)
theorem dX0_weigh_136 : decode cX0_weigh 136 = .ok (.aload_n 0, 1) := dk_42 (dk_at dksX0_weigh_5 18 rfl rfl)
theorem dX0_weigh_137 : decode cX0_weigh 137 = .ok (.dup, 1) := dk_89 (dk_at dksX0_weigh_5 19 rfl rfl)
theorem dX0_weigh_138 : decode cX0_weigh 138 = .ok (.getfield 242, 3) := dk_180 0 242 (dk_at dksX0_weigh_5 20 rfl rfl)
theorem dX0_weigh_141 : decode cX0_weigh 141 = .ok (.aload_n 0, 1) := dk_42 (dk_at dksX0_weigh_5 23 rfl rfl)
theorem dX0_weigh_142 : decode cX0_weigh 142 = .ok (.getfield 54, 3) := dk_180 0 54 (dk_at dksX0_weigh_6 0 rfl rfl)
theorem dX0_weigh_145 : decode cX0_weigh 145 = .ok (.iload_n 1, 1) := dk_27 (dk_at dksX0_weigh_6 3 rfl rfl)
theorem dX0_weigh_146 : decode cX0_weigh 146 = .ok (.laload, 1) := dk_47 (dk_at dksX0_weigh_6 4 rfl rfl)
theorem dX0_weigh_147 : decode cX0_weigh 147 = .ok (.ladd, 1) := dk_97 (dk_at dksX0_weigh_6 5 rfl rfl)
theorem dX0_weigh_148 : decode cX0_weigh 148 = .ok (.putfield 242, 3) := dk_181 0 242 (dk_at dksX0_weigh_6 6 rfl rfl)
theorem dX0_weigh_151 : decode cX0_weigh 151 = .ok (.iinc 1 1, 3) := dk_132 1 1 (dk_at dksX0_weigh_6 9 rfl rfl)
theorem dX0_weigh_154 : decode cX0_weigh 154 = .ok (.goto (-147), 3) := dk_167 255 109 (dk_at dksX0_weigh_6 12 rfl rfl)
theorem dX0_weigh_157 : decode cX0_weigh 157 = .ok (.return_, 1) := dk_177 (dk_at dksX0_weigh_6 15 rfl rfl)
abbrev cX0_numberAt : ByteArray := prog_1_method_26_code
def yX0_numberAt : MethodName := ⟨RX0, "numberAt", "(II)I"⟩
def dkwX0_numberAt_0 : List UInt8 := [42, 180, 0, 46, 17, 0, 180, 27, 104, 28, 96, 46, 172]
abbrev dktX0_numberAt_0 : List UInt8 := dkwX0_numberAt_0 ++ []
theorem dksX0_numberAt_0 : cX0_numberAt.data.toList.drop 0 = dktX0_numberAt_0 := by decide +kernel
theorem dX0_numberAt_0 : decode cX0_numberAt 0 = .ok (.aload_n 0, 1) := dk_42 (dk_at dksX0_numberAt_0 0 rfl rfl)
theorem dX0_numberAt_1 : decode cX0_numberAt 1 = .ok (.getfield 46, 3) := dk_180 0 46 (dk_at dksX0_numberAt_0 1 rfl rfl)
theorem dX0_numberAt_4 : decode cX0_numberAt 4 = .ok (.sipush 180, 3) := dk_17 0 180 (dk_at dksX0_numberAt_0 4 rfl rfl)
theorem dX0_numberAt_7 : decode cX0_numberAt 7 = .ok (.iload_n 1, 1) := dk_27 (dk_at dksX0_numberAt_0 7 rfl rfl)
theorem dX0_numberAt_8 : decode cX0_numberAt 8 = .ok (.imul, 1) := dk_104 (dk_at dksX0_numberAt_0 8 rfl rfl)
theorem dX0_numberAt_9 : decode cX0_numberAt 9 = .ok (.iload_n 2, 1) := dk_28 (dk_at dksX0_numberAt_0 9 rfl rfl)
theorem dX0_numberAt_10 : decode cX0_numberAt 10 = .ok (.iadd, 1) := dk_96 (dk_at dksX0_numberAt_0 10 rfl rfl)
theorem dX0_numberAt_11 : decode cX0_numberAt 11 = .ok (.iaload, 1) := dk_46 (dk_at dksX0_numberAt_0 11 rfl rfl)
theorem dX0_numberAt_12 : decode cX0_numberAt 12 = .ok (.ireturn, 1) := dk_172 (dk_at dksX0_numberAt_0 12 rfl rfl)
abbrev cX0_common : ByteArray := prog_1_method_30_code
def yX0_common : MethodName := ⟨RX0, "common", "(JJ)J"⟩
def dkwX0_common_1 : List UInt8 := [22, 8, 55, 6, 167, 255, 234, 22, 4, 173]
abbrev dktX0_common_1 : List UInt8 := dkwX0_common_1 ++ []
def dkwX0_common_0 : List UInt8 := [30, 55, 4, 32, 55, 6, 22, 6, 9, 148, 153, 0, 21, 22, 4, 22, 6, 113, 55, 8, 22, 6, 55, 4]
abbrev dktX0_common_0 : List UInt8 := dkwX0_common_0 ++ dktX0_common_1
theorem dksX0_common_0 : cX0_common.data.toList.drop 0 = dktX0_common_0 := by decide +kernel
theorem dksX0_common_1 : cX0_common.data.toList.drop 24 = dktX0_common_1 := dk_seg dksX0_common_0 24 rfl rfl
theorem dX0_common_0 : decode cX0_common 0 = .ok (.lload_n 0, 1) := dk_30 (dk_at dksX0_common_0 0 rfl rfl)
theorem dX0_common_1 : decode cX0_common 1 = .ok (.lstore 4, 2) := dk_55 4 (dk_at dksX0_common_0 1 rfl rfl)
theorem dX0_common_3 : decode cX0_common 3 = .ok (.lload_n 2, 1) := dk_32 (dk_at dksX0_common_0 3 rfl rfl)
theorem dX0_common_4 : decode cX0_common 4 = .ok (.lstore 6, 2) := dk_55 6 (dk_at dksX0_common_0 4 rfl rfl)
theorem dX0_common_6 : decode cX0_common 6 = .ok (.lload 6, 2) := dk_22 6 (dk_at dksX0_common_0 6 rfl rfl)
theorem dX0_common_8 : decode cX0_common 8 = .ok (.lconst 0, 1) := dk_9 (dk_at dksX0_common_0 8 rfl rfl)
theorem dX0_common_9 : decode cX0_common 9 = .ok (.lcmp, 1) := dk_148 (dk_at dksX0_common_0 9 rfl rfl)
theorem dX0_common_10 : decode cX0_common 10 = .ok (.ifCond .eq 21, 3) := dk_153 0 21 (dk_at dksX0_common_0 10 rfl rfl)
theorem dX0_common_13 : decode cX0_common 13 = .ok (.lload 4, 2) := dk_22 4 (dk_at dksX0_common_0 13 rfl rfl)
theorem dX0_common_15 : decode cX0_common 15 = .ok (.lload 6, 2) := dk_22 6 (dk_at dksX0_common_0 15 rfl rfl)
theorem dX0_common_17 : decode cX0_common 17 = .ok (.lrem, 1) := dk_113 (dk_at dksX0_common_0 17 rfl rfl)
theorem dX0_common_18 : decode cX0_common 18 = .ok (.lstore 8, 2) := dk_55 8 (dk_at dksX0_common_0 18 rfl rfl)
theorem dX0_common_20 : decode cX0_common 20 = .ok (.lload 6, 2) := dk_22 6 (dk_at dksX0_common_0 20 rfl rfl)
theorem dX0_common_22 : decode cX0_common 22 = .ok (.lstore 4, 2) := dk_55 4 (dk_at dksX0_common_0 22 rfl rfl)
theorem dX0_common_24 : decode cX0_common 24 = .ok (.lload 8, 2) := dk_22 8 (dk_at dksX0_common_1 0 rfl rfl)
theorem dX0_common_26 : decode cX0_common 26 = .ok (.lstore 6, 2) := dk_55 6 (dk_at dksX0_common_1 2 rfl rfl)
theorem dX0_common_28 : decode cX0_common 28 = .ok (.goto (-22), 3) := dk_167 255 234 (dk_at dksX0_common_1 4 rfl rfl)
theorem dX0_common_31 : decode cX0_common 31 = .ok (.lload 4, 2) := dk_22 4 (dk_at dksX0_common_1 7 rfl rfl)
theorem dX0_common_33 : decode cX0_common 33 = .ok (.lreturn, 1) := dk_173 (dk_at dksX0_common_1 9 rfl rfl)
abbrev cX0_percent : ByteArray := prog_1_method_33_code
def yX0_percent : MethodName := ⟨RX0, "percent", "(I)I"⟩
def dkwX0_percent_1 : List UInt8 := [182, 1, 17, 172]
abbrev dktX0_percent_1 : List UInt8 := dkwX0_percent_1 ++ []
def dkwX0_percent_0 : List UInt8 := [42, 27, 182, 1, 0, 154, 0, 5, 2, 172, 42, 27, 16, 10, 108, 182, 1, 7, 42, 27, 16, 10, 112]
abbrev dktX0_percent_0 : List UInt8 := dkwX0_percent_0 ++ dktX0_percent_1
theorem dksX0_percent_0 : cX0_percent.data.toList.drop 0 = dktX0_percent_0 := by decide +kernel
theorem dksX0_percent_1 : cX0_percent.data.toList.drop 23 = dktX0_percent_1 := dk_seg dksX0_percent_0 23 rfl rfl
theorem dX0_percent_0 : decode cX0_percent 0 = .ok (.aload_n 0, 1) := dk_42 (dk_at dksX0_percent_0 0 rfl rfl)
theorem dX0_percent_1 : decode cX0_percent 1 = .ok (.iload_n 1, 1) := dk_27 (dk_at dksX0_percent_0 1 rfl rfl)
theorem dX0_percent_2 : decode cX0_percent 2 = .ok (.invokevirtual 256, 3) := dk_182 1 0 (dk_at dksX0_percent_0 2 rfl rfl)
theorem dX0_percent_5 : decode cX0_percent 5 = .ok (.ifCond .ne 5, 3) := dk_154 0 5 (dk_at dksX0_percent_0 5 rfl rfl)
theorem dX0_percent_8 : decode cX0_percent 8 = .ok (.iconst (-1), 1) := dk_2 (dk_at dksX0_percent_0 8 rfl rfl)
theorem dX0_percent_9 : decode cX0_percent 9 = .ok (.ireturn, 1) := dk_172 (dk_at dksX0_percent_0 9 rfl rfl)
theorem dX0_percent_10 : decode cX0_percent 10 = .ok (.aload_n 0, 1) := dk_42 (dk_at dksX0_percent_0 10 rfl rfl)
theorem dX0_percent_11 : decode cX0_percent 11 = .ok (.iload_n 1, 1) := dk_27 (dk_at dksX0_percent_0 11 rfl rfl)
theorem dX0_percent_12 : decode cX0_percent 12 = .ok (.bipush 10, 2) := dk_16 10 (dk_at dksX0_percent_0 12 rfl rfl)
theorem dX0_percent_14 : decode cX0_percent 14 = .ok (.idiv, 1) := dk_108 (dk_at dksX0_percent_0 14 rfl rfl)
theorem dX0_percent_15 : decode cX0_percent 15 = .ok (.invokevirtual 263, 3) := dk_182 1 7 (dk_at dksX0_percent_0 15 rfl rfl)
theorem dX0_percent_18 : decode cX0_percent 18 = .ok (.aload_n 0, 1) := dk_42 (dk_at dksX0_percent_0 18 rfl rfl)
theorem dX0_percent_19 : decode cX0_percent 19 = .ok (.iload_n 1, 1) := dk_27 (dk_at dksX0_percent_0 19 rfl rfl)
theorem dX0_percent_20 : decode cX0_percent 20 = .ok (.bipush 10, 2) := dk_16 10 (dk_at dksX0_percent_0 20 rfl rfl)
theorem dX0_percent_22 : decode cX0_percent 22 = .ok (.irem, 1) := dk_112 (dk_at dksX0_percent_0 22 rfl rfl)
theorem dX0_percent_23 : decode cX0_percent 23 = .ok (.invokevirtual 273, 3) := dk_182 1 17 (dk_at dksX0_percent_1 0 rfl rfl)
theorem dX0_percent_26 : decode cX0_percent 26 = .ok (.ireturn, 1) := dk_172 (dk_at dksX0_percent_1 3 rfl rfl)
abbrev cX0_percentOf : ByteArray := prog_1_method_32_code
def yX0_percentOf : MethodName := ⟨RX0, "percentOf", "(I)I"⟩
def dkwX0_percentOf_1 : List UInt8 := [180, 0, 242, 109, 136, 172]
abbrev dktX0_percentOf_1 : List UInt8 := dkwX0_percentOf_1 ++ []
def dkwX0_percentOf_0 : List UInt8 := [42, 180, 0, 242, 9, 148, 154, 0, 7, 3, 167, 0, 19, 20, 1, 15, 42, 180, 0, 54, 27, 47, 105, 42]
abbrev dktX0_percentOf_0 : List UInt8 := dkwX0_percentOf_0 ++ dktX0_percentOf_1
theorem dksX0_percentOf_0 : cX0_percentOf.data.toList.drop 0 = dktX0_percentOf_0 := by decide +kernel
theorem dksX0_percentOf_1 : cX0_percentOf.data.toList.drop 24 = dktX0_percentOf_1 := dk_seg dksX0_percentOf_0 24 rfl rfl
theorem dX0_percentOf_0 : decode cX0_percentOf 0 = .ok (.aload_n 0, 1) := dk_42 (dk_at dksX0_percentOf_0 0 rfl rfl)
theorem dX0_percentOf_1 : decode cX0_percentOf 1 = .ok (.getfield 242, 3) := dk_180 0 242 (dk_at dksX0_percentOf_0 1 rfl rfl)
theorem dX0_percentOf_4 : decode cX0_percentOf 4 = .ok (.lconst 0, 1) := dk_9 (dk_at dksX0_percentOf_0 4 rfl rfl)
theorem dX0_percentOf_5 : decode cX0_percentOf 5 = .ok (.lcmp, 1) := dk_148 (dk_at dksX0_percentOf_0 5 rfl rfl)
theorem dX0_percentOf_6 : decode cX0_percentOf 6 = .ok (.ifCond .ne 7, 3) := dk_154 0 7 (dk_at dksX0_percentOf_0 6 rfl rfl)
theorem dX0_percentOf_9 : decode cX0_percentOf 9 = .ok (.iconst 0, 1) := dk_3 (dk_at dksX0_percentOf_0 9 rfl rfl)
theorem dX0_percentOf_10 : decode cX0_percentOf 10 = .ok (.goto 19, 3) := dk_167 0 19 (dk_at dksX0_percentOf_0 10 rfl rfl)
theorem dX0_percentOf_13 : decode cX0_percentOf 13 = .ok (.ldc2_w 271, 3) := dk_20 1 15 (dk_at dksX0_percentOf_0 13 rfl rfl)
theorem dX0_percentOf_16 : decode cX0_percentOf 16 = .ok (.aload_n 0, 1) := dk_42 (dk_at dksX0_percentOf_0 16 rfl rfl)
theorem dX0_percentOf_17 : decode cX0_percentOf 17 = .ok (.getfield 54, 3) := dk_180 0 54 (dk_at dksX0_percentOf_0 17 rfl rfl)
theorem dX0_percentOf_20 : decode cX0_percentOf 20 = .ok (.iload_n 1, 1) := dk_27 (dk_at dksX0_percentOf_0 20 rfl rfl)
theorem dX0_percentOf_21 : decode cX0_percentOf 21 = .ok (.laload, 1) := dk_47 (dk_at dksX0_percentOf_0 21 rfl rfl)
theorem dX0_percentOf_22 : decode cX0_percentOf 22 = .ok (.lmul, 1) := dk_105 (dk_at dksX0_percentOf_0 22 rfl rfl)
theorem dX0_percentOf_23 : decode cX0_percentOf 23 = .ok (.aload_n 0, 1) := dk_42 (dk_at dksX0_percentOf_0 23 rfl rfl)
theorem dX0_percentOf_24 : decode cX0_percentOf 24 = .ok (.getfield 242, 3) := dk_180 0 242 (dk_at dksX0_percentOf_1 0 rfl rfl)
theorem dX0_percentOf_27 : decode cX0_percentOf 27 = .ok (.ldiv, 1) := dk_109 (dk_at dksX0_percentOf_1 3 rfl rfl)
theorem dX0_percentOf_28 : decode cX0_percentOf 28 = .ok (.l2i, 1) := dk_136 (dk_at dksX0_percentOf_1 4 rfl rfl)
theorem dX0_percentOf_29 : decode cX0_percentOf 29 = .ok (.ireturn, 1) := dk_172 (dk_at dksX0_percentOf_1 5 rfl rfl)
abbrev cX0_likeliest : ByteArray := prog_1_method_35_code
def yX0_likeliest : MethodName := ⟨RX0, "likeliest", "(I)I"⟩
def dkwX0_likeliest_0 : List UInt8 := [42, 27, 182, 0, 98, 154, 0, 5, 2, 172, 42, 27, 182, 1, 7, 42, 182, 1, 21, 172]
abbrev dktX0_likeliest_0 : List UInt8 := dkwX0_likeliest_0 ++ []
theorem dksX0_likeliest_0 : cX0_likeliest.data.toList.drop 0 = dktX0_likeliest_0 := by decide +kernel
theorem dX0_likeliest_0 : decode cX0_likeliest 0 = .ok (.aload_n 0, 1) := dk_42 (dk_at dksX0_likeliest_0 0 rfl rfl)
theorem dX0_likeliest_1 : decode cX0_likeliest 1 = .ok (.iload_n 1, 1) := dk_27 (dk_at dksX0_likeliest_0 1 rfl rfl)
theorem dX0_likeliest_2 : decode cX0_likeliest 2 = .ok (.invokevirtual 98, 3) := dk_182 0 98 (dk_at dksX0_likeliest_0 2 rfl rfl)
theorem dX0_likeliest_5 : decode cX0_likeliest 5 = .ok (.ifCond .ne 5, 3) := dk_154 0 5 (dk_at dksX0_likeliest_0 5 rfl rfl)
theorem dX0_likeliest_8 : decode cX0_likeliest 8 = .ok (.iconst (-1), 1) := dk_2 (dk_at dksX0_likeliest_0 8 rfl rfl)
theorem dX0_likeliest_9 : decode cX0_likeliest 9 = .ok (.ireturn, 1) := dk_172 (dk_at dksX0_likeliest_0 9 rfl rfl)
theorem dX0_likeliest_10 : decode cX0_likeliest 10 = .ok (.aload_n 0, 1) := dk_42 (dk_at dksX0_likeliest_0 10 rfl rfl)
theorem dX0_likeliest_11 : decode cX0_likeliest 11 = .ok (.iload_n 1, 1) := dk_27 (dk_at dksX0_likeliest_0 11 rfl rfl)
theorem dX0_likeliest_12 : decode cX0_likeliest 12 = .ok (.invokevirtual 263, 3) := dk_182 1 7 (dk_at dksX0_likeliest_0 12 rfl rfl)
theorem dX0_likeliest_15 : decode cX0_likeliest 15 = .ok (.aload_n 0, 1) := dk_42 (dk_at dksX0_likeliest_0 15 rfl rfl)
theorem dX0_likeliest_16 : decode cX0_likeliest 16 = .ok (.invokevirtual 277, 3) := dk_182 1 21 (dk_at dksX0_likeliest_0 16 rfl rfl)
theorem dX0_likeliest_19 : decode cX0_likeliest 19 = .ok (.ireturn, 1) := dk_172 (dk_at dksX0_likeliest_0 19 rfl rfl)
abbrev cX0_best : ByteArray := prog_1_method_34_code
def yX0_best : MethodName := ⟨RX0, "best", "()I"⟩
def dkwX0_best_2 : List UInt8 := [167, 0, 4, 27, 172]
abbrev dktX0_best_2 : List UInt8 := dkwX0_best_2 ++ []
def dkwX0_best_1 : List UInt8 := [158, 0, 5, 28, 60, 132, 2, 1, 167, 255, 229, 42, 180, 0, 242, 9, 148, 154, 0, 8, 16, 254]
abbrev dktX0_best_1 : List UInt8 := dkwX0_best_1 ++ dktX0_best_2
def dkwX0_best_0 : List UInt8 := [3, 60, 4, 61, 28, 16, 6, 162, 0, 27, 42, 180, 0, 54, 28, 47, 42, 180, 0, 54, 27, 47, 148]
abbrev dktX0_best_0 : List UInt8 := dkwX0_best_0 ++ dktX0_best_1
theorem dksX0_best_0 : cX0_best.data.toList.drop 0 = dktX0_best_0 := by decide +kernel
theorem dksX0_best_1 : cX0_best.data.toList.drop 23 = dktX0_best_1 := dk_seg dksX0_best_0 23 rfl rfl
theorem dksX0_best_2 : cX0_best.data.toList.drop 45 = dktX0_best_2 := dk_seg dksX0_best_1 22 rfl rfl
theorem dX0_best_0 : decode cX0_best 0 = .ok (.iconst 0, 1) := dk_3 (dk_at dksX0_best_0 0 rfl rfl)
theorem dX0_best_1 : decode cX0_best 1 = .ok (.istore_n 1, 1) := dk_60 (dk_at dksX0_best_0 1 rfl rfl)
theorem dX0_best_2 : decode cX0_best 2 = .ok (.iconst 1, 1) := dk_4 (dk_at dksX0_best_0 2 rfl rfl)
theorem dX0_best_3 : decode cX0_best 3 = .ok (.istore_n 2, 1) := dk_61 (dk_at dksX0_best_0 3 rfl rfl)
theorem dX0_best_4 : decode cX0_best 4 = .ok (.iload_n 2, 1) := dk_28 (dk_at dksX0_best_0 4 rfl rfl)
theorem dX0_best_5 : decode cX0_best 5 = .ok (.bipush 6, 2) := dk_16 6 (dk_at dksX0_best_0 5 rfl rfl)
theorem dX0_best_7 : decode cX0_best 7 = .ok (.if_icmp .ge 27, 3) := dk_162 0 27 (dk_at dksX0_best_0 7 rfl rfl)
theorem dX0_best_10 : decode cX0_best 10 = .ok (.aload_n 0, 1) := dk_42 (dk_at dksX0_best_0 10 rfl rfl)
theorem dX0_best_11 : decode cX0_best 11 = .ok (.getfield 54, 3) := dk_180 0 54 (dk_at dksX0_best_0 11 rfl rfl)
theorem dX0_best_14 : decode cX0_best 14 = .ok (.iload_n 2, 1) := dk_28 (dk_at dksX0_best_0 14 rfl rfl)
theorem dX0_best_15 : decode cX0_best 15 = .ok (.laload, 1) := dk_47 (dk_at dksX0_best_0 15 rfl rfl)
theorem dX0_best_16 : decode cX0_best 16 = .ok (.aload_n 0, 1) := dk_42 (dk_at dksX0_best_0 16 rfl rfl)
theorem dX0_best_17 : decode cX0_best 17 = .ok (.getfield 54, 3) := dk_180 0 54 (dk_at dksX0_best_0 17 rfl rfl)
theorem dX0_best_20 : decode cX0_best 20 = .ok (.iload_n 1, 1) := dk_27 (dk_at dksX0_best_0 20 rfl rfl)
theorem dX0_best_21 : decode cX0_best 21 = .ok (.laload, 1) := dk_47 (dk_at dksX0_best_0 21 rfl rfl)
theorem dX0_best_22 : decode cX0_best 22 = .ok (.lcmp, 1) := dk_148 (dk_at dksX0_best_0 22 rfl rfl)
theorem dX0_best_23 : decode cX0_best 23 = .ok (.ifCond .le 5, 3) := dk_158 0 5 (dk_at dksX0_best_1 0 rfl rfl)
theorem dX0_best_26 : decode cX0_best 26 = .ok (.iload_n 2, 1) := dk_28 (dk_at dksX0_best_1 3 rfl rfl)
theorem dX0_best_27 : decode cX0_best 27 = .ok (.istore_n 1, 1) := dk_60 (dk_at dksX0_best_1 4 rfl rfl)
theorem dX0_best_28 : decode cX0_best 28 = .ok (.iinc 2 1, 3) := dk_132 2 1 (dk_at dksX0_best_1 5 rfl rfl)
theorem dX0_best_31 : decode cX0_best 31 = .ok (.goto (-27), 3) := dk_167 255 229 (dk_at dksX0_best_1 8 rfl rfl)
theorem dX0_best_34 : decode cX0_best 34 = .ok (.aload_n 0, 1) := dk_42 (dk_at dksX0_best_1 11 rfl rfl)
theorem dX0_best_35 : decode cX0_best 35 = .ok (.getfield 242, 3) := dk_180 0 242 (dk_at dksX0_best_1 12 rfl rfl)
theorem dX0_best_38 : decode cX0_best 38 = .ok (.lconst 0, 1) := dk_9 (dk_at dksX0_best_1 15 rfl rfl)
theorem dX0_best_39 : decode cX0_best 39 = .ok (.lcmp, 1) := dk_148 (dk_at dksX0_best_1 16 rfl rfl)
theorem dX0_best_40 : decode cX0_best 40 = .ok (.ifCond .ne 8, 3) := dk_154 0 8 (dk_at dksX0_best_1 17 rfl rfl)
theorem dX0_best_43 : decode cX0_best 43 = .ok (.bipush (-2), 2) := dk_16 254 (dk_at dksX0_best_1 20 rfl rfl)
theorem dX0_best_45 : decode cX0_best 45 = .ok (.goto 4, 3) := dk_167 0 4 (dk_at dksX0_best_2 0 rfl rfl)
theorem dX0_best_48 : decode cX0_best 48 = .ok (.iload_n 1, 1) := dk_27 (dk_at dksX0_best_2 3 rfl rfl)
theorem dX0_best_49 : decode cX0_best 49 = .ok (.ireturn, 1) := dk_172 (dk_at dksX0_best_2 4 rfl rfl)
abbrev cX0_when : ByteArray := prog_1_method_37_code
def yX0_when : MethodName := ⟨RX0, "when", "(II)I"⟩
def dkwX0_when_4 : List UInt8 := [167, 0, 4, 2, 96, 54, 4, 167, 255, 224, 21, 4, 172]
abbrev dktX0_when_4 : List UInt8 := dkwX0_when_4 ++ []
def dkwX0_when_3 : List UInt8 := [180, 0, 50, 16, 30, 29, 104, 21, 4, 96, 47, 9, 148, 154, 0, 21, 21, 4, 28, 4, 160, 0, 7, 4]
abbrev dktX0_when_3 : List UInt8 := dkwX0_when_3 ++ dktX0_when_4
def dkwX0_when_2 : List UInt8 := [154, 0, 9, 42, 29, 182, 1, 25, 172, 28, 4, 160, 0, 7, 3, 167, 0, 5, 16, 29, 54, 4, 42]
abbrev dktX0_when_2 : List UInt8 := dkwX0_when_2 ++ dktX0_when_3
def dkwX0_when_1 : List UInt8 := [182, 1, 7, 27, 16, 10, 112, 62, 42, 180, 0, 54, 29, 47, 9, 148, 154, 0, 6, 16, 254, 172, 28]
abbrev dktX0_when_1 : List UInt8 := dkwX0_when_1 ++ dktX0_when_2
def dkwX0_when_0 : List UInt8 := [42, 27, 182, 1, 0, 153, 0, 12, 28, 3, 5, 184, 0, 94, 154, 0, 5, 2, 172, 42, 27, 16, 10, 108]
abbrev dktX0_when_0 : List UInt8 := dkwX0_when_0 ++ dktX0_when_1
theorem dksX0_when_0 : cX0_when.data.toList.drop 0 = dktX0_when_0 := by decide +kernel
theorem dksX0_when_1 : cX0_when.data.toList.drop 24 = dktX0_when_1 := dk_seg dksX0_when_0 24 rfl rfl
theorem dksX0_when_2 : cX0_when.data.toList.drop 47 = dktX0_when_2 := dk_seg dksX0_when_1 23 rfl rfl
theorem dksX0_when_3 : cX0_when.data.toList.drop 70 = dktX0_when_3 := dk_seg dksX0_when_2 23 rfl rfl
theorem dksX0_when_4 : cX0_when.data.toList.drop 94 = dktX0_when_4 := dk_seg dksX0_when_3 24 rfl rfl
theorem dX0_when_0 : decode cX0_when 0 = .ok (.aload_n 0, 1) := dk_42 (dk_at dksX0_when_0 0 rfl rfl)
theorem dX0_when_1 : decode cX0_when 1 = .ok (.iload_n 1, 1) := dk_27 (dk_at dksX0_when_0 1 rfl rfl)
theorem dX0_when_2 : decode cX0_when 2 = .ok (.invokevirtual 256, 3) := dk_182 1 0 (dk_at dksX0_when_0 2 rfl rfl)
theorem dX0_when_5 : decode cX0_when 5 = .ok (.ifCond .eq 12, 3) := dk_153 0 12 (dk_at dksX0_when_0 5 rfl rfl)
theorem dX0_when_8 : decode cX0_when 8 = .ok (.iload_n 2, 1) := dk_28 (dk_at dksX0_when_0 8 rfl rfl)
theorem dX0_when_9 : decode cX0_when 9 = .ok (.iconst 0, 1) := dk_3 (dk_at dksX0_when_0 9 rfl rfl)
theorem dX0_when_10 : decode cX0_when 10 = .ok (.iconst 2, 1) := dk_5 (dk_at dksX0_when_0 10 rfl rfl)
theorem dX0_when_11 : decode cX0_when 11 = .ok (.invokestatic 94, 3) := dk_184 0 94 (dk_at dksX0_when_0 11 rfl rfl)
theorem dX0_when_14 : decode cX0_when 14 = .ok (.ifCond .ne 5, 3) := dk_154 0 5 (dk_at dksX0_when_0 14 rfl rfl)
theorem dX0_when_17 : decode cX0_when 17 = .ok (.iconst (-1), 1) := dk_2 (dk_at dksX0_when_0 17 rfl rfl)
theorem dX0_when_18 : decode cX0_when 18 = .ok (.ireturn, 1) := dk_172 (dk_at dksX0_when_0 18 rfl rfl)
theorem dX0_when_19 : decode cX0_when 19 = .ok (.aload_n 0, 1) := dk_42 (dk_at dksX0_when_0 19 rfl rfl)
theorem dX0_when_20 : decode cX0_when 20 = .ok (.iload_n 1, 1) := dk_27 (dk_at dksX0_when_0 20 rfl rfl)
theorem dX0_when_21 : decode cX0_when 21 = .ok (.bipush 10, 2) := dk_16 10 (dk_at dksX0_when_0 21 rfl rfl)
theorem dX0_when_23 : decode cX0_when 23 = .ok (.idiv, 1) := dk_108 (dk_at dksX0_when_0 23 rfl rfl)
theorem dX0_when_24 : decode cX0_when 24 = .ok (.invokevirtual 263, 3) := dk_182 1 7 (dk_at dksX0_when_1 0 rfl rfl)
theorem dX0_when_27 : decode cX0_when 27 = .ok (.iload_n 1, 1) := dk_27 (dk_at dksX0_when_1 3 rfl rfl)
theorem dX0_when_28 : decode cX0_when 28 = .ok (.bipush 10, 2) := dk_16 10 (dk_at dksX0_when_1 4 rfl rfl)
theorem dX0_when_30 : decode cX0_when 30 = .ok (.irem, 1) := dk_112 (dk_at dksX0_when_1 6 rfl rfl)
theorem dX0_when_31 : decode cX0_when 31 = .ok (.istore_n 3, 1) := dk_62 (dk_at dksX0_when_1 7 rfl rfl)
theorem dX0_when_32 : decode cX0_when 32 = .ok (.aload_n 0, 1) := dk_42 (dk_at dksX0_when_1 8 rfl rfl)
theorem dX0_when_33 : decode cX0_when 33 = .ok (.getfield 54, 3) := dk_180 0 54 (dk_at dksX0_when_1 9 rfl rfl)
theorem dX0_when_36 : decode cX0_when 36 = .ok (.iload_n 3, 1) := dk_29 (dk_at dksX0_when_1 12 rfl rfl)
theorem dX0_when_37 : decode cX0_when 37 = .ok (.laload, 1) := dk_47 (dk_at dksX0_when_1 13 rfl rfl)
theorem dX0_when_38 : decode cX0_when 38 = .ok (.lconst 0, 1) := dk_9 (dk_at dksX0_when_1 14 rfl rfl)
theorem dX0_when_39 : decode cX0_when 39 = .ok (.lcmp, 1) := dk_148 (dk_at dksX0_when_1 15 rfl rfl)
theorem dX0_when_40 : decode cX0_when 40 = .ok (.ifCond .ne 6, 3) := dk_154 0 6 (dk_at dksX0_when_1 16 rfl rfl)
theorem dX0_when_43 : decode cX0_when 43 = .ok (.bipush (-2), 2) := dk_16 254 (dk_at dksX0_when_1 19 rfl rfl)
theorem dX0_when_45 : decode cX0_when 45 = .ok (.ireturn, 1) := dk_172 (dk_at dksX0_when_1 21 rfl rfl)
theorem dX0_when_46 : decode cX0_when 46 = .ok (.iload_n 2, 1) := dk_28 (dk_at dksX0_when_1 22 rfl rfl)
theorem dX0_when_47 : decode cX0_when 47 = .ok (.ifCond .ne 9, 3) := dk_154 0 9 (dk_at dksX0_when_2 0 rfl rfl)
theorem dX0_when_50 : decode cX0_when 50 = .ok (.aload_n 0, 1) := dk_42 (dk_at dksX0_when_2 3 rfl rfl)
theorem dX0_when_51 : decode cX0_when 51 = .ok (.iload_n 3, 1) := dk_29 (dk_at dksX0_when_2 4 rfl rfl)
theorem dX0_when_52 : decode cX0_when 52 = .ok (.invokevirtual 281, 3) := dk_182 1 25 (dk_at dksX0_when_2 5 rfl rfl)
theorem dX0_when_55 : decode cX0_when 55 = .ok (.ireturn, 1) := dk_172 (dk_at dksX0_when_2 8 rfl rfl)
theorem dX0_when_56 : decode cX0_when 56 = .ok (.iload_n 2, 1) := dk_28 (dk_at dksX0_when_2 9 rfl rfl)
theorem dX0_when_57 : decode cX0_when 57 = .ok (.iconst 1, 1) := dk_4 (dk_at dksX0_when_2 10 rfl rfl)
theorem dX0_when_58 : decode cX0_when 58 = .ok (.if_icmp .ne 7, 3) := dk_160 0 7 (dk_at dksX0_when_2 11 rfl rfl)
theorem dX0_when_61 : decode cX0_when 61 = .ok (.iconst 0, 1) := dk_3 (dk_at dksX0_when_2 14 rfl rfl)
theorem dX0_when_62 : decode cX0_when 62 = .ok (.goto 5, 3) := dk_167 0 5 (dk_at dksX0_when_2 15 rfl rfl)
theorem dX0_when_65 : decode cX0_when 65 = .ok (.bipush 29, 2) := dk_16 29 (dk_at dksX0_when_2 18 rfl rfl)
theorem dX0_when_67 : decode cX0_when 67 = .ok (.istore 4, 2) := dk_54 4 (dk_at dksX0_when_2 20 rfl rfl)
theorem dX0_when_69 : decode cX0_when 69 = .ok (.aload_n 0, 1) := dk_42 (dk_at dksX0_when_2 22 rfl rfl)
theorem dX0_when_70 : decode cX0_when 70 = .ok (.getfield 50, 3) := dk_180 0 50 (dk_at dksX0_when_3 0 rfl rfl)
theorem dX0_when_73 : decode cX0_when 73 = .ok (.bipush 30, 2) := dk_16 30 (dk_at dksX0_when_3 3 rfl rfl)
theorem dX0_when_75 : decode cX0_when 75 = .ok (.iload_n 3, 1) := dk_29 (dk_at dksX0_when_3 5 rfl rfl)
theorem dX0_when_76 : decode cX0_when 76 = .ok (.imul, 1) := dk_104 (dk_at dksX0_when_3 6 rfl rfl)
theorem dX0_when_77 : decode cX0_when 77 = .ok (.iload 4, 2) := dk_21 4 (dk_at dksX0_when_3 7 rfl rfl)
theorem dX0_when_79 : decode cX0_when 79 = .ok (.iadd, 1) := dk_96 (dk_at dksX0_when_3 9 rfl rfl)
theorem dX0_when_80 : decode cX0_when 80 = .ok (.laload, 1) := dk_47 (dk_at dksX0_when_3 10 rfl rfl)
theorem dX0_when_81 : decode cX0_when 81 = .ok (.lconst 0, 1) := dk_9 (dk_at dksX0_when_3 11 rfl rfl)
theorem dX0_when_82 : decode cX0_when 82 = .ok (.lcmp, 1) := dk_148 (dk_at dksX0_when_3 12 rfl rfl)
theorem dX0_when_83 : decode cX0_when 83 = .ok (.ifCond .ne 21, 3) := dk_154 0 21 (dk_at dksX0_when_3 13 rfl rfl)
theorem dX0_when_86 : decode cX0_when 86 = .ok (.iload 4, 2) := dk_21 4 (dk_at dksX0_when_3 16 rfl rfl)
theorem dX0_when_88 : decode cX0_when 88 = .ok (.iload_n 2, 1) := dk_28 (dk_at dksX0_when_3 18 rfl rfl)
theorem dX0_when_89 : decode cX0_when 89 = .ok (.iconst 1, 1) := dk_4 (dk_at dksX0_when_3 19 rfl rfl)
theorem dX0_when_90 : decode cX0_when 90 = .ok (.if_icmp .ne 7, 3) := dk_160 0 7 (dk_at dksX0_when_3 20 rfl rfl)
theorem dX0_when_93 : decode cX0_when 93 = .ok (.iconst 1, 1) := dk_4 (dk_at dksX0_when_3 23 rfl rfl)
theorem dX0_when_94 : decode cX0_when 94 = .ok (.goto 4, 3) := dk_167 0 4 (dk_at dksX0_when_4 0 rfl rfl)
theorem dX0_when_97 : decode cX0_when 97 = .ok (.iconst (-1), 1) := dk_2 (dk_at dksX0_when_4 3 rfl rfl)
theorem dX0_when_98 : decode cX0_when 98 = .ok (.iadd, 1) := dk_96 (dk_at dksX0_when_4 4 rfl rfl)
theorem dX0_when_99 : decode cX0_when 99 = .ok (.istore 4, 2) := dk_54 4 (dk_at dksX0_when_4 5 rfl rfl)
theorem dX0_when_101 : decode cX0_when 101 = .ok (.goto (-32), 3) := dk_167 255 224 (dk_at dksX0_when_4 7 rfl rfl)
theorem dX0_when_104 : decode cX0_when 104 = .ok (.iload 4, 2) := dk_21 4 (dk_at dksX0_when_4 10 rfl rfl)
theorem dX0_when_106 : decode cX0_when 106 = .ok (.ireturn, 1) := dk_172 (dk_at dksX0_when_4 12 rfl rfl)
abbrev cX0_whenOf : ByteArray := prog_1_method_36_code
def yX0_whenOf : MethodName := ⟨RX0, "whenOf", "(I)I"⟩
def dkwX0_whenOf_1 : List UInt8 := [180, 0, 50, 16, 30, 27, 104, 28, 96, 47, 148, 158, 0, 5, 29, 61, 132, 3, 1, 167, 255, 219, 28, 172]
abbrev dktX0_whenOf_1 : List UInt8 := dkwX0_whenOf_1 ++ []
def dkwX0_whenOf_0 : List UInt8 := [3, 61, 4, 62, 29, 16, 30, 162, 0, 37, 42, 180, 0, 50, 16, 30, 27, 104, 29, 96, 47, 42]
abbrev dktX0_whenOf_0 : List UInt8 := dkwX0_whenOf_0 ++ dktX0_whenOf_1
theorem dksX0_whenOf_0 : cX0_whenOf.data.toList.drop 0 = dktX0_whenOf_0 := by decide +kernel
theorem dksX0_whenOf_1 : cX0_whenOf.data.toList.drop 22 = dktX0_whenOf_1 := dk_seg dksX0_whenOf_0 22 rfl rfl
theorem dX0_whenOf_0 : decode cX0_whenOf 0 = .ok (.iconst 0, 1) := dk_3 (dk_at dksX0_whenOf_0 0 rfl rfl)
theorem dX0_whenOf_1 : decode cX0_whenOf 1 = .ok (.istore_n 2, 1) := dk_61 (dk_at dksX0_whenOf_0 1 rfl rfl)
theorem dX0_whenOf_2 : decode cX0_whenOf 2 = .ok (.iconst 1, 1) := dk_4 (dk_at dksX0_whenOf_0 2 rfl rfl)
theorem dX0_whenOf_3 : decode cX0_whenOf 3 = .ok (.istore_n 3, 1) := dk_62 (dk_at dksX0_whenOf_0 3 rfl rfl)
theorem dX0_whenOf_4 : decode cX0_whenOf 4 = .ok (.iload_n 3, 1) := dk_29 (dk_at dksX0_whenOf_0 4 rfl rfl)
theorem dX0_whenOf_5 : decode cX0_whenOf 5 = .ok (.bipush 30, 2) := dk_16 30 (dk_at dksX0_whenOf_0 5 rfl rfl)
theorem dX0_whenOf_7 : decode cX0_whenOf 7 = .ok (.if_icmp .ge 37, 3) := dk_162 0 37 (dk_at dksX0_whenOf_0 7 rfl rfl)
theorem dX0_whenOf_10 : decode cX0_whenOf 10 = .ok (.aload_n 0, 1) := dk_42 (dk_at dksX0_whenOf_0 10 rfl rfl)
theorem dX0_whenOf_11 : decode cX0_whenOf 11 = .ok (.getfield 50, 3) := dk_180 0 50 (dk_at dksX0_whenOf_0 11 rfl rfl)
theorem dX0_whenOf_14 : decode cX0_whenOf 14 = .ok (.bipush 30, 2) := dk_16 30 (dk_at dksX0_whenOf_0 14 rfl rfl)
theorem dX0_whenOf_16 : decode cX0_whenOf 16 = .ok (.iload_n 1, 1) := dk_27 (dk_at dksX0_whenOf_0 16 rfl rfl)
theorem dX0_whenOf_17 : decode cX0_whenOf 17 = .ok (.imul, 1) := dk_104 (dk_at dksX0_whenOf_0 17 rfl rfl)
theorem dX0_whenOf_18 : decode cX0_whenOf 18 = .ok (.iload_n 3, 1) := dk_29 (dk_at dksX0_whenOf_0 18 rfl rfl)
theorem dX0_whenOf_19 : decode cX0_whenOf 19 = .ok (.iadd, 1) := dk_96 (dk_at dksX0_whenOf_0 19 rfl rfl)
theorem dX0_whenOf_20 : decode cX0_whenOf 20 = .ok (.laload, 1) := dk_47 (dk_at dksX0_whenOf_0 20 rfl rfl)
theorem dX0_whenOf_21 : decode cX0_whenOf 21 = .ok (.aload_n 0, 1) := dk_42 (dk_at dksX0_whenOf_0 21 rfl rfl)
theorem dX0_whenOf_22 : decode cX0_whenOf 22 = .ok (.getfield 50, 3) := dk_180 0 50 (dk_at dksX0_whenOf_1 0 rfl rfl)
theorem dX0_whenOf_25 : decode cX0_whenOf 25 = .ok (.bipush 30, 2) := dk_16 30 (dk_at dksX0_whenOf_1 3 rfl rfl)
theorem dX0_whenOf_27 : decode cX0_whenOf 27 = .ok (.iload_n 1, 1) := dk_27 (dk_at dksX0_whenOf_1 5 rfl rfl)
theorem dX0_whenOf_28 : decode cX0_whenOf 28 = .ok (.imul, 1) := dk_104 (dk_at dksX0_whenOf_1 6 rfl rfl)
theorem dX0_whenOf_29 : decode cX0_whenOf 29 = .ok (.iload_n 2, 1) := dk_28 (dk_at dksX0_whenOf_1 7 rfl rfl)
theorem dX0_whenOf_30 : decode cX0_whenOf 30 = .ok (.iadd, 1) := dk_96 (dk_at dksX0_whenOf_1 8 rfl rfl)
theorem dX0_whenOf_31 : decode cX0_whenOf 31 = .ok (.laload, 1) := dk_47 (dk_at dksX0_whenOf_1 9 rfl rfl)
theorem dX0_whenOf_32 : decode cX0_whenOf 32 = .ok (.lcmp, 1) := dk_148 (dk_at dksX0_whenOf_1 10 rfl rfl)
theorem dX0_whenOf_33 : decode cX0_whenOf 33 = .ok (.ifCond .le 5, 3) := dk_158 0 5 (dk_at dksX0_whenOf_1 11 rfl rfl)
theorem dX0_whenOf_36 : decode cX0_whenOf 36 = .ok (.iload_n 3, 1) := dk_29 (dk_at dksX0_whenOf_1 14 rfl rfl)
theorem dX0_whenOf_37 : decode cX0_whenOf 37 = .ok (.istore_n 2, 1) := dk_61 (dk_at dksX0_whenOf_1 15 rfl rfl)
theorem dX0_whenOf_38 : decode cX0_whenOf 38 = .ok (.iinc 3 1, 3) := dk_132 3 1 (dk_at dksX0_whenOf_1 16 rfl rfl)
theorem dX0_whenOf_41 : decode cX0_whenOf 41 = .ok (.goto (-37), 3) := dk_167 255 219 (dk_at dksX0_whenOf_1 19 rfl rfl)
theorem dX0_whenOf_44 : decode cX0_whenOf 44 = .ok (.iload_n 2, 1) := dk_28 (dk_at dksX0_whenOf_1 22 rfl rfl)
theorem dX0_whenOf_45 : decode cX0_whenOf 45 = .ok (.ireturn, 1) := dk_172 (dk_at dksX0_whenOf_1 23 rfl rfl)
abbrev cX0_whole : ByteArray := prog_1_method_39_code
def yX0_whole : MethodName := ⟨RX0, "whole", "(I)I"⟩
def dkwX0_whole_2 : List UInt8 := [108, 61, 132, 3, 1, 167, 255, 229, 28, 172]
abbrev dktX0_whole_2 : List UInt8 := dkwX0_whole_2 ++ []
def dkwX0_whole_1 : List UInt8 := [3, 62, 29, 42, 180, 0, 91, 162, 0, 25, 42, 29, 182, 1, 7, 28, 42, 3, 182, 1, 17, 104, 16, 100]
abbrev dktX0_whole_1 : List UInt8 := dkwX0_whole_1 ++ dktX0_whole_2
def dkwX0_whole_0 : List UInt8 := [27, 3, 4, 184, 0, 94, 154, 0, 5, 2, 172, 27, 4, 160, 0, 8, 42, 182, 1, 30, 172, 16, 100, 61]
abbrev dktX0_whole_0 : List UInt8 := dkwX0_whole_0 ++ dktX0_whole_1
theorem dksX0_whole_0 : cX0_whole.data.toList.drop 0 = dktX0_whole_0 := by decide +kernel
theorem dksX0_whole_1 : cX0_whole.data.toList.drop 24 = dktX0_whole_1 := dk_seg dksX0_whole_0 24 rfl rfl
theorem dksX0_whole_2 : cX0_whole.data.toList.drop 48 = dktX0_whole_2 := dk_seg dksX0_whole_1 24 rfl rfl
theorem dX0_whole_0 : decode cX0_whole 0 = .ok (.iload_n 1, 1) := dk_27 (dk_at dksX0_whole_0 0 rfl rfl)
theorem dX0_whole_1 : decode cX0_whole 1 = .ok (.iconst 0, 1) := dk_3 (dk_at dksX0_whole_0 1 rfl rfl)
theorem dX0_whole_2 : decode cX0_whole 2 = .ok (.iconst 1, 1) := dk_4 (dk_at dksX0_whole_0 2 rfl rfl)
theorem dX0_whole_3 : decode cX0_whole 3 = .ok (.invokestatic 94, 3) := dk_184 0 94 (dk_at dksX0_whole_0 3 rfl rfl)
theorem dX0_whole_6 : decode cX0_whole 6 = .ok (.ifCond .ne 5, 3) := dk_154 0 5 (dk_at dksX0_whole_0 6 rfl rfl)
theorem dX0_whole_9 : decode cX0_whole 9 = .ok (.iconst (-1), 1) := dk_2 (dk_at dksX0_whole_0 9 rfl rfl)
theorem dX0_whole_10 : decode cX0_whole 10 = .ok (.ireturn, 1) := dk_172 (dk_at dksX0_whole_0 10 rfl rfl)
theorem dX0_whole_11 : decode cX0_whole 11 = .ok (.iload_n 1, 1) := dk_27 (dk_at dksX0_whole_0 11 rfl rfl)
theorem dX0_whole_12 : decode cX0_whole 12 = .ok (.iconst 1, 1) := dk_4 (dk_at dksX0_whole_0 12 rfl rfl)
theorem dX0_whole_13 : decode cX0_whole 13 = .ok (.if_icmp .ne 8, 3) := dk_160 0 8 (dk_at dksX0_whole_0 13 rfl rfl)
theorem dX0_whole_16 : decode cX0_whole 16 = .ok (.aload_n 0, 1) := dk_42 (dk_at dksX0_whole_0 16 rfl rfl)
theorem dX0_whole_17 : decode cX0_whole 17 = .ok (.invokevirtual 286, 3) := dk_182 1 30 (dk_at dksX0_whole_0 17 rfl rfl)
theorem dX0_whole_20 : decode cX0_whole 20 = .ok (.ireturn, 1) := dk_172 (dk_at dksX0_whole_0 20 rfl rfl)
theorem dX0_whole_21 : decode cX0_whole 21 = .ok (.bipush 100, 2) := dk_16 100 (dk_at dksX0_whole_0 21 rfl rfl)
theorem dX0_whole_23 : decode cX0_whole 23 = .ok (.istore_n 2, 1) := dk_61 (dk_at dksX0_whole_0 23 rfl rfl)
theorem dX0_whole_24 : decode cX0_whole 24 = .ok (.iconst 0, 1) := dk_3 (dk_at dksX0_whole_1 0 rfl rfl)
theorem dX0_whole_25 : decode cX0_whole 25 = .ok (.istore_n 3, 1) := dk_62 (dk_at dksX0_whole_1 1 rfl rfl)
theorem dX0_whole_26 : decode cX0_whole 26 = .ok (.iload_n 3, 1) := dk_29 (dk_at dksX0_whole_1 2 rfl rfl)
theorem dX0_whole_27 : decode cX0_whole 27 = .ok (.aload_n 0, 1) := dk_42 (dk_at dksX0_whole_1 3 rfl rfl)
theorem dX0_whole_28 : decode cX0_whole 28 = .ok (.getfield 91, 3) := dk_180 0 91 (dk_at dksX0_whole_1 4 rfl rfl)
theorem dX0_whole_31 : decode cX0_whole 31 = .ok (.if_icmp .ge 25, 3) := dk_162 0 25 (dk_at dksX0_whole_1 7 rfl rfl)
theorem dX0_whole_34 : decode cX0_whole 34 = .ok (.aload_n 0, 1) := dk_42 (dk_at dksX0_whole_1 10 rfl rfl)
theorem dX0_whole_35 : decode cX0_whole 35 = .ok (.iload_n 3, 1) := dk_29 (dk_at dksX0_whole_1 11 rfl rfl)
theorem dX0_whole_36 : decode cX0_whole 36 = .ok (.invokevirtual 263, 3) := dk_182 1 7 (dk_at dksX0_whole_1 12 rfl rfl)
theorem dX0_whole_39 : decode cX0_whole 39 = .ok (.iload_n 2, 1) := dk_28 (dk_at dksX0_whole_1 15 rfl rfl)
theorem dX0_whole_40 : decode cX0_whole 40 = .ok (.aload_n 0, 1) := dk_42 (dk_at dksX0_whole_1 16 rfl rfl)
theorem dX0_whole_41 : decode cX0_whole 41 = .ok (.iconst 0, 1) := dk_3 (dk_at dksX0_whole_1 17 rfl rfl)
theorem dX0_whole_42 : decode cX0_whole 42 = .ok (.invokevirtual 273, 3) := dk_182 1 17 (dk_at dksX0_whole_1 18 rfl rfl)
theorem dX0_whole_45 : decode cX0_whole 45 = .ok (.imul, 1) := dk_104 (dk_at dksX0_whole_1 21 rfl rfl)
theorem dX0_whole_46 : decode cX0_whole 46 = .ok (.bipush 100, 2) := dk_16 100 (dk_at dksX0_whole_1 22 rfl rfl)
theorem dX0_whole_48 : decode cX0_whole 48 = .ok (.idiv, 1) := dk_108 (dk_at dksX0_whole_2 0 rfl rfl)
theorem dX0_whole_49 : decode cX0_whole 49 = .ok (.istore_n 2, 1) := dk_61 (dk_at dksX0_whole_2 1 rfl rfl)
theorem dX0_whole_50 : decode cX0_whole 50 = .ok (.iinc 3 1, 3) := dk_132 3 1 (dk_at dksX0_whole_2 2 rfl rfl)
theorem dX0_whole_53 : decode cX0_whole 53 = .ok (.goto (-27), 3) := dk_167 255 229 (dk_at dksX0_whole_2 5 rfl rfl)
theorem dX0_whole_56 : decode cX0_whole 56 = .ok (.iload_n 2, 1) := dk_28 (dk_at dksX0_whole_2 8 rfl rfl)
theorem dX0_whole_57 : decode cX0_whole 57 = .ok (.ireturn, 1) := dk_172 (dk_at dksX0_whole_2 9 rfl rfl)
abbrev cX0_two : ByteArray := prog_1_method_38_code
def yX0_two : MethodName := ⟨RX0, "two", "()I"⟩
def dkwX0_two_4 : List UInt8 := [172]
abbrev dktX0_two_4 : List UInt8 := dkwX0_two_4 ++ []
def dkwX0_two_3 : List UInt8 := [180, 0, 91, 5, 162, 0, 7, 3, 167, 0, 16, 31, 33, 101, 22, 5, 101, 31, 20, 1, 28, 109, 109, 136]
abbrev dktX0_two_3 : List UInt8 := dkwX0_two_3 ++ dktX0_two_4
def dkwX0_two_2 : List UInt8 := [97, 55, 5, 33, 21, 8, 133, 105, 66, 31, 20, 1, 15, 105, 64, 132, 7, 1, 167, 255, 202, 42]
abbrev dktX0_two_2 : List UInt8 := dkwX0_two_2 ++ dktX0_two_3
def dkwX0_two_1 : List UInt8 := [182, 1, 7, 42, 3, 182, 1, 17, 54, 8, 22, 5, 21, 8, 133, 105, 33, 16, 100, 21, 8, 100, 133, 105]
abbrev dktX0_two_1 : List UInt8 := dkwX0_two_1 ++ dktX0_two_2
def dkwX0_two_0 : List UInt8 := [10, 64, 10, 66, 9, 55, 5, 3, 54, 7, 21, 7, 42, 180, 0, 91, 162, 0, 51, 42, 21, 7]
abbrev dktX0_two_0 : List UInt8 := dkwX0_two_0 ++ dktX0_two_1
theorem dksX0_two_0 : cX0_two.data.toList.drop 0 = dktX0_two_0 := by decide +kernel
theorem dksX0_two_1 : cX0_two.data.toList.drop 22 = dktX0_two_1 := dk_seg dksX0_two_0 22 rfl rfl
theorem dksX0_two_2 : cX0_two.data.toList.drop 46 = dktX0_two_2 := dk_seg dksX0_two_1 24 rfl rfl
theorem dksX0_two_3 : cX0_two.data.toList.drop 68 = dktX0_two_3 := dk_seg dksX0_two_2 22 rfl rfl
theorem dksX0_two_4 : cX0_two.data.toList.drop 92 = dktX0_two_4 := dk_seg dksX0_two_3 24 rfl rfl
theorem dX0_two_0 : decode cX0_two 0 = .ok (.lconst 1, 1) := dk_10 (dk_at dksX0_two_0 0 rfl rfl)
theorem dX0_two_1 : decode cX0_two 1 = .ok (.lstore_n 1, 1) := dk_64 (dk_at dksX0_two_0 1 rfl rfl)
theorem dX0_two_2 : decode cX0_two 2 = .ok (.lconst 1, 1) := dk_10 (dk_at dksX0_two_0 2 rfl rfl)
theorem dX0_two_3 : decode cX0_two 3 = .ok (.lstore_n 3, 1) := dk_66 (dk_at dksX0_two_0 3 rfl rfl)
theorem dX0_two_4 : decode cX0_two 4 = .ok (.lconst 0, 1) := dk_9 (dk_at dksX0_two_0 4 rfl rfl)
theorem dX0_two_5 : decode cX0_two 5 = .ok (.lstore 5, 2) := dk_55 5 (dk_at dksX0_two_0 5 rfl rfl)
theorem dX0_two_7 : decode cX0_two 7 = .ok (.iconst 0, 1) := dk_3 (dk_at dksX0_two_0 7 rfl rfl)
theorem dX0_two_8 : decode cX0_two 8 = .ok (.istore 7, 2) := dk_54 7 (dk_at dksX0_two_0 8 rfl rfl)
theorem dX0_two_10 : decode cX0_two 10 = .ok (.iload 7, 2) := dk_21 7 (dk_at dksX0_two_0 10 rfl rfl)
theorem dX0_two_12 : decode cX0_two 12 = .ok (.aload_n 0, 1) := dk_42 (dk_at dksX0_two_0 12 rfl rfl)
theorem dX0_two_13 : decode cX0_two 13 = .ok (.getfield 91, 3) := dk_180 0 91 (dk_at dksX0_two_0 13 rfl rfl)
theorem dX0_two_16 : decode cX0_two 16 = .ok (.if_icmp .ge 51, 3) := dk_162 0 51 (dk_at dksX0_two_0 16 rfl rfl)
theorem dX0_two_19 : decode cX0_two 19 = .ok (.aload_n 0, 1) := dk_42 (dk_at dksX0_two_0 19 rfl rfl)
theorem dX0_two_20 : decode cX0_two 20 = .ok (.iload 7, 2) := dk_21 7 (dk_at dksX0_two_0 20 rfl rfl)
theorem dX0_two_22 : decode cX0_two 22 = .ok (.invokevirtual 263, 3) := dk_182 1 7 (dk_at dksX0_two_1 0 rfl rfl)
theorem dX0_two_25 : decode cX0_two 25 = .ok (.aload_n 0, 1) := dk_42 (dk_at dksX0_two_1 3 rfl rfl)
theorem dX0_two_26 : decode cX0_two 26 = .ok (.iconst 0, 1) := dk_3 (dk_at dksX0_two_1 4 rfl rfl)
theorem dX0_two_27 : decode cX0_two 27 = .ok (.invokevirtual 273, 3) := dk_182 1 17 (dk_at dksX0_two_1 5 rfl rfl)
theorem dX0_two_30 : decode cX0_two 30 = .ok (.istore 8, 2) := dk_54 8 (dk_at dksX0_two_1 8 rfl rfl)
theorem dX0_two_32 : decode cX0_two 32 = .ok (.lload 5, 2) := dk_22 5 (dk_at dksX0_two_1 10 rfl rfl)
theorem dX0_two_34 : decode cX0_two 34 = .ok (.iload 8, 2) := dk_21 8 (dk_at dksX0_two_1 12 rfl rfl)
theorem dX0_two_36 : decode cX0_two 36 = .ok (.i2l, 1) := dk_133 (dk_at dksX0_two_1 14 rfl rfl)
theorem dX0_two_37 : decode cX0_two 37 = .ok (.lmul, 1) := dk_105 (dk_at dksX0_two_1 15 rfl rfl)
theorem dX0_two_38 : decode cX0_two 38 = .ok (.lload_n 3, 1) := dk_33 (dk_at dksX0_two_1 16 rfl rfl)
theorem dX0_two_39 : decode cX0_two 39 = .ok (.bipush 100, 2) := dk_16 100 (dk_at dksX0_two_1 17 rfl rfl)
theorem dX0_two_41 : decode cX0_two 41 = .ok (.iload 8, 2) := dk_21 8 (dk_at dksX0_two_1 19 rfl rfl)
theorem dX0_two_43 : decode cX0_two 43 = .ok (.isub, 1) := dk_100 (dk_at dksX0_two_1 21 rfl rfl)
theorem dX0_two_44 : decode cX0_two 44 = .ok (.i2l, 1) := dk_133 (dk_at dksX0_two_1 22 rfl rfl)
theorem dX0_two_45 : decode cX0_two 45 = .ok (.lmul, 1) := dk_105 (dk_at dksX0_two_1 23 rfl rfl)
theorem dX0_two_46 : decode cX0_two 46 = .ok (.ladd, 1) := dk_97 (dk_at dksX0_two_2 0 rfl rfl)
theorem dX0_two_47 : decode cX0_two 47 = .ok (.lstore 5, 2) := dk_55 5 (dk_at dksX0_two_2 1 rfl rfl)
theorem dX0_two_49 : decode cX0_two 49 = .ok (.lload_n 3, 1) := dk_33 (dk_at dksX0_two_2 3 rfl rfl)
theorem dX0_two_50 : decode cX0_two 50 = .ok (.iload 8, 2) := dk_21 8 (dk_at dksX0_two_2 4 rfl rfl)
theorem dX0_two_52 : decode cX0_two 52 = .ok (.i2l, 1) := dk_133 (dk_at dksX0_two_2 6 rfl rfl)
theorem dX0_two_53 : decode cX0_two 53 = .ok (.lmul, 1) := dk_105 (dk_at dksX0_two_2 7 rfl rfl)
theorem dX0_two_54 : decode cX0_two 54 = .ok (.lstore_n 3, 1) := dk_66 (dk_at dksX0_two_2 8 rfl rfl)
theorem dX0_two_55 : decode cX0_two 55 = .ok (.lload_n 1, 1) := dk_31 (dk_at dksX0_two_2 9 rfl rfl)
theorem dX0_two_56 : decode cX0_two 56 = .ok (.ldc2_w 271, 3) := dk_20 1 15 (dk_at dksX0_two_2 10 rfl rfl)
theorem dX0_two_59 : decode cX0_two 59 = .ok (.lmul, 1) := dk_105 (dk_at dksX0_two_2 13 rfl rfl)
theorem dX0_two_60 : decode cX0_two 60 = .ok (.lstore_n 1, 1) := dk_64 (dk_at dksX0_two_2 14 rfl rfl)
theorem dX0_two_61 : decode cX0_two 61 = .ok (.iinc 7 1, 3) := dk_132 7 1 (dk_at dksX0_two_2 15 rfl rfl)
theorem dX0_two_64 : decode cX0_two 64 = .ok (.goto (-54), 3) := dk_167 255 202 (dk_at dksX0_two_2 18 rfl rfl)
theorem dX0_two_67 : decode cX0_two 67 = .ok (.aload_n 0, 1) := dk_42 (dk_at dksX0_two_2 21 rfl rfl)
theorem dX0_two_68 : decode cX0_two 68 = .ok (.getfield 91, 3) := dk_180 0 91 (dk_at dksX0_two_3 0 rfl rfl)
theorem dX0_two_71 : decode cX0_two 71 = .ok (.iconst 2, 1) := dk_5 (dk_at dksX0_two_3 3 rfl rfl)
theorem dX0_two_72 : decode cX0_two 72 = .ok (.if_icmp .ge 7, 3) := dk_162 0 7 (dk_at dksX0_two_3 4 rfl rfl)
theorem dX0_two_75 : decode cX0_two 75 = .ok (.iconst 0, 1) := dk_3 (dk_at dksX0_two_3 7 rfl rfl)
theorem dX0_two_76 : decode cX0_two 76 = .ok (.goto 16, 3) := dk_167 0 16 (dk_at dksX0_two_3 8 rfl rfl)
theorem dX0_two_79 : decode cX0_two 79 = .ok (.lload_n 1, 1) := dk_31 (dk_at dksX0_two_3 11 rfl rfl)
theorem dX0_two_80 : decode cX0_two 80 = .ok (.lload_n 3, 1) := dk_33 (dk_at dksX0_two_3 12 rfl rfl)
theorem dX0_two_81 : decode cX0_two 81 = .ok (.lsub, 1) := dk_101 (dk_at dksX0_two_3 13 rfl rfl)
theorem dX0_two_82 : decode cX0_two 82 = .ok (.lload 5, 2) := dk_22 5 (dk_at dksX0_two_3 14 rfl rfl)
theorem dX0_two_84 : decode cX0_two 84 = .ok (.lsub, 1) := dk_101 (dk_at dksX0_two_3 16 rfl rfl)
theorem dX0_two_85 : decode cX0_two 85 = .ok (.lload_n 1, 1) := dk_31 (dk_at dksX0_two_3 17 rfl rfl)
theorem dX0_two_86 : decode cX0_two 86 = .ok (.ldc2_w 284, 3) := dk_20 1 28 (dk_at dksX0_two_3 18 rfl rfl)
theorem dX0_two_89 : decode cX0_two 89 = .ok (.ldiv, 1) := dk_109 (dk_at dksX0_two_3 21 rfl rfl)
theorem dX0_two_90 : decode cX0_two 90 = .ok (.ldiv, 1) := dk_109 (dk_at dksX0_two_3 22 rfl rfl)
theorem dX0_two_91 : decode cX0_two 91 = .ok (.l2i, 1) := dk_136 (dk_at dksX0_two_3 23 rfl rfl)
theorem dX0_two_92 : decode cX0_two 92 = .ok (.ireturn, 1) := dk_172 (dk_at dksX0_two_4 0 rfl rfl)
abbrev cX0_odd : ByteArray := prog_1_method_40_code
def yX0_odd : MethodName := ⟨RX0, "odd", "()I"⟩
def dkwX0_odd_7 : List UInt8 := [4, 29, 120, 128, 61, 132, 3, 1, 167, 255, 206, 28, 172]
abbrev dktX0_odd_7 : List UInt8 := dkwX0_odd_7 ++ []
def dkwX0_odd_6 : List UInt8 := [180, 0, 60, 29, 46, 42, 180, 0, 63, 27, 4, 100, 5, 108, 46, 100, 184, 1, 33, 5, 164, 0, 9, 28]
abbrev dktX0_odd_6 : List UInt8 := dkwX0_odd_6 ++ dktX0_odd_7
def dkwX0_odd_5 : List UInt8 := [3, 61, 3, 62, 29, 42, 180, 0, 91, 162, 0, 48, 42, 180, 0, 60, 29, 46, 155, 0, 33, 42]
abbrev dktX0_odd_5 : List UInt8 := dkwX0_odd_5 ++ dktX0_odd_6
def dkwX0_odd_4 : List UInt8 := [167, 255, 218, 42, 180, 0, 63, 29, 42, 180, 0, 60, 28, 46, 79, 132, 1, 1, 132, 2, 1, 167, 255, 148]
abbrev dktX0_odd_4 : List UInt8 := dkwX0_odd_4 ++ dktX0_odd_5
def dkwX0_odd_3 : List UInt8 := [28, 46, 164, 0, 23, 42, 180, 0, 63, 29, 42, 180, 0, 63, 29, 4, 100, 46, 79, 132, 3, 255]
abbrev dktX0_odd_3 : List UInt8 := dkwX0_odd_3 ++ dktX0_odd_4
def dkwX0_odd_2 : List UInt8 := [156, 0, 6, 167, 0, 61, 27, 62, 29, 158, 0, 40, 42, 180, 0, 63, 29, 4, 100, 46, 42, 180, 0, 60]
abbrev dktX0_odd_2 : List UInt8 := dkwX0_odd_2 ++ dktX0_odd_3
def dkwX0_odd_1 : List UInt8 := [182, 1, 21, 154, 0, 11, 42, 3, 182, 1, 25, 167, 0, 4, 2, 79, 42, 180, 0, 60, 28, 46]
abbrev dktX0_odd_1 : List UInt8 := dkwX0_odd_1 ++ dktX0_odd_2
def dkwX0_odd_0 : List UInt8 := [3, 60, 3, 61, 28, 42, 180, 0, 91, 162, 0, 106, 42, 28, 182, 1, 7, 42, 180, 0, 60, 28, 42]
abbrev dktX0_odd_0 : List UInt8 := dkwX0_odd_0 ++ dktX0_odd_1
theorem dksX0_odd_0 : cX0_odd.data.toList.drop 0 = dktX0_odd_0 := by decide +kernel
theorem dksX0_odd_1 : cX0_odd.data.toList.drop 23 = dktX0_odd_1 := dk_seg dksX0_odd_0 23 rfl rfl
theorem dksX0_odd_2 : cX0_odd.data.toList.drop 45 = dktX0_odd_2 := dk_seg dksX0_odd_1 22 rfl rfl
theorem dksX0_odd_3 : cX0_odd.data.toList.drop 69 = dktX0_odd_3 := dk_seg dksX0_odd_2 24 rfl rfl
theorem dksX0_odd_4 : cX0_odd.data.toList.drop 91 = dktX0_odd_4 := dk_seg dksX0_odd_3 22 rfl rfl
theorem dksX0_odd_5 : cX0_odd.data.toList.drop 115 = dktX0_odd_5 := dk_seg dksX0_odd_4 24 rfl rfl
theorem dksX0_odd_6 : cX0_odd.data.toList.drop 137 = dktX0_odd_6 := dk_seg dksX0_odd_5 22 rfl rfl
theorem dksX0_odd_7 : cX0_odd.data.toList.drop 161 = dktX0_odd_7 := dk_seg dksX0_odd_6 24 rfl rfl
theorem dX0_odd_0 : decode cX0_odd 0 = .ok (.iconst 0, 1) := dk_3 (dk_at dksX0_odd_0 0 rfl rfl)
theorem dX0_odd_1 : decode cX0_odd 1 = .ok (.istore_n 1, 1) := dk_60 (dk_at dksX0_odd_0 1 rfl rfl)
theorem dX0_odd_2 : decode cX0_odd 2 = .ok (.iconst 0, 1) := dk_3 (dk_at dksX0_odd_0 2 rfl rfl)
theorem dX0_odd_3 : decode cX0_odd 3 = .ok (.istore_n 2, 1) := dk_61 (dk_at dksX0_odd_0 3 rfl rfl)
theorem dX0_odd_4 : decode cX0_odd 4 = .ok (.iload_n 2, 1) := dk_28 (dk_at dksX0_odd_0 4 rfl rfl)
theorem dX0_odd_5 : decode cX0_odd 5 = .ok (.aload_n 0, 1) := dk_42 (dk_at dksX0_odd_0 5 rfl rfl)
theorem dX0_odd_6 : decode cX0_odd 6 = .ok (.getfield 91, 3) := dk_180 0 91 (dk_at dksX0_odd_0 6 rfl rfl)
theorem dX0_odd_9 : decode cX0_odd 9 = .ok (.if_icmp .ge 106, 3) := dk_162 0 106 (dk_at dksX0_odd_0 9 rfl rfl)
theorem dX0_odd_12 : decode cX0_odd 12 = .ok (.aload_n 0, 1) := dk_42 (dk_at dksX0_odd_0 12 rfl rfl)
theorem dX0_odd_13 : decode cX0_odd 13 = .ok (.iload_n 2, 1) := dk_28 (dk_at dksX0_odd_0 13 rfl rfl)
theorem dX0_odd_14 : decode cX0_odd 14 = .ok (.invokevirtual 263, 3) := dk_182 1 7 (dk_at dksX0_odd_0 14 rfl rfl)
theorem dX0_odd_17 : decode cX0_odd 17 = .ok (.aload_n 0, 1) := dk_42 (dk_at dksX0_odd_0 17 rfl rfl)
theorem dX0_odd_18 : decode cX0_odd 18 = .ok (.getfield 60, 3) := dk_180 0 60 (dk_at dksX0_odd_0 18 rfl rfl)
theorem dX0_odd_21 : decode cX0_odd 21 = .ok (.iload_n 2, 1) := dk_28 (dk_at dksX0_odd_0 21 rfl rfl)
theorem dX0_odd_22 : decode cX0_odd 22 = .ok (.aload_n 0, 1) := dk_42 (dk_at dksX0_odd_0 22 rfl rfl)
theorem dX0_odd_23 : decode cX0_odd 23 = .ok (.invokevirtual 277, 3) := dk_182 1 21 (dk_at dksX0_odd_1 0 rfl rfl)
theorem dX0_odd_26 : decode cX0_odd 26 = .ok (.ifCond .ne 11, 3) := dk_154 0 11 (dk_at dksX0_odd_1 3 rfl rfl)
theorem dX0_odd_29 : decode cX0_odd 29 = .ok (.aload_n 0, 1) := dk_42 (dk_at dksX0_odd_1 6 rfl rfl)
theorem dX0_odd_30 : decode cX0_odd 30 = .ok (.iconst 0, 1) := dk_3 (dk_at dksX0_odd_1 7 rfl rfl)
theorem dX0_odd_31 : decode cX0_odd 31 = .ok (.invokevirtual 281, 3) := dk_182 1 25 (dk_at dksX0_odd_1 8 rfl rfl)
theorem dX0_odd_34 : decode cX0_odd 34 = .ok (.goto 4, 3) := dk_167 0 4 (dk_at dksX0_odd_1 11 rfl rfl)
theorem dX0_odd_37 : decode cX0_odd 37 = .ok (.iconst (-1), 1) := dk_2 (dk_at dksX0_odd_1 14 rfl rfl)
theorem dX0_odd_38 : decode cX0_odd 38 = .ok (.iastore, 1) := dk_79 (dk_at dksX0_odd_1 15 rfl rfl)
theorem dX0_odd_39 : decode cX0_odd 39 = .ok (.aload_n 0, 1) := dk_42 (dk_at dksX0_odd_1 16 rfl rfl)
theorem dX0_odd_40 : decode cX0_odd 40 = .ok (.getfield 60, 3) := dk_180 0 60 (dk_at dksX0_odd_1 17 rfl rfl)
theorem dX0_odd_43 : decode cX0_odd 43 = .ok (.iload_n 2, 1) := dk_28 (dk_at dksX0_odd_1 20 rfl rfl)
theorem dX0_odd_44 : decode cX0_odd 44 = .ok (.iaload, 1) := dk_46 (dk_at dksX0_odd_1 21 rfl rfl)
theorem dX0_odd_45 : decode cX0_odd 45 = .ok (.ifCond .ge 6, 3) := dk_156 0 6 (dk_at dksX0_odd_2 0 rfl rfl)
theorem dX0_odd_48 : decode cX0_odd 48 = .ok (.goto 61, 3) := dk_167 0 61 (dk_at dksX0_odd_2 3 rfl rfl)
theorem dX0_odd_51 : decode cX0_odd 51 = .ok (.iload_n 1, 1) := dk_27 (dk_at dksX0_odd_2 6 rfl rfl)
theorem dX0_odd_52 : decode cX0_odd 52 = .ok (.istore_n 3, 1) := dk_62 (dk_at dksX0_odd_2 7 rfl rfl)
theorem dX0_odd_53 : decode cX0_odd 53 = .ok (.iload_n 3, 1) := dk_29 (dk_at dksX0_odd_2 8 rfl rfl)
theorem dX0_odd_54 : decode cX0_odd 54 = .ok (.ifCond .le 40, 3) := dk_158 0 40 (dk_at dksX0_odd_2 9 rfl rfl)
theorem dX0_odd_57 : decode cX0_odd 57 = .ok (.aload_n 0, 1) := dk_42 (dk_at dksX0_odd_2 12 rfl rfl)
theorem dX0_odd_58 : decode cX0_odd 58 = .ok (.getfield 63, 3) := dk_180 0 63 (dk_at dksX0_odd_2 13 rfl rfl)
theorem dX0_odd_61 : decode cX0_odd 61 = .ok (.iload_n 3, 1) := dk_29 (dk_at dksX0_odd_2 16 rfl rfl)
theorem dX0_odd_62 : decode cX0_odd 62 = .ok (.iconst 1, 1) := dk_4 (dk_at dksX0_odd_2 17 rfl rfl)
theorem dX0_odd_63 : decode cX0_odd 63 = .ok (.isub, 1) := dk_100 (dk_at dksX0_odd_2 18 rfl rfl)
theorem dX0_odd_64 : decode cX0_odd 64 = .ok (.iaload, 1) := dk_46 (dk_at dksX0_odd_2 19 rfl rfl)
theorem dX0_odd_65 : decode cX0_odd 65 = .ok (.aload_n 0, 1) := dk_42 (dk_at dksX0_odd_2 20 rfl rfl)
theorem dX0_odd_66 : decode cX0_odd 66 = .ok (.getfield 60, 3) := dk_180 0 60 (dk_at dksX0_odd_2 21 rfl rfl)
theorem dX0_odd_69 : decode cX0_odd 69 = .ok (.iload_n 2, 1) := dk_28 (dk_at dksX0_odd_3 0 rfl rfl)
theorem dX0_odd_70 : decode cX0_odd 70 = .ok (.iaload, 1) := dk_46 (dk_at dksX0_odd_3 1 rfl rfl)
theorem dX0_odd_71 : decode cX0_odd 71 = .ok (.if_icmp .le 23, 3) := dk_164 0 23 (dk_at dksX0_odd_3 2 rfl rfl)
theorem dX0_odd_74 : decode cX0_odd 74 = .ok (.aload_n 0, 1) := dk_42 (dk_at dksX0_odd_3 5 rfl rfl)
theorem dX0_odd_75 : decode cX0_odd 75 = .ok (.getfield 63, 3) := dk_180 0 63 (dk_at dksX0_odd_3 6 rfl rfl)
theorem dX0_odd_78 : decode cX0_odd 78 = .ok (.iload_n 3, 1) := dk_29 (dk_at dksX0_odd_3 9 rfl rfl)
theorem dX0_odd_79 : decode cX0_odd 79 = .ok (.aload_n 0, 1) := dk_42 (dk_at dksX0_odd_3 10 rfl rfl)
theorem dX0_odd_80 : decode cX0_odd 80 = .ok (.getfield 63, 3) := dk_180 0 63 (dk_at dksX0_odd_3 11 rfl rfl)
theorem dX0_odd_83 : decode cX0_odd 83 = .ok (.iload_n 3, 1) := dk_29 (dk_at dksX0_odd_3 14 rfl rfl)
theorem dX0_odd_84 : decode cX0_odd 84 = .ok (.iconst 1, 1) := dk_4 (dk_at dksX0_odd_3 15 rfl rfl)
theorem dX0_odd_85 : decode cX0_odd 85 = .ok (.isub, 1) := dk_100 (dk_at dksX0_odd_3 16 rfl rfl)
theorem dX0_odd_86 : decode cX0_odd 86 = .ok (.iaload, 1) := dk_46 (dk_at dksX0_odd_3 17 rfl rfl)
theorem dX0_odd_87 : decode cX0_odd 87 = .ok (.iastore, 1) := dk_79 (dk_at dksX0_odd_3 18 rfl rfl)
theorem dX0_odd_88 : decode cX0_odd 88 = .ok (.iinc 3 (-1), 3) := dk_132 3 255 (dk_at dksX0_odd_3 19 rfl rfl)
theorem dX0_odd_91 : decode cX0_odd 91 = .ok (.goto (-38), 3) := dk_167 255 218 (dk_at dksX0_odd_4 0 rfl rfl)
theorem dX0_odd_94 : decode cX0_odd 94 = .ok (.aload_n 0, 1) := dk_42 (dk_at dksX0_odd_4 3 rfl rfl)
theorem dX0_odd_95 : decode cX0_odd 95 = .ok (.getfield 63, 3) := dk_180 0 63 (dk_at dksX0_odd_4 4 rfl rfl)
theorem dX0_odd_98 : decode cX0_odd 98 = .ok (.iload_n 3, 1) := dk_29 (dk_at dksX0_odd_4 7 rfl rfl)
theorem dX0_odd_99 : decode cX0_odd 99 = .ok (.aload_n 0, 1) := dk_42 (dk_at dksX0_odd_4 8 rfl rfl)
theorem dX0_odd_100 : decode cX0_odd 100 = .ok (.getfield 60, 3) := dk_180 0 60 (dk_at dksX0_odd_4 9 rfl rfl)
theorem dX0_odd_103 : decode cX0_odd 103 = .ok (.iload_n 2, 1) := dk_28 (dk_at dksX0_odd_4 12 rfl rfl)
theorem dX0_odd_104 : decode cX0_odd 104 = .ok (.iaload, 1) := dk_46 (dk_at dksX0_odd_4 13 rfl rfl)
theorem dX0_odd_105 : decode cX0_odd 105 = .ok (.iastore, 1) := dk_79 (dk_at dksX0_odd_4 14 rfl rfl)
theorem dX0_odd_106 : decode cX0_odd 106 = .ok (.iinc 1 1, 3) := dk_132 1 1 (dk_at dksX0_odd_4 15 rfl rfl)
theorem dX0_odd_109 : decode cX0_odd 109 = .ok (.iinc 2 1, 3) := dk_132 2 1 (dk_at dksX0_odd_4 18 rfl rfl)
theorem dX0_odd_112 : decode cX0_odd 112 = .ok (.goto (-108), 3) := dk_167 255 148 (dk_at dksX0_odd_4 21 rfl rfl)
theorem dX0_odd_115 : decode cX0_odd 115 = .ok (.iconst 0, 1) := dk_3 (dk_at dksX0_odd_5 0 rfl rfl)
theorem dX0_odd_116 : decode cX0_odd 116 = .ok (.istore_n 2, 1) := dk_61 (dk_at dksX0_odd_5 1 rfl rfl)
theorem dX0_odd_117 : decode cX0_odd 117 = .ok (.iconst 0, 1) := dk_3 (dk_at dksX0_odd_5 2 rfl rfl)
theorem dX0_odd_118 : decode cX0_odd 118 = .ok (.istore_n 3, 1) := dk_62 (dk_at dksX0_odd_5 3 rfl rfl)
theorem dX0_odd_119 : decode cX0_odd 119 = .ok (.iload_n 3, 1) := dk_29 (dk_at dksX0_odd_5 4 rfl rfl)
theorem dX0_odd_120 : decode cX0_odd 120 = .ok (.aload_n 0, 1) := dk_42 (dk_at dksX0_odd_5 5 rfl rfl)
theorem dX0_odd_121 : decode cX0_odd 121 = .ok (.getfield 91, 3) := dk_180 0 91 (dk_at dksX0_odd_5 6 rfl rfl)
theorem dX0_odd_124 : decode cX0_odd 124 = .ok (.if_icmp .ge 48, 3) := dk_162 0 48 (dk_at dksX0_odd_5 9 rfl rfl)
theorem dX0_odd_127 : decode cX0_odd 127 = .ok (.aload_n 0, 1) := dk_42 (dk_at dksX0_odd_5 12 rfl rfl)
theorem dX0_odd_128 : decode cX0_odd 128 = .ok (.getfield 60, 3) := dk_180 0 60 (dk_at dksX0_odd_5 13 rfl rfl)
theorem dX0_odd_131 : decode cX0_odd 131 = .ok (.iload_n 3, 1) := dk_29 (dk_at dksX0_odd_5 16 rfl rfl)
theorem dX0_odd_132 : decode cX0_odd 132 = .ok (.iaload, 1) := dk_46 (dk_at dksX0_odd_5 17 rfl rfl)
theorem dX0_odd_133 : decode cX0_odd 133 = .ok (.ifCond .lt 33, 3) := dk_155 0 33 (dk_at dksX0_odd_5 18 rfl rfl)
theorem dX0_odd_136 : decode cX0_odd 136 = .ok (.aload_n 0, 1) := dk_42 (dk_at dksX0_odd_5 21 rfl rfl)
theorem dX0_odd_137 : decode cX0_odd 137 = .ok (.getfield 60, 3) := dk_180 0 60 (dk_at dksX0_odd_6 0 rfl rfl)
theorem dX0_odd_140 : decode cX0_odd 140 = .ok (.iload_n 3, 1) := dk_29 (dk_at dksX0_odd_6 3 rfl rfl)
theorem dX0_odd_141 : decode cX0_odd 141 = .ok (.iaload, 1) := dk_46 (dk_at dksX0_odd_6 4 rfl rfl)
theorem dX0_odd_142 : decode cX0_odd 142 = .ok (.aload_n 0, 1) := dk_42 (dk_at dksX0_odd_6 5 rfl rfl)
theorem dX0_odd_143 : decode cX0_odd 143 = .ok (.getfield 63, 3) := dk_180 0 63 (dk_at dksX0_odd_6 6 rfl rfl)
theorem dX0_odd_146 : decode cX0_odd 146 = .ok (.iload_n 1, 1) := dk_27 (dk_at dksX0_odd_6 9 rfl rfl)
theorem dX0_odd_147 : decode cX0_odd 147 = .ok (.iconst 1, 1) := dk_4 (dk_at dksX0_odd_6 10 rfl rfl)
theorem dX0_odd_148 : decode cX0_odd 148 = .ok (.isub, 1) := dk_100 (dk_at dksX0_odd_6 11 rfl rfl)
theorem dX0_odd_149 : decode cX0_odd 149 = .ok (.iconst 2, 1) := dk_5 (dk_at dksX0_odd_6 12 rfl rfl)
theorem dX0_odd_150 : decode cX0_odd 150 = .ok (.idiv, 1) := dk_108 (dk_at dksX0_odd_6 13 rfl rfl)
theorem dX0_odd_151 : decode cX0_odd 151 = .ok (.iaload, 1) := dk_46 (dk_at dksX0_odd_6 14 rfl rfl)
theorem dX0_odd_152 : decode cX0_odd 152 = .ok (.isub, 1) := dk_100 (dk_at dksX0_odd_6 15 rfl rfl)
theorem dX0_odd_153 : decode cX0_odd 153 = .ok (.invokestatic 289, 3) := dk_184 1 33 (dk_at dksX0_odd_6 16 rfl rfl)
theorem dX0_odd_156 : decode cX0_odd 156 = .ok (.iconst 2, 1) := dk_5 (dk_at dksX0_odd_6 19 rfl rfl)
theorem dX0_odd_157 : decode cX0_odd 157 = .ok (.if_icmp .le 9, 3) := dk_164 0 9 (dk_at dksX0_odd_6 20 rfl rfl)
theorem dX0_odd_160 : decode cX0_odd 160 = .ok (.iload_n 2, 1) := dk_28 (dk_at dksX0_odd_6 23 rfl rfl)
theorem dX0_odd_161 : decode cX0_odd 161 = .ok (.iconst 1, 1) := dk_4 (dk_at dksX0_odd_7 0 rfl rfl)
theorem dX0_odd_162 : decode cX0_odd 162 = .ok (.iload_n 3, 1) := dk_29 (dk_at dksX0_odd_7 1 rfl rfl)
theorem dX0_odd_163 : decode cX0_odd 163 = .ok (.ishl, 1) := dk_120 (dk_at dksX0_odd_7 2 rfl rfl)
theorem dX0_odd_164 : decode cX0_odd 164 = .ok (.ior, 1) := dk_128 (dk_at dksX0_odd_7 3 rfl rfl)
theorem dX0_odd_165 : decode cX0_odd 165 = .ok (.istore_n 2, 1) := dk_61 (dk_at dksX0_odd_7 4 rfl rfl)
theorem dX0_odd_166 : decode cX0_odd 166 = .ok (.iinc 3 1, 3) := dk_132 3 1 (dk_at dksX0_odd_7 5 rfl rfl)
theorem dX0_odd_169 : decode cX0_odd 169 = .ok (.goto (-50), 3) := dk_167 255 206 (dk_at dksX0_odd_7 8 rfl rfl)
theorem dX0_odd_172 : decode cX0_odd 172 = .ok (.iload_n 2, 1) := dk_28 (dk_at dksX0_odd_7 11 rfl rfl)
theorem dX0_odd_173 : decode cX0_odd 173 = .ok (.ireturn, 1) := dk_172 (dk_at dksX0_odd_7 12 rfl rfl)
abbrev cX0_next : ByteArray := prog_1_method_41_code
def yX0_next : MethodName := ⟨RX0, "next", "(I)I"⟩
def dkwX0_next_6 : List UInt8 := [148, 155, 0, 6, 167, 0, 9, 21, 5, 61, 22, 10, 66, 132, 5, 1, 167, 255, 122, 28, 172]
abbrev dktX0_next_6 : List UInt8 := dkwX0_next_6 ++ []
def dkwX0_next_5 : List UInt8 := [184, 1, 36, 42, 180, 0, 25, 21, 5, 50, 180, 0, 142, 133, 105, 55, 10, 28, 155, 0, 13, 22, 10, 33]
abbrev dktX0_next_5 : List UInt8 := dkwX0_next_5 ++ dktX0_next_6
def dkwX0_next_4 : List UInt8 := [21, 5, 21, 10, 182, 0, 246, 100, 133, 105, 97, 55, 8, 132, 10, 1, 167, 255, 198, 22, 6, 22, 8]
abbrev dktX0_next_4 : List UInt8 := dkwX0_next_4 ++ dktX0_next_5
def dkwX0_next_3 : List UInt8 := [21, 5, 21, 10, 182, 0, 246, 133, 105, 97, 55, 6, 22, 8, 42, 180, 0, 50, 21, 10, 47, 16, 100, 42]
abbrev dktX0_next_3 : List UInt8 := dkwX0_next_3 ++ dktX0_next_4
def dkwX0_next_2 : List UInt8 := [55, 8, 3, 54, 10, 21, 10, 17, 0, 180, 162, 0, 56, 22, 6, 42, 180, 0, 50, 21, 10, 47, 42]
abbrev dktX0_next_2 : List UInt8 := dkwX0_next_2 ++ dktX0_next_3
def dkwX0_next_1 : List UInt8 := [21, 5, 16, 6, 162, 0, 133, 42, 180, 0, 57, 21, 5, 51, 153, 0, 6, 167, 0, 114, 9, 55, 6, 9]
abbrev dktX0_next_1 : List UInt8 := dkwX0_next_1 ++ dktX0_next_2
def dkwX0_next_0 : List UInt8 := [42, 27, 182, 0, 98, 154, 0, 5, 2, 172, 42, 27, 182, 1, 7, 16, 254, 61, 9, 66, 3, 54, 5]
abbrev dktX0_next_0 : List UInt8 := dkwX0_next_0 ++ dktX0_next_1
theorem dksX0_next_0 : cX0_next.data.toList.drop 0 = dktX0_next_0 := by decide +kernel
theorem dksX0_next_1 : cX0_next.data.toList.drop 23 = dktX0_next_1 := dk_seg dksX0_next_0 23 rfl rfl
theorem dksX0_next_2 : cX0_next.data.toList.drop 47 = dktX0_next_2 := dk_seg dksX0_next_1 24 rfl rfl
theorem dksX0_next_3 : cX0_next.data.toList.drop 70 = dktX0_next_3 := dk_seg dksX0_next_2 23 rfl rfl
theorem dksX0_next_4 : cX0_next.data.toList.drop 94 = dktX0_next_4 := dk_seg dksX0_next_3 24 rfl rfl
theorem dksX0_next_5 : cX0_next.data.toList.drop 117 = dktX0_next_5 := dk_seg dksX0_next_4 23 rfl rfl
theorem dksX0_next_6 : cX0_next.data.toList.drop 141 = dktX0_next_6 := dk_seg dksX0_next_5 24 rfl rfl
theorem dX0_next_0 : decode cX0_next 0 = .ok (.aload_n 0, 1) := dk_42 (dk_at dksX0_next_0 0 rfl rfl)
theorem dX0_next_1 : decode cX0_next 1 = .ok (.iload_n 1, 1) := dk_27 (dk_at dksX0_next_0 1 rfl rfl)
theorem dX0_next_2 : decode cX0_next 2 = .ok (.invokevirtual 98, 3) := dk_182 0 98 (dk_at dksX0_next_0 2 rfl rfl)
theorem dX0_next_5 : decode cX0_next 5 = .ok (.ifCond .ne 5, 3) := dk_154 0 5 (dk_at dksX0_next_0 5 rfl rfl)
theorem dX0_next_8 : decode cX0_next 8 = .ok (.iconst (-1), 1) := dk_2 (dk_at dksX0_next_0 8 rfl rfl)
theorem dX0_next_9 : decode cX0_next 9 = .ok (.ireturn, 1) := dk_172 (dk_at dksX0_next_0 9 rfl rfl)
theorem dX0_next_10 : decode cX0_next 10 = .ok (.aload_n 0, 1) := dk_42 (dk_at dksX0_next_0 10 rfl rfl)
theorem dX0_next_11 : decode cX0_next 11 = .ok (.iload_n 1, 1) := dk_27 (dk_at dksX0_next_0 11 rfl rfl)
theorem dX0_next_12 : decode cX0_next 12 = .ok (.invokevirtual 263, 3) := dk_182 1 7 (dk_at dksX0_next_0 12 rfl rfl)
theorem dX0_next_15 : decode cX0_next 15 = .ok (.bipush (-2), 2) := dk_16 254 (dk_at dksX0_next_0 15 rfl rfl)
theorem dX0_next_17 : decode cX0_next 17 = .ok (.istore_n 2, 1) := dk_61 (dk_at dksX0_next_0 17 rfl rfl)
theorem dX0_next_18 : decode cX0_next 18 = .ok (.lconst 0, 1) := dk_9 (dk_at dksX0_next_0 18 rfl rfl)
theorem dX0_next_19 : decode cX0_next 19 = .ok (.lstore_n 3, 1) := dk_66 (dk_at dksX0_next_0 19 rfl rfl)
theorem dX0_next_20 : decode cX0_next 20 = .ok (.iconst 0, 1) := dk_3 (dk_at dksX0_next_0 20 rfl rfl)
theorem dX0_next_21 : decode cX0_next 21 = .ok (.istore 5, 2) := dk_54 5 (dk_at dksX0_next_0 21 rfl rfl)
theorem dX0_next_23 : decode cX0_next 23 = .ok (.iload 5, 2) := dk_21 5 (dk_at dksX0_next_1 0 rfl rfl)
theorem dX0_next_25 : decode cX0_next 25 = .ok (.bipush 6, 2) := dk_16 6 (dk_at dksX0_next_1 2 rfl rfl)
theorem dX0_next_27 : decode cX0_next 27 = .ok (.if_icmp .ge 133, 3) := dk_162 0 133 (dk_at dksX0_next_1 4 rfl rfl)
theorem dX0_next_30 : decode cX0_next 30 = .ok (.aload_n 0, 1) := dk_42 (dk_at dksX0_next_1 7 rfl rfl)
theorem dX0_next_31 : decode cX0_next 31 = .ok (.getfield 57, 3) := dk_180 0 57 (dk_at dksX0_next_1 8 rfl rfl)
theorem dX0_next_34 : decode cX0_next 34 = .ok (.iload 5, 2) := dk_21 5 (dk_at dksX0_next_1 11 rfl rfl)
theorem dX0_next_36 : decode cX0_next 36 = .ok (.baload, 1) := dk_51 (dk_at dksX0_next_1 13 rfl rfl)
theorem dX0_next_37 : decode cX0_next 37 = .ok (.ifCond .eq 6, 3) := dk_153 0 6 (dk_at dksX0_next_1 14 rfl rfl)
theorem dX0_next_40 : decode cX0_next 40 = .ok (.goto 114, 3) := dk_167 0 114 (dk_at dksX0_next_1 17 rfl rfl)
theorem dX0_next_43 : decode cX0_next 43 = .ok (.lconst 0, 1) := dk_9 (dk_at dksX0_next_1 20 rfl rfl)
theorem dX0_next_44 : decode cX0_next 44 = .ok (.lstore 6, 2) := dk_55 6 (dk_at dksX0_next_1 21 rfl rfl)
theorem dX0_next_46 : decode cX0_next 46 = .ok (.lconst 0, 1) := dk_9 (dk_at dksX0_next_1 23 rfl rfl)
theorem dX0_next_47 : decode cX0_next 47 = .ok (.lstore 8, 2) := dk_55 8 (dk_at dksX0_next_2 0 rfl rfl)
theorem dX0_next_49 : decode cX0_next 49 = .ok (.iconst 0, 1) := dk_3 (dk_at dksX0_next_2 2 rfl rfl)
theorem dX0_next_50 : decode cX0_next 50 = .ok (.istore 10, 2) := dk_54 10 (dk_at dksX0_next_2 3 rfl rfl)
theorem dX0_next_52 : decode cX0_next 52 = .ok (.iload 10, 2) := dk_21 10 (dk_at dksX0_next_2 5 rfl rfl)
theorem dX0_next_54 : decode cX0_next 54 = .ok (.sipush 180, 3) := dk_17 0 180 (dk_at dksX0_next_2 7 rfl rfl)
theorem dX0_next_57 : decode cX0_next 57 = .ok (.if_icmp .ge 56, 3) := dk_162 0 56 (dk_at dksX0_next_2 10 rfl rfl)
theorem dX0_next_60 : decode cX0_next 60 = .ok (.lload 6, 2) := dk_22 6 (dk_at dksX0_next_2 13 rfl rfl)
theorem dX0_next_62 : decode cX0_next 62 = .ok (.aload_n 0, 1) := dk_42 (dk_at dksX0_next_2 15 rfl rfl)
theorem dX0_next_63 : decode cX0_next 63 = .ok (.getfield 50, 3) := dk_180 0 50 (dk_at dksX0_next_2 16 rfl rfl)
theorem dX0_next_66 : decode cX0_next 66 = .ok (.iload 10, 2) := dk_21 10 (dk_at dksX0_next_2 19 rfl rfl)
theorem dX0_next_68 : decode cX0_next 68 = .ok (.laload, 1) := dk_47 (dk_at dksX0_next_2 21 rfl rfl)
theorem dX0_next_69 : decode cX0_next 69 = .ok (.aload_n 0, 1) := dk_42 (dk_at dksX0_next_2 22 rfl rfl)
theorem dX0_next_70 : decode cX0_next 70 = .ok (.iload 5, 2) := dk_21 5 (dk_at dksX0_next_3 0 rfl rfl)
theorem dX0_next_72 : decode cX0_next 72 = .ok (.iload 10, 2) := dk_21 10 (dk_at dksX0_next_3 2 rfl rfl)
theorem dX0_next_74 : decode cX0_next 74 = .ok (.invokevirtual 246, 3) := dk_182 0 246 (dk_at dksX0_next_3 4 rfl rfl)
theorem dX0_next_77 : decode cX0_next 77 = .ok (.i2l, 1) := dk_133 (dk_at dksX0_next_3 7 rfl rfl)
theorem dX0_next_78 : decode cX0_next 78 = .ok (.lmul, 1) := dk_105 (dk_at dksX0_next_3 8 rfl rfl)
theorem dX0_next_79 : decode cX0_next 79 = .ok (.ladd, 1) := dk_97 (dk_at dksX0_next_3 9 rfl rfl)
theorem dX0_next_80 : decode cX0_next 80 = .ok (.lstore 6, 2) := dk_55 6 (dk_at dksX0_next_3 10 rfl rfl)
theorem dX0_next_82 : decode cX0_next 82 = .ok (.lload 8, 2) := dk_22 8 (dk_at dksX0_next_3 12 rfl rfl)
theorem dX0_next_84 : decode cX0_next 84 = .ok (.aload_n 0, 1) := dk_42 (dk_at dksX0_next_3 14 rfl rfl)
theorem dX0_next_85 : decode cX0_next 85 = .ok (.getfield 50, 3) := dk_180 0 50 (dk_at dksX0_next_3 15 rfl rfl)
theorem dX0_next_88 : decode cX0_next 88 = .ok (.iload 10, 2) := dk_21 10 (dk_at dksX0_next_3 18 rfl rfl)
theorem dX0_next_90 : decode cX0_next 90 = .ok (.laload, 1) := dk_47 (dk_at dksX0_next_3 20 rfl rfl)
theorem dX0_next_91 : decode cX0_next 91 = .ok (.bipush 100, 2) := dk_16 100 (dk_at dksX0_next_3 21 rfl rfl)
theorem dX0_next_93 : decode cX0_next 93 = .ok (.aload_n 0, 1) := dk_42 (dk_at dksX0_next_3 23 rfl rfl)
theorem dX0_next_94 : decode cX0_next 94 = .ok (.iload 5, 2) := dk_21 5 (dk_at dksX0_next_4 0 rfl rfl)
theorem dX0_next_96 : decode cX0_next 96 = .ok (.iload 10, 2) := dk_21 10 (dk_at dksX0_next_4 2 rfl rfl)
theorem dX0_next_98 : decode cX0_next 98 = .ok (.invokevirtual 246, 3) := dk_182 0 246 (dk_at dksX0_next_4 4 rfl rfl)
theorem dX0_next_101 : decode cX0_next 101 = .ok (.isub, 1) := dk_100 (dk_at dksX0_next_4 7 rfl rfl)
theorem dX0_next_102 : decode cX0_next 102 = .ok (.i2l, 1) := dk_133 (dk_at dksX0_next_4 8 rfl rfl)
theorem dX0_next_103 : decode cX0_next 103 = .ok (.lmul, 1) := dk_105 (dk_at dksX0_next_4 9 rfl rfl)
theorem dX0_next_104 : decode cX0_next 104 = .ok (.ladd, 1) := dk_97 (dk_at dksX0_next_4 10 rfl rfl)
theorem dX0_next_105 : decode cX0_next 105 = .ok (.lstore 8, 2) := dk_55 8 (dk_at dksX0_next_4 11 rfl rfl)
theorem dX0_next_107 : decode cX0_next 107 = .ok (.iinc 10 1, 3) := dk_132 10 1 (dk_at dksX0_next_4 13 rfl rfl)
theorem dX0_next_110 : decode cX0_next 110 = .ok (.goto (-58), 3) := dk_167 255 198 (dk_at dksX0_next_4 16 rfl rfl)
theorem dX0_next_113 : decode cX0_next 113 = .ok (.lload 6, 2) := dk_22 6 (dk_at dksX0_next_4 19 rfl rfl)
theorem dX0_next_115 : decode cX0_next 115 = .ok (.lload 8, 2) := dk_22 8 (dk_at dksX0_next_4 21 rfl rfl)
theorem dX0_next_117 : decode cX0_next 117 = .ok (.invokestatic 292, 3) := dk_184 1 36 (dk_at dksX0_next_5 0 rfl rfl)
theorem dX0_next_120 : decode cX0_next 120 = .ok (.aload_n 0, 1) := dk_42 (dk_at dksX0_next_5 3 rfl rfl)
theorem dX0_next_121 : decode cX0_next 121 = .ok (.getfield 25, 3) := dk_180 0 25 (dk_at dksX0_next_5 4 rfl rfl)
theorem dX0_next_124 : decode cX0_next 124 = .ok (.iload 5, 2) := dk_21 5 (dk_at dksX0_next_5 7 rfl rfl)
theorem dX0_next_126 : decode cX0_next 126 = .ok (.aaload, 1) := dk_50 (dk_at dksX0_next_5 9 rfl rfl)
theorem dX0_next_127 : decode cX0_next 127 = .ok (.getfield 142, 3) := dk_180 0 142 (dk_at dksX0_next_5 10 rfl rfl)
theorem dX0_next_130 : decode cX0_next 130 = .ok (.i2l, 1) := dk_133 (dk_at dksX0_next_5 13 rfl rfl)
theorem dX0_next_131 : decode cX0_next 131 = .ok (.lmul, 1) := dk_105 (dk_at dksX0_next_5 14 rfl rfl)
theorem dX0_next_132 : decode cX0_next 132 = .ok (.lstore 10, 2) := dk_55 10 (dk_at dksX0_next_5 15 rfl rfl)
theorem dX0_next_134 : decode cX0_next 134 = .ok (.iload_n 2, 1) := dk_28 (dk_at dksX0_next_5 17 rfl rfl)
theorem dX0_next_135 : decode cX0_next 135 = .ok (.ifCond .lt 13, 3) := dk_155 0 13 (dk_at dksX0_next_5 18 rfl rfl)
theorem dX0_next_138 : decode cX0_next 138 = .ok (.lload 10, 2) := dk_22 10 (dk_at dksX0_next_5 21 rfl rfl)
theorem dX0_next_140 : decode cX0_next 140 = .ok (.lload_n 3, 1) := dk_33 (dk_at dksX0_next_5 23 rfl rfl)
theorem dX0_next_141 : decode cX0_next 141 = .ok (.lcmp, 1) := dk_148 (dk_at dksX0_next_6 0 rfl rfl)
theorem dX0_next_142 : decode cX0_next 142 = .ok (.ifCond .lt 6, 3) := dk_155 0 6 (dk_at dksX0_next_6 1 rfl rfl)
theorem dX0_next_145 : decode cX0_next 145 = .ok (.goto 9, 3) := dk_167 0 9 (dk_at dksX0_next_6 4 rfl rfl)
theorem dX0_next_148 : decode cX0_next 148 = .ok (.iload 5, 2) := dk_21 5 (dk_at dksX0_next_6 7 rfl rfl)
theorem dX0_next_150 : decode cX0_next 150 = .ok (.istore_n 2, 1) := dk_61 (dk_at dksX0_next_6 9 rfl rfl)
theorem dX0_next_151 : decode cX0_next 151 = .ok (.lload 10, 2) := dk_22 10 (dk_at dksX0_next_6 10 rfl rfl)
theorem dX0_next_153 : decode cX0_next 153 = .ok (.lstore_n 3, 1) := dk_66 (dk_at dksX0_next_6 12 rfl rfl)
theorem dX0_next_154 : decode cX0_next 154 = .ok (.iinc 5 1, 3) := dk_132 5 1 (dk_at dksX0_next_6 13 rfl rfl)
theorem dX0_next_157 : decode cX0_next 157 = .ok (.goto (-134), 3) := dk_167 255 122 (dk_at dksX0_next_6 16 rfl rfl)
theorem dX0_next_160 : decode cX0_next 160 = .ok (.iload_n 2, 1) := dk_28 (dk_at dksX0_next_6 19 rfl rfl)
theorem dX0_next_161 : decode cX0_next 161 = .ok (.ireturn, 1) := dk_172 (dk_at dksX0_next_6 20 rfl rfl)
abbrev cX0_named : ByteArray := prog_1_method_45_code
def yX0_named : MethodName := ⟨RX0, "named", "(II)I"⟩
def dkwX0_named_2 : List UInt8 := [180, 0, 242, 182, 1, 55, 172]
abbrev dktX0_named_2 : List UInt8 := dkwX0_named_2 ++ []
def dkwX0_named_1 : List UInt8 := [180, 0, 242, 9, 148, 154, 0, 8, 16, 254, 167, 0, 19, 42, 27, 28, 42, 27, 182, 1, 52, 126, 42]
abbrev dktX0_named_1 : List UInt8 := dkwX0_named_1 ++ dktX0_named_2
def dkwX0_named_0 : List UInt8 := [42, 27, 182, 0, 98, 153, 0, 10, 28, 184, 1, 49, 154, 0, 5, 2, 172, 42, 27, 182, 1, 7, 42]
abbrev dktX0_named_0 : List UInt8 := dkwX0_named_0 ++ dktX0_named_1
theorem dksX0_named_0 : cX0_named.data.toList.drop 0 = dktX0_named_0 := by decide +kernel
theorem dksX0_named_1 : cX0_named.data.toList.drop 23 = dktX0_named_1 := dk_seg dksX0_named_0 23 rfl rfl
theorem dksX0_named_2 : cX0_named.data.toList.drop 46 = dktX0_named_2 := dk_seg dksX0_named_1 23 rfl rfl
theorem dX0_named_0 : decode cX0_named 0 = .ok (.aload_n 0, 1) := dk_42 (dk_at dksX0_named_0 0 rfl rfl)
theorem dX0_named_1 : decode cX0_named 1 = .ok (.iload_n 1, 1) := dk_27 (dk_at dksX0_named_0 1 rfl rfl)
theorem dX0_named_2 : decode cX0_named 2 = .ok (.invokevirtual 98, 3) := dk_182 0 98 (dk_at dksX0_named_0 2 rfl rfl)
theorem dX0_named_5 : decode cX0_named 5 = .ok (.ifCond .eq 10, 3) := dk_153 0 10 (dk_at dksX0_named_0 5 rfl rfl)
theorem dX0_named_8 : decode cX0_named 8 = .ok (.iload_n 2, 1) := dk_28 (dk_at dksX0_named_0 8 rfl rfl)
theorem dX0_named_9 : decode cX0_named 9 = .ok (.invokestatic 305, 3) := dk_184 1 49 (dk_at dksX0_named_0 9 rfl rfl)
theorem dX0_named_12 : decode cX0_named 12 = .ok (.ifCond .ne 5, 3) := dk_154 0 5 (dk_at dksX0_named_0 12 rfl rfl)
theorem dX0_named_15 : decode cX0_named 15 = .ok (.iconst (-1), 1) := dk_2 (dk_at dksX0_named_0 15 rfl rfl)
theorem dX0_named_16 : decode cX0_named 16 = .ok (.ireturn, 1) := dk_172 (dk_at dksX0_named_0 16 rfl rfl)
theorem dX0_named_17 : decode cX0_named 17 = .ok (.aload_n 0, 1) := dk_42 (dk_at dksX0_named_0 17 rfl rfl)
theorem dX0_named_18 : decode cX0_named 18 = .ok (.iload_n 1, 1) := dk_27 (dk_at dksX0_named_0 18 rfl rfl)
theorem dX0_named_19 : decode cX0_named 19 = .ok (.invokevirtual 263, 3) := dk_182 1 7 (dk_at dksX0_named_0 19 rfl rfl)
theorem dX0_named_22 : decode cX0_named 22 = .ok (.aload_n 0, 1) := dk_42 (dk_at dksX0_named_0 22 rfl rfl)
theorem dX0_named_23 : decode cX0_named 23 = .ok (.getfield 242, 3) := dk_180 0 242 (dk_at dksX0_named_1 0 rfl rfl)
theorem dX0_named_26 : decode cX0_named 26 = .ok (.lconst 0, 1) := dk_9 (dk_at dksX0_named_1 3 rfl rfl)
theorem dX0_named_27 : decode cX0_named 27 = .ok (.lcmp, 1) := dk_148 (dk_at dksX0_named_1 4 rfl rfl)
theorem dX0_named_28 : decode cX0_named 28 = .ok (.ifCond .ne 8, 3) := dk_154 0 8 (dk_at dksX0_named_1 5 rfl rfl)
theorem dX0_named_31 : decode cX0_named 31 = .ok (.bipush (-2), 2) := dk_16 254 (dk_at dksX0_named_1 8 rfl rfl)
theorem dX0_named_33 : decode cX0_named 33 = .ok (.goto 19, 3) := dk_167 0 19 (dk_at dksX0_named_1 10 rfl rfl)
theorem dX0_named_36 : decode cX0_named 36 = .ok (.aload_n 0, 1) := dk_42 (dk_at dksX0_named_1 13 rfl rfl)
theorem dX0_named_37 : decode cX0_named 37 = .ok (.iload_n 1, 1) := dk_27 (dk_at dksX0_named_1 14 rfl rfl)
theorem dX0_named_38 : decode cX0_named 38 = .ok (.iload_n 2, 1) := dk_28 (dk_at dksX0_named_1 15 rfl rfl)
theorem dX0_named_39 : decode cX0_named 39 = .ok (.aload_n 0, 1) := dk_42 (dk_at dksX0_named_1 16 rfl rfl)
theorem dX0_named_40 : decode cX0_named 40 = .ok (.iload_n 1, 1) := dk_27 (dk_at dksX0_named_1 17 rfl rfl)
theorem dX0_named_41 : decode cX0_named 41 = .ok (.invokevirtual 308, 3) := dk_182 1 52 (dk_at dksX0_named_1 18 rfl rfl)
theorem dX0_named_44 : decode cX0_named 44 = .ok (.iand, 1) := dk_126 (dk_at dksX0_named_1 21 rfl rfl)
theorem dX0_named_45 : decode cX0_named 45 = .ok (.aload_n 0, 1) := dk_42 (dk_at dksX0_named_1 22 rfl rfl)
theorem dX0_named_46 : decode cX0_named 46 = .ok (.getfield 242, 3) := dk_180 0 242 (dk_at dksX0_named_2 0 rfl rfl)
theorem dX0_named_49 : decode cX0_named 49 = .ok (.invokevirtual 311, 3) := dk_182 1 55 (dk_at dksX0_named_2 3 rfl rfl)
theorem dX0_named_52 : decode cX0_named 52 = .ok (.ireturn, 1) := dk_172 (dk_at dksX0_named_2 6 rfl rfl)
abbrev cX0_isSet : ByteArray := prog_1_method_7_code
def yX0_isSet : MethodName := ⟨RX0, "isSet", "(I)Z"⟩
def dkwX0_isSet_0 : List UInt8 := [26, 3, 16, 63, 184, 0, 94, 172]
abbrev dktX0_isSet_0 : List UInt8 := dkwX0_isSet_0 ++ []
theorem dksX0_isSet_0 : cX0_isSet.data.toList.drop 0 = dktX0_isSet_0 := by decide +kernel
theorem dX0_isSet_0 : decode cX0_isSet 0 = .ok (.iload_n 0, 1) := dk_26 (dk_at dksX0_isSet_0 0 rfl rfl)
theorem dX0_isSet_1 : decode cX0_isSet 1 = .ok (.iconst 0, 1) := dk_3 (dk_at dksX0_isSet_0 1 rfl rfl)
theorem dX0_isSet_2 : decode cX0_isSet 2 = .ok (.bipush 63, 2) := dk_16 63 (dk_at dksX0_isSet_0 2 rfl rfl)
theorem dX0_isSet_4 : decode cX0_isSet 4 = .ok (.invokestatic 94, 3) := dk_184 0 94 (dk_at dksX0_isSet_0 4 rfl rfl)
theorem dX0_isSet_7 : decode cX0_isSet 7 = .ok (.ireturn, 1) := dk_172 (dk_at dksX0_isSet_0 7 rfl rfl)
abbrev cX0_unseen : ByteArray := prog_1_method_42_code
def yX0_unseen : MethodName := ⟨RX0, "unseen", "(I)I"⟩
def dkwX0_unseen_1 : List UInt8 := [28, 4, 29, 120, 128, 61, 132, 3, 1, 167, 255, 227, 28, 172]
abbrev dktX0_unseen_1 : List UInt8 := dkwX0_unseen_1 ++ []
def dkwX0_unseen_0 : List UInt8 := [3, 61, 3, 62, 29, 16, 6, 162, 0, 29, 42, 180, 0, 11, 27, 50, 180, 0, 133, 29, 51, 154, 0, 9]
abbrev dktX0_unseen_0 : List UInt8 := dkwX0_unseen_0 ++ dktX0_unseen_1
theorem dksX0_unseen_0 : cX0_unseen.data.toList.drop 0 = dktX0_unseen_0 := by decide +kernel
theorem dksX0_unseen_1 : cX0_unseen.data.toList.drop 24 = dktX0_unseen_1 := dk_seg dksX0_unseen_0 24 rfl rfl
theorem dX0_unseen_0 : decode cX0_unseen 0 = .ok (.iconst 0, 1) := dk_3 (dk_at dksX0_unseen_0 0 rfl rfl)
theorem dX0_unseen_1 : decode cX0_unseen 1 = .ok (.istore_n 2, 1) := dk_61 (dk_at dksX0_unseen_0 1 rfl rfl)
theorem dX0_unseen_2 : decode cX0_unseen 2 = .ok (.iconst 0, 1) := dk_3 (dk_at dksX0_unseen_0 2 rfl rfl)
theorem dX0_unseen_3 : decode cX0_unseen 3 = .ok (.istore_n 3, 1) := dk_62 (dk_at dksX0_unseen_0 3 rfl rfl)
theorem dX0_unseen_4 : decode cX0_unseen 4 = .ok (.iload_n 3, 1) := dk_29 (dk_at dksX0_unseen_0 4 rfl rfl)
theorem dX0_unseen_5 : decode cX0_unseen 5 = .ok (.bipush 6, 2) := dk_16 6 (dk_at dksX0_unseen_0 5 rfl rfl)
theorem dX0_unseen_7 : decode cX0_unseen 7 = .ok (.if_icmp .ge 29, 3) := dk_162 0 29 (dk_at dksX0_unseen_0 7 rfl rfl)
theorem dX0_unseen_10 : decode cX0_unseen 10 = .ok (.aload_n 0, 1) := dk_42 (dk_at dksX0_unseen_0 10 rfl rfl)
theorem dX0_unseen_11 : decode cX0_unseen 11 = .ok (.getfield 11, 3) := dk_180 0 11 (dk_at dksX0_unseen_0 11 rfl rfl)
theorem dX0_unseen_14 : decode cX0_unseen 14 = .ok (.iload_n 1, 1) := dk_27 (dk_at dksX0_unseen_0 14 rfl rfl)
theorem dX0_unseen_15 : decode cX0_unseen 15 = .ok (.aaload, 1) := dk_50 (dk_at dksX0_unseen_0 15 rfl rfl)
theorem dX0_unseen_16 : decode cX0_unseen 16 = .ok (.getfield 133, 3) := dk_180 0 133 (dk_at dksX0_unseen_0 16 rfl rfl)
theorem dX0_unseen_19 : decode cX0_unseen 19 = .ok (.iload_n 3, 1) := dk_29 (dk_at dksX0_unseen_0 19 rfl rfl)
theorem dX0_unseen_20 : decode cX0_unseen 20 = .ok (.baload, 1) := dk_51 (dk_at dksX0_unseen_0 20 rfl rfl)
theorem dX0_unseen_21 : decode cX0_unseen 21 = .ok (.ifCond .ne 9, 3) := dk_154 0 9 (dk_at dksX0_unseen_0 21 rfl rfl)
theorem dX0_unseen_24 : decode cX0_unseen 24 = .ok (.iload_n 2, 1) := dk_28 (dk_at dksX0_unseen_1 0 rfl rfl)
theorem dX0_unseen_25 : decode cX0_unseen 25 = .ok (.iconst 1, 1) := dk_4 (dk_at dksX0_unseen_1 1 rfl rfl)
theorem dX0_unseen_26 : decode cX0_unseen 26 = .ok (.iload_n 3, 1) := dk_29 (dk_at dksX0_unseen_1 2 rfl rfl)
theorem dX0_unseen_27 : decode cX0_unseen 27 = .ok (.ishl, 1) := dk_120 (dk_at dksX0_unseen_1 3 rfl rfl)
theorem dX0_unseen_28 : decode cX0_unseen 28 = .ok (.ior, 1) := dk_128 (dk_at dksX0_unseen_1 4 rfl rfl)
theorem dX0_unseen_29 : decode cX0_unseen 29 = .ok (.istore_n 2, 1) := dk_61 (dk_at dksX0_unseen_1 5 rfl rfl)
theorem dX0_unseen_30 : decode cX0_unseen 30 = .ok (.iinc 3 1, 3) := dk_132 3 1 (dk_at dksX0_unseen_1 6 rfl rfl)
theorem dX0_unseen_33 : decode cX0_unseen 33 = .ok (.goto (-29), 3) := dk_167 255 227 (dk_at dksX0_unseen_1 9 rfl rfl)
theorem dX0_unseen_36 : decode cX0_unseen 36 = .ok (.iload_n 2, 1) := dk_28 (dk_at dksX0_unseen_1 12 rfl rfl)
theorem dX0_unseen_37 : decode cX0_unseen 37 = .ok (.ireturn, 1) := dk_172 (dk_at dksX0_unseen_1 13 rfl rfl)
abbrev cX0_namedOf : ByteArray := prog_1_method_44_code
def yX0_namedOf : MethodName := ⟨RX0, "namedOf", "(IIJ)I"⟩
def dkwX0_namedOf_1 : List UInt8 := [132, 7, 255, 167, 255, 240, 20, 1, 47, 42, 27, 28, 3, 182, 1, 38, 105, 22, 5, 109, 136, 172]
abbrev dktX0_namedOf_1 : List UInt8 := dkwX0_namedOf_1 ++ []
def dkwX0_namedOf_0 : List UInt8 := [33, 55, 5, 28, 184, 1, 42, 54, 7, 21, 7, 158, 0, 17, 22, 5, 20, 1, 15, 105, 55, 5]
abbrev dktX0_namedOf_0 : List UInt8 := dkwX0_namedOf_0 ++ dktX0_namedOf_1
theorem dksX0_namedOf_0 : cX0_namedOf.data.toList.drop 0 = dktX0_namedOf_0 := by decide +kernel
theorem dksX0_namedOf_1 : cX0_namedOf.data.toList.drop 22 = dktX0_namedOf_1 := dk_seg dksX0_namedOf_0 22 rfl rfl
theorem dX0_namedOf_0 : decode cX0_namedOf 0 = .ok (.lload_n 3, 1) := dk_33 (dk_at dksX0_namedOf_0 0 rfl rfl)
theorem dX0_namedOf_1 : decode cX0_namedOf 1 = .ok (.lstore 5, 2) := dk_55 5 (dk_at dksX0_namedOf_0 1 rfl rfl)
theorem dX0_namedOf_3 : decode cX0_namedOf 3 = .ok (.iload_n 2, 1) := dk_28 (dk_at dksX0_namedOf_0 3 rfl rfl)
theorem dX0_namedOf_4 : decode cX0_namedOf 4 = .ok (.invokestatic 298, 3) := dk_184 1 42 (dk_at dksX0_namedOf_0 4 rfl rfl)
theorem dX0_namedOf_7 : decode cX0_namedOf 7 = .ok (.istore 7, 2) := dk_54 7 (dk_at dksX0_namedOf_0 7 rfl rfl)
theorem dX0_namedOf_9 : decode cX0_namedOf 9 = .ok (.iload 7, 2) := dk_21 7 (dk_at dksX0_namedOf_0 9 rfl rfl)
theorem dX0_namedOf_11 : decode cX0_namedOf 11 = .ok (.ifCond .le 17, 3) := dk_158 0 17 (dk_at dksX0_namedOf_0 11 rfl rfl)
theorem dX0_namedOf_14 : decode cX0_namedOf 14 = .ok (.lload 5, 2) := dk_22 5 (dk_at dksX0_namedOf_0 14 rfl rfl)
theorem dX0_namedOf_16 : decode cX0_namedOf 16 = .ok (.ldc2_w 271, 3) := dk_20 1 15 (dk_at dksX0_namedOf_0 16 rfl rfl)
theorem dX0_namedOf_19 : decode cX0_namedOf 19 = .ok (.lmul, 1) := dk_105 (dk_at dksX0_namedOf_0 19 rfl rfl)
theorem dX0_namedOf_20 : decode cX0_namedOf 20 = .ok (.lstore 5, 2) := dk_55 5 (dk_at dksX0_namedOf_0 20 rfl rfl)
theorem dX0_namedOf_22 : decode cX0_namedOf 22 = .ok (.iinc 7 (-1), 3) := dk_132 7 255 (dk_at dksX0_namedOf_1 0 rfl rfl)
theorem dX0_namedOf_25 : decode cX0_namedOf 25 = .ok (.goto (-16), 3) := dk_167 255 240 (dk_at dksX0_namedOf_1 3 rfl rfl)
theorem dX0_namedOf_28 : decode cX0_namedOf 28 = .ok (.ldc2_w 303, 3) := dk_20 1 47 (dk_at dksX0_namedOf_1 6 rfl rfl)
theorem dX0_namedOf_31 : decode cX0_namedOf 31 = .ok (.aload_n 0, 1) := dk_42 (dk_at dksX0_namedOf_1 9 rfl rfl)
theorem dX0_namedOf_32 : decode cX0_namedOf 32 = .ok (.iload_n 1, 1) := dk_27 (dk_at dksX0_namedOf_1 10 rfl rfl)
theorem dX0_namedOf_33 : decode cX0_namedOf 33 = .ok (.iload_n 2, 1) := dk_28 (dk_at dksX0_namedOf_1 11 rfl rfl)
theorem dX0_namedOf_34 : decode cX0_namedOf 34 = .ok (.iconst 0, 1) := dk_3 (dk_at dksX0_namedOf_1 12 rfl rfl)
theorem dX0_namedOf_35 : decode cX0_namedOf 35 = .ok (.invokevirtual 294, 3) := dk_182 1 38 (dk_at dksX0_namedOf_1 13 rfl rfl)
theorem dX0_namedOf_38 : decode cX0_namedOf 38 = .ok (.lmul, 1) := dk_105 (dk_at dksX0_namedOf_1 16 rfl rfl)
theorem dX0_namedOf_39 : decode cX0_namedOf 39 = .ok (.lload 5, 2) := dk_22 5 (dk_at dksX0_namedOf_1 17 rfl rfl)
theorem dX0_namedOf_41 : decode cX0_namedOf 41 = .ok (.ldiv, 1) := dk_109 (dk_at dksX0_namedOf_1 19 rfl rfl)
theorem dX0_namedOf_42 : decode cX0_namedOf 42 = .ok (.l2i, 1) := dk_136 (dk_at dksX0_namedOf_1 20 rfl rfl)
theorem dX0_namedOf_43 : decode cX0_namedOf 43 = .ok (.ireturn, 1) := dk_172 (dk_at dksX0_namedOf_1 21 rfl rfl)
abbrev cX0_namedBy : ByteArray := prog_1_method_43_code
def yX0_namedBy : MethodName := ⟨RX0, "namedBy", "(III)J"⟩
def dkwX0_namedBy_4 : List UInt8 := [182, 1, 38, 97, 55, 4, 132, 6, 1, 167, 255, 224, 42, 180, 0, 57, 29, 3, 84, 22, 4, 173]
abbrev dktX0_namedBy_4 : List UInt8 := dkwX0_namedBy_4 ++ []
def dkwX0_namedBy_3 : List UInt8 := [21, 6, 5, 163, 0, 32, 42, 180, 0, 57, 29, 21, 6, 145, 84, 22, 4, 42, 27, 28, 29, 4, 96]
abbrev dktX0_namedBy_3 : List UInt8 := dkwX0_namedBy_3 ++ dktX0_namedBy_4
def dkwX0_namedBy_2 : List UInt8 := [29, 122, 4, 126, 154, 0, 13, 42, 27, 28, 29, 4, 96, 182, 1, 38, 173, 9, 55, 4, 4, 54, 6]
abbrev dktX0_namedBy_2 : List UInt8 := dkwX0_namedBy_2 ++ dktX0_namedBy_3
def dkwX0_namedBy_1 : List UInt8 := [22, 4, 42, 180, 0, 54, 21, 6, 47, 184, 1, 36, 55, 4, 132, 6, 1, 167, 255, 232, 22, 4, 173, 28]
abbrev dktX0_namedBy_1 : List UInt8 := dkwX0_namedBy_1 ++ dktX0_namedBy_2
def dkwX0_namedBy_0 : List UInt8 := [29, 16, 6, 160, 0, 43, 42, 182, 0, 253, 9, 55, 4, 3, 54, 6, 21, 6, 16, 6, 162, 0, 23]
abbrev dktX0_namedBy_0 : List UInt8 := dkwX0_namedBy_0 ++ dktX0_namedBy_1
theorem dksX0_namedBy_0 : cX0_namedBy.data.toList.drop 0 = dktX0_namedBy_0 := by decide +kernel
theorem dksX0_namedBy_1 : cX0_namedBy.data.toList.drop 23 = dktX0_namedBy_1 := dk_seg dksX0_namedBy_0 23 rfl rfl
theorem dksX0_namedBy_2 : cX0_namedBy.data.toList.drop 47 = dktX0_namedBy_2 := dk_seg dksX0_namedBy_1 24 rfl rfl
theorem dksX0_namedBy_3 : cX0_namedBy.data.toList.drop 70 = dktX0_namedBy_3 := dk_seg dksX0_namedBy_2 23 rfl rfl
theorem dksX0_namedBy_4 : cX0_namedBy.data.toList.drop 93 = dktX0_namedBy_4 := dk_seg dksX0_namedBy_3 23 rfl rfl
theorem dX0_namedBy_0 : decode cX0_namedBy 0 = .ok (.iload_n 3, 1) := dk_29 (dk_at dksX0_namedBy_0 0 rfl rfl)
theorem dX0_namedBy_1 : decode cX0_namedBy 1 = .ok (.bipush 6, 2) := dk_16 6 (dk_at dksX0_namedBy_0 1 rfl rfl)
theorem dX0_namedBy_3 : decode cX0_namedBy 3 = .ok (.if_icmp .ne 43, 3) := dk_160 0 43 (dk_at dksX0_namedBy_0 3 rfl rfl)
theorem dX0_namedBy_6 : decode cX0_namedBy 6 = .ok (.aload_n 0, 1) := dk_42 (dk_at dksX0_namedBy_0 6 rfl rfl)
theorem dX0_namedBy_7 : decode cX0_namedBy 7 = .ok (.invokevirtual 253, 3) := dk_182 0 253 (dk_at dksX0_namedBy_0 7 rfl rfl)
theorem dX0_namedBy_10 : decode cX0_namedBy 10 = .ok (.lconst 0, 1) := dk_9 (dk_at dksX0_namedBy_0 10 rfl rfl)
theorem dX0_namedBy_11 : decode cX0_namedBy 11 = .ok (.lstore 4, 2) := dk_55 4 (dk_at dksX0_namedBy_0 11 rfl rfl)
theorem dX0_namedBy_13 : decode cX0_namedBy 13 = .ok (.iconst 0, 1) := dk_3 (dk_at dksX0_namedBy_0 13 rfl rfl)
theorem dX0_namedBy_14 : decode cX0_namedBy 14 = .ok (.istore 6, 2) := dk_54 6 (dk_at dksX0_namedBy_0 14 rfl rfl)
theorem dX0_namedBy_16 : decode cX0_namedBy 16 = .ok (.iload 6, 2) := dk_21 6 (dk_at dksX0_namedBy_0 16 rfl rfl)
theorem dX0_namedBy_18 : decode cX0_namedBy 18 = .ok (.bipush 6, 2) := dk_16 6 (dk_at dksX0_namedBy_0 18 rfl rfl)
theorem dX0_namedBy_20 : decode cX0_namedBy 20 = .ok (.if_icmp .ge 23, 3) := dk_162 0 23 (dk_at dksX0_namedBy_0 20 rfl rfl)
theorem dX0_namedBy_23 : decode cX0_namedBy 23 = .ok (.lload 4, 2) := dk_22 4 (dk_at dksX0_namedBy_1 0 rfl rfl)
theorem dX0_namedBy_25 : decode cX0_namedBy 25 = .ok (.aload_n 0, 1) := dk_42 (dk_at dksX0_namedBy_1 2 rfl rfl)
theorem dX0_namedBy_26 : decode cX0_namedBy 26 = .ok (.getfield 54, 3) := dk_180 0 54 (dk_at dksX0_namedBy_1 3 rfl rfl)
theorem dX0_namedBy_29 : decode cX0_namedBy 29 = .ok (.iload 6, 2) := dk_21 6 (dk_at dksX0_namedBy_1 6 rfl rfl)
theorem dX0_namedBy_31 : decode cX0_namedBy 31 = .ok (.laload, 1) := dk_47 (dk_at dksX0_namedBy_1 8 rfl rfl)
theorem dX0_namedBy_32 : decode cX0_namedBy 32 = .ok (.invokestatic 292, 3) := dk_184 1 36 (dk_at dksX0_namedBy_1 9 rfl rfl)
theorem dX0_namedBy_35 : decode cX0_namedBy 35 = .ok (.lstore 4, 2) := dk_55 4 (dk_at dksX0_namedBy_1 12 rfl rfl)
theorem dX0_namedBy_37 : decode cX0_namedBy 37 = .ok (.iinc 6 1, 3) := dk_132 6 1 (dk_at dksX0_namedBy_1 14 rfl rfl)
theorem dX0_namedBy_40 : decode cX0_namedBy 40 = .ok (.goto (-24), 3) := dk_167 255 232 (dk_at dksX0_namedBy_1 17 rfl rfl)
theorem dX0_namedBy_43 : decode cX0_namedBy 43 = .ok (.lload 4, 2) := dk_22 4 (dk_at dksX0_namedBy_1 20 rfl rfl)
theorem dX0_namedBy_45 : decode cX0_namedBy 45 = .ok (.lreturn, 1) := dk_173 (dk_at dksX0_namedBy_1 22 rfl rfl)
theorem dX0_namedBy_46 : decode cX0_namedBy 46 = .ok (.iload_n 2, 1) := dk_28 (dk_at dksX0_namedBy_1 23 rfl rfl)
theorem dX0_namedBy_47 : decode cX0_namedBy 47 = .ok (.iload_n 3, 1) := dk_29 (dk_at dksX0_namedBy_2 0 rfl rfl)
theorem dX0_namedBy_48 : decode cX0_namedBy 48 = .ok (.ishr, 1) := dk_122 (dk_at dksX0_namedBy_2 1 rfl rfl)
theorem dX0_namedBy_49 : decode cX0_namedBy 49 = .ok (.iconst 1, 1) := dk_4 (dk_at dksX0_namedBy_2 2 rfl rfl)
theorem dX0_namedBy_50 : decode cX0_namedBy 50 = .ok (.iand, 1) := dk_126 (dk_at dksX0_namedBy_2 3 rfl rfl)
theorem dX0_namedBy_51 : decode cX0_namedBy 51 = .ok (.ifCond .ne 13, 3) := dk_154 0 13 (dk_at dksX0_namedBy_2 4 rfl rfl)
theorem dX0_namedBy_54 : decode cX0_namedBy 54 = .ok (.aload_n 0, 1) := dk_42 (dk_at dksX0_namedBy_2 7 rfl rfl)
theorem dX0_namedBy_55 : decode cX0_namedBy 55 = .ok (.iload_n 1, 1) := dk_27 (dk_at dksX0_namedBy_2 8 rfl rfl)
theorem dX0_namedBy_56 : decode cX0_namedBy 56 = .ok (.iload_n 2, 1) := dk_28 (dk_at dksX0_namedBy_2 9 rfl rfl)
theorem dX0_namedBy_57 : decode cX0_namedBy 57 = .ok (.iload_n 3, 1) := dk_29 (dk_at dksX0_namedBy_2 10 rfl rfl)
theorem dX0_namedBy_58 : decode cX0_namedBy 58 = .ok (.iconst 1, 1) := dk_4 (dk_at dksX0_namedBy_2 11 rfl rfl)
theorem dX0_namedBy_59 : decode cX0_namedBy 59 = .ok (.iadd, 1) := dk_96 (dk_at dksX0_namedBy_2 12 rfl rfl)
theorem dX0_namedBy_60 : decode cX0_namedBy 60 = .ok (.invokevirtual 294, 3) := dk_182 1 38 (dk_at dksX0_namedBy_2 13 rfl rfl)
theorem dX0_namedBy_63 : decode cX0_namedBy 63 = .ok (.lreturn, 1) := dk_173 (dk_at dksX0_namedBy_2 16 rfl rfl)
theorem dX0_namedBy_64 : decode cX0_namedBy 64 = .ok (.lconst 0, 1) := dk_9 (dk_at dksX0_namedBy_2 17 rfl rfl)
theorem dX0_namedBy_65 : decode cX0_namedBy 65 = .ok (.lstore 4, 2) := dk_55 4 (dk_at dksX0_namedBy_2 18 rfl rfl)
theorem dX0_namedBy_67 : decode cX0_namedBy 67 = .ok (.iconst 1, 1) := dk_4 (dk_at dksX0_namedBy_2 20 rfl rfl)
theorem dX0_namedBy_68 : decode cX0_namedBy 68 = .ok (.istore 6, 2) := dk_54 6 (dk_at dksX0_namedBy_2 21 rfl rfl)
theorem dX0_namedBy_70 : decode cX0_namedBy 70 = .ok (.iload 6, 2) := dk_21 6 (dk_at dksX0_namedBy_3 0 rfl rfl)
theorem dX0_namedBy_72 : decode cX0_namedBy 72 = .ok (.iconst 2, 1) := dk_5 (dk_at dksX0_namedBy_3 2 rfl rfl)
theorem dX0_namedBy_73 : decode cX0_namedBy 73 = .ok (.if_icmp .gt 32, 3) := dk_163 0 32 (dk_at dksX0_namedBy_3 3 rfl rfl)
theorem dX0_namedBy_76 : decode cX0_namedBy 76 = .ok (.aload_n 0, 1) := dk_42 (dk_at dksX0_namedBy_3 6 rfl rfl)
theorem dX0_namedBy_77 : decode cX0_namedBy 77 = .ok (.getfield 57, 3) := dk_180 0 57 (dk_at dksX0_namedBy_3 7 rfl rfl)
theorem dX0_namedBy_80 : decode cX0_namedBy 80 = .ok (.iload_n 3, 1) := dk_29 (dk_at dksX0_namedBy_3 10 rfl rfl)
theorem dX0_namedBy_81 : decode cX0_namedBy 81 = .ok (.iload 6, 2) := dk_21 6 (dk_at dksX0_namedBy_3 11 rfl rfl)
theorem dX0_namedBy_83 : decode cX0_namedBy 83 = .ok (.i2b, 1) := dk_145 (dk_at dksX0_namedBy_3 13 rfl rfl)
theorem dX0_namedBy_84 : decode cX0_namedBy 84 = .ok (.bastore, 1) := dk_84 (dk_at dksX0_namedBy_3 14 rfl rfl)
theorem dX0_namedBy_85 : decode cX0_namedBy 85 = .ok (.lload 4, 2) := dk_22 4 (dk_at dksX0_namedBy_3 15 rfl rfl)
theorem dX0_namedBy_87 : decode cX0_namedBy 87 = .ok (.aload_n 0, 1) := dk_42 (dk_at dksX0_namedBy_3 17 rfl rfl)
theorem dX0_namedBy_88 : decode cX0_namedBy 88 = .ok (.iload_n 1, 1) := dk_27 (dk_at dksX0_namedBy_3 18 rfl rfl)
theorem dX0_namedBy_89 : decode cX0_namedBy 89 = .ok (.iload_n 2, 1) := dk_28 (dk_at dksX0_namedBy_3 19 rfl rfl)
theorem dX0_namedBy_90 : decode cX0_namedBy 90 = .ok (.iload_n 3, 1) := dk_29 (dk_at dksX0_namedBy_3 20 rfl rfl)
theorem dX0_namedBy_91 : decode cX0_namedBy 91 = .ok (.iconst 1, 1) := dk_4 (dk_at dksX0_namedBy_3 21 rfl rfl)
theorem dX0_namedBy_92 : decode cX0_namedBy 92 = .ok (.iadd, 1) := dk_96 (dk_at dksX0_namedBy_3 22 rfl rfl)
theorem dX0_namedBy_93 : decode cX0_namedBy 93 = .ok (.invokevirtual 294, 3) := dk_182 1 38 (dk_at dksX0_namedBy_4 0 rfl rfl)
theorem dX0_namedBy_96 : decode cX0_namedBy 96 = .ok (.ladd, 1) := dk_97 (dk_at dksX0_namedBy_4 3 rfl rfl)
theorem dX0_namedBy_97 : decode cX0_namedBy 97 = .ok (.lstore 4, 2) := dk_55 4 (dk_at dksX0_namedBy_4 4 rfl rfl)
theorem dX0_namedBy_99 : decode cX0_namedBy 99 = .ok (.iinc 6 1, 3) := dk_132 6 1 (dk_at dksX0_namedBy_4 6 rfl rfl)
theorem dX0_namedBy_102 : decode cX0_namedBy 102 = .ok (.goto (-32), 3) := dk_167 255 224 (dk_at dksX0_namedBy_4 9 rfl rfl)
theorem dX0_namedBy_105 : decode cX0_namedBy 105 = .ok (.aload_n 0, 1) := dk_42 (dk_at dksX0_namedBy_4 12 rfl rfl)
theorem dX0_namedBy_106 : decode cX0_namedBy 106 = .ok (.getfield 57, 3) := dk_180 0 57 (dk_at dksX0_namedBy_4 13 rfl rfl)
theorem dX0_namedBy_109 : decode cX0_namedBy 109 = .ok (.iload_n 3, 1) := dk_29 (dk_at dksX0_namedBy_4 16 rfl rfl)
theorem dX0_namedBy_110 : decode cX0_namedBy 110 = .ok (.iconst 0, 1) := dk_3 (dk_at dksX0_namedBy_4 17 rfl rfl)
theorem dX0_namedBy_111 : decode cX0_namedBy 111 = .ok (.bastore, 1) := dk_84 (dk_at dksX0_namedBy_4 18 rfl rfl)
theorem dX0_namedBy_112 : decode cX0_namedBy 112 = .ok (.lload 4, 2) := dk_22 4 (dk_at dksX0_namedBy_4 19 rfl rfl)
theorem dX0_namedBy_114 : decode cX0_namedBy 114 = .ok (.lreturn, 1) := dk_173 (dk_at dksX0_namedBy_4 21 rfl rfl)
abbrev cX0_plan : ByteArray := prog_1_method_47_code
def yX0_plan : MethodName := ⟨RX0, "plan", "(II)I"⟩
def dkwX0_plan_6 : List UInt8 := [54, 6, 21, 9, 54, 7, 132, 8, 1, 167, 255, 168, 21, 6, 172]
abbrev dktX0_plan_6 : List UInt8 := dkwX0_plan_6 ++ []
def dkwX0_plan_5 : List UInt8 := [160, 0, 21, 42, 21, 8, 182, 1, 59, 42, 21, 6, 182, 1, 59, 161, 0, 6, 167, 0, 11, 21, 8]
abbrev dktX0_plan_5 : List UInt8 := dkwX0_plan_5 ++ dktX0_plan_6
def dkwX0_plan_4 : List UInt8 := [21, 8, 33, 182, 1, 55, 54, 9, 21, 6, 155, 0, 35, 21, 9, 21, 7, 161, 0, 36, 21, 9, 21, 7]
abbrev dktX0_plan_4 : List UInt8 := dkwX0_plan_4 ++ dktX0_plan_5
def dkwX0_plan_3 : List UInt8 := [21, 5, 2, 130, 126, 154, 0, 71, 42, 21, 8, 182, 1, 59, 28, 164, 0, 6, 167, 0, 58, 42, 27]
abbrev dktX0_plan_3 : List UInt8 := dkwX0_plan_3 ++ dktX0_plan_4
def dkwX0_plan_2 : List UInt8 := [182, 1, 52, 54, 5, 2, 54, 6, 3, 54, 7, 3, 54, 8, 21, 8, 16, 64, 162, 0, 87, 21, 8]
abbrev dktX0_plan_2 : List UInt8 := dkwX0_plan_2 ++ dktX0_plan_3
def dkwX0_plan_1 : List UInt8 := [182, 1, 7, 42, 180, 0, 242, 9, 148, 154, 0, 6, 16, 254, 172, 42, 180, 0, 242, 66, 42, 27]
abbrev dktX0_plan_1 : List UInt8 := dkwX0_plan_1 ++ dktX0_plan_2
def dkwX0_plan_0 : List UInt8 := [42, 27, 182, 0, 98, 153, 0, 13, 28, 3, 16, 54, 184, 0, 94, 154, 0, 5, 2, 172, 42, 27]
abbrev dktX0_plan_0 : List UInt8 := dkwX0_plan_0 ++ dktX0_plan_1
theorem dksX0_plan_0 : cX0_plan.data.toList.drop 0 = dktX0_plan_0 := by decide +kernel
theorem dksX0_plan_1 : cX0_plan.data.toList.drop 22 = dktX0_plan_1 := dk_seg dksX0_plan_0 22 rfl rfl
theorem dksX0_plan_2 : cX0_plan.data.toList.drop 44 = dktX0_plan_2 := dk_seg dksX0_plan_1 22 rfl rfl
theorem dksX0_plan_3 : cX0_plan.data.toList.drop 67 = dktX0_plan_3 := dk_seg dksX0_plan_2 23 rfl rfl
theorem dksX0_plan_4 : cX0_plan.data.toList.drop 90 = dktX0_plan_4 := dk_seg dksX0_plan_3 23 rfl rfl
theorem dksX0_plan_5 : cX0_plan.data.toList.drop 114 = dktX0_plan_5 := dk_seg dksX0_plan_4 24 rfl rfl
theorem dksX0_plan_6 : cX0_plan.data.toList.drop 137 = dktX0_plan_6 := dk_seg dksX0_plan_5 23 rfl rfl
theorem dX0_plan_0 : decode cX0_plan 0 = .ok (.aload_n 0, 1) := dk_42 (dk_at dksX0_plan_0 0 rfl rfl)
theorem dX0_plan_1 : decode cX0_plan 1 = .ok (.iload_n 1, 1) := dk_27 (dk_at dksX0_plan_0 1 rfl rfl)
theorem dX0_plan_2 : decode cX0_plan 2 = .ok (.invokevirtual 98, 3) := dk_182 0 98 (dk_at dksX0_plan_0 2 rfl rfl)
theorem dX0_plan_5 : decode cX0_plan 5 = .ok (.ifCond .eq 13, 3) := dk_153 0 13 (dk_at dksX0_plan_0 5 rfl rfl)
theorem dX0_plan_8 : decode cX0_plan 8 = .ok (.iload_n 2, 1) := dk_28 (dk_at dksX0_plan_0 8 rfl rfl)
theorem dX0_plan_9 : decode cX0_plan 9 = .ok (.iconst 0, 1) := dk_3 (dk_at dksX0_plan_0 9 rfl rfl)
theorem dX0_plan_10 : decode cX0_plan 10 = .ok (.bipush 54, 2) := dk_16 54 (dk_at dksX0_plan_0 10 rfl rfl)
theorem dX0_plan_12 : decode cX0_plan 12 = .ok (.invokestatic 94, 3) := dk_184 0 94 (dk_at dksX0_plan_0 12 rfl rfl)
theorem dX0_plan_15 : decode cX0_plan 15 = .ok (.ifCond .ne 5, 3) := dk_154 0 5 (dk_at dksX0_plan_0 15 rfl rfl)
theorem dX0_plan_18 : decode cX0_plan 18 = .ok (.iconst (-1), 1) := dk_2 (dk_at dksX0_plan_0 18 rfl rfl)
theorem dX0_plan_19 : decode cX0_plan 19 = .ok (.ireturn, 1) := dk_172 (dk_at dksX0_plan_0 19 rfl rfl)
theorem dX0_plan_20 : decode cX0_plan 20 = .ok (.aload_n 0, 1) := dk_42 (dk_at dksX0_plan_0 20 rfl rfl)
theorem dX0_plan_21 : decode cX0_plan 21 = .ok (.iload_n 1, 1) := dk_27 (dk_at dksX0_plan_0 21 rfl rfl)
theorem dX0_plan_22 : decode cX0_plan 22 = .ok (.invokevirtual 263, 3) := dk_182 1 7 (dk_at dksX0_plan_1 0 rfl rfl)
theorem dX0_plan_25 : decode cX0_plan 25 = .ok (.aload_n 0, 1) := dk_42 (dk_at dksX0_plan_1 3 rfl rfl)
theorem dX0_plan_26 : decode cX0_plan 26 = .ok (.getfield 242, 3) := dk_180 0 242 (dk_at dksX0_plan_1 4 rfl rfl)
theorem dX0_plan_29 : decode cX0_plan 29 = .ok (.lconst 0, 1) := dk_9 (dk_at dksX0_plan_1 7 rfl rfl)
theorem dX0_plan_30 : decode cX0_plan 30 = .ok (.lcmp, 1) := dk_148 (dk_at dksX0_plan_1 8 rfl rfl)
theorem dX0_plan_31 : decode cX0_plan 31 = .ok (.ifCond .ne 6, 3) := dk_154 0 6 (dk_at dksX0_plan_1 9 rfl rfl)
theorem dX0_plan_34 : decode cX0_plan 34 = .ok (.bipush (-2), 2) := dk_16 254 (dk_at dksX0_plan_1 12 rfl rfl)
theorem dX0_plan_36 : decode cX0_plan 36 = .ok (.ireturn, 1) := dk_172 (dk_at dksX0_plan_1 14 rfl rfl)
theorem dX0_plan_37 : decode cX0_plan 37 = .ok (.aload_n 0, 1) := dk_42 (dk_at dksX0_plan_1 15 rfl rfl)
theorem dX0_plan_38 : decode cX0_plan 38 = .ok (.getfield 242, 3) := dk_180 0 242 (dk_at dksX0_plan_1 16 rfl rfl)
theorem dX0_plan_41 : decode cX0_plan 41 = .ok (.lstore_n 3, 1) := dk_66 (dk_at dksX0_plan_1 19 rfl rfl)
theorem dX0_plan_42 : decode cX0_plan 42 = .ok (.aload_n 0, 1) := dk_42 (dk_at dksX0_plan_1 20 rfl rfl)
theorem dX0_plan_43 : decode cX0_plan 43 = .ok (.iload_n 1, 1) := dk_27 (dk_at dksX0_plan_1 21 rfl rfl)
theorem dX0_plan_44 : decode cX0_plan 44 = .ok (.invokevirtual 308, 3) := dk_182 1 52 (dk_at dksX0_plan_2 0 rfl rfl)
theorem dX0_plan_47 : decode cX0_plan 47 = .ok (.istore 5, 2) := dk_54 5 (dk_at dksX0_plan_2 3 rfl rfl)
theorem dX0_plan_49 : decode cX0_plan 49 = .ok (.iconst (-1), 1) := dk_2 (dk_at dksX0_plan_2 5 rfl rfl)
theorem dX0_plan_50 : decode cX0_plan 50 = .ok (.istore 6, 2) := dk_54 6 (dk_at dksX0_plan_2 6 rfl rfl)
theorem dX0_plan_52 : decode cX0_plan 52 = .ok (.iconst 0, 1) := dk_3 (dk_at dksX0_plan_2 8 rfl rfl)
theorem dX0_plan_53 : decode cX0_plan 53 = .ok (.istore 7, 2) := dk_54 7 (dk_at dksX0_plan_2 9 rfl rfl)
theorem dX0_plan_55 : decode cX0_plan 55 = .ok (.iconst 0, 1) := dk_3 (dk_at dksX0_plan_2 11 rfl rfl)
theorem dX0_plan_56 : decode cX0_plan 56 = .ok (.istore 8, 2) := dk_54 8 (dk_at dksX0_plan_2 12 rfl rfl)
theorem dX0_plan_58 : decode cX0_plan 58 = .ok (.iload 8, 2) := dk_21 8 (dk_at dksX0_plan_2 14 rfl rfl)
theorem dX0_plan_60 : decode cX0_plan 60 = .ok (.bipush 64, 2) := dk_16 64 (dk_at dksX0_plan_2 16 rfl rfl)
theorem dX0_plan_62 : decode cX0_plan 62 = .ok (.if_icmp .ge 87, 3) := dk_162 0 87 (dk_at dksX0_plan_2 18 rfl rfl)
theorem dX0_plan_65 : decode cX0_plan 65 = .ok (.iload 8, 2) := dk_21 8 (dk_at dksX0_plan_2 21 rfl rfl)
theorem dX0_plan_67 : decode cX0_plan 67 = .ok (.iload 5, 2) := dk_21 5 (dk_at dksX0_plan_3 0 rfl rfl)
theorem dX0_plan_69 : decode cX0_plan 69 = .ok (.iconst (-1), 1) := dk_2 (dk_at dksX0_plan_3 2 rfl rfl)
theorem dX0_plan_70 : decode cX0_plan 70 = .ok (.ixor, 1) := dk_130 (dk_at dksX0_plan_3 3 rfl rfl)
theorem dX0_plan_71 : decode cX0_plan 71 = .ok (.iand, 1) := dk_126 (dk_at dksX0_plan_3 4 rfl rfl)
theorem dX0_plan_72 : decode cX0_plan 72 = .ok (.ifCond .ne 71, 3) := dk_154 0 71 (dk_at dksX0_plan_3 5 rfl rfl)
theorem dX0_plan_75 : decode cX0_plan 75 = .ok (.aload_n 0, 1) := dk_42 (dk_at dksX0_plan_3 8 rfl rfl)
theorem dX0_plan_76 : decode cX0_plan 76 = .ok (.iload 8, 2) := dk_21 8 (dk_at dksX0_plan_3 9 rfl rfl)
theorem dX0_plan_78 : decode cX0_plan 78 = .ok (.invokevirtual 315, 3) := dk_182 1 59 (dk_at dksX0_plan_3 11 rfl rfl)
theorem dX0_plan_81 : decode cX0_plan 81 = .ok (.iload_n 2, 1) := dk_28 (dk_at dksX0_plan_3 14 rfl rfl)
theorem dX0_plan_82 : decode cX0_plan 82 = .ok (.if_icmp .le 6, 3) := dk_164 0 6 (dk_at dksX0_plan_3 15 rfl rfl)
theorem dX0_plan_85 : decode cX0_plan 85 = .ok (.goto 58, 3) := dk_167 0 58 (dk_at dksX0_plan_3 18 rfl rfl)
theorem dX0_plan_88 : decode cX0_plan 88 = .ok (.aload_n 0, 1) := dk_42 (dk_at dksX0_plan_3 21 rfl rfl)
theorem dX0_plan_89 : decode cX0_plan 89 = .ok (.iload_n 1, 1) := dk_27 (dk_at dksX0_plan_3 22 rfl rfl)
theorem dX0_plan_90 : decode cX0_plan 90 = .ok (.iload 8, 2) := dk_21 8 (dk_at dksX0_plan_4 0 rfl rfl)
theorem dX0_plan_92 : decode cX0_plan 92 = .ok (.lload_n 3, 1) := dk_33 (dk_at dksX0_plan_4 2 rfl rfl)
theorem dX0_plan_93 : decode cX0_plan 93 = .ok (.invokevirtual 311, 3) := dk_182 1 55 (dk_at dksX0_plan_4 3 rfl rfl)
theorem dX0_plan_96 : decode cX0_plan 96 = .ok (.istore 9, 2) := dk_54 9 (dk_at dksX0_plan_4 6 rfl rfl)
theorem dX0_plan_98 : decode cX0_plan 98 = .ok (.iload 6, 2) := dk_21 6 (dk_at dksX0_plan_4 8 rfl rfl)
theorem dX0_plan_100 : decode cX0_plan 100 = .ok (.ifCond .lt 35, 3) := dk_155 0 35 (dk_at dksX0_plan_4 10 rfl rfl)
theorem dX0_plan_103 : decode cX0_plan 103 = .ok (.iload 9, 2) := dk_21 9 (dk_at dksX0_plan_4 13 rfl rfl)
theorem dX0_plan_105 : decode cX0_plan 105 = .ok (.iload 7, 2) := dk_21 7 (dk_at dksX0_plan_4 15 rfl rfl)
theorem dX0_plan_107 : decode cX0_plan 107 = .ok (.if_icmp .lt 36, 3) := dk_161 0 36 (dk_at dksX0_plan_4 17 rfl rfl)
theorem dX0_plan_110 : decode cX0_plan 110 = .ok (.iload 9, 2) := dk_21 9 (dk_at dksX0_plan_4 20 rfl rfl)
theorem dX0_plan_112 : decode cX0_plan 112 = .ok (.iload 7, 2) := dk_21 7 (dk_at dksX0_plan_4 22 rfl rfl)
theorem dX0_plan_114 : decode cX0_plan 114 = .ok (.if_icmp .ne 21, 3) := dk_160 0 21 (dk_at dksX0_plan_5 0 rfl rfl)
theorem dX0_plan_117 : decode cX0_plan 117 = .ok (.aload_n 0, 1) := dk_42 (dk_at dksX0_plan_5 3 rfl rfl)
theorem dX0_plan_118 : decode cX0_plan 118 = .ok (.iload 8, 2) := dk_21 8 (dk_at dksX0_plan_5 4 rfl rfl)
theorem dX0_plan_120 : decode cX0_plan 120 = .ok (.invokevirtual 315, 3) := dk_182 1 59 (dk_at dksX0_plan_5 6 rfl rfl)
theorem dX0_plan_123 : decode cX0_plan 123 = .ok (.aload_n 0, 1) := dk_42 (dk_at dksX0_plan_5 9 rfl rfl)
theorem dX0_plan_124 : decode cX0_plan 124 = .ok (.iload 6, 2) := dk_21 6 (dk_at dksX0_plan_5 10 rfl rfl)
theorem dX0_plan_126 : decode cX0_plan 126 = .ok (.invokevirtual 315, 3) := dk_182 1 59 (dk_at dksX0_plan_5 12 rfl rfl)
theorem dX0_plan_129 : decode cX0_plan 129 = .ok (.if_icmp .lt 6, 3) := dk_161 0 6 (dk_at dksX0_plan_5 15 rfl rfl)
theorem dX0_plan_132 : decode cX0_plan 132 = .ok (.goto 11, 3) := dk_167 0 11 (dk_at dksX0_plan_5 18 rfl rfl)
theorem dX0_plan_135 : decode cX0_plan 135 = .ok (.iload 8, 2) := dk_21 8 (dk_at dksX0_plan_5 21 rfl rfl)
theorem dX0_plan_137 : decode cX0_plan 137 = .ok (.istore 6, 2) := dk_54 6 (dk_at dksX0_plan_6 0 rfl rfl)
theorem dX0_plan_139 : decode cX0_plan 139 = .ok (.iload 9, 2) := dk_21 9 (dk_at dksX0_plan_6 2 rfl rfl)
theorem dX0_plan_141 : decode cX0_plan 141 = .ok (.istore 7, 2) := dk_54 7 (dk_at dksX0_plan_6 4 rfl rfl)
theorem dX0_plan_143 : decode cX0_plan 143 = .ok (.iinc 8 1, 3) := dk_132 8 1 (dk_at dksX0_plan_6 6 rfl rfl)
theorem dX0_plan_146 : decode cX0_plan 146 = .ok (.goto (-88), 3) := dk_167 255 168 (dk_at dksX0_plan_6 9 rfl rfl)
theorem dX0_plan_149 : decode cX0_plan 149 = .ok (.iload 6, 2) := dk_21 6 (dk_at dksX0_plan_6 12 rfl rfl)
theorem dX0_plan_151 : decode cX0_plan 151 = .ok (.ireturn, 1) := dk_172 (dk_at dksX0_plan_6 14 rfl rfl)
abbrev cX0_minutesOf : ByteArray := prog_1_method_46_code
def yX0_minutesOf : MethodName := ⟨RX0, "minutesOf", "(I)I"⟩
def dkwX0_minutesOf_1 : List UInt8 := [29, 50, 180, 0, 142, 167, 0, 4, 3, 96, 61, 132, 3, 1, 167, 255, 222, 28, 172]
abbrev dktX0_minutesOf_1 : List UInt8 := dkwX0_minutesOf_1 ++ []
def dkwX0_minutesOf_0 : List UInt8 := [3, 61, 3, 62, 29, 16, 6, 162, 0, 34, 28, 27, 29, 122, 4, 126, 4, 160, 0, 15, 42, 180, 0, 25]
abbrev dktX0_minutesOf_0 : List UInt8 := dkwX0_minutesOf_0 ++ dktX0_minutesOf_1
theorem dksX0_minutesOf_0 : cX0_minutesOf.data.toList.drop 0 = dktX0_minutesOf_0 := by decide +kernel
theorem dksX0_minutesOf_1 : cX0_minutesOf.data.toList.drop 24 = dktX0_minutesOf_1 := dk_seg dksX0_minutesOf_0 24 rfl rfl
theorem dX0_minutesOf_0 : decode cX0_minutesOf 0 = .ok (.iconst 0, 1) := dk_3 (dk_at dksX0_minutesOf_0 0 rfl rfl)
theorem dX0_minutesOf_1 : decode cX0_minutesOf 1 = .ok (.istore_n 2, 1) := dk_61 (dk_at dksX0_minutesOf_0 1 rfl rfl)
theorem dX0_minutesOf_2 : decode cX0_minutesOf 2 = .ok (.iconst 0, 1) := dk_3 (dk_at dksX0_minutesOf_0 2 rfl rfl)
theorem dX0_minutesOf_3 : decode cX0_minutesOf 3 = .ok (.istore_n 3, 1) := dk_62 (dk_at dksX0_minutesOf_0 3 rfl rfl)
theorem dX0_minutesOf_4 : decode cX0_minutesOf 4 = .ok (.iload_n 3, 1) := dk_29 (dk_at dksX0_minutesOf_0 4 rfl rfl)
theorem dX0_minutesOf_5 : decode cX0_minutesOf 5 = .ok (.bipush 6, 2) := dk_16 6 (dk_at dksX0_minutesOf_0 5 rfl rfl)
theorem dX0_minutesOf_7 : decode cX0_minutesOf 7 = .ok (.if_icmp .ge 34, 3) := dk_162 0 34 (dk_at dksX0_minutesOf_0 7 rfl rfl)
theorem dX0_minutesOf_10 : decode cX0_minutesOf 10 = .ok (.iload_n 2, 1) := dk_28 (dk_at dksX0_minutesOf_0 10 rfl rfl)
theorem dX0_minutesOf_11 : decode cX0_minutesOf 11 = .ok (.iload_n 1, 1) := dk_27 (dk_at dksX0_minutesOf_0 11 rfl rfl)
theorem dX0_minutesOf_12 : decode cX0_minutesOf 12 = .ok (.iload_n 3, 1) := dk_29 (dk_at dksX0_minutesOf_0 12 rfl rfl)
theorem dX0_minutesOf_13 : decode cX0_minutesOf 13 = .ok (.ishr, 1) := dk_122 (dk_at dksX0_minutesOf_0 13 rfl rfl)
theorem dX0_minutesOf_14 : decode cX0_minutesOf 14 = .ok (.iconst 1, 1) := dk_4 (dk_at dksX0_minutesOf_0 14 rfl rfl)
theorem dX0_minutesOf_15 : decode cX0_minutesOf 15 = .ok (.iand, 1) := dk_126 (dk_at dksX0_minutesOf_0 15 rfl rfl)
theorem dX0_minutesOf_16 : decode cX0_minutesOf 16 = .ok (.iconst 1, 1) := dk_4 (dk_at dksX0_minutesOf_0 16 rfl rfl)
theorem dX0_minutesOf_17 : decode cX0_minutesOf 17 = .ok (.if_icmp .ne 15, 3) := dk_160 0 15 (dk_at dksX0_minutesOf_0 17 rfl rfl)
theorem dX0_minutesOf_20 : decode cX0_minutesOf 20 = .ok (.aload_n 0, 1) := dk_42 (dk_at dksX0_minutesOf_0 20 rfl rfl)
theorem dX0_minutesOf_21 : decode cX0_minutesOf 21 = .ok (.getfield 25, 3) := dk_180 0 25 (dk_at dksX0_minutesOf_0 21 rfl rfl)
theorem dX0_minutesOf_24 : decode cX0_minutesOf 24 = .ok (.iload_n 3, 1) := dk_29 (dk_at dksX0_minutesOf_1 0 rfl rfl)
theorem dX0_minutesOf_25 : decode cX0_minutesOf 25 = .ok (.aaload, 1) := dk_50 (dk_at dksX0_minutesOf_1 1 rfl rfl)
theorem dX0_minutesOf_26 : decode cX0_minutesOf 26 = .ok (.getfield 142, 3) := dk_180 0 142 (dk_at dksX0_minutesOf_1 2 rfl rfl)
theorem dX0_minutesOf_29 : decode cX0_minutesOf 29 = .ok (.goto 4, 3) := dk_167 0 4 (dk_at dksX0_minutesOf_1 5 rfl rfl)
theorem dX0_minutesOf_32 : decode cX0_minutesOf 32 = .ok (.iconst 0, 1) := dk_3 (dk_at dksX0_minutesOf_1 8 rfl rfl)
theorem dX0_minutesOf_33 : decode cX0_minutesOf 33 = .ok (.iadd, 1) := dk_96 (dk_at dksX0_minutesOf_1 9 rfl rfl)
theorem dX0_minutesOf_34 : decode cX0_minutesOf 34 = .ok (.istore_n 2, 1) := dk_61 (dk_at dksX0_minutesOf_1 10 rfl rfl)
theorem dX0_minutesOf_35 : decode cX0_minutesOf 35 = .ok (.iinc 3 1, 3) := dk_132 3 1 (dk_at dksX0_minutesOf_1 11 rfl rfl)
theorem dX0_minutesOf_38 : decode cX0_minutesOf 38 = .ok (.goto (-34), 3) := dk_167 255 222 (dk_at dksX0_minutesOf_1 14 rfl rfl)
theorem dX0_minutesOf_41 : decode cX0_minutesOf 41 = .ok (.iload_n 2, 1) := dk_28 (dk_at dksX0_minutesOf_1 17 rfl rfl)
theorem dX0_minutesOf_42 : decode cX0_minutesOf 42 = .ok (.ireturn, 1) := dk_172 (dk_at dksX0_minutesOf_1 18 rfl rfl)
abbrev cX0_believed : ByteArray := prog_1_method_49_code
def yX0_believed : MethodName := ⟨RX0, "believed", "(II)I"⟩
def dkwX0_believed_1 : List UInt8 := [182, 0, 249, 42, 28, 182, 1, 65, 172]
abbrev dktX0_believed_1 : List UInt8 := dkwX0_believed_1 ++ []
def dkwX0_believed_0 : List UInt8 := [42, 27, 182, 0, 98, 153, 0, 10, 28, 184, 1, 49, 154, 0, 5, 2, 172, 42, 42, 180, 0, 11, 27, 50]
abbrev dktX0_believed_0 : List UInt8 := dkwX0_believed_0 ++ dktX0_believed_1
theorem dksX0_believed_0 : cX0_believed.data.toList.drop 0 = dktX0_believed_0 := by decide +kernel
theorem dksX0_believed_1 : cX0_believed.data.toList.drop 24 = dktX0_believed_1 := dk_seg dksX0_believed_0 24 rfl rfl
theorem dX0_believed_0 : decode cX0_believed 0 = .ok (.aload_n 0, 1) := dk_42 (dk_at dksX0_believed_0 0 rfl rfl)
theorem dX0_believed_1 : decode cX0_believed 1 = .ok (.iload_n 1, 1) := dk_27 (dk_at dksX0_believed_0 1 rfl rfl)
theorem dX0_believed_2 : decode cX0_believed 2 = .ok (.invokevirtual 98, 3) := dk_182 0 98 (dk_at dksX0_believed_0 2 rfl rfl)
theorem dX0_believed_5 : decode cX0_believed 5 = .ok (.ifCond .eq 10, 3) := dk_153 0 10 (dk_at dksX0_believed_0 5 rfl rfl)
theorem dX0_believed_8 : decode cX0_believed 8 = .ok (.iload_n 2, 1) := dk_28 (dk_at dksX0_believed_0 8 rfl rfl)
theorem dX0_believed_9 : decode cX0_believed 9 = .ok (.invokestatic 305, 3) := dk_184 1 49 (dk_at dksX0_believed_0 9 rfl rfl)
theorem dX0_believed_12 : decode cX0_believed 12 = .ok (.ifCond .ne 5, 3) := dk_154 0 5 (dk_at dksX0_believed_0 12 rfl rfl)
theorem dX0_believed_15 : decode cX0_believed 15 = .ok (.iconst (-1), 1) := dk_2 (dk_at dksX0_believed_0 15 rfl rfl)
theorem dX0_believed_16 : decode cX0_believed 16 = .ok (.ireturn, 1) := dk_172 (dk_at dksX0_believed_0 16 rfl rfl)
theorem dX0_believed_17 : decode cX0_believed 17 = .ok (.aload_n 0, 1) := dk_42 (dk_at dksX0_believed_0 17 rfl rfl)
theorem dX0_believed_18 : decode cX0_believed 18 = .ok (.aload_n 0, 1) := dk_42 (dk_at dksX0_believed_0 18 rfl rfl)
theorem dX0_believed_19 : decode cX0_believed 19 = .ok (.getfield 11, 3) := dk_180 0 11 (dk_at dksX0_believed_0 19 rfl rfl)
theorem dX0_believed_22 : decode cX0_believed 22 = .ok (.iload_n 1, 1) := dk_27 (dk_at dksX0_believed_0 22 rfl rfl)
theorem dX0_believed_23 : decode cX0_believed 23 = .ok (.aaload, 1) := dk_50 (dk_at dksX0_believed_0 23 rfl rfl)
theorem dX0_believed_24 : decode cX0_believed 24 = .ok (.invokevirtual 249, 3) := dk_182 0 249 (dk_at dksX0_believed_1 0 rfl rfl)
theorem dX0_believed_27 : decode cX0_believed 27 = .ok (.aload_n 0, 1) := dk_42 (dk_at dksX0_believed_1 3 rfl rfl)
theorem dX0_believed_28 : decode cX0_believed 28 = .ok (.iload_n 2, 1) := dk_28 (dk_at dksX0_believed_1 4 rfl rfl)
theorem dX0_believed_29 : decode cX0_believed 29 = .ok (.invokevirtual 321, 3) := dk_182 1 65 (dk_at dksX0_believed_1 5 rfl rfl)
theorem dX0_believed_32 : decode cX0_believed 32 = .ok (.ireturn, 1) := dk_172 (dk_at dksX0_believed_1 8 rfl rfl)
abbrev cX0_believedBy : ByteArray := prog_1_method_48_code
def yX0_believedBy : MethodName := ⟨RX0, "believedBy", "(I)I"⟩
def dkwX0_believedBy_0 : List UInt8 := [42, 27, 182, 1, 62, 42, 3, 182, 1, 17, 172]
abbrev dktX0_believedBy_0 : List UInt8 := dkwX0_believedBy_0 ++ []
theorem dksX0_believedBy_0 : cX0_believedBy.data.toList.drop 0 = dktX0_believedBy_0 := by decide +kernel
theorem dX0_believedBy_0 : decode cX0_believedBy 0 = .ok (.aload_n 0, 1) := dk_42 (dk_at dksX0_believedBy_0 0 rfl rfl)
theorem dX0_believedBy_1 : decode cX0_believedBy 1 = .ok (.iload_n 1, 1) := dk_27 (dk_at dksX0_believedBy_0 1 rfl rfl)
theorem dX0_believedBy_2 : decode cX0_believedBy 2 = .ok (.invokevirtual 318, 3) := dk_182 1 62 (dk_at dksX0_believedBy_0 2 rfl rfl)
theorem dX0_believedBy_5 : decode cX0_believedBy 5 = .ok (.aload_n 0, 1) := dk_42 (dk_at dksX0_believedBy_0 5 rfl rfl)
theorem dX0_believedBy_6 : decode cX0_believedBy 6 = .ok (.iconst 0, 1) := dk_3 (dk_at dksX0_believedBy_0 6 rfl rfl)
theorem dX0_believedBy_7 : decode cX0_believedBy 7 = .ok (.invokevirtual 273, 3) := dk_182 1 17 (dk_at dksX0_believedBy_0 7 rfl rfl)
theorem dX0_believedBy_10 : decode cX0_believedBy 10 = .ok (.ireturn, 1) := dk_172 (dk_at dksX0_believedBy_0 10 rfl rfl)
abbrev cX0_weighMade : ByteArray := prog_1_method_29_code
def yX0_weighMade : MethodName := ⟨RX0, "weighMade", "(I)V"⟩
def dkwX0_weighMade_1 : List UInt8 := [167, 0, 4, 5, 145, 84, 132, 2, 1, 167, 255, 226, 42, 182, 0, 253, 177]
abbrev dktX0_weighMade_1 : List UInt8 := dkwX0_weighMade_1 ++ []
def dkwX0_weighMade_0 : List UInt8 := [3, 61, 28, 16, 6, 162, 0, 30, 42, 180, 0, 57, 28, 27, 28, 122, 4, 126, 4, 160, 0, 7, 4]
abbrev dktX0_weighMade_0 : List UInt8 := dkwX0_weighMade_0 ++ dktX0_weighMade_1
theorem dksX0_weighMade_0 : cX0_weighMade.data.toList.drop 0 = dktX0_weighMade_0 := by decide +kernel
theorem dksX0_weighMade_1 : cX0_weighMade.data.toList.drop 23 = dktX0_weighMade_1 := dk_seg dksX0_weighMade_0 23 rfl rfl
theorem dX0_weighMade_0 : decode cX0_weighMade 0 = .ok (.iconst 0, 1) := dk_3 (dk_at dksX0_weighMade_0 0 rfl rfl)
theorem dX0_weighMade_1 : decode cX0_weighMade 1 = .ok (.istore_n 2, 1) := dk_61 (dk_at dksX0_weighMade_0 1 rfl rfl)
theorem dX0_weighMade_2 : decode cX0_weighMade 2 = .ok (.iload_n 2, 1) := dk_28 (dk_at dksX0_weighMade_0 2 rfl rfl)
theorem dX0_weighMade_3 : decode cX0_weighMade 3 = .ok (.bipush 6, 2) := dk_16 6 (dk_at dksX0_weighMade_0 3 rfl rfl)
theorem dX0_weighMade_5 : decode cX0_weighMade 5 = .ok (.if_icmp .ge 30, 3) := dk_162 0 30 (dk_at dksX0_weighMade_0 5 rfl rfl)
theorem dX0_weighMade_8 : decode cX0_weighMade 8 = .ok (.aload_n 0, 1) := dk_42 (dk_at dksX0_weighMade_0 8 rfl rfl)
theorem dX0_weighMade_9 : decode cX0_weighMade 9 = .ok (.getfield 57, 3) := dk_180 0 57 (dk_at dksX0_weighMade_0 9 rfl rfl)
theorem dX0_weighMade_12 : decode cX0_weighMade 12 = .ok (.iload_n 2, 1) := dk_28 (dk_at dksX0_weighMade_0 12 rfl rfl)
theorem dX0_weighMade_13 : decode cX0_weighMade 13 = .ok (.iload_n 1, 1) := dk_27 (dk_at dksX0_weighMade_0 13 rfl rfl)
theorem dX0_weighMade_14 : decode cX0_weighMade 14 = .ok (.iload_n 2, 1) := dk_28 (dk_at dksX0_weighMade_0 14 rfl rfl)
theorem dX0_weighMade_15 : decode cX0_weighMade 15 = .ok (.ishr, 1) := dk_122 (dk_at dksX0_weighMade_0 15 rfl rfl)
theorem dX0_weighMade_16 : decode cX0_weighMade 16 = .ok (.iconst 1, 1) := dk_4 (dk_at dksX0_weighMade_0 16 rfl rfl)
theorem dX0_weighMade_17 : decode cX0_weighMade 17 = .ok (.iand, 1) := dk_126 (dk_at dksX0_weighMade_0 17 rfl rfl)
theorem dX0_weighMade_18 : decode cX0_weighMade 18 = .ok (.iconst 1, 1) := dk_4 (dk_at dksX0_weighMade_0 18 rfl rfl)
theorem dX0_weighMade_19 : decode cX0_weighMade 19 = .ok (.if_icmp .ne 7, 3) := dk_160 0 7 (dk_at dksX0_weighMade_0 19 rfl rfl)
theorem dX0_weighMade_22 : decode cX0_weighMade 22 = .ok (.iconst 1, 1) := dk_4 (dk_at dksX0_weighMade_0 22 rfl rfl)
theorem dX0_weighMade_23 : decode cX0_weighMade 23 = .ok (.goto 4, 3) := dk_167 0 4 (dk_at dksX0_weighMade_1 0 rfl rfl)
theorem dX0_weighMade_26 : decode cX0_weighMade 26 = .ok (.iconst 2, 1) := dk_5 (dk_at dksX0_weighMade_1 3 rfl rfl)
theorem dX0_weighMade_27 : decode cX0_weighMade 27 = .ok (.i2b, 1) := dk_145 (dk_at dksX0_weighMade_1 4 rfl rfl)
theorem dX0_weighMade_28 : decode cX0_weighMade 28 = .ok (.bastore, 1) := dk_84 (dk_at dksX0_weighMade_1 5 rfl rfl)
theorem dX0_weighMade_29 : decode cX0_weighMade 29 = .ok (.iinc 2 1, 3) := dk_132 2 1 (dk_at dksX0_weighMade_1 6 rfl rfl)
theorem dX0_weighMade_32 : decode cX0_weighMade 32 = .ok (.goto (-30), 3) := dk_167 255 226 (dk_at dksX0_weighMade_1 9 rfl rfl)
theorem dX0_weighMade_35 : decode cX0_weighMade 35 = .ok (.aload_n 0, 1) := dk_42 (dk_at dksX0_weighMade_1 12 rfl rfl)
theorem dX0_weighMade_36 : decode cX0_weighMade 36 = .ok (.invokevirtual 253, 3) := dk_182 0 253 (dk_at dksX0_weighMade_1 13 rfl rfl)
theorem dX0_weighMade_39 : decode cX0_weighMade 39 = .ok (.return_, 1) := dk_177 (dk_at dksX0_weighMade_1 16 rfl rfl)
abbrev cX0_cheapest : ByteArray := prog_1_method_51_code
def yX0_cheapest : MethodName := ⟨RX0, "cheapest", "(III)I"⟩
def dkwX0_cheapest_4 : List UInt8 := [21, 4, 155, 0, 7, 29, 154, 0, 8, 21, 4, 167, 0, 9, 42, 21, 4, 182, 1, 68, 172]
abbrev dktX0_cheapest_4 : List UInt8 := dkwX0_cheapest_4 ++ []
def dkwX0_cheapest_3 : List UInt8 := [162, 0, 17, 42, 21, 5, 182, 1, 65, 28, 161, 0, 7, 21, 5, 54, 4, 132, 5, 1, 167, 255, 212]
abbrev dktX0_cheapest_3 : List UInt8 := dkwX0_cheapest_3 ++ dktX0_cheapest_4
def dkwX0_cheapest_2 : List UInt8 := [16, 64, 162, 0, 43, 21, 4, 155, 0, 18, 42, 21, 5, 182, 1, 68, 42, 21, 4, 182, 1, 68]
abbrev dktX0_cheapest_2 : List UInt8 := dkwX0_cheapest_2 ++ dktX0_cheapest_3
def dkwX0_cheapest_1 : List UInt8 := [154, 0, 5, 2, 172, 42, 42, 180, 0, 11, 27, 50, 182, 0, 249, 16, 254, 54, 4, 3, 54, 5, 21, 5]
abbrev dktX0_cheapest_1 : List UInt8 := dkwX0_cheapest_1 ++ dktX0_cheapest_2
def dkwX0_cheapest_0 : List UInt8 := [42, 27, 182, 0, 98, 153, 0, 22, 28, 3, 16, 100, 184, 0, 94, 153, 0, 12, 29, 3, 4, 184, 0, 94]
abbrev dktX0_cheapest_0 : List UInt8 := dkwX0_cheapest_0 ++ dktX0_cheapest_1
theorem dksX0_cheapest_0 : cX0_cheapest.data.toList.drop 0 = dktX0_cheapest_0 := by decide +kernel
theorem dksX0_cheapest_1 : cX0_cheapest.data.toList.drop 24 = dktX0_cheapest_1 := dk_seg dksX0_cheapest_0 24 rfl rfl
theorem dksX0_cheapest_2 : cX0_cheapest.data.toList.drop 48 = dktX0_cheapest_2 := dk_seg dksX0_cheapest_1 24 rfl rfl
theorem dksX0_cheapest_3 : cX0_cheapest.data.toList.drop 70 = dktX0_cheapest_3 := dk_seg dksX0_cheapest_2 22 rfl rfl
theorem dksX0_cheapest_4 : cX0_cheapest.data.toList.drop 93 = dktX0_cheapest_4 := dk_seg dksX0_cheapest_3 23 rfl rfl
theorem dX0_cheapest_0 : decode cX0_cheapest 0 = .ok (.aload_n 0, 1) := dk_42 (dk_at dksX0_cheapest_0 0 rfl rfl)
theorem dX0_cheapest_1 : decode cX0_cheapest 1 = .ok (.iload_n 1, 1) := dk_27 (dk_at dksX0_cheapest_0 1 rfl rfl)
theorem dX0_cheapest_2 : decode cX0_cheapest 2 = .ok (.invokevirtual 98, 3) := dk_182 0 98 (dk_at dksX0_cheapest_0 2 rfl rfl)
theorem dX0_cheapest_5 : decode cX0_cheapest 5 = .ok (.ifCond .eq 22, 3) := dk_153 0 22 (dk_at dksX0_cheapest_0 5 rfl rfl)
theorem dX0_cheapest_8 : decode cX0_cheapest 8 = .ok (.iload_n 2, 1) := dk_28 (dk_at dksX0_cheapest_0 8 rfl rfl)
theorem dX0_cheapest_9 : decode cX0_cheapest 9 = .ok (.iconst 0, 1) := dk_3 (dk_at dksX0_cheapest_0 9 rfl rfl)
theorem dX0_cheapest_10 : decode cX0_cheapest 10 = .ok (.bipush 100, 2) := dk_16 100 (dk_at dksX0_cheapest_0 10 rfl rfl)
theorem dX0_cheapest_12 : decode cX0_cheapest 12 = .ok (.invokestatic 94, 3) := dk_184 0 94 (dk_at dksX0_cheapest_0 12 rfl rfl)
theorem dX0_cheapest_15 : decode cX0_cheapest 15 = .ok (.ifCond .eq 12, 3) := dk_153 0 12 (dk_at dksX0_cheapest_0 15 rfl rfl)
theorem dX0_cheapest_18 : decode cX0_cheapest 18 = .ok (.iload_n 3, 1) := dk_29 (dk_at dksX0_cheapest_0 18 rfl rfl)
theorem dX0_cheapest_19 : decode cX0_cheapest 19 = .ok (.iconst 0, 1) := dk_3 (dk_at dksX0_cheapest_0 19 rfl rfl)
theorem dX0_cheapest_20 : decode cX0_cheapest 20 = .ok (.iconst 1, 1) := dk_4 (dk_at dksX0_cheapest_0 20 rfl rfl)
theorem dX0_cheapest_21 : decode cX0_cheapest 21 = .ok (.invokestatic 94, 3) := dk_184 0 94 (dk_at dksX0_cheapest_0 21 rfl rfl)
theorem dX0_cheapest_24 : decode cX0_cheapest 24 = .ok (.ifCond .ne 5, 3) := dk_154 0 5 (dk_at dksX0_cheapest_1 0 rfl rfl)
theorem dX0_cheapest_27 : decode cX0_cheapest 27 = .ok (.iconst (-1), 1) := dk_2 (dk_at dksX0_cheapest_1 3 rfl rfl)
theorem dX0_cheapest_28 : decode cX0_cheapest 28 = .ok (.ireturn, 1) := dk_172 (dk_at dksX0_cheapest_1 4 rfl rfl)
theorem dX0_cheapest_29 : decode cX0_cheapest 29 = .ok (.aload_n 0, 1) := dk_42 (dk_at dksX0_cheapest_1 5 rfl rfl)
theorem dX0_cheapest_30 : decode cX0_cheapest 30 = .ok (.aload_n 0, 1) := dk_42 (dk_at dksX0_cheapest_1 6 rfl rfl)
theorem dX0_cheapest_31 : decode cX0_cheapest 31 = .ok (.getfield 11, 3) := dk_180 0 11 (dk_at dksX0_cheapest_1 7 rfl rfl)
theorem dX0_cheapest_34 : decode cX0_cheapest 34 = .ok (.iload_n 1, 1) := dk_27 (dk_at dksX0_cheapest_1 10 rfl rfl)
theorem dX0_cheapest_35 : decode cX0_cheapest 35 = .ok (.aaload, 1) := dk_50 (dk_at dksX0_cheapest_1 11 rfl rfl)
theorem dX0_cheapest_36 : decode cX0_cheapest 36 = .ok (.invokevirtual 249, 3) := dk_182 0 249 (dk_at dksX0_cheapest_1 12 rfl rfl)
theorem dX0_cheapest_39 : decode cX0_cheapest 39 = .ok (.bipush (-2), 2) := dk_16 254 (dk_at dksX0_cheapest_1 15 rfl rfl)
theorem dX0_cheapest_41 : decode cX0_cheapest 41 = .ok (.istore 4, 2) := dk_54 4 (dk_at dksX0_cheapest_1 17 rfl rfl)
theorem dX0_cheapest_43 : decode cX0_cheapest 43 = .ok (.iconst 0, 1) := dk_3 (dk_at dksX0_cheapest_1 19 rfl rfl)
theorem dX0_cheapest_44 : decode cX0_cheapest 44 = .ok (.istore 5, 2) := dk_54 5 (dk_at dksX0_cheapest_1 20 rfl rfl)
theorem dX0_cheapest_46 : decode cX0_cheapest 46 = .ok (.iload 5, 2) := dk_21 5 (dk_at dksX0_cheapest_1 22 rfl rfl)
theorem dX0_cheapest_48 : decode cX0_cheapest 48 = .ok (.bipush 64, 2) := dk_16 64 (dk_at dksX0_cheapest_2 0 rfl rfl)
theorem dX0_cheapest_50 : decode cX0_cheapest 50 = .ok (.if_icmp .ge 43, 3) := dk_162 0 43 (dk_at dksX0_cheapest_2 2 rfl rfl)
theorem dX0_cheapest_53 : decode cX0_cheapest 53 = .ok (.iload 4, 2) := dk_21 4 (dk_at dksX0_cheapest_2 5 rfl rfl)
theorem dX0_cheapest_55 : decode cX0_cheapest 55 = .ok (.ifCond .lt 18, 3) := dk_155 0 18 (dk_at dksX0_cheapest_2 7 rfl rfl)
theorem dX0_cheapest_58 : decode cX0_cheapest 58 = .ok (.aload_n 0, 1) := dk_42 (dk_at dksX0_cheapest_2 10 rfl rfl)
theorem dX0_cheapest_59 : decode cX0_cheapest 59 = .ok (.iload 5, 2) := dk_21 5 (dk_at dksX0_cheapest_2 11 rfl rfl)
theorem dX0_cheapest_61 : decode cX0_cheapest 61 = .ok (.invokevirtual 324, 3) := dk_182 1 68 (dk_at dksX0_cheapest_2 13 rfl rfl)
theorem dX0_cheapest_64 : decode cX0_cheapest 64 = .ok (.aload_n 0, 1) := dk_42 (dk_at dksX0_cheapest_2 16 rfl rfl)
theorem dX0_cheapest_65 : decode cX0_cheapest 65 = .ok (.iload 4, 2) := dk_21 4 (dk_at dksX0_cheapest_2 17 rfl rfl)
theorem dX0_cheapest_67 : decode cX0_cheapest 67 = .ok (.invokevirtual 324, 3) := dk_182 1 68 (dk_at dksX0_cheapest_2 19 rfl rfl)
theorem dX0_cheapest_70 : decode cX0_cheapest 70 = .ok (.if_icmp .ge 17, 3) := dk_162 0 17 (dk_at dksX0_cheapest_3 0 rfl rfl)
theorem dX0_cheapest_73 : decode cX0_cheapest 73 = .ok (.aload_n 0, 1) := dk_42 (dk_at dksX0_cheapest_3 3 rfl rfl)
theorem dX0_cheapest_74 : decode cX0_cheapest 74 = .ok (.iload 5, 2) := dk_21 5 (dk_at dksX0_cheapest_3 4 rfl rfl)
theorem dX0_cheapest_76 : decode cX0_cheapest 76 = .ok (.invokevirtual 321, 3) := dk_182 1 65 (dk_at dksX0_cheapest_3 6 rfl rfl)
theorem dX0_cheapest_79 : decode cX0_cheapest 79 = .ok (.iload_n 2, 1) := dk_28 (dk_at dksX0_cheapest_3 9 rfl rfl)
theorem dX0_cheapest_80 : decode cX0_cheapest 80 = .ok (.if_icmp .lt 7, 3) := dk_161 0 7 (dk_at dksX0_cheapest_3 10 rfl rfl)
theorem dX0_cheapest_83 : decode cX0_cheapest 83 = .ok (.iload 5, 2) := dk_21 5 (dk_at dksX0_cheapest_3 13 rfl rfl)
theorem dX0_cheapest_85 : decode cX0_cheapest 85 = .ok (.istore 4, 2) := dk_54 4 (dk_at dksX0_cheapest_3 15 rfl rfl)
theorem dX0_cheapest_87 : decode cX0_cheapest 87 = .ok (.iinc 5 1, 3) := dk_132 5 1 (dk_at dksX0_cheapest_3 17 rfl rfl)
theorem dX0_cheapest_90 : decode cX0_cheapest 90 = .ok (.goto (-44), 3) := dk_167 255 212 (dk_at dksX0_cheapest_3 20 rfl rfl)
theorem dX0_cheapest_93 : decode cX0_cheapest 93 = .ok (.iload 4, 2) := dk_21 4 (dk_at dksX0_cheapest_4 0 rfl rfl)
theorem dX0_cheapest_95 : decode cX0_cheapest 95 = .ok (.ifCond .lt 7, 3) := dk_155 0 7 (dk_at dksX0_cheapest_4 2 rfl rfl)
theorem dX0_cheapest_98 : decode cX0_cheapest 98 = .ok (.iload_n 3, 1) := dk_29 (dk_at dksX0_cheapest_4 5 rfl rfl)
theorem dX0_cheapest_99 : decode cX0_cheapest 99 = .ok (.ifCond .ne 8, 3) := dk_154 0 8 (dk_at dksX0_cheapest_4 6 rfl rfl)
theorem dX0_cheapest_102 : decode cX0_cheapest 102 = .ok (.iload 4, 2) := dk_21 4 (dk_at dksX0_cheapest_4 9 rfl rfl)
theorem dX0_cheapest_104 : decode cX0_cheapest 104 = .ok (.goto 9, 3) := dk_167 0 9 (dk_at dksX0_cheapest_4 11 rfl rfl)
theorem dX0_cheapest_107 : decode cX0_cheapest 107 = .ok (.aload_n 0, 1) := dk_42 (dk_at dksX0_cheapest_4 14 rfl rfl)
theorem dX0_cheapest_108 : decode cX0_cheapest 108 = .ok (.iload 4, 2) := dk_21 4 (dk_at dksX0_cheapest_4 15 rfl rfl)
theorem dX0_cheapest_110 : decode cX0_cheapest 110 = .ok (.invokevirtual 324, 3) := dk_182 1 68 (dk_at dksX0_cheapest_4 17 rfl rfl)
theorem dX0_cheapest_113 : decode cX0_cheapest 113 = .ok (.ireturn, 1) := dk_172 (dk_at dksX0_cheapest_4 20 rfl rfl)
abbrev cX0_costOf : ByteArray := prog_1_method_50_code
def yX0_costOf : MethodName := ⟨RX0, "costOf", "(I)I"⟩
def dkwX0_costOf_1 : List UInt8 := [29, 50, 180, 0, 145, 167, 0, 4, 3, 96, 61, 132, 3, 1, 167, 255, 222, 28, 172]
abbrev dktX0_costOf_1 : List UInt8 := dkwX0_costOf_1 ++ []
def dkwX0_costOf_0 : List UInt8 := [3, 61, 3, 62, 29, 16, 6, 162, 0, 34, 28, 27, 29, 122, 4, 126, 4, 160, 0, 15, 42, 180, 0, 25]
abbrev dktX0_costOf_0 : List UInt8 := dkwX0_costOf_0 ++ dktX0_costOf_1
theorem dksX0_costOf_0 : cX0_costOf.data.toList.drop 0 = dktX0_costOf_0 := by decide +kernel
theorem dksX0_costOf_1 : cX0_costOf.data.toList.drop 24 = dktX0_costOf_1 := dk_seg dksX0_costOf_0 24 rfl rfl
theorem dX0_costOf_0 : decode cX0_costOf 0 = .ok (.iconst 0, 1) := dk_3 (dk_at dksX0_costOf_0 0 rfl rfl)
theorem dX0_costOf_1 : decode cX0_costOf 1 = .ok (.istore_n 2, 1) := dk_61 (dk_at dksX0_costOf_0 1 rfl rfl)
theorem dX0_costOf_2 : decode cX0_costOf 2 = .ok (.iconst 0, 1) := dk_3 (dk_at dksX0_costOf_0 2 rfl rfl)
theorem dX0_costOf_3 : decode cX0_costOf 3 = .ok (.istore_n 3, 1) := dk_62 (dk_at dksX0_costOf_0 3 rfl rfl)
theorem dX0_costOf_4 : decode cX0_costOf 4 = .ok (.iload_n 3, 1) := dk_29 (dk_at dksX0_costOf_0 4 rfl rfl)
theorem dX0_costOf_5 : decode cX0_costOf 5 = .ok (.bipush 6, 2) := dk_16 6 (dk_at dksX0_costOf_0 5 rfl rfl)
theorem dX0_costOf_7 : decode cX0_costOf 7 = .ok (.if_icmp .ge 34, 3) := dk_162 0 34 (dk_at dksX0_costOf_0 7 rfl rfl)
theorem dX0_costOf_10 : decode cX0_costOf 10 = .ok (.iload_n 2, 1) := dk_28 (dk_at dksX0_costOf_0 10 rfl rfl)
theorem dX0_costOf_11 : decode cX0_costOf 11 = .ok (.iload_n 1, 1) := dk_27 (dk_at dksX0_costOf_0 11 rfl rfl)
theorem dX0_costOf_12 : decode cX0_costOf 12 = .ok (.iload_n 3, 1) := dk_29 (dk_at dksX0_costOf_0 12 rfl rfl)
theorem dX0_costOf_13 : decode cX0_costOf 13 = .ok (.ishr, 1) := dk_122 (dk_at dksX0_costOf_0 13 rfl rfl)
theorem dX0_costOf_14 : decode cX0_costOf 14 = .ok (.iconst 1, 1) := dk_4 (dk_at dksX0_costOf_0 14 rfl rfl)
theorem dX0_costOf_15 : decode cX0_costOf 15 = .ok (.iand, 1) := dk_126 (dk_at dksX0_costOf_0 15 rfl rfl)
theorem dX0_costOf_16 : decode cX0_costOf 16 = .ok (.iconst 1, 1) := dk_4 (dk_at dksX0_costOf_0 16 rfl rfl)
theorem dX0_costOf_17 : decode cX0_costOf 17 = .ok (.if_icmp .ne 15, 3) := dk_160 0 15 (dk_at dksX0_costOf_0 17 rfl rfl)
theorem dX0_costOf_20 : decode cX0_costOf 20 = .ok (.aload_n 0, 1) := dk_42 (dk_at dksX0_costOf_0 20 rfl rfl)
theorem dX0_costOf_21 : decode cX0_costOf 21 = .ok (.getfield 25, 3) := dk_180 0 25 (dk_at dksX0_costOf_0 21 rfl rfl)
theorem dX0_costOf_24 : decode cX0_costOf 24 = .ok (.iload_n 3, 1) := dk_29 (dk_at dksX0_costOf_1 0 rfl rfl)
theorem dX0_costOf_25 : decode cX0_costOf 25 = .ok (.aaload, 1) := dk_50 (dk_at dksX0_costOf_1 1 rfl rfl)
theorem dX0_costOf_26 : decode cX0_costOf 26 = .ok (.getfield 145, 3) := dk_180 0 145 (dk_at dksX0_costOf_1 2 rfl rfl)
theorem dX0_costOf_29 : decode cX0_costOf 29 = .ok (.goto 4, 3) := dk_167 0 4 (dk_at dksX0_costOf_1 5 rfl rfl)
theorem dX0_costOf_32 : decode cX0_costOf 32 = .ok (.iconst 0, 1) := dk_3 (dk_at dksX0_costOf_1 8 rfl rfl)
theorem dX0_costOf_33 : decode cX0_costOf 33 = .ok (.iadd, 1) := dk_96 (dk_at dksX0_costOf_1 9 rfl rfl)
theorem dX0_costOf_34 : decode cX0_costOf 34 = .ok (.istore_n 2, 1) := dk_61 (dk_at dksX0_costOf_1 10 rfl rfl)
theorem dX0_costOf_35 : decode cX0_costOf 35 = .ok (.iinc 3 1, 3) := dk_132 3 1 (dk_at dksX0_costOf_1 11 rfl rfl)
theorem dX0_costOf_38 : decode cX0_costOf 38 = .ok (.goto (-34), 3) := dk_167 255 222 (dk_at dksX0_costOf_1 14 rfl rfl)
theorem dX0_costOf_41 : decode cX0_costOf 41 = .ok (.iload_n 2, 1) := dk_28 (dk_at dksX0_costOf_1 17 rfl rfl)
theorem dX0_costOf_42 : decode cX0_costOf 42 = .ok (.ireturn, 1) := dk_172 (dk_at dksX0_costOf_1 18 rfl rfl)
abbrev cX0_spoils : ByteArray := prog_1_method_52_code
def yX0_spoils : MethodName := ⟨RX0, "spoils", "(II)I"⟩
def dkwX0_spoils_4 : List UInt8 := [167, 255, 199, 29, 172]
abbrev dktX0_spoils_4 : List UInt8 := dkwX0_spoils_4 ++ []
def dkwX0_spoils_3 : List UInt8 := [155, 0, 13, 21, 6, 21, 4, 161, 0, 6, 167, 0, 10, 21, 5, 62, 21, 6, 54, 4, 132, 5, 1]
abbrev dktX0_spoils_3 : List UInt8 := dkwX0_spoils_3 ++ dktX0_spoils_4
def dkwX0_spoils_2 : List UInt8 := [126, 154, 0, 6, 167, 0, 38, 42, 28, 4, 21, 5, 120, 2, 130, 126, 182, 1, 65, 54, 6, 29]
abbrev dktX0_spoils_2 : List UInt8 := dkwX0_spoils_2 ++ dktX0_spoils_3
def dkwX0_spoils_1 : List UInt8 := [182, 0, 249, 16, 254, 62, 3, 54, 4, 3, 54, 5, 21, 5, 16, 6, 162, 0, 56, 28, 21, 5, 122, 4]
abbrev dktX0_spoils_1 : List UInt8 := dkwX0_spoils_1 ++ dktX0_spoils_2
def dkwX0_spoils_0 : List UInt8 := [42, 27, 182, 0, 98, 153, 0, 10, 28, 184, 1, 49, 154, 0, 5, 2, 172, 42, 42, 180, 0, 11, 27, 50]
abbrev dktX0_spoils_0 : List UInt8 := dkwX0_spoils_0 ++ dktX0_spoils_1
theorem dksX0_spoils_0 : cX0_spoils.data.toList.drop 0 = dktX0_spoils_0 := by decide +kernel
theorem dksX0_spoils_1 : cX0_spoils.data.toList.drop 24 = dktX0_spoils_1 := dk_seg dksX0_spoils_0 24 rfl rfl
theorem dksX0_spoils_2 : cX0_spoils.data.toList.drop 48 = dktX0_spoils_2 := dk_seg dksX0_spoils_1 24 rfl rfl
theorem dksX0_spoils_3 : cX0_spoils.data.toList.drop 70 = dktX0_spoils_3 := dk_seg dksX0_spoils_2 22 rfl rfl
theorem dksX0_spoils_4 : cX0_spoils.data.toList.drop 93 = dktX0_spoils_4 := dk_seg dksX0_spoils_3 23 rfl rfl
theorem dX0_spoils_0 : decode cX0_spoils 0 = .ok (.aload_n 0, 1) := dk_42 (dk_at dksX0_spoils_0 0 rfl rfl)
theorem dX0_spoils_1 : decode cX0_spoils 1 = .ok (.iload_n 1, 1) := dk_27 (dk_at dksX0_spoils_0 1 rfl rfl)
theorem dX0_spoils_2 : decode cX0_spoils 2 = .ok (.invokevirtual 98, 3) := dk_182 0 98 (dk_at dksX0_spoils_0 2 rfl rfl)
theorem dX0_spoils_5 : decode cX0_spoils 5 = .ok (.ifCond .eq 10, 3) := dk_153 0 10 (dk_at dksX0_spoils_0 5 rfl rfl)
theorem dX0_spoils_8 : decode cX0_spoils 8 = .ok (.iload_n 2, 1) := dk_28 (dk_at dksX0_spoils_0 8 rfl rfl)
theorem dX0_spoils_9 : decode cX0_spoils 9 = .ok (.invokestatic 305, 3) := dk_184 1 49 (dk_at dksX0_spoils_0 9 rfl rfl)
theorem dX0_spoils_12 : decode cX0_spoils 12 = .ok (.ifCond .ne 5, 3) := dk_154 0 5 (dk_at dksX0_spoils_0 12 rfl rfl)
theorem dX0_spoils_15 : decode cX0_spoils 15 = .ok (.iconst (-1), 1) := dk_2 (dk_at dksX0_spoils_0 15 rfl rfl)
theorem dX0_spoils_16 : decode cX0_spoils 16 = .ok (.ireturn, 1) := dk_172 (dk_at dksX0_spoils_0 16 rfl rfl)
theorem dX0_spoils_17 : decode cX0_spoils 17 = .ok (.aload_n 0, 1) := dk_42 (dk_at dksX0_spoils_0 17 rfl rfl)
theorem dX0_spoils_18 : decode cX0_spoils 18 = .ok (.aload_n 0, 1) := dk_42 (dk_at dksX0_spoils_0 18 rfl rfl)
theorem dX0_spoils_19 : decode cX0_spoils 19 = .ok (.getfield 11, 3) := dk_180 0 11 (dk_at dksX0_spoils_0 19 rfl rfl)
theorem dX0_spoils_22 : decode cX0_spoils 22 = .ok (.iload_n 1, 1) := dk_27 (dk_at dksX0_spoils_0 22 rfl rfl)
theorem dX0_spoils_23 : decode cX0_spoils 23 = .ok (.aaload, 1) := dk_50 (dk_at dksX0_spoils_0 23 rfl rfl)
theorem dX0_spoils_24 : decode cX0_spoils 24 = .ok (.invokevirtual 249, 3) := dk_182 0 249 (dk_at dksX0_spoils_1 0 rfl rfl)
theorem dX0_spoils_27 : decode cX0_spoils 27 = .ok (.bipush (-2), 2) := dk_16 254 (dk_at dksX0_spoils_1 3 rfl rfl)
theorem dX0_spoils_29 : decode cX0_spoils 29 = .ok (.istore_n 3, 1) := dk_62 (dk_at dksX0_spoils_1 5 rfl rfl)
theorem dX0_spoils_30 : decode cX0_spoils 30 = .ok (.iconst 0, 1) := dk_3 (dk_at dksX0_spoils_1 6 rfl rfl)
theorem dX0_spoils_31 : decode cX0_spoils 31 = .ok (.istore 4, 2) := dk_54 4 (dk_at dksX0_spoils_1 7 rfl rfl)
theorem dX0_spoils_33 : decode cX0_spoils 33 = .ok (.iconst 0, 1) := dk_3 (dk_at dksX0_spoils_1 9 rfl rfl)
theorem dX0_spoils_34 : decode cX0_spoils 34 = .ok (.istore 5, 2) := dk_54 5 (dk_at dksX0_spoils_1 10 rfl rfl)
theorem dX0_spoils_36 : decode cX0_spoils 36 = .ok (.iload 5, 2) := dk_21 5 (dk_at dksX0_spoils_1 12 rfl rfl)
theorem dX0_spoils_38 : decode cX0_spoils 38 = .ok (.bipush 6, 2) := dk_16 6 (dk_at dksX0_spoils_1 14 rfl rfl)
theorem dX0_spoils_40 : decode cX0_spoils 40 = .ok (.if_icmp .ge 56, 3) := dk_162 0 56 (dk_at dksX0_spoils_1 16 rfl rfl)
theorem dX0_spoils_43 : decode cX0_spoils 43 = .ok (.iload_n 2, 1) := dk_28 (dk_at dksX0_spoils_1 19 rfl rfl)
theorem dX0_spoils_44 : decode cX0_spoils 44 = .ok (.iload 5, 2) := dk_21 5 (dk_at dksX0_spoils_1 20 rfl rfl)
theorem dX0_spoils_46 : decode cX0_spoils 46 = .ok (.ishr, 1) := dk_122 (dk_at dksX0_spoils_1 22 rfl rfl)
theorem dX0_spoils_47 : decode cX0_spoils 47 = .ok (.iconst 1, 1) := dk_4 (dk_at dksX0_spoils_1 23 rfl rfl)
theorem dX0_spoils_48 : decode cX0_spoils 48 = .ok (.iand, 1) := dk_126 (dk_at dksX0_spoils_2 0 rfl rfl)
theorem dX0_spoils_49 : decode cX0_spoils 49 = .ok (.ifCond .ne 6, 3) := dk_154 0 6 (dk_at dksX0_spoils_2 1 rfl rfl)
theorem dX0_spoils_52 : decode cX0_spoils 52 = .ok (.goto 38, 3) := dk_167 0 38 (dk_at dksX0_spoils_2 4 rfl rfl)
theorem dX0_spoils_55 : decode cX0_spoils 55 = .ok (.aload_n 0, 1) := dk_42 (dk_at dksX0_spoils_2 7 rfl rfl)
theorem dX0_spoils_56 : decode cX0_spoils 56 = .ok (.iload_n 2, 1) := dk_28 (dk_at dksX0_spoils_2 8 rfl rfl)
theorem dX0_spoils_57 : decode cX0_spoils 57 = .ok (.iconst 1, 1) := dk_4 (dk_at dksX0_spoils_2 9 rfl rfl)
theorem dX0_spoils_58 : decode cX0_spoils 58 = .ok (.iload 5, 2) := dk_21 5 (dk_at dksX0_spoils_2 10 rfl rfl)
theorem dX0_spoils_60 : decode cX0_spoils 60 = .ok (.ishl, 1) := dk_120 (dk_at dksX0_spoils_2 12 rfl rfl)
theorem dX0_spoils_61 : decode cX0_spoils 61 = .ok (.iconst (-1), 1) := dk_2 (dk_at dksX0_spoils_2 13 rfl rfl)
theorem dX0_spoils_62 : decode cX0_spoils 62 = .ok (.ixor, 1) := dk_130 (dk_at dksX0_spoils_2 14 rfl rfl)
theorem dX0_spoils_63 : decode cX0_spoils 63 = .ok (.iand, 1) := dk_126 (dk_at dksX0_spoils_2 15 rfl rfl)
theorem dX0_spoils_64 : decode cX0_spoils 64 = .ok (.invokevirtual 321, 3) := dk_182 1 65 (dk_at dksX0_spoils_2 16 rfl rfl)
theorem dX0_spoils_67 : decode cX0_spoils 67 = .ok (.istore 6, 2) := dk_54 6 (dk_at dksX0_spoils_2 19 rfl rfl)
theorem dX0_spoils_69 : decode cX0_spoils 69 = .ok (.iload_n 3, 1) := dk_29 (dk_at dksX0_spoils_2 21 rfl rfl)
theorem dX0_spoils_70 : decode cX0_spoils 70 = .ok (.ifCond .lt 13, 3) := dk_155 0 13 (dk_at dksX0_spoils_3 0 rfl rfl)
theorem dX0_spoils_73 : decode cX0_spoils 73 = .ok (.iload 6, 2) := dk_21 6 (dk_at dksX0_spoils_3 3 rfl rfl)
theorem dX0_spoils_75 : decode cX0_spoils 75 = .ok (.iload 4, 2) := dk_21 4 (dk_at dksX0_spoils_3 5 rfl rfl)
theorem dX0_spoils_77 : decode cX0_spoils 77 = .ok (.if_icmp .lt 6, 3) := dk_161 0 6 (dk_at dksX0_spoils_3 7 rfl rfl)
theorem dX0_spoils_80 : decode cX0_spoils 80 = .ok (.goto 10, 3) := dk_167 0 10 (dk_at dksX0_spoils_3 10 rfl rfl)
theorem dX0_spoils_83 : decode cX0_spoils 83 = .ok (.iload 5, 2) := dk_21 5 (dk_at dksX0_spoils_3 13 rfl rfl)
theorem dX0_spoils_85 : decode cX0_spoils 85 = .ok (.istore_n 3, 1) := dk_62 (dk_at dksX0_spoils_3 15 rfl rfl)
theorem dX0_spoils_86 : decode cX0_spoils 86 = .ok (.iload 6, 2) := dk_21 6 (dk_at dksX0_spoils_3 16 rfl rfl)
theorem dX0_spoils_88 : decode cX0_spoils 88 = .ok (.istore 4, 2) := dk_54 4 (dk_at dksX0_spoils_3 18 rfl rfl)
theorem dX0_spoils_90 : decode cX0_spoils 90 = .ok (.iinc 5 1, 3) := dk_132 5 1 (dk_at dksX0_spoils_3 20 rfl rfl)
theorem dX0_spoils_93 : decode cX0_spoils 93 = .ok (.goto (-57), 3) := dk_167 255 199 (dk_at dksX0_spoils_4 0 rfl rfl)
theorem dX0_spoils_96 : decode cX0_spoils 96 = .ok (.iload_n 3, 1) := dk_29 (dk_at dksX0_spoils_4 3 rfl rfl)
theorem dX0_spoils_97 : decode cX0_spoils 97 = .ok (.ireturn, 1) := dk_172 (dk_at dksX0_spoils_4 4 rfl rfl)
abbrev cX0_price : ByteArray := prog_1_method_54_code
def yX0_price : MethodName := ⟨RX0, "price", "(I)I"⟩
def dkwX0_price_2 : List UInt8 := [167, 255, 237, 28, 172]
abbrev dktX0_price_2 : List UInt8 := dkwX0_price_2 ++ []
def dkwX0_price_1 : List UInt8 := [172, 3, 61, 3, 62, 29, 42, 180, 0, 91, 162, 0, 17, 28, 42, 29, 182, 1, 71, 96, 61, 132, 3, 1]
abbrev dktX0_price_1 : List UInt8 := dkwX0_price_1 ++ dktX0_price_2
def dkwX0_price_0 : List UInt8 := [27, 2, 159, 0, 13, 42, 27, 182, 0, 98, 154, 0, 5, 2, 172, 27, 155, 0, 9, 42, 27, 182, 1, 71]
abbrev dktX0_price_0 : List UInt8 := dkwX0_price_0 ++ dktX0_price_1
theorem dksX0_price_0 : cX0_price.data.toList.drop 0 = dktX0_price_0 := by decide +kernel
theorem dksX0_price_1 : cX0_price.data.toList.drop 24 = dktX0_price_1 := dk_seg dksX0_price_0 24 rfl rfl
theorem dksX0_price_2 : cX0_price.data.toList.drop 48 = dktX0_price_2 := dk_seg dksX0_price_1 24 rfl rfl
theorem dX0_price_0 : decode cX0_price 0 = .ok (.iload_n 1, 1) := dk_27 (dk_at dksX0_price_0 0 rfl rfl)
theorem dX0_price_1 : decode cX0_price 1 = .ok (.iconst (-1), 1) := dk_2 (dk_at dksX0_price_0 1 rfl rfl)
theorem dX0_price_2 : decode cX0_price 2 = .ok (.if_icmp .eq 13, 3) := dk_159 0 13 (dk_at dksX0_price_0 2 rfl rfl)
theorem dX0_price_5 : decode cX0_price 5 = .ok (.aload_n 0, 1) := dk_42 (dk_at dksX0_price_0 5 rfl rfl)
theorem dX0_price_6 : decode cX0_price 6 = .ok (.iload_n 1, 1) := dk_27 (dk_at dksX0_price_0 6 rfl rfl)
theorem dX0_price_7 : decode cX0_price 7 = .ok (.invokevirtual 98, 3) := dk_182 0 98 (dk_at dksX0_price_0 7 rfl rfl)
theorem dX0_price_10 : decode cX0_price 10 = .ok (.ifCond .ne 5, 3) := dk_154 0 5 (dk_at dksX0_price_0 10 rfl rfl)
theorem dX0_price_13 : decode cX0_price 13 = .ok (.iconst (-1), 1) := dk_2 (dk_at dksX0_price_0 13 rfl rfl)
theorem dX0_price_14 : decode cX0_price 14 = .ok (.ireturn, 1) := dk_172 (dk_at dksX0_price_0 14 rfl rfl)
theorem dX0_price_15 : decode cX0_price 15 = .ok (.iload_n 1, 1) := dk_27 (dk_at dksX0_price_0 15 rfl rfl)
theorem dX0_price_16 : decode cX0_price 16 = .ok (.ifCond .lt 9, 3) := dk_155 0 9 (dk_at dksX0_price_0 16 rfl rfl)
theorem dX0_price_19 : decode cX0_price 19 = .ok (.aload_n 0, 1) := dk_42 (dk_at dksX0_price_0 19 rfl rfl)
theorem dX0_price_20 : decode cX0_price 20 = .ok (.iload_n 1, 1) := dk_27 (dk_at dksX0_price_0 20 rfl rfl)
theorem dX0_price_21 : decode cX0_price 21 = .ok (.invokevirtual 327, 3) := dk_182 1 71 (dk_at dksX0_price_0 21 rfl rfl)
theorem dX0_price_24 : decode cX0_price 24 = .ok (.ireturn, 1) := dk_172 (dk_at dksX0_price_1 0 rfl rfl)
theorem dX0_price_25 : decode cX0_price 25 = .ok (.iconst 0, 1) := dk_3 (dk_at dksX0_price_1 1 rfl rfl)
theorem dX0_price_26 : decode cX0_price 26 = .ok (.istore_n 2, 1) := dk_61 (dk_at dksX0_price_1 2 rfl rfl)
theorem dX0_price_27 : decode cX0_price 27 = .ok (.iconst 0, 1) := dk_3 (dk_at dksX0_price_1 3 rfl rfl)
theorem dX0_price_28 : decode cX0_price 28 = .ok (.istore_n 3, 1) := dk_62 (dk_at dksX0_price_1 4 rfl rfl)
theorem dX0_price_29 : decode cX0_price 29 = .ok (.iload_n 3, 1) := dk_29 (dk_at dksX0_price_1 5 rfl rfl)
theorem dX0_price_30 : decode cX0_price 30 = .ok (.aload_n 0, 1) := dk_42 (dk_at dksX0_price_1 6 rfl rfl)
theorem dX0_price_31 : decode cX0_price 31 = .ok (.getfield 91, 3) := dk_180 0 91 (dk_at dksX0_price_1 7 rfl rfl)
theorem dX0_price_34 : decode cX0_price 34 = .ok (.if_icmp .ge 17, 3) := dk_162 0 17 (dk_at dksX0_price_1 10 rfl rfl)
theorem dX0_price_37 : decode cX0_price 37 = .ok (.iload_n 2, 1) := dk_28 (dk_at dksX0_price_1 13 rfl rfl)
theorem dX0_price_38 : decode cX0_price 38 = .ok (.aload_n 0, 1) := dk_42 (dk_at dksX0_price_1 14 rfl rfl)
theorem dX0_price_39 : decode cX0_price 39 = .ok (.iload_n 3, 1) := dk_29 (dk_at dksX0_price_1 15 rfl rfl)
theorem dX0_price_40 : decode cX0_price 40 = .ok (.invokevirtual 327, 3) := dk_182 1 71 (dk_at dksX0_price_1 16 rfl rfl)
theorem dX0_price_43 : decode cX0_price 43 = .ok (.iadd, 1) := dk_96 (dk_at dksX0_price_1 19 rfl rfl)
theorem dX0_price_44 : decode cX0_price 44 = .ok (.istore_n 2, 1) := dk_61 (dk_at dksX0_price_1 20 rfl rfl)
theorem dX0_price_45 : decode cX0_price 45 = .ok (.iinc 3 1, 3) := dk_132 3 1 (dk_at dksX0_price_1 21 rfl rfl)
theorem dX0_price_48 : decode cX0_price 48 = .ok (.goto (-19), 3) := dk_167 255 237 (dk_at dksX0_price_2 0 rfl rfl)
theorem dX0_price_51 : decode cX0_price 51 = .ok (.iload_n 2, 1) := dk_28 (dk_at dksX0_price_2 3 rfl rfl)
theorem dX0_price_52 : decode cX0_price 52 = .ok (.ireturn, 1) := dk_172 (dk_at dksX0_price_2 4 rfl rfl)
abbrev cX0_priceOf : ByteArray := prog_1_method_53_code
def yX0_priceOf : MethodName := ⟨RX0, "priceOf", "(I)I"⟩
def dkwX0_priceOf_1 : List UInt8 := [180, 0, 139, 42, 29, 182, 1, 17, 104, 96, 61, 132, 3, 1, 167, 255, 229, 28, 16, 100, 108, 172]
abbrev dktX0_priceOf_1 : List UInt8 := dkwX0_priceOf_1 ++ []
def dkwX0_priceOf_0 : List UInt8 := [42, 27, 182, 1, 7, 3, 61, 3, 62, 29, 16, 6, 162, 0, 27, 28, 42, 180, 0, 18, 29, 50]
abbrev dktX0_priceOf_0 : List UInt8 := dkwX0_priceOf_0 ++ dktX0_priceOf_1
theorem dksX0_priceOf_0 : cX0_priceOf.data.toList.drop 0 = dktX0_priceOf_0 := by decide +kernel
theorem dksX0_priceOf_1 : cX0_priceOf.data.toList.drop 22 = dktX0_priceOf_1 := dk_seg dksX0_priceOf_0 22 rfl rfl
theorem dX0_priceOf_0 : decode cX0_priceOf 0 = .ok (.aload_n 0, 1) := dk_42 (dk_at dksX0_priceOf_0 0 rfl rfl)
theorem dX0_priceOf_1 : decode cX0_priceOf 1 = .ok (.iload_n 1, 1) := dk_27 (dk_at dksX0_priceOf_0 1 rfl rfl)
theorem dX0_priceOf_2 : decode cX0_priceOf 2 = .ok (.invokevirtual 263, 3) := dk_182 1 7 (dk_at dksX0_priceOf_0 2 rfl rfl)
theorem dX0_priceOf_5 : decode cX0_priceOf 5 = .ok (.iconst 0, 1) := dk_3 (dk_at dksX0_priceOf_0 5 rfl rfl)
theorem dX0_priceOf_6 : decode cX0_priceOf 6 = .ok (.istore_n 2, 1) := dk_61 (dk_at dksX0_priceOf_0 6 rfl rfl)
theorem dX0_priceOf_7 : decode cX0_priceOf 7 = .ok (.iconst 0, 1) := dk_3 (dk_at dksX0_priceOf_0 7 rfl rfl)
theorem dX0_priceOf_8 : decode cX0_priceOf 8 = .ok (.istore_n 3, 1) := dk_62 (dk_at dksX0_priceOf_0 8 rfl rfl)
theorem dX0_priceOf_9 : decode cX0_priceOf 9 = .ok (.iload_n 3, 1) := dk_29 (dk_at dksX0_priceOf_0 9 rfl rfl)
theorem dX0_priceOf_10 : decode cX0_priceOf 10 = .ok (.bipush 6, 2) := dk_16 6 (dk_at dksX0_priceOf_0 10 rfl rfl)
theorem dX0_priceOf_12 : decode cX0_priceOf 12 = .ok (.if_icmp .ge 27, 3) := dk_162 0 27 (dk_at dksX0_priceOf_0 12 rfl rfl)
theorem dX0_priceOf_15 : decode cX0_priceOf 15 = .ok (.iload_n 2, 1) := dk_28 (dk_at dksX0_priceOf_0 15 rfl rfl)
theorem dX0_priceOf_16 : decode cX0_priceOf 16 = .ok (.aload_n 0, 1) := dk_42 (dk_at dksX0_priceOf_0 16 rfl rfl)
theorem dX0_priceOf_17 : decode cX0_priceOf 17 = .ok (.getfield 18, 3) := dk_180 0 18 (dk_at dksX0_priceOf_0 17 rfl rfl)
theorem dX0_priceOf_20 : decode cX0_priceOf 20 = .ok (.iload_n 3, 1) := dk_29 (dk_at dksX0_priceOf_0 20 rfl rfl)
theorem dX0_priceOf_21 : decode cX0_priceOf 21 = .ok (.aaload, 1) := dk_50 (dk_at dksX0_priceOf_0 21 rfl rfl)
theorem dX0_priceOf_22 : decode cX0_priceOf 22 = .ok (.getfield 139, 3) := dk_180 0 139 (dk_at dksX0_priceOf_1 0 rfl rfl)
theorem dX0_priceOf_25 : decode cX0_priceOf 25 = .ok (.aload_n 0, 1) := dk_42 (dk_at dksX0_priceOf_1 3 rfl rfl)
theorem dX0_priceOf_26 : decode cX0_priceOf 26 = .ok (.iload_n 3, 1) := dk_29 (dk_at dksX0_priceOf_1 4 rfl rfl)
theorem dX0_priceOf_27 : decode cX0_priceOf 27 = .ok (.invokevirtual 273, 3) := dk_182 1 17 (dk_at dksX0_priceOf_1 5 rfl rfl)
theorem dX0_priceOf_30 : decode cX0_priceOf 30 = .ok (.imul, 1) := dk_104 (dk_at dksX0_priceOf_1 8 rfl rfl)
theorem dX0_priceOf_31 : decode cX0_priceOf 31 = .ok (.iadd, 1) := dk_96 (dk_at dksX0_priceOf_1 9 rfl rfl)
theorem dX0_priceOf_32 : decode cX0_priceOf 32 = .ok (.istore_n 2, 1) := dk_61 (dk_at dksX0_priceOf_1 10 rfl rfl)
theorem dX0_priceOf_33 : decode cX0_priceOf 33 = .ok (.iinc 3 1, 3) := dk_132 3 1 (dk_at dksX0_priceOf_1 11 rfl rfl)
theorem dX0_priceOf_36 : decode cX0_priceOf 36 = .ok (.goto (-27), 3) := dk_167 255 229 (dk_at dksX0_priceOf_1 14 rfl rfl)
theorem dX0_priceOf_39 : decode cX0_priceOf 39 = .ok (.iload_n 2, 1) := dk_28 (dk_at dksX0_priceOf_1 17 rfl rfl)
theorem dX0_priceOf_40 : decode cX0_priceOf 40 = .ok (.bipush 100, 2) := dk_16 100 (dk_at dksX0_priceOf_1 18 rfl rfl)
theorem dX0_priceOf_42 : decode cX0_priceOf 42 = .ok (.idiv, 1) := dk_108 (dk_at dksX0_priceOf_1 20 rfl rfl)
theorem dX0_priceOf_43 : decode cX0_priceOf 43 = .ok (.ireturn, 1) := dk_172 (dk_at dksX0_priceOf_1 21 rfl rfl)
abbrev cX0_paper : ByteArray := prog_1_method_55_code
def yX0_paper : MethodName := ⟨RX0, "paper", "(II)I"⟩
def dkwX0_paper_4 : List UInt8 := [180, 1, 74, 4, 100, 172]
abbrev dktX0_paper_4 : List UInt8 := dkwX0_paper_4 ++ []
def dkwX0_paper_3 : List UInt8 := [16, 100, 108, 27, 16, 100, 112, 28, 183, 1, 77, 83, 42, 89, 180, 1, 74, 4, 96, 181, 1, 74, 42]
abbrev dktX0_paper_3 : List UInt8 := dkwX0_paper_3 ++ dktX0_paper_4
def dkwX0_paper_2 : List UInt8 := [180, 1, 74, 16, 10, 160, 0, 6, 16, 253, 172, 42, 180, 0, 68, 42, 180, 1, 74, 187, 0, 66, 89, 27]
abbrev dktX0_paper_2 : List UInt8 := dkwX0_paper_2 ++ dktX0_paper_3
def dkwX0_paper_1 : List UInt8 := [27, 16, 100, 108, 27, 16, 100, 112, 163, 0, 13, 28, 3, 16, 9, 184, 0, 94, 154, 0, 5, 2, 172, 42]
abbrev dktX0_paper_1 : List UInt8 := dkwX0_paper_1 ++ dktX0_paper_2
def dkwX0_paper_0 : List UInt8 := [27, 155, 0, 44, 27, 16, 100, 108, 184, 0, 235, 153, 0, 34, 27, 16, 100, 112, 184, 0, 235, 153, 0, 24]
abbrev dktX0_paper_0 : List UInt8 := dkwX0_paper_0 ++ dktX0_paper_1
theorem dksX0_paper_0 : cX0_paper.data.toList.drop 0 = dktX0_paper_0 := by decide +kernel
theorem dksX0_paper_1 : cX0_paper.data.toList.drop 24 = dktX0_paper_1 := dk_seg dksX0_paper_0 24 rfl rfl
theorem dksX0_paper_2 : cX0_paper.data.toList.drop 48 = dktX0_paper_2 := dk_seg dksX0_paper_1 24 rfl rfl
theorem dksX0_paper_3 : cX0_paper.data.toList.drop 72 = dktX0_paper_3 := dk_seg dksX0_paper_2 24 rfl rfl
theorem dksX0_paper_4 : cX0_paper.data.toList.drop 95 = dktX0_paper_4 := dk_seg dksX0_paper_3 23 rfl rfl
theorem dX0_paper_0 : decode cX0_paper 0 = .ok (.iload_n 1, 1) := dk_27 (dk_at dksX0_paper_0 0 rfl rfl)
theorem dX0_paper_1 : decode cX0_paper 1 = .ok (.ifCond .lt 44, 3) := dk_155 0 44 (dk_at dksX0_paper_0 1 rfl rfl)
theorem dX0_paper_4 : decode cX0_paper 4 = .ok (.iload_n 1, 1) := dk_27 (dk_at dksX0_paper_0 4 rfl rfl)
theorem dX0_paper_5 : decode cX0_paper 5 = .ok (.bipush 100, 2) := dk_16 100 (dk_at dksX0_paper_0 5 rfl rfl)
theorem dX0_paper_7 : decode cX0_paper 7 = .ok (.idiv, 1) := dk_108 (dk_at dksX0_paper_0 7 rfl rfl)
theorem dX0_paper_8 : decode cX0_paper 8 = .ok (.invokestatic 235, 3) := dk_184 0 235 (dk_at dksX0_paper_0 8 rfl rfl)
theorem dX0_paper_11 : decode cX0_paper 11 = .ok (.ifCond .eq 34, 3) := dk_153 0 34 (dk_at dksX0_paper_0 11 rfl rfl)
theorem dX0_paper_14 : decode cX0_paper 14 = .ok (.iload_n 1, 1) := dk_27 (dk_at dksX0_paper_0 14 rfl rfl)
theorem dX0_paper_15 : decode cX0_paper 15 = .ok (.bipush 100, 2) := dk_16 100 (dk_at dksX0_paper_0 15 rfl rfl)
theorem dX0_paper_17 : decode cX0_paper 17 = .ok (.irem, 1) := dk_112 (dk_at dksX0_paper_0 17 rfl rfl)
theorem dX0_paper_18 : decode cX0_paper 18 = .ok (.invokestatic 235, 3) := dk_184 0 235 (dk_at dksX0_paper_0 18 rfl rfl)
theorem dX0_paper_21 : decode cX0_paper 21 = .ok (.ifCond .eq 24, 3) := dk_153 0 24 (dk_at dksX0_paper_0 21 rfl rfl)
theorem dX0_paper_24 : decode cX0_paper 24 = .ok (.iload_n 1, 1) := dk_27 (dk_at dksX0_paper_1 0 rfl rfl)
theorem dX0_paper_25 : decode cX0_paper 25 = .ok (.bipush 100, 2) := dk_16 100 (dk_at dksX0_paper_1 1 rfl rfl)
theorem dX0_paper_27 : decode cX0_paper 27 = .ok (.idiv, 1) := dk_108 (dk_at dksX0_paper_1 3 rfl rfl)
theorem dX0_paper_28 : decode cX0_paper 28 = .ok (.iload_n 1, 1) := dk_27 (dk_at dksX0_paper_1 4 rfl rfl)
theorem dX0_paper_29 : decode cX0_paper 29 = .ok (.bipush 100, 2) := dk_16 100 (dk_at dksX0_paper_1 5 rfl rfl)
theorem dX0_paper_31 : decode cX0_paper 31 = .ok (.irem, 1) := dk_112 (dk_at dksX0_paper_1 7 rfl rfl)
theorem dX0_paper_32 : decode cX0_paper 32 = .ok (.if_icmp .gt 13, 3) := dk_163 0 13 (dk_at dksX0_paper_1 8 rfl rfl)
theorem dX0_paper_35 : decode cX0_paper 35 = .ok (.iload_n 2, 1) := dk_28 (dk_at dksX0_paper_1 11 rfl rfl)
theorem dX0_paper_36 : decode cX0_paper 36 = .ok (.iconst 0, 1) := dk_3 (dk_at dksX0_paper_1 12 rfl rfl)
theorem dX0_paper_37 : decode cX0_paper 37 = .ok (.bipush 9, 2) := dk_16 9 (dk_at dksX0_paper_1 13 rfl rfl)
theorem dX0_paper_39 : decode cX0_paper 39 = .ok (.invokestatic 94, 3) := dk_184 0 94 (dk_at dksX0_paper_1 15 rfl rfl)
theorem dX0_paper_42 : decode cX0_paper 42 = .ok (.ifCond .ne 5, 3) := dk_154 0 5 (dk_at dksX0_paper_1 18 rfl rfl)
theorem dX0_paper_45 : decode cX0_paper 45 = .ok (.iconst (-1), 1) := dk_2 (dk_at dksX0_paper_1 21 rfl rfl)
theorem dX0_paper_46 : decode cX0_paper 46 = .ok (.ireturn, 1) := dk_172 (dk_at dksX0_paper_1 22 rfl rfl)
theorem dX0_paper_47 : decode cX0_paper 47 = .ok (.aload_n 0, 1) := dk_42 (dk_at dksX0_paper_1 23 rfl rfl)
theorem dX0_paper_48 : decode cX0_paper 48 = .ok (.getfield 330, 3) := dk_180 1 74 (dk_at dksX0_paper_2 0 rfl rfl)
theorem dX0_paper_51 : decode cX0_paper 51 = .ok (.bipush 10, 2) := dk_16 10 (dk_at dksX0_paper_2 3 rfl rfl)
theorem dX0_paper_53 : decode cX0_paper 53 = .ok (.if_icmp .ne 6, 3) := dk_160 0 6 (dk_at dksX0_paper_2 5 rfl rfl)
theorem dX0_paper_56 : decode cX0_paper 56 = .ok (.bipush (-3), 2) := dk_16 253 (dk_at dksX0_paper_2 8 rfl rfl)
theorem dX0_paper_58 : decode cX0_paper 58 = .ok (.ireturn, 1) := dk_172 (dk_at dksX0_paper_2 10 rfl rfl)
theorem dX0_paper_59 : decode cX0_paper 59 = .ok (.aload_n 0, 1) := dk_42 (dk_at dksX0_paper_2 11 rfl rfl)
theorem dX0_paper_60 : decode cX0_paper 60 = .ok (.getfield 68, 3) := dk_180 0 68 (dk_at dksX0_paper_2 12 rfl rfl)
theorem dX0_paper_63 : decode cX0_paper 63 = .ok (.aload_n 0, 1) := dk_42 (dk_at dksX0_paper_2 15 rfl rfl)
theorem dX0_paper_64 : decode cX0_paper 64 = .ok (.getfield 330, 3) := dk_180 1 74 (dk_at dksX0_paper_2 16 rfl rfl)
theorem dX0_paper_67 : decode cX0_paper 67 = .ok (.new 66, 3) := dk_187 0 66 (dk_at dksX0_paper_2 19 rfl rfl)
theorem dX0_paper_70 : decode cX0_paper 70 = .ok (.dup, 1) := dk_89 (dk_at dksX0_paper_2 22 rfl rfl)
theorem dX0_paper_71 : decode cX0_paper 71 = .ok (.iload_n 1, 1) := dk_27 (dk_at dksX0_paper_2 23 rfl rfl)
theorem dX0_paper_72 : decode cX0_paper 72 = .ok (.bipush 100, 2) := dk_16 100 (dk_at dksX0_paper_3 0 rfl rfl)
theorem dX0_paper_74 : decode cX0_paper 74 = .ok (.idiv, 1) := dk_108 (dk_at dksX0_paper_3 2 rfl rfl)
theorem dX0_paper_75 : decode cX0_paper 75 = .ok (.iload_n 1, 1) := dk_27 (dk_at dksX0_paper_3 3 rfl rfl)
theorem dX0_paper_76 : decode cX0_paper 76 = .ok (.bipush 100, 2) := dk_16 100 (dk_at dksX0_paper_3 4 rfl rfl)
theorem dX0_paper_78 : decode cX0_paper 78 = .ok (.irem, 1) := dk_112 (dk_at dksX0_paper_3 6 rfl rfl)
theorem dX0_paper_79 : decode cX0_paper 79 = .ok (.iload_n 2, 1) := dk_28 (dk_at dksX0_paper_3 7 rfl rfl)
theorem dX0_paper_80 : decode cX0_paper 80 = .ok (.invokespecial 333, 3) := dk_183 1 77 (dk_at dksX0_paper_3 8 rfl rfl)
theorem dX0_paper_83 : decode cX0_paper 83 = .ok (.aastore, 1) := dk_83 (dk_at dksX0_paper_3 11 rfl rfl)
theorem dX0_paper_84 : decode cX0_paper 84 = .ok (.aload_n 0, 1) := dk_42 (dk_at dksX0_paper_3 12 rfl rfl)
theorem dX0_paper_85 : decode cX0_paper 85 = .ok (.dup, 1) := dk_89 (dk_at dksX0_paper_3 13 rfl rfl)
theorem dX0_paper_86 : decode cX0_paper 86 = .ok (.getfield 330, 3) := dk_180 1 74 (dk_at dksX0_paper_3 14 rfl rfl)
theorem dX0_paper_89 : decode cX0_paper 89 = .ok (.iconst 1, 1) := dk_4 (dk_at dksX0_paper_3 17 rfl rfl)
theorem dX0_paper_90 : decode cX0_paper 90 = .ok (.iadd, 1) := dk_96 (dk_at dksX0_paper_3 18 rfl rfl)
theorem dX0_paper_91 : decode cX0_paper 91 = .ok (.putfield 330, 3) := dk_181 1 74 (dk_at dksX0_paper_3 19 rfl rfl)
theorem dX0_paper_94 : decode cX0_paper 94 = .ok (.aload_n 0, 1) := dk_42 (dk_at dksX0_paper_3 22 rfl rfl)
theorem dX0_paper_95 : decode cX0_paper 95 = .ok (.getfield 330, 3) := dk_180 1 74 (dk_at dksX0_paper_4 0 rfl rfl)
theorem dX0_paper_98 : decode cX0_paper 98 = .ok (.iconst 1, 1) := dk_4 (dk_at dksX0_paper_4 3 rfl rfl)
theorem dX0_paper_99 : decode cX0_paper 99 = .ok (.isub, 1) := dk_100 (dk_at dksX0_paper_4 4 rfl rfl)
theorem dX0_paper_100 : decode cX0_paper 100 = .ok (.ireturn, 1) := dk_172 (dk_at dksX0_paper_4 5 rfl rfl)
abbrev cX0_papers : ByteArray := prog_1_method_59_code
def yX0_papers : MethodName := ⟨RX0, "papers", "(I)I"⟩
def dkwX0_papers_1 : List UInt8 := [172]
abbrev dktX0_papers_1 : List UInt8 := dkwX0_papers_1 ++ []
def dkwX0_papers_0 : List UInt8 := [27, 154, 0, 10, 42, 182, 1, 98, 167, 0, 16, 27, 4, 160, 0, 10, 42, 182, 1, 101, 167, 0, 4, 2]
abbrev dktX0_papers_0 : List UInt8 := dkwX0_papers_0 ++ dktX0_papers_1
theorem dksX0_papers_0 : cX0_papers.data.toList.drop 0 = dktX0_papers_0 := by decide +kernel
theorem dksX0_papers_1 : cX0_papers.data.toList.drop 24 = dktX0_papers_1 := dk_seg dksX0_papers_0 24 rfl rfl
theorem dX0_papers_0 : decode cX0_papers 0 = .ok (.iload_n 1, 1) := dk_27 (dk_at dksX0_papers_0 0 rfl rfl)
theorem dX0_papers_1 : decode cX0_papers 1 = .ok (.ifCond .ne 10, 3) := dk_154 0 10 (dk_at dksX0_papers_0 1 rfl rfl)
theorem dX0_papers_4 : decode cX0_papers 4 = .ok (.aload_n 0, 1) := dk_42 (dk_at dksX0_papers_0 4 rfl rfl)
theorem dX0_papers_5 : decode cX0_papers 5 = .ok (.invokevirtual 354, 3) := dk_182 1 98 (dk_at dksX0_papers_0 5 rfl rfl)
theorem dX0_papers_8 : decode cX0_papers 8 = .ok (.goto 16, 3) := dk_167 0 16 (dk_at dksX0_papers_0 8 rfl rfl)
theorem dX0_papers_11 : decode cX0_papers 11 = .ok (.iload_n 1, 1) := dk_27 (dk_at dksX0_papers_0 11 rfl rfl)
theorem dX0_papers_12 : decode cX0_papers 12 = .ok (.iconst 1, 1) := dk_4 (dk_at dksX0_papers_0 12 rfl rfl)
theorem dX0_papers_13 : decode cX0_papers 13 = .ok (.if_icmp .ne 10, 3) := dk_160 0 10 (dk_at dksX0_papers_0 13 rfl rfl)
theorem dX0_papers_16 : decode cX0_papers 16 = .ok (.aload_n 0, 1) := dk_42 (dk_at dksX0_papers_0 16 rfl rfl)
theorem dX0_papers_17 : decode cX0_papers 17 = .ok (.invokevirtual 357, 3) := dk_182 1 101 (dk_at dksX0_papers_0 17 rfl rfl)
theorem dX0_papers_20 : decode cX0_papers 20 = .ok (.goto 4, 3) := dk_167 0 4 (dk_at dksX0_papers_0 20 rfl rfl)
theorem dX0_papers_23 : decode cX0_papers 23 = .ok (.iconst (-1), 1) := dk_2 (dk_at dksX0_papers_0 23 rfl rfl)
theorem dX0_papers_24 : decode cX0_papers 24 = .ok (.ireturn, 1) := dk_172 (dk_at dksX0_papers_1 0 rfl rfl)
abbrev cX0_clash : ByteArray := prog_1_method_57_code
def yX0_clash : MethodName := ⟨RX0, "clash", "()I"⟩
def dkwX0_clash_3 : List UInt8 := [172]
abbrev dktX0_clash_3 : List UInt8 := dkwX0_clash_3 ++ []
def dkwX0_clash_2 : List UInt8 := [28, 50, 180, 1, 82, 159, 0, 5, 27, 172, 132, 2, 1, 167, 255, 207, 132, 1, 1, 167, 255, 191, 16, 254]
abbrev dktX0_clash_2 : List UInt8 := dkwX0_clash_2 ++ dktX0_clash_3
def dkwX0_clash_1 : List UInt8 := [180, 0, 68, 28, 50, 182, 1, 85, 153, 0, 26, 42, 180, 0, 68, 27, 50, 180, 1, 82, 42, 180, 0, 68]
abbrev dktX0_clash_1 : List UInt8 := dkwX0_clash_1 ++ dktX0_clash_2
def dkwX0_clash_0 : List UInt8 := [3, 60, 27, 42, 180, 1, 74, 162, 0, 63, 3, 61, 28, 27, 162, 0, 50, 42, 180, 0, 68, 27, 50, 42]
abbrev dktX0_clash_0 : List UInt8 := dkwX0_clash_0 ++ dktX0_clash_1
theorem dksX0_clash_0 : cX0_clash.data.toList.drop 0 = dktX0_clash_0 := by decide +kernel
theorem dksX0_clash_1 : cX0_clash.data.toList.drop 24 = dktX0_clash_1 := dk_seg dksX0_clash_0 24 rfl rfl
theorem dksX0_clash_2 : cX0_clash.data.toList.drop 48 = dktX0_clash_2 := dk_seg dksX0_clash_1 24 rfl rfl
theorem dksX0_clash_3 : cX0_clash.data.toList.drop 72 = dktX0_clash_3 := dk_seg dksX0_clash_2 24 rfl rfl
theorem dX0_clash_0 : decode cX0_clash 0 = .ok (.iconst 0, 1) := dk_3 (dk_at dksX0_clash_0 0 rfl rfl)
theorem dX0_clash_1 : decode cX0_clash 1 = .ok (.istore_n 1, 1) := dk_60 (dk_at dksX0_clash_0 1 rfl rfl)
theorem dX0_clash_2 : decode cX0_clash 2 = .ok (.iload_n 1, 1) := dk_27 (dk_at dksX0_clash_0 2 rfl rfl)
theorem dX0_clash_3 : decode cX0_clash 3 = .ok (.aload_n 0, 1) := dk_42 (dk_at dksX0_clash_0 3 rfl rfl)
theorem dX0_clash_4 : decode cX0_clash 4 = .ok (.getfield 330, 3) := dk_180 1 74 (dk_at dksX0_clash_0 4 rfl rfl)
theorem dX0_clash_7 : decode cX0_clash 7 = .ok (.if_icmp .ge 63, 3) := dk_162 0 63 (dk_at dksX0_clash_0 7 rfl rfl)
theorem dX0_clash_10 : decode cX0_clash 10 = .ok (.iconst 0, 1) := dk_3 (dk_at dksX0_clash_0 10 rfl rfl)
theorem dX0_clash_11 : decode cX0_clash 11 = .ok (.istore_n 2, 1) := dk_61 (dk_at dksX0_clash_0 11 rfl rfl)
theorem dX0_clash_12 : decode cX0_clash 12 = .ok (.iload_n 2, 1) := dk_28 (dk_at dksX0_clash_0 12 rfl rfl)
theorem dX0_clash_13 : decode cX0_clash 13 = .ok (.iload_n 1, 1) := dk_27 (dk_at dksX0_clash_0 13 rfl rfl)
theorem dX0_clash_14 : decode cX0_clash 14 = .ok (.if_icmp .ge 50, 3) := dk_162 0 50 (dk_at dksX0_clash_0 14 rfl rfl)
theorem dX0_clash_17 : decode cX0_clash 17 = .ok (.aload_n 0, 1) := dk_42 (dk_at dksX0_clash_0 17 rfl rfl)
theorem dX0_clash_18 : decode cX0_clash 18 = .ok (.getfield 68, 3) := dk_180 0 68 (dk_at dksX0_clash_0 18 rfl rfl)
theorem dX0_clash_21 : decode cX0_clash 21 = .ok (.iload_n 1, 1) := dk_27 (dk_at dksX0_clash_0 21 rfl rfl)
theorem dX0_clash_22 : decode cX0_clash 22 = .ok (.aaload, 1) := dk_50 (dk_at dksX0_clash_0 22 rfl rfl)
theorem dX0_clash_23 : decode cX0_clash 23 = .ok (.aload_n 0, 1) := dk_42 (dk_at dksX0_clash_0 23 rfl rfl)
theorem dX0_clash_24 : decode cX0_clash 24 = .ok (.getfield 68, 3) := dk_180 0 68 (dk_at dksX0_clash_1 0 rfl rfl)
theorem dX0_clash_27 : decode cX0_clash 27 = .ok (.iload_n 2, 1) := dk_28 (dk_at dksX0_clash_1 3 rfl rfl)
theorem dX0_clash_28 : decode cX0_clash 28 = .ok (.aaload, 1) := dk_50 (dk_at dksX0_clash_1 4 rfl rfl)
theorem dX0_clash_29 : decode cX0_clash 29 = .ok (.invokevirtual 341, 3) := dk_182 1 85 (dk_at dksX0_clash_1 5 rfl rfl)
theorem dX0_clash_32 : decode cX0_clash 32 = .ok (.ifCond .eq 26, 3) := dk_153 0 26 (dk_at dksX0_clash_1 8 rfl rfl)
theorem dX0_clash_35 : decode cX0_clash 35 = .ok (.aload_n 0, 1) := dk_42 (dk_at dksX0_clash_1 11 rfl rfl)
theorem dX0_clash_36 : decode cX0_clash 36 = .ok (.getfield 68, 3) := dk_180 0 68 (dk_at dksX0_clash_1 12 rfl rfl)
theorem dX0_clash_39 : decode cX0_clash 39 = .ok (.iload_n 1, 1) := dk_27 (dk_at dksX0_clash_1 15 rfl rfl)
theorem dX0_clash_40 : decode cX0_clash 40 = .ok (.aaload, 1) := dk_50 (dk_at dksX0_clash_1 16 rfl rfl)
theorem dX0_clash_41 : decode cX0_clash 41 = .ok (.getfield 338, 3) := dk_180 1 82 (dk_at dksX0_clash_1 17 rfl rfl)
theorem dX0_clash_44 : decode cX0_clash 44 = .ok (.aload_n 0, 1) := dk_42 (dk_at dksX0_clash_1 20 rfl rfl)
theorem dX0_clash_45 : decode cX0_clash 45 = .ok (.getfield 68, 3) := dk_180 0 68 (dk_at dksX0_clash_1 21 rfl rfl)
theorem dX0_clash_48 : decode cX0_clash 48 = .ok (.iload_n 2, 1) := dk_28 (dk_at dksX0_clash_2 0 rfl rfl)
theorem dX0_clash_49 : decode cX0_clash 49 = .ok (.aaload, 1) := dk_50 (dk_at dksX0_clash_2 1 rfl rfl)
theorem dX0_clash_50 : decode cX0_clash 50 = .ok (.getfield 338, 3) := dk_180 1 82 (dk_at dksX0_clash_2 2 rfl rfl)
theorem dX0_clash_53 : decode cX0_clash 53 = .ok (.if_icmp .eq 5, 3) := dk_159 0 5 (dk_at dksX0_clash_2 5 rfl rfl)
theorem dX0_clash_56 : decode cX0_clash 56 = .ok (.iload_n 1, 1) := dk_27 (dk_at dksX0_clash_2 8 rfl rfl)
theorem dX0_clash_57 : decode cX0_clash 57 = .ok (.ireturn, 1) := dk_172 (dk_at dksX0_clash_2 9 rfl rfl)
theorem dX0_clash_58 : decode cX0_clash 58 = .ok (.iinc 2 1, 3) := dk_132 2 1 (dk_at dksX0_clash_2 10 rfl rfl)
theorem dX0_clash_61 : decode cX0_clash 61 = .ok (.goto (-49), 3) := dk_167 255 207 (dk_at dksX0_clash_2 13 rfl rfl)
theorem dX0_clash_64 : decode cX0_clash 64 = .ok (.iinc 1 1, 3) := dk_132 1 1 (dk_at dksX0_clash_2 16 rfl rfl)
theorem dX0_clash_67 : decode cX0_clash 67 = .ok (.goto (-65), 3) := dk_167 255 191 (dk_at dksX0_clash_2 19 rfl rfl)
theorem dX0_clash_70 : decode cX0_clash 70 = .ok (.bipush (-2), 2) := dk_16 254 (dk_at dksX0_clash_2 22 rfl rfl)
theorem dX0_clash_72 : decode cX0_clash 72 = .ok (.ireturn, 1) := dk_172 (dk_at dksX0_clash_3 0 rfl rfl)
abbrev cX0_gaps : ByteArray := prog_1_method_58_code
def yX0_gaps : MethodName := ⟨RX0, "gaps", "()I"⟩
def dkwX0_gaps_3 : List UInt8 := [4, 167, 0, 4, 3, 96, 62, 132, 4, 1, 167, 255, 230, 29, 172]
abbrev dktX0_gaps_3 : List UInt8 := dkwX0_gaps_3 ++ []
def dkwX0_gaps_2 : List UInt8 := [167, 255, 217, 3, 62, 27, 54, 4, 21, 4, 28, 163, 0, 26, 29, 42, 21, 4, 182, 1, 95, 156, 0, 7]
abbrev dktX0_gaps_2 : List UInt8 := dkwX0_gaps_2 ++ dktX0_gaps_3
def dkwX0_gaps_1 : List UInt8 := [180, 1, 89, 184, 0, 227, 60, 28, 42, 180, 0, 68, 29, 50, 180, 1, 92, 184, 0, 232, 61, 132, 3, 1]
abbrev dktX0_gaps_1 : List UInt8 := dkwX0_gaps_1 ++ dktX0_gaps_2
def dkwX0_gaps_0 : List UInt8 := [16, 30, 60, 2, 61, 3, 62, 29, 42, 180, 1, 74, 162, 0, 37, 27, 42, 180, 0, 68, 29, 50]
abbrev dktX0_gaps_0 : List UInt8 := dkwX0_gaps_0 ++ dktX0_gaps_1
theorem dksX0_gaps_0 : cX0_gaps.data.toList.drop 0 = dktX0_gaps_0 := by decide +kernel
theorem dksX0_gaps_1 : cX0_gaps.data.toList.drop 22 = dktX0_gaps_1 := dk_seg dksX0_gaps_0 22 rfl rfl
theorem dksX0_gaps_2 : cX0_gaps.data.toList.drop 46 = dktX0_gaps_2 := dk_seg dksX0_gaps_1 24 rfl rfl
theorem dksX0_gaps_3 : cX0_gaps.data.toList.drop 70 = dktX0_gaps_3 := dk_seg dksX0_gaps_2 24 rfl rfl
theorem dX0_gaps_0 : decode cX0_gaps 0 = .ok (.bipush 30, 2) := dk_16 30 (dk_at dksX0_gaps_0 0 rfl rfl)
theorem dX0_gaps_2 : decode cX0_gaps 2 = .ok (.istore_n 1, 1) := dk_60 (dk_at dksX0_gaps_0 2 rfl rfl)
theorem dX0_gaps_3 : decode cX0_gaps 3 = .ok (.iconst (-1), 1) := dk_2 (dk_at dksX0_gaps_0 3 rfl rfl)
theorem dX0_gaps_4 : decode cX0_gaps 4 = .ok (.istore_n 2, 1) := dk_61 (dk_at dksX0_gaps_0 4 rfl rfl)
theorem dX0_gaps_5 : decode cX0_gaps 5 = .ok (.iconst 0, 1) := dk_3 (dk_at dksX0_gaps_0 5 rfl rfl)
theorem dX0_gaps_6 : decode cX0_gaps 6 = .ok (.istore_n 3, 1) := dk_62 (dk_at dksX0_gaps_0 6 rfl rfl)
theorem dX0_gaps_7 : decode cX0_gaps 7 = .ok (.iload_n 3, 1) := dk_29 (dk_at dksX0_gaps_0 7 rfl rfl)
theorem dX0_gaps_8 : decode cX0_gaps 8 = .ok (.aload_n 0, 1) := dk_42 (dk_at dksX0_gaps_0 8 rfl rfl)
theorem dX0_gaps_9 : decode cX0_gaps 9 = .ok (.getfield 330, 3) := dk_180 1 74 (dk_at dksX0_gaps_0 9 rfl rfl)
theorem dX0_gaps_12 : decode cX0_gaps 12 = .ok (.if_icmp .ge 37, 3) := dk_162 0 37 (dk_at dksX0_gaps_0 12 rfl rfl)
theorem dX0_gaps_15 : decode cX0_gaps 15 = .ok (.iload_n 1, 1) := dk_27 (dk_at dksX0_gaps_0 15 rfl rfl)
theorem dX0_gaps_16 : decode cX0_gaps 16 = .ok (.aload_n 0, 1) := dk_42 (dk_at dksX0_gaps_0 16 rfl rfl)
theorem dX0_gaps_17 : decode cX0_gaps 17 = .ok (.getfield 68, 3) := dk_180 0 68 (dk_at dksX0_gaps_0 17 rfl rfl)
theorem dX0_gaps_20 : decode cX0_gaps 20 = .ok (.iload_n 3, 1) := dk_29 (dk_at dksX0_gaps_0 20 rfl rfl)
theorem dX0_gaps_21 : decode cX0_gaps 21 = .ok (.aaload, 1) := dk_50 (dk_at dksX0_gaps_0 21 rfl rfl)
theorem dX0_gaps_22 : decode cX0_gaps 22 = .ok (.getfield 345, 3) := dk_180 1 89 (dk_at dksX0_gaps_1 0 rfl rfl)
theorem dX0_gaps_25 : decode cX0_gaps 25 = .ok (.invokestatic 227, 3) := dk_184 0 227 (dk_at dksX0_gaps_1 3 rfl rfl)
theorem dX0_gaps_28 : decode cX0_gaps 28 = .ok (.istore_n 1, 1) := dk_60 (dk_at dksX0_gaps_1 6 rfl rfl)
theorem dX0_gaps_29 : decode cX0_gaps 29 = .ok (.iload_n 2, 1) := dk_28 (dk_at dksX0_gaps_1 7 rfl rfl)
theorem dX0_gaps_30 : decode cX0_gaps 30 = .ok (.aload_n 0, 1) := dk_42 (dk_at dksX0_gaps_1 8 rfl rfl)
theorem dX0_gaps_31 : decode cX0_gaps 31 = .ok (.getfield 68, 3) := dk_180 0 68 (dk_at dksX0_gaps_1 9 rfl rfl)
theorem dX0_gaps_34 : decode cX0_gaps 34 = .ok (.iload_n 3, 1) := dk_29 (dk_at dksX0_gaps_1 12 rfl rfl)
theorem dX0_gaps_35 : decode cX0_gaps 35 = .ok (.aaload, 1) := dk_50 (dk_at dksX0_gaps_1 13 rfl rfl)
theorem dX0_gaps_36 : decode cX0_gaps 36 = .ok (.getfield 348, 3) := dk_180 1 92 (dk_at dksX0_gaps_1 14 rfl rfl)
theorem dX0_gaps_39 : decode cX0_gaps 39 = .ok (.invokestatic 232, 3) := dk_184 0 232 (dk_at dksX0_gaps_1 17 rfl rfl)
theorem dX0_gaps_42 : decode cX0_gaps 42 = .ok (.istore_n 2, 1) := dk_61 (dk_at dksX0_gaps_1 20 rfl rfl)
theorem dX0_gaps_43 : decode cX0_gaps 43 = .ok (.iinc 3 1, 3) := dk_132 3 1 (dk_at dksX0_gaps_1 21 rfl rfl)
theorem dX0_gaps_46 : decode cX0_gaps 46 = .ok (.goto (-39), 3) := dk_167 255 217 (dk_at dksX0_gaps_2 0 rfl rfl)
theorem dX0_gaps_49 : decode cX0_gaps 49 = .ok (.iconst 0, 1) := dk_3 (dk_at dksX0_gaps_2 3 rfl rfl)
theorem dX0_gaps_50 : decode cX0_gaps 50 = .ok (.istore_n 3, 1) := dk_62 (dk_at dksX0_gaps_2 4 rfl rfl)
theorem dX0_gaps_51 : decode cX0_gaps 51 = .ok (.iload_n 1, 1) := dk_27 (dk_at dksX0_gaps_2 5 rfl rfl)
theorem dX0_gaps_52 : decode cX0_gaps 52 = .ok (.istore 4, 2) := dk_54 4 (dk_at dksX0_gaps_2 6 rfl rfl)
theorem dX0_gaps_54 : decode cX0_gaps 54 = .ok (.iload 4, 2) := dk_21 4 (dk_at dksX0_gaps_2 8 rfl rfl)
theorem dX0_gaps_56 : decode cX0_gaps 56 = .ok (.iload_n 2, 1) := dk_28 (dk_at dksX0_gaps_2 10 rfl rfl)
theorem dX0_gaps_57 : decode cX0_gaps 57 = .ok (.if_icmp .gt 26, 3) := dk_163 0 26 (dk_at dksX0_gaps_2 11 rfl rfl)
theorem dX0_gaps_60 : decode cX0_gaps 60 = .ok (.iload_n 3, 1) := dk_29 (dk_at dksX0_gaps_2 14 rfl rfl)
theorem dX0_gaps_61 : decode cX0_gaps 61 = .ok (.aload_n 0, 1) := dk_42 (dk_at dksX0_gaps_2 15 rfl rfl)
theorem dX0_gaps_62 : decode cX0_gaps 62 = .ok (.iload 4, 2) := dk_21 4 (dk_at dksX0_gaps_2 16 rfl rfl)
theorem dX0_gaps_64 : decode cX0_gaps 64 = .ok (.invokevirtual 351, 3) := dk_182 1 95 (dk_at dksX0_gaps_2 18 rfl rfl)
theorem dX0_gaps_67 : decode cX0_gaps 67 = .ok (.ifCond .ge 7, 3) := dk_156 0 7 (dk_at dksX0_gaps_2 21 rfl rfl)
theorem dX0_gaps_70 : decode cX0_gaps 70 = .ok (.iconst 1, 1) := dk_4 (dk_at dksX0_gaps_3 0 rfl rfl)
theorem dX0_gaps_71 : decode cX0_gaps 71 = .ok (.goto 4, 3) := dk_167 0 4 (dk_at dksX0_gaps_3 1 rfl rfl)
theorem dX0_gaps_74 : decode cX0_gaps 74 = .ok (.iconst 0, 1) := dk_3 (dk_at dksX0_gaps_3 4 rfl rfl)
theorem dX0_gaps_75 : decode cX0_gaps 75 = .ok (.iadd, 1) := dk_96 (dk_at dksX0_gaps_3 5 rfl rfl)
theorem dX0_gaps_76 : decode cX0_gaps 76 = .ok (.istore_n 3, 1) := dk_62 (dk_at dksX0_gaps_3 6 rfl rfl)
theorem dX0_gaps_77 : decode cX0_gaps 77 = .ok (.iinc 4 1, 3) := dk_132 4 1 (dk_at dksX0_gaps_3 7 rfl rfl)
theorem dX0_gaps_80 : decode cX0_gaps 80 = .ok (.goto (-26), 3) := dk_167 255 230 (dk_at dksX0_gaps_3 10 rfl rfl)
theorem dX0_gaps_83 : decode cX0_gaps 83 = .ok (.iload_n 3, 1) := dk_29 (dk_at dksX0_gaps_3 13 rfl rfl)
theorem dX0_gaps_84 : decode cX0_gaps 84 = .ok (.ireturn, 1) := dk_172 (dk_at dksX0_gaps_3 14 rfl rfl)
abbrev cX0_houseOf : ByteArray := prog_1_method_56_code
def yX0_houseOf : MethodName := ⟨RX0, "houseOf", "(I)I"⟩
def dkwX0_houseOf_1 : List UInt8 := [180, 0, 68, 28, 50, 180, 1, 82, 172, 132, 2, 1, 167, 255, 222, 16, 254, 172]
abbrev dktX0_houseOf_1 : List UInt8 := dkwX0_houseOf_1 ++ []
def dkwX0_houseOf_0 : List UInt8 := [3, 61, 28, 42, 180, 1, 74, 162, 0, 32, 42, 180, 0, 68, 28, 50, 27, 182, 1, 79, 153, 0, 13, 42]
abbrev dktX0_houseOf_0 : List UInt8 := dkwX0_houseOf_0 ++ dktX0_houseOf_1
theorem dksX0_houseOf_0 : cX0_houseOf.data.toList.drop 0 = dktX0_houseOf_0 := by decide +kernel
theorem dksX0_houseOf_1 : cX0_houseOf.data.toList.drop 24 = dktX0_houseOf_1 := dk_seg dksX0_houseOf_0 24 rfl rfl
theorem dX0_houseOf_0 : decode cX0_houseOf 0 = .ok (.iconst 0, 1) := dk_3 (dk_at dksX0_houseOf_0 0 rfl rfl)
theorem dX0_houseOf_1 : decode cX0_houseOf 1 = .ok (.istore_n 2, 1) := dk_61 (dk_at dksX0_houseOf_0 1 rfl rfl)
theorem dX0_houseOf_2 : decode cX0_houseOf 2 = .ok (.iload_n 2, 1) := dk_28 (dk_at dksX0_houseOf_0 2 rfl rfl)
theorem dX0_houseOf_3 : decode cX0_houseOf 3 = .ok (.aload_n 0, 1) := dk_42 (dk_at dksX0_houseOf_0 3 rfl rfl)
theorem dX0_houseOf_4 : decode cX0_houseOf 4 = .ok (.getfield 330, 3) := dk_180 1 74 (dk_at dksX0_houseOf_0 4 rfl rfl)
theorem dX0_houseOf_7 : decode cX0_houseOf 7 = .ok (.if_icmp .ge 32, 3) := dk_162 0 32 (dk_at dksX0_houseOf_0 7 rfl rfl)
theorem dX0_houseOf_10 : decode cX0_houseOf 10 = .ok (.aload_n 0, 1) := dk_42 (dk_at dksX0_houseOf_0 10 rfl rfl)
theorem dX0_houseOf_11 : decode cX0_houseOf 11 = .ok (.getfield 68, 3) := dk_180 0 68 (dk_at dksX0_houseOf_0 11 rfl rfl)
theorem dX0_houseOf_14 : decode cX0_houseOf 14 = .ok (.iload_n 2, 1) := dk_28 (dk_at dksX0_houseOf_0 14 rfl rfl)
theorem dX0_houseOf_15 : decode cX0_houseOf 15 = .ok (.aaload, 1) := dk_50 (dk_at dksX0_houseOf_0 15 rfl rfl)
theorem dX0_houseOf_16 : decode cX0_houseOf 16 = .ok (.iload_n 1, 1) := dk_27 (dk_at dksX0_houseOf_0 16 rfl rfl)
theorem dX0_houseOf_17 : decode cX0_houseOf 17 = .ok (.invokevirtual 335, 3) := dk_182 1 79 (dk_at dksX0_houseOf_0 17 rfl rfl)
theorem dX0_houseOf_20 : decode cX0_houseOf 20 = .ok (.ifCond .eq 13, 3) := dk_153 0 13 (dk_at dksX0_houseOf_0 20 rfl rfl)
theorem dX0_houseOf_23 : decode cX0_houseOf 23 = .ok (.aload_n 0, 1) := dk_42 (dk_at dksX0_houseOf_0 23 rfl rfl)
theorem dX0_houseOf_24 : decode cX0_houseOf 24 = .ok (.getfield 68, 3) := dk_180 0 68 (dk_at dksX0_houseOf_1 0 rfl rfl)
theorem dX0_houseOf_27 : decode cX0_houseOf 27 = .ok (.iload_n 2, 1) := dk_28 (dk_at dksX0_houseOf_1 3 rfl rfl)
theorem dX0_houseOf_28 : decode cX0_houseOf 28 = .ok (.aaload, 1) := dk_50 (dk_at dksX0_houseOf_1 4 rfl rfl)
theorem dX0_houseOf_29 : decode cX0_houseOf 29 = .ok (.getfield 338, 3) := dk_180 1 82 (dk_at dksX0_houseOf_1 5 rfl rfl)
theorem dX0_houseOf_32 : decode cX0_houseOf 32 = .ok (.ireturn, 1) := dk_172 (dk_at dksX0_houseOf_1 8 rfl rfl)
theorem dX0_houseOf_33 : decode cX0_houseOf 33 = .ok (.iinc 2 1, 3) := dk_132 2 1 (dk_at dksX0_houseOf_1 9 rfl rfl)
theorem dX0_houseOf_36 : decode cX0_houseOf 36 = .ok (.goto (-34), 3) := dk_167 255 222 (dk_at dksX0_houseOf_1 12 rfl rfl)
theorem dX0_houseOf_39 : decode cX0_houseOf 39 = .ok (.bipush (-2), 2) := dk_16 254 (dk_at dksX0_houseOf_1 15 rfl rfl)
theorem dX0_houseOf_41 : decode cX0_houseOf 41 = .ok (.ireturn, 1) := dk_172 (dk_at dksX0_houseOf_1 17 rfl rfl)
abbrev cX0_house : ByteArray := prog_1_method_60_code
def yX0_house : MethodName := ⟨RX0, "house", "(I)I"⟩
def dkwX0_house_0 : List UInt8 := [27, 184, 0, 235, 153, 0, 11, 42, 27, 182, 1, 95, 167, 0, 4, 2, 172]
abbrev dktX0_house_0 : List UInt8 := dkwX0_house_0 ++ []
theorem dksX0_house_0 : cX0_house.data.toList.drop 0 = dktX0_house_0 := by decide +kernel
theorem dX0_house_0 : decode cX0_house 0 = .ok (.iload_n 1, 1) := dk_27 (dk_at dksX0_house_0 0 rfl rfl)
theorem dX0_house_1 : decode cX0_house 1 = .ok (.invokestatic 235, 3) := dk_184 0 235 (dk_at dksX0_house_0 1 rfl rfl)
theorem dX0_house_4 : decode cX0_house 4 = .ok (.ifCond .eq 11, 3) := dk_153 0 11 (dk_at dksX0_house_0 4 rfl rfl)
theorem dX0_house_7 : decode cX0_house 7 = .ok (.aload_n 0, 1) := dk_42 (dk_at dksX0_house_0 7 rfl rfl)
theorem dX0_house_8 : decode cX0_house 8 = .ok (.iload_n 1, 1) := dk_27 (dk_at dksX0_house_0 8 rfl rfl)
theorem dX0_house_9 : decode cX0_house 9 = .ok (.invokevirtual 351, 3) := dk_182 1 95 (dk_at dksX0_house_0 9 rfl rfl)
theorem dX0_house_12 : decode cX0_house 12 = .ok (.goto 4, 3) := dk_167 0 4 (dk_at dksX0_house_0 12 rfl rfl)
theorem dX0_house_15 : decode cX0_house 15 = .ok (.iconst (-1), 1) := dk_2 (dk_at dksX0_house_0 15 rfl rfl)
theorem dX0_house_16 : decode cX0_house 16 = .ok (.ireturn, 1) := dk_172 (dk_at dksX0_house_0 16 rfl rfl)
abbrev cX0_drawn : ByteArray := prog_1_method_61_code
def yX0_drawn : MethodName := ⟨RX0, "drawn", "(III)I"⟩
def dkwX0_drawn_8 : List UInt8 := [167, 255, 155, 21, 6, 172]
abbrev dktX0_drawn_8 : List UInt8 := dkwX0_drawn_8 ++ []
def dkwX0_drawn_7 : List UInt8 := [21, 6, 42, 182, 1, 21, 21, 4, 160, 0, 7, 4, 167, 0, 4, 3, 96, 54, 6, 132, 7, 1]
abbrev dktX0_drawn_7 : List UInt8 := dkwX0_drawn_7 ++ dktX0_drawn_8
def dkwX0_drawn_6 : List UInt8 := [162, 0, 12, 21, 8, 4, 21, 9, 120, 128, 54, 8, 132, 9, 1, 167, 255, 198, 42, 21, 8, 182, 1, 62]
abbrev dktX0_drawn_6 : List UInt8 := dkwX0_drawn_6 ++ dktX0_drawn_7
def dkwX0_drawn_5 : List UInt8 := [16, 8, 124, 16, 100, 112, 42, 21, 9, 16, 30, 21, 4, 104, 29, 16, 100, 112, 96, 182, 0, 246]
abbrev dktX0_drawn_5 : List UInt8 := dkwX0_drawn_5 ++ dktX0_drawn_6
def dkwX0_drawn_4 : List UInt8 := [54, 9, 21, 9, 16, 6, 162, 0, 57, 21, 5, 19, 1, 104, 104, 17, 48, 57, 96, 54, 5, 21, 5]
abbrev dktX0_drawn_4 : List UInt8 := dkwX0_drawn_4 ++ dktX0_drawn_5
def dkwX0_drawn_3 : List UInt8 := [16, 10, 112, 54, 4, 27, 54, 5, 3, 54, 6, 3, 54, 7, 21, 7, 28, 162, 0, 101, 3, 54, 8, 3]
abbrev dktX0_drawn_3 : List UInt8 := dkwX0_drawn_3 ++ dktX0_drawn_4
def dkwX0_drawn_2 : List UInt8 := [154, 0, 5, 2, 172, 42, 42, 180, 0, 11, 29, 17, 3, 232, 108, 50, 182, 0, 249, 29, 16, 100, 108]
abbrev dktX0_drawn_2 : List UInt8 := dkwX0_drawn_2 ++ dktX0_drawn_3
def dkwX0_drawn_1 : List UInt8 := [153, 0, 26, 29, 16, 100, 108, 16, 10, 112, 184, 0, 105, 153, 0, 13, 29, 16, 100, 112, 184, 0, 235]
abbrev dktX0_drawn_1 : List UInt8 := dkwX0_drawn_1 ++ dktX0_drawn_2
def dkwX0_drawn_0 : List UInt8 := [28, 4, 16, 30, 184, 0, 94, 153, 0, 42, 29, 155, 0, 38, 42, 29, 17, 3, 232, 108, 182, 0, 98]
abbrev dktX0_drawn_0 : List UInt8 := dkwX0_drawn_0 ++ dktX0_drawn_1
theorem dksX0_drawn_0 : cX0_drawn.data.toList.drop 0 = dktX0_drawn_0 := by decide +kernel
theorem dksX0_drawn_1 : cX0_drawn.data.toList.drop 23 = dktX0_drawn_1 := dk_seg dksX0_drawn_0 23 rfl rfl
theorem dksX0_drawn_2 : cX0_drawn.data.toList.drop 46 = dktX0_drawn_2 := dk_seg dksX0_drawn_1 23 rfl rfl
theorem dksX0_drawn_3 : cX0_drawn.data.toList.drop 69 = dktX0_drawn_3 := dk_seg dksX0_drawn_2 23 rfl rfl
theorem dksX0_drawn_4 : cX0_drawn.data.toList.drop 93 = dktX0_drawn_4 := dk_seg dksX0_drawn_3 24 rfl rfl
theorem dksX0_drawn_5 : cX0_drawn.data.toList.drop 116 = dktX0_drawn_5 := dk_seg dksX0_drawn_4 23 rfl rfl
theorem dksX0_drawn_6 : cX0_drawn.data.toList.drop 138 = dktX0_drawn_6 := dk_seg dksX0_drawn_5 22 rfl rfl
theorem dksX0_drawn_7 : cX0_drawn.data.toList.drop 162 = dktX0_drawn_7 := dk_seg dksX0_drawn_6 24 rfl rfl
theorem dksX0_drawn_8 : cX0_drawn.data.toList.drop 184 = dktX0_drawn_8 := dk_seg dksX0_drawn_7 22 rfl rfl
theorem dX0_drawn_0 : decode cX0_drawn 0 = .ok (.iload_n 2, 1) := dk_28 (dk_at dksX0_drawn_0 0 rfl rfl)
theorem dX0_drawn_1 : decode cX0_drawn 1 = .ok (.iconst 1, 1) := dk_4 (dk_at dksX0_drawn_0 1 rfl rfl)
theorem dX0_drawn_2 : decode cX0_drawn 2 = .ok (.bipush 30, 2) := dk_16 30 (dk_at dksX0_drawn_0 2 rfl rfl)
theorem dX0_drawn_4 : decode cX0_drawn 4 = .ok (.invokestatic 94, 3) := dk_184 0 94 (dk_at dksX0_drawn_0 4 rfl rfl)
theorem dX0_drawn_7 : decode cX0_drawn 7 = .ok (.ifCond .eq 42, 3) := dk_153 0 42 (dk_at dksX0_drawn_0 7 rfl rfl)
theorem dX0_drawn_10 : decode cX0_drawn 10 = .ok (.iload_n 3, 1) := dk_29 (dk_at dksX0_drawn_0 10 rfl rfl)
theorem dX0_drawn_11 : decode cX0_drawn 11 = .ok (.ifCond .lt 38, 3) := dk_155 0 38 (dk_at dksX0_drawn_0 11 rfl rfl)
theorem dX0_drawn_14 : decode cX0_drawn 14 = .ok (.aload_n 0, 1) := dk_42 (dk_at dksX0_drawn_0 14 rfl rfl)
theorem dX0_drawn_15 : decode cX0_drawn 15 = .ok (.iload_n 3, 1) := dk_29 (dk_at dksX0_drawn_0 15 rfl rfl)
theorem dX0_drawn_16 : decode cX0_drawn 16 = .ok (.sipush 1000, 3) := dk_17 3 232 (dk_at dksX0_drawn_0 16 rfl rfl)
theorem dX0_drawn_19 : decode cX0_drawn 19 = .ok (.idiv, 1) := dk_108 (dk_at dksX0_drawn_0 19 rfl rfl)
theorem dX0_drawn_20 : decode cX0_drawn 20 = .ok (.invokevirtual 98, 3) := dk_182 0 98 (dk_at dksX0_drawn_0 20 rfl rfl)
theorem dX0_drawn_23 : decode cX0_drawn 23 = .ok (.ifCond .eq 26, 3) := dk_153 0 26 (dk_at dksX0_drawn_1 0 rfl rfl)
theorem dX0_drawn_26 : decode cX0_drawn 26 = .ok (.iload_n 3, 1) := dk_29 (dk_at dksX0_drawn_1 3 rfl rfl)
theorem dX0_drawn_27 : decode cX0_drawn 27 = .ok (.bipush 100, 2) := dk_16 100 (dk_at dksX0_drawn_1 4 rfl rfl)
theorem dX0_drawn_29 : decode cX0_drawn 29 = .ok (.idiv, 1) := dk_108 (dk_at dksX0_drawn_1 6 rfl rfl)
theorem dX0_drawn_30 : decode cX0_drawn 30 = .ok (.bipush 10, 2) := dk_16 10 (dk_at dksX0_drawn_1 7 rfl rfl)
theorem dX0_drawn_32 : decode cX0_drawn 32 = .ok (.irem, 1) := dk_112 (dk_at dksX0_drawn_1 9 rfl rfl)
theorem dX0_drawn_33 : decode cX0_drawn 33 = .ok (.invokestatic 105, 3) := dk_184 0 105 (dk_at dksX0_drawn_1 10 rfl rfl)
theorem dX0_drawn_36 : decode cX0_drawn 36 = .ok (.ifCond .eq 13, 3) := dk_153 0 13 (dk_at dksX0_drawn_1 13 rfl rfl)
theorem dX0_drawn_39 : decode cX0_drawn 39 = .ok (.iload_n 3, 1) := dk_29 (dk_at dksX0_drawn_1 16 rfl rfl)
theorem dX0_drawn_40 : decode cX0_drawn 40 = .ok (.bipush 100, 2) := dk_16 100 (dk_at dksX0_drawn_1 17 rfl rfl)
theorem dX0_drawn_42 : decode cX0_drawn 42 = .ok (.irem, 1) := dk_112 (dk_at dksX0_drawn_1 19 rfl rfl)
theorem dX0_drawn_43 : decode cX0_drawn 43 = .ok (.invokestatic 235, 3) := dk_184 0 235 (dk_at dksX0_drawn_1 20 rfl rfl)
theorem dX0_drawn_46 : decode cX0_drawn 46 = .ok (.ifCond .ne 5, 3) := dk_154 0 5 (dk_at dksX0_drawn_2 0 rfl rfl)
theorem dX0_drawn_49 : decode cX0_drawn 49 = .ok (.iconst (-1), 1) := dk_2 (dk_at dksX0_drawn_2 3 rfl rfl)
theorem dX0_drawn_50 : decode cX0_drawn 50 = .ok (.ireturn, 1) := dk_172 (dk_at dksX0_drawn_2 4 rfl rfl)
theorem dX0_drawn_51 : decode cX0_drawn 51 = .ok (.aload_n 0, 1) := dk_42 (dk_at dksX0_drawn_2 5 rfl rfl)
theorem dX0_drawn_52 : decode cX0_drawn 52 = .ok (.aload_n 0, 1) := dk_42 (dk_at dksX0_drawn_2 6 rfl rfl)
theorem dX0_drawn_53 : decode cX0_drawn 53 = .ok (.getfield 11, 3) := dk_180 0 11 (dk_at dksX0_drawn_2 7 rfl rfl)
theorem dX0_drawn_56 : decode cX0_drawn 56 = .ok (.iload_n 3, 1) := dk_29 (dk_at dksX0_drawn_2 10 rfl rfl)
theorem dX0_drawn_57 : decode cX0_drawn 57 = .ok (.sipush 1000, 3) := dk_17 3 232 (dk_at dksX0_drawn_2 11 rfl rfl)
theorem dX0_drawn_60 : decode cX0_drawn 60 = .ok (.idiv, 1) := dk_108 (dk_at dksX0_drawn_2 14 rfl rfl)
theorem dX0_drawn_61 : decode cX0_drawn 61 = .ok (.aaload, 1) := dk_50 (dk_at dksX0_drawn_2 15 rfl rfl)
theorem dX0_drawn_62 : decode cX0_drawn 62 = .ok (.invokevirtual 249, 3) := dk_182 0 249 (dk_at dksX0_drawn_2 16 rfl rfl)
theorem dX0_drawn_65 : decode cX0_drawn 65 = .ok (.iload_n 3, 1) := dk_29 (dk_at dksX0_drawn_2 19 rfl rfl)
theorem dX0_drawn_66 : decode cX0_drawn 66 = .ok (.bipush 100, 2) := dk_16 100 (dk_at dksX0_drawn_2 20 rfl rfl)
theorem dX0_drawn_68 : decode cX0_drawn 68 = .ok (.idiv, 1) := dk_108 (dk_at dksX0_drawn_2 22 rfl rfl)
theorem dX0_drawn_69 : decode cX0_drawn 69 = .ok (.bipush 10, 2) := dk_16 10 (dk_at dksX0_drawn_3 0 rfl rfl)
theorem dX0_drawn_71 : decode cX0_drawn 71 = .ok (.irem, 1) := dk_112 (dk_at dksX0_drawn_3 2 rfl rfl)
theorem dX0_drawn_72 : decode cX0_drawn 72 = .ok (.istore 4, 2) := dk_54 4 (dk_at dksX0_drawn_3 3 rfl rfl)
theorem dX0_drawn_74 : decode cX0_drawn 74 = .ok (.iload_n 1, 1) := dk_27 (dk_at dksX0_drawn_3 5 rfl rfl)
theorem dX0_drawn_75 : decode cX0_drawn 75 = .ok (.istore 5, 2) := dk_54 5 (dk_at dksX0_drawn_3 6 rfl rfl)
theorem dX0_drawn_77 : decode cX0_drawn 77 = .ok (.iconst 0, 1) := dk_3 (dk_at dksX0_drawn_3 8 rfl rfl)
theorem dX0_drawn_78 : decode cX0_drawn 78 = .ok (.istore 6, 2) := dk_54 6 (dk_at dksX0_drawn_3 9 rfl rfl)
theorem dX0_drawn_80 : decode cX0_drawn 80 = .ok (.iconst 0, 1) := dk_3 (dk_at dksX0_drawn_3 11 rfl rfl)
theorem dX0_drawn_81 : decode cX0_drawn 81 = .ok (.istore 7, 2) := dk_54 7 (dk_at dksX0_drawn_3 12 rfl rfl)
theorem dX0_drawn_83 : decode cX0_drawn 83 = .ok (.iload 7, 2) := dk_21 7 (dk_at dksX0_drawn_3 14 rfl rfl)
theorem dX0_drawn_85 : decode cX0_drawn 85 = .ok (.iload_n 2, 1) := dk_28 (dk_at dksX0_drawn_3 16 rfl rfl)
theorem dX0_drawn_86 : decode cX0_drawn 86 = .ok (.if_icmp .ge 101, 3) := dk_162 0 101 (dk_at dksX0_drawn_3 17 rfl rfl)
theorem dX0_drawn_89 : decode cX0_drawn 89 = .ok (.iconst 0, 1) := dk_3 (dk_at dksX0_drawn_3 20 rfl rfl)
theorem dX0_drawn_90 : decode cX0_drawn 90 = .ok (.istore 8, 2) := dk_54 8 (dk_at dksX0_drawn_3 21 rfl rfl)
theorem dX0_drawn_92 : decode cX0_drawn 92 = .ok (.iconst 0, 1) := dk_3 (dk_at dksX0_drawn_3 23 rfl rfl)
theorem dX0_drawn_93 : decode cX0_drawn 93 = .ok (.istore 9, 2) := dk_54 9 (dk_at dksX0_drawn_4 0 rfl rfl)
theorem dX0_drawn_95 : decode cX0_drawn 95 = .ok (.iload 9, 2) := dk_21 9 (dk_at dksX0_drawn_4 2 rfl rfl)
theorem dX0_drawn_97 : decode cX0_drawn 97 = .ok (.bipush 6, 2) := dk_16 6 (dk_at dksX0_drawn_4 4 rfl rfl)
theorem dX0_drawn_99 : decode cX0_drawn 99 = .ok (.if_icmp .ge 57, 3) := dk_162 0 57 (dk_at dksX0_drawn_4 6 rfl rfl)
theorem dX0_drawn_102 : decode cX0_drawn 102 = .ok (.iload 5, 2) := dk_21 5 (dk_at dksX0_drawn_4 9 rfl rfl)
theorem dX0_drawn_104 : decode cX0_drawn 104 = .ok (.ldc_w 360, 3) := dk_19 1 104 (dk_at dksX0_drawn_4 11 rfl rfl)
theorem dX0_drawn_107 : decode cX0_drawn 107 = .ok (.imul, 1) := dk_104 (dk_at dksX0_drawn_4 14 rfl rfl)
theorem dX0_drawn_108 : decode cX0_drawn 108 = .ok (.sipush 12345, 3) := dk_17 48 57 (dk_at dksX0_drawn_4 15 rfl rfl)
theorem dX0_drawn_111 : decode cX0_drawn 111 = .ok (.iadd, 1) := dk_96 (dk_at dksX0_drawn_4 18 rfl rfl)
theorem dX0_drawn_112 : decode cX0_drawn 112 = .ok (.istore 5, 2) := dk_54 5 (dk_at dksX0_drawn_4 19 rfl rfl)
theorem dX0_drawn_114 : decode cX0_drawn 114 = .ok (.iload 5, 2) := dk_21 5 (dk_at dksX0_drawn_4 21 rfl rfl)
theorem dX0_drawn_116 : decode cX0_drawn 116 = .ok (.bipush 8, 2) := dk_16 8 (dk_at dksX0_drawn_5 0 rfl rfl)
theorem dX0_drawn_118 : decode cX0_drawn 118 = .ok (.iushr, 1) := dk_124 (dk_at dksX0_drawn_5 2 rfl rfl)
theorem dX0_drawn_119 : decode cX0_drawn 119 = .ok (.bipush 100, 2) := dk_16 100 (dk_at dksX0_drawn_5 3 rfl rfl)
theorem dX0_drawn_121 : decode cX0_drawn 121 = .ok (.irem, 1) := dk_112 (dk_at dksX0_drawn_5 5 rfl rfl)
theorem dX0_drawn_122 : decode cX0_drawn 122 = .ok (.aload_n 0, 1) := dk_42 (dk_at dksX0_drawn_5 6 rfl rfl)
theorem dX0_drawn_123 : decode cX0_drawn 123 = .ok (.iload 9, 2) := dk_21 9 (dk_at dksX0_drawn_5 7 rfl rfl)
theorem dX0_drawn_125 : decode cX0_drawn 125 = .ok (.bipush 30, 2) := dk_16 30 (dk_at dksX0_drawn_5 9 rfl rfl)
theorem dX0_drawn_127 : decode cX0_drawn 127 = .ok (.iload 4, 2) := dk_21 4 (dk_at dksX0_drawn_5 11 rfl rfl)
theorem dX0_drawn_129 : decode cX0_drawn 129 = .ok (.imul, 1) := dk_104 (dk_at dksX0_drawn_5 13 rfl rfl)
theorem dX0_drawn_130 : decode cX0_drawn 130 = .ok (.iload_n 3, 1) := dk_29 (dk_at dksX0_drawn_5 14 rfl rfl)
theorem dX0_drawn_131 : decode cX0_drawn 131 = .ok (.bipush 100, 2) := dk_16 100 (dk_at dksX0_drawn_5 15 rfl rfl)
theorem dX0_drawn_133 : decode cX0_drawn 133 = .ok (.irem, 1) := dk_112 (dk_at dksX0_drawn_5 17 rfl rfl)
theorem dX0_drawn_134 : decode cX0_drawn 134 = .ok (.iadd, 1) := dk_96 (dk_at dksX0_drawn_5 18 rfl rfl)
theorem dX0_drawn_135 : decode cX0_drawn 135 = .ok (.invokevirtual 246, 3) := dk_182 0 246 (dk_at dksX0_drawn_5 19 rfl rfl)
theorem dX0_drawn_138 : decode cX0_drawn 138 = .ok (.if_icmp .ge 12, 3) := dk_162 0 12 (dk_at dksX0_drawn_6 0 rfl rfl)
theorem dX0_drawn_141 : decode cX0_drawn 141 = .ok (.iload 8, 2) := dk_21 8 (dk_at dksX0_drawn_6 3 rfl rfl)
theorem dX0_drawn_143 : decode cX0_drawn 143 = .ok (.iconst 1, 1) := dk_4 (dk_at dksX0_drawn_6 5 rfl rfl)
theorem dX0_drawn_144 : decode cX0_drawn 144 = .ok (.iload 9, 2) := dk_21 9 (dk_at dksX0_drawn_6 6 rfl rfl)
theorem dX0_drawn_146 : decode cX0_drawn 146 = .ok (.ishl, 1) := dk_120 (dk_at dksX0_drawn_6 8 rfl rfl)
theorem dX0_drawn_147 : decode cX0_drawn 147 = .ok (.ior, 1) := dk_128 (dk_at dksX0_drawn_6 9 rfl rfl)
theorem dX0_drawn_148 : decode cX0_drawn 148 = .ok (.istore 8, 2) := dk_54 8 (dk_at dksX0_drawn_6 10 rfl rfl)
theorem dX0_drawn_150 : decode cX0_drawn 150 = .ok (.iinc 9 1, 3) := dk_132 9 1 (dk_at dksX0_drawn_6 12 rfl rfl)
theorem dX0_drawn_153 : decode cX0_drawn 153 = .ok (.goto (-58), 3) := dk_167 255 198 (dk_at dksX0_drawn_6 15 rfl rfl)
theorem dX0_drawn_156 : decode cX0_drawn 156 = .ok (.aload_n 0, 1) := dk_42 (dk_at dksX0_drawn_6 18 rfl rfl)
theorem dX0_drawn_157 : decode cX0_drawn 157 = .ok (.iload 8, 2) := dk_21 8 (dk_at dksX0_drawn_6 19 rfl rfl)
theorem dX0_drawn_159 : decode cX0_drawn 159 = .ok (.invokevirtual 318, 3) := dk_182 1 62 (dk_at dksX0_drawn_6 21 rfl rfl)
theorem dX0_drawn_162 : decode cX0_drawn 162 = .ok (.iload 6, 2) := dk_21 6 (dk_at dksX0_drawn_7 0 rfl rfl)
theorem dX0_drawn_164 : decode cX0_drawn 164 = .ok (.aload_n 0, 1) := dk_42 (dk_at dksX0_drawn_7 2 rfl rfl)
theorem dX0_drawn_165 : decode cX0_drawn 165 = .ok (.invokevirtual 277, 3) := dk_182 1 21 (dk_at dksX0_drawn_7 3 rfl rfl)
theorem dX0_drawn_168 : decode cX0_drawn 168 = .ok (.iload 4, 2) := dk_21 4 (dk_at dksX0_drawn_7 6 rfl rfl)
theorem dX0_drawn_170 : decode cX0_drawn 170 = .ok (.if_icmp .ne 7, 3) := dk_160 0 7 (dk_at dksX0_drawn_7 8 rfl rfl)
theorem dX0_drawn_173 : decode cX0_drawn 173 = .ok (.iconst 1, 1) := dk_4 (dk_at dksX0_drawn_7 11 rfl rfl)
theorem dX0_drawn_174 : decode cX0_drawn 174 = .ok (.goto 4, 3) := dk_167 0 4 (dk_at dksX0_drawn_7 12 rfl rfl)
theorem dX0_drawn_177 : decode cX0_drawn 177 = .ok (.iconst 0, 1) := dk_3 (dk_at dksX0_drawn_7 15 rfl rfl)
theorem dX0_drawn_178 : decode cX0_drawn 178 = .ok (.iadd, 1) := dk_96 (dk_at dksX0_drawn_7 16 rfl rfl)
theorem dX0_drawn_179 : decode cX0_drawn 179 = .ok (.istore 6, 2) := dk_54 6 (dk_at dksX0_drawn_7 17 rfl rfl)
theorem dX0_drawn_181 : decode cX0_drawn 181 = .ok (.iinc 7 1, 3) := dk_132 7 1 (dk_at dksX0_drawn_7 19 rfl rfl)
theorem dX0_drawn_184 : decode cX0_drawn 184 = .ok (.goto (-101), 3) := dk_167 255 155 (dk_at dksX0_drawn_8 0 rfl rfl)
theorem dX0_drawn_187 : decode cX0_drawn 187 = .ok (.iload 6, 2) := dk_21 6 (dk_at dksX0_drawn_8 3 rfl rfl)
theorem dX0_drawn_189 : decode cX0_drawn 189 = .ok (.ireturn, 1) := dk_172 (dk_at dksX0_drawn_8 5 rfl rfl)
abbrev cX0_image : ByteArray := prog_1_method_62_code
def yX0_image : MethodName := ⟨RX0, "image", "()I"⟩
def dkwX0_image_2 : List UInt8 := [84, 132, 2, 1, 167, 255, 225, 132, 1, 1, 167, 255, 209, 42, 180, 0, 91, 172]
abbrev dktX0_image_2 : List UInt8 := dkwX0_image_2 ++ []
def dkwX0_image_1 : List UInt8 := [162, 0, 31, 42, 180, 0, 11, 27, 50, 180, 1, 105, 28, 42, 180, 0, 11, 27, 50, 180, 0, 133, 28, 51]
abbrev dktX0_image_1 : List UInt8 := dkwX0_image_1 ++ dktX0_image_2
def dkwX0_image_0 : List UInt8 := [42, 42, 180, 0, 91, 181, 0, 72, 3, 60, 27, 42, 180, 0, 91, 162, 0, 45, 3, 61, 28, 16, 6]
abbrev dktX0_image_0 : List UInt8 := dkwX0_image_0 ++ dktX0_image_1
theorem dksX0_image_0 : cX0_image.data.toList.drop 0 = dktX0_image_0 := by decide +kernel
theorem dksX0_image_1 : cX0_image.data.toList.drop 23 = dktX0_image_1 := dk_seg dksX0_image_0 23 rfl rfl
theorem dksX0_image_2 : cX0_image.data.toList.drop 47 = dktX0_image_2 := dk_seg dksX0_image_1 24 rfl rfl
theorem dX0_image_0 : decode cX0_image 0 = .ok (.aload_n 0, 1) := dk_42 (dk_at dksX0_image_0 0 rfl rfl)
theorem dX0_image_1 : decode cX0_image 1 = .ok (.aload_n 0, 1) := dk_42 (dk_at dksX0_image_0 1 rfl rfl)
theorem dX0_image_2 : decode cX0_image 2 = .ok (.getfield 91, 3) := dk_180 0 91 (dk_at dksX0_image_0 2 rfl rfl)
theorem dX0_image_5 : decode cX0_image 5 = .ok (.putfield 72, 3) := dk_181 0 72 (dk_at dksX0_image_0 5 rfl rfl)
theorem dX0_image_8 : decode cX0_image 8 = .ok (.iconst 0, 1) := dk_3 (dk_at dksX0_image_0 8 rfl rfl)
theorem dX0_image_9 : decode cX0_image 9 = .ok (.istore_n 1, 1) := dk_60 (dk_at dksX0_image_0 9 rfl rfl)
theorem dX0_image_10 : decode cX0_image 10 = .ok (.iload_n 1, 1) := dk_27 (dk_at dksX0_image_0 10 rfl rfl)
theorem dX0_image_11 : decode cX0_image 11 = .ok (.aload_n 0, 1) := dk_42 (dk_at dksX0_image_0 11 rfl rfl)
theorem dX0_image_12 : decode cX0_image 12 = .ok (.getfield 91, 3) := dk_180 0 91 (dk_at dksX0_image_0 12 rfl rfl)
theorem dX0_image_15 : decode cX0_image 15 = .ok (.if_icmp .ge 45, 3) := dk_162 0 45 (dk_at dksX0_image_0 15 rfl rfl)
theorem dX0_image_18 : decode cX0_image 18 = .ok (.iconst 0, 1) := dk_3 (dk_at dksX0_image_0 18 rfl rfl)
theorem dX0_image_19 : decode cX0_image 19 = .ok (.istore_n 2, 1) := dk_61 (dk_at dksX0_image_0 19 rfl rfl)
theorem dX0_image_20 : decode cX0_image 20 = .ok (.iload_n 2, 1) := dk_28 (dk_at dksX0_image_0 20 rfl rfl)
theorem dX0_image_21 : decode cX0_image 21 = .ok (.bipush 6, 2) := dk_16 6 (dk_at dksX0_image_0 21 rfl rfl)
theorem dX0_image_23 : decode cX0_image 23 = .ok (.if_icmp .ge 31, 3) := dk_162 0 31 (dk_at dksX0_image_1 0 rfl rfl)
theorem dX0_image_26 : decode cX0_image 26 = .ok (.aload_n 0, 1) := dk_42 (dk_at dksX0_image_1 3 rfl rfl)
theorem dX0_image_27 : decode cX0_image 27 = .ok (.getfield 11, 3) := dk_180 0 11 (dk_at dksX0_image_1 4 rfl rfl)
theorem dX0_image_30 : decode cX0_image 30 = .ok (.iload_n 1, 1) := dk_27 (dk_at dksX0_image_1 7 rfl rfl)
theorem dX0_image_31 : decode cX0_image 31 = .ok (.aaload, 1) := dk_50 (dk_at dksX0_image_1 8 rfl rfl)
theorem dX0_image_32 : decode cX0_image 32 = .ok (.getfield 361, 3) := dk_180 1 105 (dk_at dksX0_image_1 9 rfl rfl)
theorem dX0_image_35 : decode cX0_image 35 = .ok (.iload_n 2, 1) := dk_28 (dk_at dksX0_image_1 12 rfl rfl)
theorem dX0_image_36 : decode cX0_image 36 = .ok (.aload_n 0, 1) := dk_42 (dk_at dksX0_image_1 13 rfl rfl)
theorem dX0_image_37 : decode cX0_image 37 = .ok (.getfield 11, 3) := dk_180 0 11 (dk_at dksX0_image_1 14 rfl rfl)
theorem dX0_image_40 : decode cX0_image 40 = .ok (.iload_n 1, 1) := dk_27 (dk_at dksX0_image_1 17 rfl rfl)
theorem dX0_image_41 : decode cX0_image 41 = .ok (.aaload, 1) := dk_50 (dk_at dksX0_image_1 18 rfl rfl)
theorem dX0_image_42 : decode cX0_image 42 = .ok (.getfield 133, 3) := dk_180 0 133 (dk_at dksX0_image_1 19 rfl rfl)
theorem dX0_image_45 : decode cX0_image 45 = .ok (.iload_n 2, 1) := dk_28 (dk_at dksX0_image_1 22 rfl rfl)
theorem dX0_image_46 : decode cX0_image 46 = .ok (.baload, 1) := dk_51 (dk_at dksX0_image_1 23 rfl rfl)
theorem dX0_image_47 : decode cX0_image 47 = .ok (.bastore, 1) := dk_84 (dk_at dksX0_image_2 0 rfl rfl)
theorem dX0_image_48 : decode cX0_image 48 = .ok (.iinc 2 1, 3) := dk_132 2 1 (dk_at dksX0_image_2 1 rfl rfl)
theorem dX0_image_51 : decode cX0_image 51 = .ok (.goto (-31), 3) := dk_167 255 225 (dk_at dksX0_image_2 4 rfl rfl)
theorem dX0_image_54 : decode cX0_image 54 = .ok (.iinc 1 1, 3) := dk_132 1 1 (dk_at dksX0_image_2 7 rfl rfl)
theorem dX0_image_57 : decode cX0_image 57 = .ok (.goto (-47), 3) := dk_167 255 209 (dk_at dksX0_image_2 10 rfl rfl)
theorem dX0_image_60 : decode cX0_image 60 = .ok (.aload_n 0, 1) := dk_42 (dk_at dksX0_image_2 13 rfl rfl)
theorem dX0_image_61 : decode cX0_image 61 = .ok (.getfield 91, 3) := dk_180 0 91 (dk_at dksX0_image_2 14 rfl rfl)
theorem dX0_image_64 : decode cX0_image 64 = .ok (.ireturn, 1) := dk_172 (dk_at dksX0_image_2 17 rfl rfl)
abbrev cX0_back : ByteArray := prog_1_method_63_code
def yX0_back : MethodName := ⟨RX0, "back", "()I"⟩
def dkwX0_back_3 : List UInt8 := [167, 255, 197, 42, 180, 0, 91, 172]
abbrev dktX0_back_3 : List UInt8 := dkwX0_back_3 ++ []
def dkwX0_back_2 : List UInt8 := [180, 0, 11, 27, 50, 180, 1, 105, 28, 51, 167, 0, 4, 3, 84, 132, 2, 1, 167, 255, 213, 132, 1, 1]
abbrev dktX0_back_2 : List UInt8 := dkwX0_back_2 ++ dktX0_back_3
def dkwX0_back_1 : List UInt8 := [16, 6, 162, 0, 43, 42, 180, 0, 11, 27, 50, 180, 0, 133, 28, 27, 42, 180, 0, 72, 162, 0, 17, 42]
abbrev dktX0_back_1 : List UInt8 := dkwX0_back_1 ++ dktX0_back_2
def dkwX0_back_0 : List UInt8 := [42, 180, 0, 72, 156, 0, 6, 16, 251, 172, 3, 60, 27, 42, 180, 0, 91, 162, 0, 57, 3, 61, 28]
abbrev dktX0_back_0 : List UInt8 := dkwX0_back_0 ++ dktX0_back_1
theorem dksX0_back_0 : cX0_back.data.toList.drop 0 = dktX0_back_0 := by decide +kernel
theorem dksX0_back_1 : cX0_back.data.toList.drop 23 = dktX0_back_1 := dk_seg dksX0_back_0 23 rfl rfl
theorem dksX0_back_2 : cX0_back.data.toList.drop 47 = dktX0_back_2 := dk_seg dksX0_back_1 24 rfl rfl
theorem dksX0_back_3 : cX0_back.data.toList.drop 71 = dktX0_back_3 := dk_seg dksX0_back_2 24 rfl rfl
theorem dX0_back_0 : decode cX0_back 0 = .ok (.aload_n 0, 1) := dk_42 (dk_at dksX0_back_0 0 rfl rfl)
theorem dX0_back_1 : decode cX0_back 1 = .ok (.getfield 72, 3) := dk_180 0 72 (dk_at dksX0_back_0 1 rfl rfl)
theorem dX0_back_4 : decode cX0_back 4 = .ok (.ifCond .ge 6, 3) := dk_156 0 6 (dk_at dksX0_back_0 4 rfl rfl)
theorem dX0_back_7 : decode cX0_back 7 = .ok (.bipush (-5), 2) := dk_16 251 (dk_at dksX0_back_0 7 rfl rfl)
theorem dX0_back_9 : decode cX0_back 9 = .ok (.ireturn, 1) := dk_172 (dk_at dksX0_back_0 9 rfl rfl)
theorem dX0_back_10 : decode cX0_back 10 = .ok (.iconst 0, 1) := dk_3 (dk_at dksX0_back_0 10 rfl rfl)
theorem dX0_back_11 : decode cX0_back 11 = .ok (.istore_n 1, 1) := dk_60 (dk_at dksX0_back_0 11 rfl rfl)
theorem dX0_back_12 : decode cX0_back 12 = .ok (.iload_n 1, 1) := dk_27 (dk_at dksX0_back_0 12 rfl rfl)
theorem dX0_back_13 : decode cX0_back 13 = .ok (.aload_n 0, 1) := dk_42 (dk_at dksX0_back_0 13 rfl rfl)
theorem dX0_back_14 : decode cX0_back 14 = .ok (.getfield 91, 3) := dk_180 0 91 (dk_at dksX0_back_0 14 rfl rfl)
theorem dX0_back_17 : decode cX0_back 17 = .ok (.if_icmp .ge 57, 3) := dk_162 0 57 (dk_at dksX0_back_0 17 rfl rfl)
theorem dX0_back_20 : decode cX0_back 20 = .ok (.iconst 0, 1) := dk_3 (dk_at dksX0_back_0 20 rfl rfl)
theorem dX0_back_21 : decode cX0_back 21 = .ok (.istore_n 2, 1) := dk_61 (dk_at dksX0_back_0 21 rfl rfl)
theorem dX0_back_22 : decode cX0_back 22 = .ok (.iload_n 2, 1) := dk_28 (dk_at dksX0_back_0 22 rfl rfl)
theorem dX0_back_23 : decode cX0_back 23 = .ok (.bipush 6, 2) := dk_16 6 (dk_at dksX0_back_1 0 rfl rfl)
theorem dX0_back_25 : decode cX0_back 25 = .ok (.if_icmp .ge 43, 3) := dk_162 0 43 (dk_at dksX0_back_1 2 rfl rfl)
theorem dX0_back_28 : decode cX0_back 28 = .ok (.aload_n 0, 1) := dk_42 (dk_at dksX0_back_1 5 rfl rfl)
theorem dX0_back_29 : decode cX0_back 29 = .ok (.getfield 11, 3) := dk_180 0 11 (dk_at dksX0_back_1 6 rfl rfl)
theorem dX0_back_32 : decode cX0_back 32 = .ok (.iload_n 1, 1) := dk_27 (dk_at dksX0_back_1 9 rfl rfl)
theorem dX0_back_33 : decode cX0_back 33 = .ok (.aaload, 1) := dk_50 (dk_at dksX0_back_1 10 rfl rfl)
theorem dX0_back_34 : decode cX0_back 34 = .ok (.getfield 133, 3) := dk_180 0 133 (dk_at dksX0_back_1 11 rfl rfl)
theorem dX0_back_37 : decode cX0_back 37 = .ok (.iload_n 2, 1) := dk_28 (dk_at dksX0_back_1 14 rfl rfl)
theorem dX0_back_38 : decode cX0_back 38 = .ok (.iload_n 1, 1) := dk_27 (dk_at dksX0_back_1 15 rfl rfl)
theorem dX0_back_39 : decode cX0_back 39 = .ok (.aload_n 0, 1) := dk_42 (dk_at dksX0_back_1 16 rfl rfl)
theorem dX0_back_40 : decode cX0_back 40 = .ok (.getfield 72, 3) := dk_180 0 72 (dk_at dksX0_back_1 17 rfl rfl)
theorem dX0_back_43 : decode cX0_back 43 = .ok (.if_icmp .ge 17, 3) := dk_162 0 17 (dk_at dksX0_back_1 20 rfl rfl)
theorem dX0_back_46 : decode cX0_back 46 = .ok (.aload_n 0, 1) := dk_42 (dk_at dksX0_back_1 23 rfl rfl)
theorem dX0_back_47 : decode cX0_back 47 = .ok (.getfield 11, 3) := dk_180 0 11 (dk_at dksX0_back_2 0 rfl rfl)
theorem dX0_back_50 : decode cX0_back 50 = .ok (.iload_n 1, 1) := dk_27 (dk_at dksX0_back_2 3 rfl rfl)
theorem dX0_back_51 : decode cX0_back 51 = .ok (.aaload, 1) := dk_50 (dk_at dksX0_back_2 4 rfl rfl)
theorem dX0_back_52 : decode cX0_back 52 = .ok (.getfield 361, 3) := dk_180 1 105 (dk_at dksX0_back_2 5 rfl rfl)
theorem dX0_back_55 : decode cX0_back 55 = .ok (.iload_n 2, 1) := dk_28 (dk_at dksX0_back_2 8 rfl rfl)
theorem dX0_back_56 : decode cX0_back 56 = .ok (.baload, 1) := dk_51 (dk_at dksX0_back_2 9 rfl rfl)
theorem dX0_back_57 : decode cX0_back 57 = .ok (.goto 4, 3) := dk_167 0 4 (dk_at dksX0_back_2 10 rfl rfl)
theorem dX0_back_60 : decode cX0_back 60 = .ok (.iconst 0, 1) := dk_3 (dk_at dksX0_back_2 13 rfl rfl)
theorem dX0_back_61 : decode cX0_back 61 = .ok (.bastore, 1) := dk_84 (dk_at dksX0_back_2 14 rfl rfl)
theorem dX0_back_62 : decode cX0_back 62 = .ok (.iinc 2 1, 3) := dk_132 2 1 (dk_at dksX0_back_2 15 rfl rfl)
theorem dX0_back_65 : decode cX0_back 65 = .ok (.goto (-43), 3) := dk_167 255 213 (dk_at dksX0_back_2 18 rfl rfl)
theorem dX0_back_68 : decode cX0_back 68 = .ok (.iinc 1 1, 3) := dk_132 1 1 (dk_at dksX0_back_2 21 rfl rfl)
theorem dX0_back_71 : decode cX0_back 71 = .ok (.goto (-59), 3) := dk_167 255 197 (dk_at dksX0_back_3 0 rfl rfl)
theorem dX0_back_74 : decode cX0_back 74 = .ok (.aload_n 0, 1) := dk_42 (dk_at dksX0_back_3 3 rfl rfl)
theorem dX0_back_75 : decode cX0_back 75 = .ok (.getfield 91, 3) := dk_180 0 91 (dk_at dksX0_back_3 4 rfl rfl)
theorem dX0_back_78 : decode cX0_back 78 = .ok (.ireturn, 1) := dk_172 (dk_at dksX0_back_3 7 rfl rfl)
abbrev cX0_body : ByteArray := prog_1_method_68_code
def yX0_body : MethodName := ⟨RX0, "body", "(I)I"⟩
def dkwX0_body_2 : List UInt8 := [42, 180, 1, 114, 4, 100, 172]
abbrev dktX0_body_2 : List UInt8 := dkwX0_body_2 ++ []
def dkwX0_body_1 : List UInt8 := [42, 180, 0, 81, 42, 180, 1, 114, 42, 27, 182, 1, 141, 83, 42, 89, 180, 1, 114, 4, 96, 181, 1, 114]
abbrev dktX0_body_1 : List UInt8 := dkwX0_body_1 ++ dktX0_body_2
def dkwX0_body_0 : List UInt8 := [27, 3, 16, 7, 184, 0, 94, 154, 0, 5, 2, 172, 42, 180, 1, 114, 16, 50, 160, 0, 6, 16, 253, 172]
abbrev dktX0_body_0 : List UInt8 := dkwX0_body_0 ++ dktX0_body_1
theorem dksX0_body_0 : cX0_body.data.toList.drop 0 = dktX0_body_0 := by decide +kernel
theorem dksX0_body_1 : cX0_body.data.toList.drop 24 = dktX0_body_1 := dk_seg dksX0_body_0 24 rfl rfl
theorem dksX0_body_2 : cX0_body.data.toList.drop 48 = dktX0_body_2 := dk_seg dksX0_body_1 24 rfl rfl
theorem dX0_body_0 : decode cX0_body 0 = .ok (.iload_n 1, 1) := dk_27 (dk_at dksX0_body_0 0 rfl rfl)
theorem dX0_body_1 : decode cX0_body 1 = .ok (.iconst 0, 1) := dk_3 (dk_at dksX0_body_0 1 rfl rfl)
theorem dX0_body_2 : decode cX0_body 2 = .ok (.bipush 7, 2) := dk_16 7 (dk_at dksX0_body_0 2 rfl rfl)
theorem dX0_body_4 : decode cX0_body 4 = .ok (.invokestatic 94, 3) := dk_184 0 94 (dk_at dksX0_body_0 4 rfl rfl)
theorem dX0_body_7 : decode cX0_body 7 = .ok (.ifCond .ne 5, 3) := dk_154 0 5 (dk_at dksX0_body_0 7 rfl rfl)
theorem dX0_body_10 : decode cX0_body 10 = .ok (.iconst (-1), 1) := dk_2 (dk_at dksX0_body_0 10 rfl rfl)
theorem dX0_body_11 : decode cX0_body 11 = .ok (.ireturn, 1) := dk_172 (dk_at dksX0_body_0 11 rfl rfl)
theorem dX0_body_12 : decode cX0_body 12 = .ok (.aload_n 0, 1) := dk_42 (dk_at dksX0_body_0 12 rfl rfl)
theorem dX0_body_13 : decode cX0_body 13 = .ok (.getfield 370, 3) := dk_180 1 114 (dk_at dksX0_body_0 13 rfl rfl)
theorem dX0_body_16 : decode cX0_body 16 = .ok (.bipush 50, 2) := dk_16 50 (dk_at dksX0_body_0 16 rfl rfl)
theorem dX0_body_18 : decode cX0_body 18 = .ok (.if_icmp .ne 6, 3) := dk_160 0 6 (dk_at dksX0_body_0 18 rfl rfl)
theorem dX0_body_21 : decode cX0_body 21 = .ok (.bipush (-3), 2) := dk_16 253 (dk_at dksX0_body_0 21 rfl rfl)
theorem dX0_body_23 : decode cX0_body 23 = .ok (.ireturn, 1) := dk_172 (dk_at dksX0_body_0 23 rfl rfl)
theorem dX0_body_24 : decode cX0_body 24 = .ok (.aload_n 0, 1) := dk_42 (dk_at dksX0_body_1 0 rfl rfl)
theorem dX0_body_25 : decode cX0_body 25 = .ok (.getfield 81, 3) := dk_180 0 81 (dk_at dksX0_body_1 1 rfl rfl)
theorem dX0_body_28 : decode cX0_body 28 = .ok (.aload_n 0, 1) := dk_42 (dk_at dksX0_body_1 4 rfl rfl)
theorem dX0_body_29 : decode cX0_body 29 = .ok (.getfield 370, 3) := dk_180 1 114 (dk_at dksX0_body_1 5 rfl rfl)
theorem dX0_body_32 : decode cX0_body 32 = .ok (.aload_n 0, 1) := dk_42 (dk_at dksX0_body_1 8 rfl rfl)
theorem dX0_body_33 : decode cX0_body 33 = .ok (.iload_n 1, 1) := dk_27 (dk_at dksX0_body_1 9 rfl rfl)
theorem dX0_body_34 : decode cX0_body 34 = .ok (.invokevirtual 397, 3) := dk_182 1 141 (dk_at dksX0_body_1 10 rfl rfl)
theorem dX0_body_37 : decode cX0_body 37 = .ok (.aastore, 1) := dk_83 (dk_at dksX0_body_1 13 rfl rfl)
theorem dX0_body_38 : decode cX0_body 38 = .ok (.aload_n 0, 1) := dk_42 (dk_at dksX0_body_1 14 rfl rfl)
theorem dX0_body_39 : decode cX0_body 39 = .ok (.dup, 1) := dk_89 (dk_at dksX0_body_1 15 rfl rfl)
theorem dX0_body_40 : decode cX0_body 40 = .ok (.getfield 370, 3) := dk_180 1 114 (dk_at dksX0_body_1 16 rfl rfl)
theorem dX0_body_43 : decode cX0_body 43 = .ok (.iconst 1, 1) := dk_4 (dk_at dksX0_body_1 19 rfl rfl)
theorem dX0_body_44 : decode cX0_body 44 = .ok (.iadd, 1) := dk_96 (dk_at dksX0_body_1 20 rfl rfl)
theorem dX0_body_45 : decode cX0_body 45 = .ok (.putfield 370, 3) := dk_181 1 114 (dk_at dksX0_body_1 21 rfl rfl)
theorem dX0_body_48 : decode cX0_body 48 = .ok (.aload_n 0, 1) := dk_42 (dk_at dksX0_body_2 0 rfl rfl)
theorem dX0_body_49 : decode cX0_body 49 = .ok (.getfield 370, 3) := dk_180 1 114 (dk_at dksX0_body_2 1 rfl rfl)
theorem dX0_body_52 : decode cX0_body 52 = .ok (.iconst 1, 1) := dk_4 (dk_at dksX0_body_2 4 rfl rfl)
theorem dX0_body_53 : decode cX0_body 53 = .ok (.isub, 1) := dk_100 (dk_at dksX0_body_2 5 rfl rfl)
theorem dX0_body_54 : decode cX0_body 54 = .ok (.ireturn, 1) := dk_172 (dk_at dksX0_body_2 6 rfl rfl)
abbrev cX0_made : ByteArray := prog_1_method_67_code
def yX0_made : MethodName := ⟨RX0, "made", "(I)LChairOld$Plain;"⟩
def dkwX0_made_6 : List UInt8 := [187, 0, 79, 89, 42, 42, 180, 1, 114, 183, 1, 140, 176]
abbrev dktX0_made_6 : List UInt8 := dkwX0_made_6 ++ []
def dkwX0_made_5 : List UInt8 := [42, 42, 180, 1, 114, 183, 1, 136, 176, 187, 1, 137, 89, 42, 42, 180, 1, 114, 183, 1, 139, 176]
abbrev dktX0_made_5 : List UInt8 := dkwX0_made_5 ++ dktX0_made_6
def dkwX0_made_4 : List UInt8 := [180, 1, 114, 183, 1, 130, 176, 187, 1, 131, 89, 42, 42, 180, 1, 114, 183, 1, 133, 176, 187, 1, 134, 89]
abbrev dktX0_made_4 : List UInt8 := dkwX0_made_4 ++ dktX0_made_5
def dkwX0_made_3 : List UInt8 := [183, 1, 124, 176, 187, 1, 125, 89, 42, 42, 180, 1, 114, 183, 1, 127, 176, 187, 1, 128, 89, 42, 42]
abbrev dktX0_made_3 : List UInt8 := dkwX0_made_3 ++ dktX0_made_4
def dkwX0_made_2 : List UInt8 := [187, 1, 117, 89, 42, 42, 180, 1, 114, 183, 1, 119, 176, 187, 1, 122, 89, 42, 42, 180, 1, 114]
abbrev dktX0_made_2 : List UInt8 := dkwX0_made_2 ++ dktX0_made_3
def dkwX0_made_1 : List UInt8 := [170, 0, 0, 0, 0, 0, 134, 0, 0, 0, 1, 0, 0, 0, 7, 0, 0, 0, 43, 0, 0, 0, 56, 0, 0, 0, 69, 0, 0, 0, 82, 0, 0, 0, 95, 0, 0, 0, 108, 0, 0, 0, 121]
abbrev dktX0_made_1 : List UInt8 := dkwX0_made_1 ++ dktX0_made_2
def dkwX0_made_0 : List UInt8 := [27]
abbrev dktX0_made_0 : List UInt8 := dkwX0_made_0 ++ dktX0_made_1
theorem dksX0_made_0 : cX0_made.data.toList.drop 0 = dktX0_made_0 := by decide +kernel
theorem dksX0_made_1 : cX0_made.data.toList.drop 1 = dktX0_made_1 := dk_seg dksX0_made_0 1 rfl rfl
theorem dksX0_made_2 : cX0_made.data.toList.drop 44 = dktX0_made_2 := dk_seg dksX0_made_1 43 rfl rfl
theorem dksX0_made_3 : cX0_made.data.toList.drop 66 = dktX0_made_3 := dk_seg dksX0_made_2 22 rfl rfl
theorem dksX0_made_4 : cX0_made.data.toList.drop 89 = dktX0_made_4 := dk_seg dksX0_made_3 23 rfl rfl
theorem dksX0_made_5 : cX0_made.data.toList.drop 113 = dktX0_made_5 := dk_seg dksX0_made_4 24 rfl rfl
theorem dksX0_made_6 : cX0_made.data.toList.drop 135 = dktX0_made_6 := dk_seg dksX0_made_5 22 rfl rfl
theorem dX0_made_0 : decode cX0_made 0 = .ok (.iload_n 1, 1) := dk_27 (dk_at dksX0_made_0 0 rfl rfl)
theorem dX0_made_1 : decode cX0_made 1 = .ok (.tableswitch 134 1 7 #[43, 56, 69, 82, 95, 108, 121], 43) := by decide +kernel
theorem dX0_made_44 : decode cX0_made 44 = .ok (.new 373, 3) := dk_187 1 117 (dk_at dksX0_made_2 0 rfl rfl)
theorem dX0_made_47 : decode cX0_made 47 = .ok (.dup, 1) := dk_89 (dk_at dksX0_made_2 3 rfl rfl)
theorem dX0_made_48 : decode cX0_made 48 = .ok (.aload_n 0, 1) := dk_42 (dk_at dksX0_made_2 4 rfl rfl)
theorem dX0_made_49 : decode cX0_made 49 = .ok (.aload_n 0, 1) := dk_42 (dk_at dksX0_made_2 5 rfl rfl)
theorem dX0_made_50 : decode cX0_made 50 = .ok (.getfield 370, 3) := dk_180 1 114 (dk_at dksX0_made_2 6 rfl rfl)
theorem dX0_made_53 : decode cX0_made 53 = .ok (.invokespecial 375, 3) := dk_183 1 119 (dk_at dksX0_made_2 9 rfl rfl)
theorem dX0_made_56 : decode cX0_made 56 = .ok (.areturn, 1) := dk_176 (dk_at dksX0_made_2 12 rfl rfl)
theorem dX0_made_57 : decode cX0_made 57 = .ok (.new 378, 3) := dk_187 1 122 (dk_at dksX0_made_2 13 rfl rfl)
theorem dX0_made_60 : decode cX0_made 60 = .ok (.dup, 1) := dk_89 (dk_at dksX0_made_2 16 rfl rfl)
theorem dX0_made_61 : decode cX0_made 61 = .ok (.aload_n 0, 1) := dk_42 (dk_at dksX0_made_2 17 rfl rfl)
theorem dX0_made_62 : decode cX0_made 62 = .ok (.aload_n 0, 1) := dk_42 (dk_at dksX0_made_2 18 rfl rfl)
theorem dX0_made_63 : decode cX0_made 63 = .ok (.getfield 370, 3) := dk_180 1 114 (dk_at dksX0_made_2 19 rfl rfl)
theorem dX0_made_66 : decode cX0_made 66 = .ok (.invokespecial 380, 3) := dk_183 1 124 (dk_at dksX0_made_3 0 rfl rfl)
theorem dX0_made_69 : decode cX0_made 69 = .ok (.areturn, 1) := dk_176 (dk_at dksX0_made_3 3 rfl rfl)
theorem dX0_made_70 : decode cX0_made 70 = .ok (.new 381, 3) := dk_187 1 125 (dk_at dksX0_made_3 4 rfl rfl)
theorem dX0_made_73 : decode cX0_made 73 = .ok (.dup, 1) := dk_89 (dk_at dksX0_made_3 7 rfl rfl)
theorem dX0_made_74 : decode cX0_made 74 = .ok (.aload_n 0, 1) := dk_42 (dk_at dksX0_made_3 8 rfl rfl)
theorem dX0_made_75 : decode cX0_made 75 = .ok (.aload_n 0, 1) := dk_42 (dk_at dksX0_made_3 9 rfl rfl)
theorem dX0_made_76 : decode cX0_made 76 = .ok (.getfield 370, 3) := dk_180 1 114 (dk_at dksX0_made_3 10 rfl rfl)
theorem dX0_made_79 : decode cX0_made 79 = .ok (.invokespecial 383, 3) := dk_183 1 127 (dk_at dksX0_made_3 13 rfl rfl)
theorem dX0_made_82 : decode cX0_made 82 = .ok (.areturn, 1) := dk_176 (dk_at dksX0_made_3 16 rfl rfl)
theorem dX0_made_83 : decode cX0_made 83 = .ok (.new 384, 3) := dk_187 1 128 (dk_at dksX0_made_3 17 rfl rfl)
theorem dX0_made_86 : decode cX0_made 86 = .ok (.dup, 1) := dk_89 (dk_at dksX0_made_3 20 rfl rfl)
theorem dX0_made_87 : decode cX0_made 87 = .ok (.aload_n 0, 1) := dk_42 (dk_at dksX0_made_3 21 rfl rfl)
theorem dX0_made_88 : decode cX0_made 88 = .ok (.aload_n 0, 1) := dk_42 (dk_at dksX0_made_3 22 rfl rfl)
theorem dX0_made_89 : decode cX0_made 89 = .ok (.getfield 370, 3) := dk_180 1 114 (dk_at dksX0_made_4 0 rfl rfl)
theorem dX0_made_92 : decode cX0_made 92 = .ok (.invokespecial 386, 3) := dk_183 1 130 (dk_at dksX0_made_4 3 rfl rfl)
theorem dX0_made_95 : decode cX0_made 95 = .ok (.areturn, 1) := dk_176 (dk_at dksX0_made_4 6 rfl rfl)
theorem dX0_made_96 : decode cX0_made 96 = .ok (.new 387, 3) := dk_187 1 131 (dk_at dksX0_made_4 7 rfl rfl)
theorem dX0_made_99 : decode cX0_made 99 = .ok (.dup, 1) := dk_89 (dk_at dksX0_made_4 10 rfl rfl)
theorem dX0_made_100 : decode cX0_made 100 = .ok (.aload_n 0, 1) := dk_42 (dk_at dksX0_made_4 11 rfl rfl)
theorem dX0_made_101 : decode cX0_made 101 = .ok (.aload_n 0, 1) := dk_42 (dk_at dksX0_made_4 12 rfl rfl)
theorem dX0_made_102 : decode cX0_made 102 = .ok (.getfield 370, 3) := dk_180 1 114 (dk_at dksX0_made_4 13 rfl rfl)
theorem dX0_made_105 : decode cX0_made 105 = .ok (.invokespecial 389, 3) := dk_183 1 133 (dk_at dksX0_made_4 16 rfl rfl)
theorem dX0_made_108 : decode cX0_made 108 = .ok (.areturn, 1) := dk_176 (dk_at dksX0_made_4 19 rfl rfl)
theorem dX0_made_109 : decode cX0_made 109 = .ok (.new 390, 3) := dk_187 1 134 (dk_at dksX0_made_4 20 rfl rfl)
theorem dX0_made_112 : decode cX0_made 112 = .ok (.dup, 1) := dk_89 (dk_at dksX0_made_4 23 rfl rfl)
theorem dX0_made_113 : decode cX0_made 113 = .ok (.aload_n 0, 1) := dk_42 (dk_at dksX0_made_5 0 rfl rfl)
theorem dX0_made_114 : decode cX0_made 114 = .ok (.aload_n 0, 1) := dk_42 (dk_at dksX0_made_5 1 rfl rfl)
theorem dX0_made_115 : decode cX0_made 115 = .ok (.getfield 370, 3) := dk_180 1 114 (dk_at dksX0_made_5 2 rfl rfl)
theorem dX0_made_118 : decode cX0_made 118 = .ok (.invokespecial 392, 3) := dk_183 1 136 (dk_at dksX0_made_5 5 rfl rfl)
theorem dX0_made_121 : decode cX0_made 121 = .ok (.areturn, 1) := dk_176 (dk_at dksX0_made_5 8 rfl rfl)
theorem dX0_made_122 : decode cX0_made 122 = .ok (.new 393, 3) := dk_187 1 137 (dk_at dksX0_made_5 9 rfl rfl)
theorem dX0_made_125 : decode cX0_made 125 = .ok (.dup, 1) := dk_89 (dk_at dksX0_made_5 12 rfl rfl)
theorem dX0_made_126 : decode cX0_made 126 = .ok (.aload_n 0, 1) := dk_42 (dk_at dksX0_made_5 13 rfl rfl)
theorem dX0_made_127 : decode cX0_made 127 = .ok (.aload_n 0, 1) := dk_42 (dk_at dksX0_made_5 14 rfl rfl)
theorem dX0_made_128 : decode cX0_made 128 = .ok (.getfield 370, 3) := dk_180 1 114 (dk_at dksX0_made_5 15 rfl rfl)
theorem dX0_made_131 : decode cX0_made 131 = .ok (.invokespecial 395, 3) := dk_183 1 139 (dk_at dksX0_made_5 18 rfl rfl)
theorem dX0_made_134 : decode cX0_made 134 = .ok (.areturn, 1) := dk_176 (dk_at dksX0_made_5 21 rfl rfl)
theorem dX0_made_135 : decode cX0_made 135 = .ok (.new 79, 3) := dk_187 0 79 (dk_at dksX0_made_6 0 rfl rfl)
theorem dX0_made_138 : decode cX0_made 138 = .ok (.dup, 1) := dk_89 (dk_at dksX0_made_6 3 rfl rfl)
theorem dX0_made_139 : decode cX0_made 139 = .ok (.aload_n 0, 1) := dk_42 (dk_at dksX0_made_6 4 rfl rfl)
theorem dX0_made_140 : decode cX0_made 140 = .ok (.aload_n 0, 1) := dk_42 (dk_at dksX0_made_6 5 rfl rfl)
theorem dX0_made_141 : decode cX0_made 141 = .ok (.getfield 370, 3) := dk_180 1 114 (dk_at dksX0_made_6 6 rfl rfl)
theorem dX0_made_144 : decode cX0_made 144 = .ok (.invokespecial 396, 3) := dk_183 1 140 (dk_at dksX0_made_6 9 rfl rfl)
theorem dX0_made_147 : decode cX0_made 147 = .ok (.areturn, 1) := dk_176 (dk_at dksX0_made_6 12 rfl rfl)
abbrev cX0_act : ByteArray := prog_1_method_70_code
def yX0_act : MethodName := ⟨RX0, "act", "(III)I"⟩
def dkwX0_act_3 : List UInt8 := [25, 4, 29, 182, 1, 158, 167, 0, 9, 25, 4, 29, 182, 1, 161, 172]
abbrev dktX0_act_3 : List UInt8 := dkwX0_act_3 ++ []
def dkwX0_act_2 : List UInt8 := [172, 28, 6, 160, 0, 16, 25, 4, 58, 5, 25, 5, 29, 185, 1, 153, 2, 0, 172, 28, 4, 160, 0, 12]
abbrev dktX0_act_2 : List UInt8 := dkwX0_act_2 ++ dktX0_act_3
def dkwX0_act_1 : List UInt8 := [42, 180, 0, 81, 27, 50, 58, 4, 28, 154, 0, 16, 25, 4, 58, 5, 25, 5, 29, 185, 1, 148, 2, 0]
abbrev dktX0_act_1 : List UInt8 := dkwX0_act_1 ++ dktX0_act_2
def dkwX0_act_0 : List UInt8 := [42, 3, 181, 1, 111, 42, 27, 182, 1, 145, 153, 0, 12, 28, 3, 6, 184, 0, 94, 154, 0, 5, 3, 172]
abbrev dktX0_act_0 : List UInt8 := dkwX0_act_0 ++ dktX0_act_1
theorem dksX0_act_0 : cX0_act.data.toList.drop 0 = dktX0_act_0 := by decide +kernel
theorem dksX0_act_1 : cX0_act.data.toList.drop 24 = dktX0_act_1 := dk_seg dksX0_act_0 24 rfl rfl
theorem dksX0_act_2 : cX0_act.data.toList.drop 48 = dktX0_act_2 := dk_seg dksX0_act_1 24 rfl rfl
theorem dksX0_act_3 : cX0_act.data.toList.drop 72 = dktX0_act_3 := dk_seg dksX0_act_2 24 rfl rfl
theorem dX0_act_0 : decode cX0_act 0 = .ok (.aload_n 0, 1) := dk_42 (dk_at dksX0_act_0 0 rfl rfl)
theorem dX0_act_1 : decode cX0_act 1 = .ok (.iconst 0, 1) := dk_3 (dk_at dksX0_act_0 1 rfl rfl)
theorem dX0_act_2 : decode cX0_act 2 = .ok (.putfield 367, 3) := dk_181 1 111 (dk_at dksX0_act_0 2 rfl rfl)
theorem dX0_act_5 : decode cX0_act 5 = .ok (.aload_n 0, 1) := dk_42 (dk_at dksX0_act_0 5 rfl rfl)
theorem dX0_act_6 : decode cX0_act 6 = .ok (.iload_n 1, 1) := dk_27 (dk_at dksX0_act_0 6 rfl rfl)
theorem dX0_act_7 : decode cX0_act 7 = .ok (.invokevirtual 401, 3) := dk_182 1 145 (dk_at dksX0_act_0 7 rfl rfl)
theorem dX0_act_10 : decode cX0_act 10 = .ok (.ifCond .eq 12, 3) := dk_153 0 12 (dk_at dksX0_act_0 10 rfl rfl)
theorem dX0_act_13 : decode cX0_act 13 = .ok (.iload_n 2, 1) := dk_28 (dk_at dksX0_act_0 13 rfl rfl)
theorem dX0_act_14 : decode cX0_act 14 = .ok (.iconst 0, 1) := dk_3 (dk_at dksX0_act_0 14 rfl rfl)
theorem dX0_act_15 : decode cX0_act 15 = .ok (.iconst 3, 1) := dk_6 (dk_at dksX0_act_0 15 rfl rfl)
theorem dX0_act_16 : decode cX0_act 16 = .ok (.invokestatic 94, 3) := dk_184 0 94 (dk_at dksX0_act_0 16 rfl rfl)
theorem dX0_act_19 : decode cX0_act 19 = .ok (.ifCond .ne 5, 3) := dk_154 0 5 (dk_at dksX0_act_0 19 rfl rfl)
theorem dX0_act_22 : decode cX0_act 22 = .ok (.iconst 0, 1) := dk_3 (dk_at dksX0_act_0 22 rfl rfl)
theorem dX0_act_23 : decode cX0_act 23 = .ok (.ireturn, 1) := dk_172 (dk_at dksX0_act_0 23 rfl rfl)
theorem dX0_act_24 : decode cX0_act 24 = .ok (.aload_n 0, 1) := dk_42 (dk_at dksX0_act_1 0 rfl rfl)
theorem dX0_act_25 : decode cX0_act 25 = .ok (.getfield 81, 3) := dk_180 0 81 (dk_at dksX0_act_1 1 rfl rfl)
theorem dX0_act_28 : decode cX0_act 28 = .ok (.iload_n 1, 1) := dk_27 (dk_at dksX0_act_1 4 rfl rfl)
theorem dX0_act_29 : decode cX0_act 29 = .ok (.aaload, 1) := dk_50 (dk_at dksX0_act_1 5 rfl rfl)
theorem dX0_act_30 : decode cX0_act 30 = .ok (.astore 4, 2) := dk_58 4 (dk_at dksX0_act_1 6 rfl rfl)
theorem dX0_act_32 : decode cX0_act 32 = .ok (.iload_n 2, 1) := dk_28 (dk_at dksX0_act_1 8 rfl rfl)
theorem dX0_act_33 : decode cX0_act 33 = .ok (.ifCond .ne 16, 3) := dk_154 0 16 (dk_at dksX0_act_1 9 rfl rfl)
theorem dX0_act_36 : decode cX0_act 36 = .ok (.aload 4, 2) := dk_25 4 (dk_at dksX0_act_1 12 rfl rfl)
theorem dX0_act_38 : decode cX0_act 38 = .ok (.astore 5, 2) := dk_58 5 (dk_at dksX0_act_1 14 rfl rfl)
theorem dX0_act_40 : decode cX0_act 40 = .ok (.aload 5, 2) := dk_25 5 (dk_at dksX0_act_1 16 rfl rfl)
theorem dX0_act_42 : decode cX0_act 42 = .ok (.iload_n 3, 1) := dk_29 (dk_at dksX0_act_1 18 rfl rfl)
theorem dX0_act_43 : decode cX0_act 43 = .ok (.invokeinterface 404 2, 5) := by decide +kernel
theorem dX0_act_48 : decode cX0_act 48 = .ok (.ireturn, 1) := dk_172 (dk_at dksX0_act_2 0 rfl rfl)
theorem dX0_act_49 : decode cX0_act 49 = .ok (.iload_n 2, 1) := dk_28 (dk_at dksX0_act_2 1 rfl rfl)
theorem dX0_act_50 : decode cX0_act 50 = .ok (.iconst 3, 1) := dk_6 (dk_at dksX0_act_2 2 rfl rfl)
theorem dX0_act_51 : decode cX0_act 51 = .ok (.if_icmp .ne 16, 3) := dk_160 0 16 (dk_at dksX0_act_2 3 rfl rfl)
theorem dX0_act_54 : decode cX0_act 54 = .ok (.aload 4, 2) := dk_25 4 (dk_at dksX0_act_2 6 rfl rfl)
theorem dX0_act_56 : decode cX0_act 56 = .ok (.astore 5, 2) := dk_58 5 (dk_at dksX0_act_2 8 rfl rfl)
theorem dX0_act_58 : decode cX0_act 58 = .ok (.aload 5, 2) := dk_25 5 (dk_at dksX0_act_2 10 rfl rfl)
theorem dX0_act_60 : decode cX0_act 60 = .ok (.iload_n 3, 1) := dk_29 (dk_at dksX0_act_2 12 rfl rfl)
theorem dX0_act_61 : decode cX0_act 61 = .ok (.invokeinterface 409 2, 5) := by decide +kernel
theorem dX0_act_66 : decode cX0_act 66 = .ok (.ireturn, 1) := dk_172 (dk_at dksX0_act_2 18 rfl rfl)
theorem dX0_act_67 : decode cX0_act 67 = .ok (.iload_n 2, 1) := dk_28 (dk_at dksX0_act_2 19 rfl rfl)
theorem dX0_act_68 : decode cX0_act 68 = .ok (.iconst 1, 1) := dk_4 (dk_at dksX0_act_2 20 rfl rfl)
theorem dX0_act_69 : decode cX0_act 69 = .ok (.if_icmp .ne 12, 3) := dk_160 0 12 (dk_at dksX0_act_2 21 rfl rfl)
theorem dX0_act_72 : decode cX0_act 72 = .ok (.aload 4, 2) := dk_25 4 (dk_at dksX0_act_3 0 rfl rfl)
theorem dX0_act_74 : decode cX0_act 74 = .ok (.iload_n 3, 1) := dk_29 (dk_at dksX0_act_3 2 rfl rfl)
theorem dX0_act_75 : decode cX0_act 75 = .ok (.invokevirtual 414, 3) := dk_182 1 158 (dk_at dksX0_act_3 3 rfl rfl)
theorem dX0_act_78 : decode cX0_act 78 = .ok (.goto 9, 3) := dk_167 0 9 (dk_at dksX0_act_3 6 rfl rfl)
theorem dX0_act_81 : decode cX0_act 81 = .ok (.aload 4, 2) := dk_25 4 (dk_at dksX0_act_3 9 rfl rfl)
theorem dX0_act_83 : decode cX0_act 83 = .ok (.iload_n 3, 1) := dk_29 (dk_at dksX0_act_3 11 rfl rfl)
theorem dX0_act_84 : decode cX0_act 84 = .ok (.invokevirtual 417, 3) := dk_182 1 161 (dk_at dksX0_act_3 12 rfl rfl)
theorem dX0_act_87 : decode cX0_act 87 = .ok (.ireturn, 1) := dk_172 (dk_at dksX0_act_3 15 rfl rfl)
abbrev cX0_isBody : ByteArray := prog_1_method_66_code
def yX0_isBody : MethodName := ⟨RX0, "isBody", "(I)Z"⟩
def dkwX0_isBody_0 : List UInt8 := [27, 3, 42, 180, 1, 114, 4, 100, 184, 0, 94, 172]
abbrev dktX0_isBody_0 : List UInt8 := dkwX0_isBody_0 ++ []
theorem dksX0_isBody_0 : cX0_isBody.data.toList.drop 0 = dktX0_isBody_0 := by decide +kernel
theorem dX0_isBody_0 : decode cX0_isBody 0 = .ok (.iload_n 1, 1) := dk_27 (dk_at dksX0_isBody_0 0 rfl rfl)
theorem dX0_isBody_1 : decode cX0_isBody 1 = .ok (.iconst 0, 1) := dk_3 (dk_at dksX0_isBody_0 1 rfl rfl)
theorem dX0_isBody_2 : decode cX0_isBody 2 = .ok (.aload_n 0, 1) := dk_42 (dk_at dksX0_isBody_0 2 rfl rfl)
theorem dX0_isBody_3 : decode cX0_isBody 3 = .ok (.getfield 370, 3) := dk_180 1 114 (dk_at dksX0_isBody_0 3 rfl rfl)
theorem dX0_isBody_6 : decode cX0_isBody 6 = .ok (.iconst 1, 1) := dk_4 (dk_at dksX0_isBody_0 6 rfl rfl)
theorem dX0_isBody_7 : decode cX0_isBody 7 = .ok (.isub, 1) := dk_100 (dk_at dksX0_isBody_0 7 rfl rfl)
theorem dX0_isBody_8 : decode cX0_isBody 8 = .ok (.invokestatic 94, 3) := dk_184 0 94 (dk_at dksX0_isBody_0 8 rfl rfl)
theorem dX0_isBody_11 : decode cX0_isBody 11 = .ok (.ireturn, 1) := dk_172 (dk_at dksX0_isBody_0 11 rfl rfl)
abbrev cX0_ran : ByteArray := prog_1_method_65_code
def yX0_ran : MethodName := ⟨RX0, "ran", "(I)V"⟩
def dkwX0_ran_1 : List UInt8 := [180, 1, 111, 4, 96, 181, 1, 111, 177]
abbrev dktX0_ran_1 : List UInt8 := dkwX0_ran_1 ++ []
def dkwX0_ran_0 : List UInt8 := [42, 180, 1, 111, 16, 24, 162, 0, 14, 42, 180, 0, 76, 42, 180, 1, 111, 27, 145, 84, 42, 89]
abbrev dktX0_ran_0 : List UInt8 := dkwX0_ran_0 ++ dktX0_ran_1
theorem dksX0_ran_0 : cX0_ran.data.toList.drop 0 = dktX0_ran_0 := by decide +kernel
theorem dksX0_ran_1 : cX0_ran.data.toList.drop 22 = dktX0_ran_1 := dk_seg dksX0_ran_0 22 rfl rfl
theorem dX0_ran_0 : decode cX0_ran 0 = .ok (.aload_n 0, 1) := dk_42 (dk_at dksX0_ran_0 0 rfl rfl)
theorem dX0_ran_1 : decode cX0_ran 1 = .ok (.getfield 367, 3) := dk_180 1 111 (dk_at dksX0_ran_0 1 rfl rfl)
theorem dX0_ran_4 : decode cX0_ran 4 = .ok (.bipush 24, 2) := dk_16 24 (dk_at dksX0_ran_0 4 rfl rfl)
theorem dX0_ran_6 : decode cX0_ran 6 = .ok (.if_icmp .ge 14, 3) := dk_162 0 14 (dk_at dksX0_ran_0 6 rfl rfl)
theorem dX0_ran_9 : decode cX0_ran 9 = .ok (.aload_n 0, 1) := dk_42 (dk_at dksX0_ran_0 9 rfl rfl)
theorem dX0_ran_10 : decode cX0_ran 10 = .ok (.getfield 76, 3) := dk_180 0 76 (dk_at dksX0_ran_0 10 rfl rfl)
theorem dX0_ran_13 : decode cX0_ran 13 = .ok (.aload_n 0, 1) := dk_42 (dk_at dksX0_ran_0 13 rfl rfl)
theorem dX0_ran_14 : decode cX0_ran 14 = .ok (.getfield 367, 3) := dk_180 1 111 (dk_at dksX0_ran_0 14 rfl rfl)
theorem dX0_ran_17 : decode cX0_ran 17 = .ok (.iload_n 1, 1) := dk_27 (dk_at dksX0_ran_0 17 rfl rfl)
theorem dX0_ran_18 : decode cX0_ran 18 = .ok (.i2b, 1) := dk_145 (dk_at dksX0_ran_0 18 rfl rfl)
theorem dX0_ran_19 : decode cX0_ran 19 = .ok (.bastore, 1) := dk_84 (dk_at dksX0_ran_0 19 rfl rfl)
theorem dX0_ran_20 : decode cX0_ran 20 = .ok (.aload_n 0, 1) := dk_42 (dk_at dksX0_ran_0 20 rfl rfl)
theorem dX0_ran_21 : decode cX0_ran 21 = .ok (.dup, 1) := dk_89 (dk_at dksX0_ran_0 21 rfl rfl)
theorem dX0_ran_22 : decode cX0_ran 22 = .ok (.getfield 367, 3) := dk_180 1 111 (dk_at dksX0_ran_1 0 rfl rfl)
theorem dX0_ran_25 : decode cX0_ran 25 = .ok (.iconst 1, 1) := dk_4 (dk_at dksX0_ran_1 3 rfl rfl)
theorem dX0_ran_26 : decode cX0_ran 26 = .ok (.iadd, 1) := dk_96 (dk_at dksX0_ran_1 4 rfl rfl)
theorem dX0_ran_27 : decode cX0_ran 27 = .ok (.putfield 367, 3) := dk_181 1 111 (dk_at dksX0_ran_1 5 rfl rfl)
theorem dX0_ran_30 : decode cX0_ran 30 = .ok (.return_, 1) := dk_177 (dk_at dksX0_ran_1 8 rfl rfl)
abbrev cX0_trace : ByteArray := prog_1_method_71_code
def yX0_trace : MethodName := ⟨RX0, "trace", "(I)I"⟩
def dkwX0_trace_1 : List UInt8 := [167, 0, 4, 2, 172]
abbrev dktX0_trace_1 : List UInt8 := dkwX0_trace_1 ++ []
def dkwX0_trace_0 : List UInt8 := [27, 155, 0, 26, 27, 42, 180, 1, 111, 162, 0, 18, 27, 16, 24, 162, 0, 12, 42, 180, 0, 76, 27, 51]
abbrev dktX0_trace_0 : List UInt8 := dkwX0_trace_0 ++ dktX0_trace_1
theorem dksX0_trace_0 : cX0_trace.data.toList.drop 0 = dktX0_trace_0 := by decide +kernel
theorem dksX0_trace_1 : cX0_trace.data.toList.drop 24 = dktX0_trace_1 := dk_seg dksX0_trace_0 24 rfl rfl
theorem dX0_trace_0 : decode cX0_trace 0 = .ok (.iload_n 1, 1) := dk_27 (dk_at dksX0_trace_0 0 rfl rfl)
theorem dX0_trace_1 : decode cX0_trace 1 = .ok (.ifCond .lt 26, 3) := dk_155 0 26 (dk_at dksX0_trace_0 1 rfl rfl)
theorem dX0_trace_4 : decode cX0_trace 4 = .ok (.iload_n 1, 1) := dk_27 (dk_at dksX0_trace_0 4 rfl rfl)
theorem dX0_trace_5 : decode cX0_trace 5 = .ok (.aload_n 0, 1) := dk_42 (dk_at dksX0_trace_0 5 rfl rfl)
theorem dX0_trace_6 : decode cX0_trace 6 = .ok (.getfield 367, 3) := dk_180 1 111 (dk_at dksX0_trace_0 6 rfl rfl)
theorem dX0_trace_9 : decode cX0_trace 9 = .ok (.if_icmp .ge 18, 3) := dk_162 0 18 (dk_at dksX0_trace_0 9 rfl rfl)
theorem dX0_trace_12 : decode cX0_trace 12 = .ok (.iload_n 1, 1) := dk_27 (dk_at dksX0_trace_0 12 rfl rfl)
theorem dX0_trace_13 : decode cX0_trace 13 = .ok (.bipush 24, 2) := dk_16 24 (dk_at dksX0_trace_0 13 rfl rfl)
theorem dX0_trace_15 : decode cX0_trace 15 = .ok (.if_icmp .ge 12, 3) := dk_162 0 12 (dk_at dksX0_trace_0 15 rfl rfl)
theorem dX0_trace_18 : decode cX0_trace 18 = .ok (.aload_n 0, 1) := dk_42 (dk_at dksX0_trace_0 18 rfl rfl)
theorem dX0_trace_19 : decode cX0_trace 19 = .ok (.getfield 76, 3) := dk_180 0 76 (dk_at dksX0_trace_0 19 rfl rfl)
theorem dX0_trace_22 : decode cX0_trace 22 = .ok (.iload_n 1, 1) := dk_27 (dk_at dksX0_trace_0 22 rfl rfl)
theorem dX0_trace_23 : decode cX0_trace 23 = .ok (.baload, 1) := dk_51 (dk_at dksX0_trace_0 23 rfl rfl)
theorem dX0_trace_24 : decode cX0_trace 24 = .ok (.goto 4, 3) := dk_167 0 4 (dk_at dksX0_trace_1 0 rfl rfl)
theorem dX0_trace_27 : decode cX0_trace 27 = .ok (.iconst (-1), 1) := dk_2 (dk_at dksX0_trace_1 3 rfl rfl)
theorem dX0_trace_28 : decode cX0_trace 28 = .ok (.ireturn, 1) := dk_172 (dk_at dksX0_trace_1 4 rfl rfl)
abbrev cX0_keep : ByteArray := prog_1_method_72_code
def yX0_keep : MethodName := ⟨RX0, "keep", "(II)I"⟩
def dkwX0_keep_1 : List UInt8 := [180, 0, 87, 27, 28, 156, 0, 7, 1, 167, 0, 9, 42, 180, 0, 81, 28, 50, 83, 4, 172]
abbrev dktX0_keep_1 : List UInt8 := dkwX0_keep_1 ++ []
def dkwX0_keep_0 : List UInt8 := [27, 184, 0, 115, 153, 0, 16, 28, 2, 159, 0, 13, 42, 28, 182, 1, 145, 154, 0, 5, 2, 172, 42]
abbrev dktX0_keep_0 : List UInt8 := dkwX0_keep_0 ++ dktX0_keep_1
theorem dksX0_keep_0 : cX0_keep.data.toList.drop 0 = dktX0_keep_0 := by decide +kernel
theorem dksX0_keep_1 : cX0_keep.data.toList.drop 23 = dktX0_keep_1 := dk_seg dksX0_keep_0 23 rfl rfl
theorem dX0_keep_0 : decode cX0_keep 0 = .ok (.iload_n 1, 1) := dk_27 (dk_at dksX0_keep_0 0 rfl rfl)
theorem dX0_keep_1 : decode cX0_keep 1 = .ok (.invokestatic 115, 3) := dk_184 0 115 (dk_at dksX0_keep_0 1 rfl rfl)
theorem dX0_keep_4 : decode cX0_keep 4 = .ok (.ifCond .eq 16, 3) := dk_153 0 16 (dk_at dksX0_keep_0 4 rfl rfl)
theorem dX0_keep_7 : decode cX0_keep 7 = .ok (.iload_n 2, 1) := dk_28 (dk_at dksX0_keep_0 7 rfl rfl)
theorem dX0_keep_8 : decode cX0_keep 8 = .ok (.iconst (-1), 1) := dk_2 (dk_at dksX0_keep_0 8 rfl rfl)
theorem dX0_keep_9 : decode cX0_keep 9 = .ok (.if_icmp .eq 13, 3) := dk_159 0 13 (dk_at dksX0_keep_0 9 rfl rfl)
theorem dX0_keep_12 : decode cX0_keep 12 = .ok (.aload_n 0, 1) := dk_42 (dk_at dksX0_keep_0 12 rfl rfl)
theorem dX0_keep_13 : decode cX0_keep 13 = .ok (.iload_n 2, 1) := dk_28 (dk_at dksX0_keep_0 13 rfl rfl)
theorem dX0_keep_14 : decode cX0_keep 14 = .ok (.invokevirtual 401, 3) := dk_182 1 145 (dk_at dksX0_keep_0 14 rfl rfl)
theorem dX0_keep_17 : decode cX0_keep 17 = .ok (.ifCond .ne 5, 3) := dk_154 0 5 (dk_at dksX0_keep_0 17 rfl rfl)
theorem dX0_keep_20 : decode cX0_keep 20 = .ok (.iconst (-1), 1) := dk_2 (dk_at dksX0_keep_0 20 rfl rfl)
theorem dX0_keep_21 : decode cX0_keep 21 = .ok (.ireturn, 1) := dk_172 (dk_at dksX0_keep_0 21 rfl rfl)
theorem dX0_keep_22 : decode cX0_keep 22 = .ok (.aload_n 0, 1) := dk_42 (dk_at dksX0_keep_0 22 rfl rfl)
theorem dX0_keep_23 : decode cX0_keep 23 = .ok (.getfield 87, 3) := dk_180 0 87 (dk_at dksX0_keep_1 0 rfl rfl)
theorem dX0_keep_26 : decode cX0_keep 26 = .ok (.iload_n 1, 1) := dk_27 (dk_at dksX0_keep_1 3 rfl rfl)
theorem dX0_keep_27 : decode cX0_keep 27 = .ok (.iload_n 2, 1) := dk_28 (dk_at dksX0_keep_1 4 rfl rfl)
theorem dX0_keep_28 : decode cX0_keep 28 = .ok (.ifCond .ge 7, 3) := dk_156 0 7 (dk_at dksX0_keep_1 5 rfl rfl)
theorem dX0_keep_31 : decode cX0_keep 31 = .ok (.aconst_null, 1) := dk_1 (dk_at dksX0_keep_1 8 rfl rfl)
theorem dX0_keep_32 : decode cX0_keep 32 = .ok (.goto 9, 3) := dk_167 0 9 (dk_at dksX0_keep_1 9 rfl rfl)
theorem dX0_keep_35 : decode cX0_keep 35 = .ok (.aload_n 0, 1) := dk_42 (dk_at dksX0_keep_1 12 rfl rfl)
theorem dX0_keep_36 : decode cX0_keep 36 = .ok (.getfield 81, 3) := dk_180 0 81 (dk_at dksX0_keep_1 13 rfl rfl)
theorem dX0_keep_39 : decode cX0_keep 39 = .ok (.iload_n 2, 1) := dk_28 (dk_at dksX0_keep_1 16 rfl rfl)
theorem dX0_keep_40 : decode cX0_keep 40 = .ok (.aaload, 1) := dk_50 (dk_at dksX0_keep_1 17 rfl rfl)
theorem dX0_keep_41 : decode cX0_keep 41 = .ok (.aastore, 1) := dk_83 (dk_at dksX0_keep_1 18 rfl rfl)
theorem dX0_keep_42 : decode cX0_keep 42 = .ok (.iconst 1, 1) := dk_4 (dk_at dksX0_keep_1 19 rfl rfl)
theorem dX0_keep_43 : decode cX0_keep 43 = .ok (.ireturn, 1) := dk_172 (dk_at dksX0_keep_1 20 rfl rfl)
abbrev cX0_row : ByteArray := prog_1_method_74_code
def yX0_row : MethodName := ⟨RX0, "row", "(III)I"⟩
def dkwX0_row_1 : List UInt8 := [42, 180, 0, 87, 27, 28, 29, 184, 1, 178, 83, 167, 0, 8, 58, 4, 16, 242, 172, 4, 172]
abbrev dktX0_row_1 : List UInt8 := dkwX0_row_1 ++ []
def dkwX0_row_0 : List UInt8 := [27, 184, 0, 115, 153, 0, 18, 28, 3, 7, 184, 0, 94, 153, 0, 9, 29, 16, 60, 164, 0, 5, 2, 172]
abbrev dktX0_row_0 : List UInt8 := dkwX0_row_0 ++ dktX0_row_1
theorem dksX0_row_0 : cX0_row.data.toList.drop 0 = dktX0_row_0 := by decide +kernel
theorem dksX0_row_1 : cX0_row.data.toList.drop 24 = dktX0_row_1 := dk_seg dksX0_row_0 24 rfl rfl
theorem dX0_row_0 : decode cX0_row 0 = .ok (.iload_n 1, 1) := dk_27 (dk_at dksX0_row_0 0 rfl rfl)
theorem dX0_row_1 : decode cX0_row 1 = .ok (.invokestatic 115, 3) := dk_184 0 115 (dk_at dksX0_row_0 1 rfl rfl)
theorem dX0_row_4 : decode cX0_row 4 = .ok (.ifCond .eq 18, 3) := dk_153 0 18 (dk_at dksX0_row_0 4 rfl rfl)
theorem dX0_row_7 : decode cX0_row 7 = .ok (.iload_n 2, 1) := dk_28 (dk_at dksX0_row_0 7 rfl rfl)
theorem dX0_row_8 : decode cX0_row 8 = .ok (.iconst 0, 1) := dk_3 (dk_at dksX0_row_0 8 rfl rfl)
theorem dX0_row_9 : decode cX0_row 9 = .ok (.iconst 4, 1) := dk_7 (dk_at dksX0_row_0 9 rfl rfl)
theorem dX0_row_10 : decode cX0_row 10 = .ok (.invokestatic 94, 3) := dk_184 0 94 (dk_at dksX0_row_0 10 rfl rfl)
theorem dX0_row_13 : decode cX0_row 13 = .ok (.ifCond .eq 9, 3) := dk_153 0 9 (dk_at dksX0_row_0 13 rfl rfl)
theorem dX0_row_16 : decode cX0_row 16 = .ok (.iload_n 3, 1) := dk_29 (dk_at dksX0_row_0 16 rfl rfl)
theorem dX0_row_17 : decode cX0_row 17 = .ok (.bipush 60, 2) := dk_16 60 (dk_at dksX0_row_0 17 rfl rfl)
theorem dX0_row_19 : decode cX0_row 19 = .ok (.if_icmp .le 5, 3) := dk_164 0 5 (dk_at dksX0_row_0 19 rfl rfl)
theorem dX0_row_22 : decode cX0_row 22 = .ok (.iconst (-1), 1) := dk_2 (dk_at dksX0_row_0 22 rfl rfl)
theorem dX0_row_23 : decode cX0_row 23 = .ok (.ireturn, 1) := dk_172 (dk_at dksX0_row_0 23 rfl rfl)
theorem dX0_row_24 : decode cX0_row 24 = .ok (.aload_n 0, 1) := dk_42 (dk_at dksX0_row_1 0 rfl rfl)
theorem dX0_row_25 : decode cX0_row 25 = .ok (.getfield 87, 3) := dk_180 0 87 (dk_at dksX0_row_1 1 rfl rfl)
theorem dX0_row_28 : decode cX0_row 28 = .ok (.iload_n 1, 1) := dk_27 (dk_at dksX0_row_1 4 rfl rfl)
theorem dX0_row_29 : decode cX0_row 29 = .ok (.iload_n 2, 1) := dk_28 (dk_at dksX0_row_1 5 rfl rfl)
theorem dX0_row_30 : decode cX0_row 30 = .ok (.iload_n 3, 1) := dk_29 (dk_at dksX0_row_1 6 rfl rfl)
theorem dX0_row_31 : decode cX0_row 31 = .ok (.invokestatic 434, 3) := dk_184 1 178 (dk_at dksX0_row_1 7 rfl rfl)
theorem dX0_row_34 : decode cX0_row 34 = .ok (.aastore, 1) := dk_83 (dk_at dksX0_row_1 10 rfl rfl)
theorem dX0_row_35 : decode cX0_row 35 = .ok (.goto 8, 3) := dk_167 0 8 (dk_at dksX0_row_1 11 rfl rfl)
theorem dX0_row_38 : decode cX0_row 38 = .ok (.astore 4, 2) := dk_58 4 (dk_at dksX0_row_1 14 rfl rfl)
theorem dX0_row_40 : decode cX0_row 40 = .ok (.bipush (-14), 2) := dk_16 242 (dk_at dksX0_row_1 16 rfl rfl)
theorem dX0_row_42 : decode cX0_row 42 = .ok (.ireturn, 1) := dk_172 (dk_at dksX0_row_1 18 rfl rfl)
theorem dX0_row_43 : decode cX0_row 43 = .ok (.iconst 1, 1) := dk_4 (dk_at dksX0_row_1 19 rfl rfl)
theorem dX0_row_44 : decode cX0_row 44 = .ok (.ireturn, 1) := dk_172 (dk_at dksX0_row_1 20 rfl rfl)
abbrev cX0_newRow : ByteArray := prog_1_method_73_code
def yX0_newRow : MethodName := ⟨RX0, "newRow", "(II)LChairOld$Row;"⟩
def dkwX0_newRow_3 : List UInt8 := [183, 1, 171, 176, 187, 1, 172, 89, 27, 183, 1, 174, 176, 187, 1, 175, 89, 27, 183, 1, 177, 176]
abbrev dktX0_newRow_3 : List UInt8 := dkwX0_newRow_3 ++ []
def dkwX0_newRow_2 : List UInt8 := [187, 0, 118, 89, 27, 183, 1, 164, 176, 187, 1, 166, 89, 27, 183, 1, 168, 176, 187, 1, 169, 89, 27]
abbrev dktX0_newRow_2 : List UInt8 := dkwX0_newRow_2 ++ dktX0_newRow_3
def dkwX0_newRow_1 : List UInt8 := [170, 0, 0, 0, 0, 0, 67, 0, 0, 0, 0, 0, 0, 0, 3, 0, 0, 0, 31, 0, 0, 0, 40, 0, 0, 0, 49, 0, 0, 0, 58]
abbrev dktX0_newRow_1 : List UInt8 := dkwX0_newRow_1 ++ dktX0_newRow_2
def dkwX0_newRow_0 : List UInt8 := [26]
abbrev dktX0_newRow_0 : List UInt8 := dkwX0_newRow_0 ++ dktX0_newRow_1
theorem dksX0_newRow_0 : cX0_newRow.data.toList.drop 0 = dktX0_newRow_0 := by decide +kernel
theorem dksX0_newRow_1 : cX0_newRow.data.toList.drop 1 = dktX0_newRow_1 := dk_seg dksX0_newRow_0 1 rfl rfl
theorem dksX0_newRow_2 : cX0_newRow.data.toList.drop 32 = dktX0_newRow_2 := dk_seg dksX0_newRow_1 31 rfl rfl
theorem dksX0_newRow_3 : cX0_newRow.data.toList.drop 55 = dktX0_newRow_3 := dk_seg dksX0_newRow_2 23 rfl rfl
theorem dX0_newRow_0 : decode cX0_newRow 0 = .ok (.iload_n 0, 1) := dk_26 (dk_at dksX0_newRow_0 0 rfl rfl)
theorem dX0_newRow_1 : decode cX0_newRow 1 = .ok (.tableswitch 67 0 3 #[31, 40, 49, 58], 31) := by decide +kernel
theorem dX0_newRow_32 : decode cX0_newRow 32 = .ok (.new 118, 3) := dk_187 0 118 (dk_at dksX0_newRow_2 0 rfl rfl)
theorem dX0_newRow_35 : decode cX0_newRow 35 = .ok (.dup, 1) := dk_89 (dk_at dksX0_newRow_2 3 rfl rfl)
theorem dX0_newRow_36 : decode cX0_newRow 36 = .ok (.iload_n 1, 1) := dk_27 (dk_at dksX0_newRow_2 4 rfl rfl)
theorem dX0_newRow_37 : decode cX0_newRow 37 = .ok (.invokespecial 420, 3) := dk_183 1 164 (dk_at dksX0_newRow_2 5 rfl rfl)
theorem dX0_newRow_40 : decode cX0_newRow 40 = .ok (.areturn, 1) := dk_176 (dk_at dksX0_newRow_2 8 rfl rfl)
theorem dX0_newRow_41 : decode cX0_newRow 41 = .ok (.new 422, 3) := dk_187 1 166 (dk_at dksX0_newRow_2 9 rfl rfl)
theorem dX0_newRow_44 : decode cX0_newRow 44 = .ok (.dup, 1) := dk_89 (dk_at dksX0_newRow_2 12 rfl rfl)
theorem dX0_newRow_45 : decode cX0_newRow 45 = .ok (.iload_n 1, 1) := dk_27 (dk_at dksX0_newRow_2 13 rfl rfl)
theorem dX0_newRow_46 : decode cX0_newRow 46 = .ok (.invokespecial 424, 3) := dk_183 1 168 (dk_at dksX0_newRow_2 14 rfl rfl)
theorem dX0_newRow_49 : decode cX0_newRow 49 = .ok (.areturn, 1) := dk_176 (dk_at dksX0_newRow_2 17 rfl rfl)
theorem dX0_newRow_50 : decode cX0_newRow 50 = .ok (.new 425, 3) := dk_187 1 169 (dk_at dksX0_newRow_2 18 rfl rfl)
theorem dX0_newRow_53 : decode cX0_newRow 53 = .ok (.dup, 1) := dk_89 (dk_at dksX0_newRow_2 21 rfl rfl)
theorem dX0_newRow_54 : decode cX0_newRow 54 = .ok (.iload_n 1, 1) := dk_27 (dk_at dksX0_newRow_2 22 rfl rfl)
theorem dX0_newRow_55 : decode cX0_newRow 55 = .ok (.invokespecial 427, 3) := dk_183 1 171 (dk_at dksX0_newRow_3 0 rfl rfl)
theorem dX0_newRow_58 : decode cX0_newRow 58 = .ok (.areturn, 1) := dk_176 (dk_at dksX0_newRow_3 3 rfl rfl)
theorem dX0_newRow_59 : decode cX0_newRow 59 = .ok (.new 428, 3) := dk_187 1 172 (dk_at dksX0_newRow_3 4 rfl rfl)
theorem dX0_newRow_62 : decode cX0_newRow 62 = .ok (.dup, 1) := dk_89 (dk_at dksX0_newRow_3 7 rfl rfl)
theorem dX0_newRow_63 : decode cX0_newRow 63 = .ok (.iload_n 1, 1) := dk_27 (dk_at dksX0_newRow_3 8 rfl rfl)
theorem dX0_newRow_64 : decode cX0_newRow 64 = .ok (.invokespecial 430, 3) := dk_183 1 174 (dk_at dksX0_newRow_3 9 rfl rfl)
theorem dX0_newRow_67 : decode cX0_newRow 67 = .ok (.areturn, 1) := dk_176 (dk_at dksX0_newRow_3 12 rfl rfl)
theorem dX0_newRow_68 : decode cX0_newRow 68 = .ok (.new 431, 3) := dk_187 1 175 (dk_at dksX0_newRow_3 13 rfl rfl)
theorem dX0_newRow_71 : decode cX0_newRow 71 = .ok (.dup, 1) := dk_89 (dk_at dksX0_newRow_3 16 rfl rfl)
theorem dX0_newRow_72 : decode cX0_newRow 72 = .ok (.iload_n 1, 1) := dk_27 (dk_at dksX0_newRow_3 17 rfl rfl)
theorem dX0_newRow_73 : decode cX0_newRow 73 = .ok (.invokespecial 433, 3) := dk_183 1 177 (dk_at dksX0_newRow_3 18 rfl rfl)
theorem dX0_newRow_76 : decode cX0_newRow 76 = .ok (.areturn, 1) := dk_176 (dk_at dksX0_newRow_3 21 rfl rfl)
abbrev cX0_put : ByteArray := prog_1_method_75_code
def yX0_put : MethodName := ⟨RX0, "put", "(IIJ)I"⟩
def dkwX0_put_1 : List UInt8 := [153, 0, 7, 4, 167, 0, 4, 2, 172, 58, 5, 16, 245, 172, 58, 5, 16, 244, 172, 58, 5, 16, 243, 172]
abbrev dktX0_put_1 : List UInt8 := dkwX0_put_1 ++ []
def dkwX0_put_0 : List UInt8 := [27, 184, 0, 115, 154, 0, 5, 2, 172, 42, 180, 0, 87, 27, 50, 192, 1, 184, 28, 33, 182, 1, 186]
abbrev dktX0_put_0 : List UInt8 := dkwX0_put_0 ++ dktX0_put_1
theorem dksX0_put_0 : cX0_put.data.toList.drop 0 = dktX0_put_0 := by decide +kernel
theorem dksX0_put_1 : cX0_put.data.toList.drop 23 = dktX0_put_1 := dk_seg dksX0_put_0 23 rfl rfl
theorem dX0_put_0 : decode cX0_put 0 = .ok (.iload_n 1, 1) := dk_27 (dk_at dksX0_put_0 0 rfl rfl)
theorem dX0_put_1 : decode cX0_put 1 = .ok (.invokestatic 115, 3) := dk_184 0 115 (dk_at dksX0_put_0 1 rfl rfl)
theorem dX0_put_4 : decode cX0_put 4 = .ok (.ifCond .ne 5, 3) := dk_154 0 5 (dk_at dksX0_put_0 4 rfl rfl)
theorem dX0_put_7 : decode cX0_put 7 = .ok (.iconst (-1), 1) := dk_2 (dk_at dksX0_put_0 7 rfl rfl)
theorem dX0_put_8 : decode cX0_put 8 = .ok (.ireturn, 1) := dk_172 (dk_at dksX0_put_0 8 rfl rfl)
theorem dX0_put_9 : decode cX0_put 9 = .ok (.aload_n 0, 1) := dk_42 (dk_at dksX0_put_0 9 rfl rfl)
theorem dX0_put_10 : decode cX0_put 10 = .ok (.getfield 87, 3) := dk_180 0 87 (dk_at dksX0_put_0 10 rfl rfl)
theorem dX0_put_13 : decode cX0_put 13 = .ok (.iload_n 1, 1) := dk_27 (dk_at dksX0_put_0 13 rfl rfl)
theorem dX0_put_14 : decode cX0_put 14 = .ok (.aaload, 1) := dk_50 (dk_at dksX0_put_0 14 rfl rfl)
theorem dX0_put_15 : decode cX0_put 15 = .ok (.checkcast 440, 3) := dk_192 1 184 (dk_at dksX0_put_0 15 rfl rfl)
theorem dX0_put_18 : decode cX0_put 18 = .ok (.iload_n 2, 1) := dk_28 (dk_at dksX0_put_0 18 rfl rfl)
theorem dX0_put_19 : decode cX0_put 19 = .ok (.lload_n 3, 1) := dk_33 (dk_at dksX0_put_0 19 rfl rfl)
theorem dX0_put_20 : decode cX0_put 20 = .ok (.invokevirtual 442, 3) := dk_182 1 186 (dk_at dksX0_put_0 20 rfl rfl)
theorem dX0_put_23 : decode cX0_put 23 = .ok (.ifCond .eq 7, 3) := dk_153 0 7 (dk_at dksX0_put_1 0 rfl rfl)
theorem dX0_put_26 : decode cX0_put 26 = .ok (.iconst 1, 1) := dk_4 (dk_at dksX0_put_1 3 rfl rfl)
theorem dX0_put_27 : decode cX0_put 27 = .ok (.goto 4, 3) := dk_167 0 4 (dk_at dksX0_put_1 4 rfl rfl)
theorem dX0_put_30 : decode cX0_put 30 = .ok (.iconst (-1), 1) := dk_2 (dk_at dksX0_put_1 7 rfl rfl)
theorem dX0_put_31 : decode cX0_put 31 = .ok (.ireturn, 1) := dk_172 (dk_at dksX0_put_1 8 rfl rfl)
theorem dX0_put_32 : decode cX0_put 32 = .ok (.astore 5, 2) := dk_58 5 (dk_at dksX0_put_1 9 rfl rfl)
theorem dX0_put_34 : decode cX0_put 34 = .ok (.bipush (-11), 2) := dk_16 245 (dk_at dksX0_put_1 11 rfl rfl)
theorem dX0_put_36 : decode cX0_put 36 = .ok (.ireturn, 1) := dk_172 (dk_at dksX0_put_1 13 rfl rfl)
theorem dX0_put_37 : decode cX0_put 37 = .ok (.astore 5, 2) := dk_58 5 (dk_at dksX0_put_1 14 rfl rfl)
theorem dX0_put_39 : decode cX0_put 39 = .ok (.bipush (-12), 2) := dk_16 244 (dk_at dksX0_put_1 16 rfl rfl)
theorem dX0_put_41 : decode cX0_put 41 = .ok (.ireturn, 1) := dk_172 (dk_at dksX0_put_1 18 rfl rfl)
theorem dX0_put_42 : decode cX0_put 42 = .ok (.astore 5, 2) := dk_58 5 (dk_at dksX0_put_1 19 rfl rfl)
theorem dX0_put_44 : decode cX0_put 44 = .ok (.bipush (-13), 2) := dk_16 243 (dk_at dksX0_put_1 21 rfl rfl)
theorem dX0_put_46 : decode cX0_put 46 = .ok (.ireturn, 1) := dk_172 (dk_at dksX0_put_1 23 rfl rfl)
abbrev cX0_element : ByteArray := prog_1_method_76_code
def yX0_element : MethodName := ⟨RX0, "element", "(II)J"⟩
def dkwX0_element_1 : List UInt8 := [173, 78, 20, 1, 5, 173, 78, 20, 1, 5, 173, 78, 20, 1, 5, 173]
abbrev dktX0_element_1 : List UInt8 := dkwX0_element_1 ++ []
def dkwX0_element_0 : List UInt8 := [27, 184, 0, 115, 154, 0, 7, 20, 1, 5, 173, 42, 180, 0, 87, 27, 50, 192, 1, 184, 28, 182, 1, 190]
abbrev dktX0_element_0 : List UInt8 := dkwX0_element_0 ++ dktX0_element_1
theorem dksX0_element_0 : cX0_element.data.toList.drop 0 = dktX0_element_0 := by decide +kernel
theorem dksX0_element_1 : cX0_element.data.toList.drop 24 = dktX0_element_1 := dk_seg dksX0_element_0 24 rfl rfl
theorem dX0_element_0 : decode cX0_element 0 = .ok (.iload_n 1, 1) := dk_27 (dk_at dksX0_element_0 0 rfl rfl)
theorem dX0_element_1 : decode cX0_element 1 = .ok (.invokestatic 115, 3) := dk_184 0 115 (dk_at dksX0_element_0 1 rfl rfl)
theorem dX0_element_4 : decode cX0_element 4 = .ok (.ifCond .ne 7, 3) := dk_154 0 7 (dk_at dksX0_element_0 4 rfl rfl)
theorem dX0_element_7 : decode cX0_element 7 = .ok (.ldc2_w 261, 3) := dk_20 1 5 (dk_at dksX0_element_0 7 rfl rfl)
theorem dX0_element_10 : decode cX0_element 10 = .ok (.lreturn, 1) := dk_173 (dk_at dksX0_element_0 10 rfl rfl)
theorem dX0_element_11 : decode cX0_element 11 = .ok (.aload_n 0, 1) := dk_42 (dk_at dksX0_element_0 11 rfl rfl)
theorem dX0_element_12 : decode cX0_element 12 = .ok (.getfield 87, 3) := dk_180 0 87 (dk_at dksX0_element_0 12 rfl rfl)
theorem dX0_element_15 : decode cX0_element 15 = .ok (.iload_n 1, 1) := dk_27 (dk_at dksX0_element_0 15 rfl rfl)
theorem dX0_element_16 : decode cX0_element 16 = .ok (.aaload, 1) := dk_50 (dk_at dksX0_element_0 16 rfl rfl)
theorem dX0_element_17 : decode cX0_element 17 = .ok (.checkcast 440, 3) := dk_192 1 184 (dk_at dksX0_element_0 17 rfl rfl)
theorem dX0_element_20 : decode cX0_element 20 = .ok (.iload_n 2, 1) := dk_28 (dk_at dksX0_element_0 20 rfl rfl)
theorem dX0_element_21 : decode cX0_element 21 = .ok (.invokevirtual 446, 3) := dk_182 1 190 (dk_at dksX0_element_0 21 rfl rfl)
theorem dX0_element_24 : decode cX0_element 24 = .ok (.lreturn, 1) := dk_173 (dk_at dksX0_element_1 0 rfl rfl)
theorem dX0_element_25 : decode cX0_element 25 = .ok (.astore_n 3, 1) := dk_78 (dk_at dksX0_element_1 1 rfl rfl)
theorem dX0_element_26 : decode cX0_element 26 = .ok (.ldc2_w 261, 3) := dk_20 1 5 (dk_at dksX0_element_1 2 rfl rfl)
theorem dX0_element_29 : decode cX0_element 29 = .ok (.lreturn, 1) := dk_173 (dk_at dksX0_element_1 5 rfl rfl)
theorem dX0_element_30 : decode cX0_element 30 = .ok (.astore_n 3, 1) := dk_78 (dk_at dksX0_element_1 6 rfl rfl)
theorem dX0_element_31 : decode cX0_element 31 = .ok (.ldc2_w 261, 3) := dk_20 1 5 (dk_at dksX0_element_1 7 rfl rfl)
theorem dX0_element_34 : decode cX0_element 34 = .ok (.lreturn, 1) := dk_173 (dk_at dksX0_element_1 10 rfl rfl)
theorem dX0_element_35 : decode cX0_element 35 = .ok (.astore_n 3, 1) := dk_78 (dk_at dksX0_element_1 11 rfl rfl)
theorem dX0_element_36 : decode cX0_element 36 = .ok (.ldc2_w 261, 3) := dk_20 1 5 (dk_at dksX0_element_1 12 rfl rfl)
theorem dX0_element_39 : decode cX0_element 39 = .ok (.lreturn, 1) := dk_173 (dk_at dksX0_element_1 15 rfl rfl)
abbrev cX0_shift : ByteArray := prog_1_method_77_code
def yX0_shift : MethodName := ⟨RX0, "shift", "(IIIII)I"⟩
def dkwX0_shift_3 : List UInt8 := [172, 58, 6, 16, 243, 172, 21, 5, 172]
abbrev dktX0_shift_3 : List UInt8 := dkwX0_shift_3 ++ []
def dkwX0_shift_2 : List UInt8 := [28, 42, 180, 0, 87, 29, 50, 192, 1, 184, 21, 4, 21, 5, 182, 1, 191, 167, 0, 13, 58, 6, 16, 244]
abbrev dktX0_shift_2 : List UInt8 := dkwX0_shift_2 ++ dktX0_shift_3
def dkwX0_shift_1 : List UInt8 := [198, 0, 12, 42, 180, 0, 87, 29, 50, 199, 0, 6, 16, 245, 172, 42, 180, 0, 87, 27, 50, 192, 1, 184]
abbrev dktX0_shift_1 : List UInt8 := dkwX0_shift_1 ++ dktX0_shift_2
def dkwX0_shift_0 : List UInt8 := [27, 184, 0, 115, 153, 0, 10, 29, 184, 0, 115, 154, 0, 5, 2, 172, 42, 180, 0, 87, 27, 50]
abbrev dktX0_shift_0 : List UInt8 := dkwX0_shift_0 ++ dktX0_shift_1
theorem dksX0_shift_0 : cX0_shift.data.toList.drop 0 = dktX0_shift_0 := by decide +kernel
theorem dksX0_shift_1 : cX0_shift.data.toList.drop 22 = dktX0_shift_1 := dk_seg dksX0_shift_0 22 rfl rfl
theorem dksX0_shift_2 : cX0_shift.data.toList.drop 46 = dktX0_shift_2 := dk_seg dksX0_shift_1 24 rfl rfl
theorem dksX0_shift_3 : cX0_shift.data.toList.drop 70 = dktX0_shift_3 := dk_seg dksX0_shift_2 24 rfl rfl
theorem dX0_shift_0 : decode cX0_shift 0 = .ok (.iload_n 1, 1) := dk_27 (dk_at dksX0_shift_0 0 rfl rfl)
theorem dX0_shift_1 : decode cX0_shift 1 = .ok (.invokestatic 115, 3) := dk_184 0 115 (dk_at dksX0_shift_0 1 rfl rfl)
theorem dX0_shift_4 : decode cX0_shift 4 = .ok (.ifCond .eq 10, 3) := dk_153 0 10 (dk_at dksX0_shift_0 4 rfl rfl)
theorem dX0_shift_7 : decode cX0_shift 7 = .ok (.iload_n 3, 1) := dk_29 (dk_at dksX0_shift_0 7 rfl rfl)
theorem dX0_shift_8 : decode cX0_shift 8 = .ok (.invokestatic 115, 3) := dk_184 0 115 (dk_at dksX0_shift_0 8 rfl rfl)
theorem dX0_shift_11 : decode cX0_shift 11 = .ok (.ifCond .ne 5, 3) := dk_154 0 5 (dk_at dksX0_shift_0 11 rfl rfl)
theorem dX0_shift_14 : decode cX0_shift 14 = .ok (.iconst (-1), 1) := dk_2 (dk_at dksX0_shift_0 14 rfl rfl)
theorem dX0_shift_15 : decode cX0_shift 15 = .ok (.ireturn, 1) := dk_172 (dk_at dksX0_shift_0 15 rfl rfl)
theorem dX0_shift_16 : decode cX0_shift 16 = .ok (.aload_n 0, 1) := dk_42 (dk_at dksX0_shift_0 16 rfl rfl)
theorem dX0_shift_17 : decode cX0_shift 17 = .ok (.getfield 87, 3) := dk_180 0 87 (dk_at dksX0_shift_0 17 rfl rfl)
theorem dX0_shift_20 : decode cX0_shift 20 = .ok (.iload_n 1, 1) := dk_27 (dk_at dksX0_shift_0 20 rfl rfl)
theorem dX0_shift_21 : decode cX0_shift 21 = .ok (.aaload, 1) := dk_50 (dk_at dksX0_shift_0 21 rfl rfl)
theorem dX0_shift_22 : decode cX0_shift 22 = .ok (.ifnull 12, 3) := dk_198 0 12 (dk_at dksX0_shift_1 0 rfl rfl)
theorem dX0_shift_25 : decode cX0_shift 25 = .ok (.aload_n 0, 1) := dk_42 (dk_at dksX0_shift_1 3 rfl rfl)
theorem dX0_shift_26 : decode cX0_shift 26 = .ok (.getfield 87, 3) := dk_180 0 87 (dk_at dksX0_shift_1 4 rfl rfl)
theorem dX0_shift_29 : decode cX0_shift 29 = .ok (.iload_n 3, 1) := dk_29 (dk_at dksX0_shift_1 7 rfl rfl)
theorem dX0_shift_30 : decode cX0_shift 30 = .ok (.aaload, 1) := dk_50 (dk_at dksX0_shift_1 8 rfl rfl)
theorem dX0_shift_31 : decode cX0_shift 31 = .ok (.ifnonnull 6, 3) := dk_199 0 6 (dk_at dksX0_shift_1 9 rfl rfl)
theorem dX0_shift_34 : decode cX0_shift 34 = .ok (.bipush (-11), 2) := dk_16 245 (dk_at dksX0_shift_1 12 rfl rfl)
theorem dX0_shift_36 : decode cX0_shift 36 = .ok (.ireturn, 1) := dk_172 (dk_at dksX0_shift_1 14 rfl rfl)
theorem dX0_shift_37 : decode cX0_shift 37 = .ok (.aload_n 0, 1) := dk_42 (dk_at dksX0_shift_1 15 rfl rfl)
theorem dX0_shift_38 : decode cX0_shift 38 = .ok (.getfield 87, 3) := dk_180 0 87 (dk_at dksX0_shift_1 16 rfl rfl)
theorem dX0_shift_41 : decode cX0_shift 41 = .ok (.iload_n 1, 1) := dk_27 (dk_at dksX0_shift_1 19 rfl rfl)
theorem dX0_shift_42 : decode cX0_shift 42 = .ok (.aaload, 1) := dk_50 (dk_at dksX0_shift_1 20 rfl rfl)
theorem dX0_shift_43 : decode cX0_shift 43 = .ok (.checkcast 440, 3) := dk_192 1 184 (dk_at dksX0_shift_1 21 rfl rfl)
theorem dX0_shift_46 : decode cX0_shift 46 = .ok (.iload_n 2, 1) := dk_28 (dk_at dksX0_shift_2 0 rfl rfl)
theorem dX0_shift_47 : decode cX0_shift 47 = .ok (.aload_n 0, 1) := dk_42 (dk_at dksX0_shift_2 1 rfl rfl)
theorem dX0_shift_48 : decode cX0_shift 48 = .ok (.getfield 87, 3) := dk_180 0 87 (dk_at dksX0_shift_2 2 rfl rfl)
theorem dX0_shift_51 : decode cX0_shift 51 = .ok (.iload_n 3, 1) := dk_29 (dk_at dksX0_shift_2 5 rfl rfl)
theorem dX0_shift_52 : decode cX0_shift 52 = .ok (.aaload, 1) := dk_50 (dk_at dksX0_shift_2 6 rfl rfl)
theorem dX0_shift_53 : decode cX0_shift 53 = .ok (.checkcast 440, 3) := dk_192 1 184 (dk_at dksX0_shift_2 7 rfl rfl)
theorem dX0_shift_56 : decode cX0_shift 56 = .ok (.iload 4, 2) := dk_21 4 (dk_at dksX0_shift_2 10 rfl rfl)
theorem dX0_shift_58 : decode cX0_shift 58 = .ok (.iload 5, 2) := dk_21 5 (dk_at dksX0_shift_2 12 rfl rfl)
theorem dX0_shift_60 : decode cX0_shift 60 = .ok (.invokevirtual 447, 3) := dk_182 1 191 (dk_at dksX0_shift_2 14 rfl rfl)
theorem dX0_shift_63 : decode cX0_shift 63 = .ok (.goto 13, 3) := dk_167 0 13 (dk_at dksX0_shift_2 17 rfl rfl)
theorem dX0_shift_66 : decode cX0_shift 66 = .ok (.astore 6, 2) := dk_58 6 (dk_at dksX0_shift_2 20 rfl rfl)
theorem dX0_shift_68 : decode cX0_shift 68 = .ok (.bipush (-12), 2) := dk_16 244 (dk_at dksX0_shift_2 22 rfl rfl)
theorem dX0_shift_70 : decode cX0_shift 70 = .ok (.ireturn, 1) := dk_172 (dk_at dksX0_shift_3 0 rfl rfl)
theorem dX0_shift_71 : decode cX0_shift 71 = .ok (.astore 6, 2) := dk_58 6 (dk_at dksX0_shift_3 1 rfl rfl)
theorem dX0_shift_73 : decode cX0_shift 73 = .ok (.bipush (-13), 2) := dk_16 243 (dk_at dksX0_shift_3 3 rfl rfl)
theorem dX0_shift_75 : decode cX0_shift 75 = .ok (.ireturn, 1) := dk_172 (dk_at dksX0_shift_3 5 rfl rfl)
theorem dX0_shift_76 : decode cX0_shift 76 = .ok (.iload 5, 2) := dk_21 5 (dk_at dksX0_shift_3 6 rfl rfl)
theorem dX0_shift_78 : decode cX0_shift 78 = .ok (.ireturn, 1) := dk_172 (dk_at dksX0_shift_3 8 rfl rfl)
abbrev cX0_taken : ByteArray := prog_1_method_78_code
def yX0_taken : MethodName := ⟨RX0, "taken", "(II)I"⟩
def dkwX0_taken_2 : List UInt8 := [16, 245, 172, 78, 16, 244, 172]
abbrev dktX0_taken_2 : List UInt8 := dkwX0_taken_2 ++ []
def dkwX0_taken_1 : List UInt8 := [50, 192, 0, 79, 78, 45, 28, 182, 1, 195, 153, 0, 10, 45, 182, 1, 198, 167, 0, 5, 16, 244, 172, 78]
abbrev dktX0_taken_1 : List UInt8 := dkwX0_taken_1 ++ dktX0_taken_2
def dkwX0_taken_0 : List UInt8 := [27, 184, 0, 115, 153, 0, 13, 28, 3, 16, 7, 184, 0, 94, 154, 0, 5, 2, 172, 42, 180, 0, 87, 27]
abbrev dktX0_taken_0 : List UInt8 := dkwX0_taken_0 ++ dktX0_taken_1
theorem dksX0_taken_0 : cX0_taken.data.toList.drop 0 = dktX0_taken_0 := by decide +kernel
theorem dksX0_taken_1 : cX0_taken.data.toList.drop 24 = dktX0_taken_1 := dk_seg dksX0_taken_0 24 rfl rfl
theorem dksX0_taken_2 : cX0_taken.data.toList.drop 48 = dktX0_taken_2 := dk_seg dksX0_taken_1 24 rfl rfl
theorem dX0_taken_0 : decode cX0_taken 0 = .ok (.iload_n 1, 1) := dk_27 (dk_at dksX0_taken_0 0 rfl rfl)
theorem dX0_taken_1 : decode cX0_taken 1 = .ok (.invokestatic 115, 3) := dk_184 0 115 (dk_at dksX0_taken_0 1 rfl rfl)
theorem dX0_taken_4 : decode cX0_taken 4 = .ok (.ifCond .eq 13, 3) := dk_153 0 13 (dk_at dksX0_taken_0 4 rfl rfl)
theorem dX0_taken_7 : decode cX0_taken 7 = .ok (.iload_n 2, 1) := dk_28 (dk_at dksX0_taken_0 7 rfl rfl)
theorem dX0_taken_8 : decode cX0_taken 8 = .ok (.iconst 0, 1) := dk_3 (dk_at dksX0_taken_0 8 rfl rfl)
theorem dX0_taken_9 : decode cX0_taken 9 = .ok (.bipush 7, 2) := dk_16 7 (dk_at dksX0_taken_0 9 rfl rfl)
theorem dX0_taken_11 : decode cX0_taken 11 = .ok (.invokestatic 94, 3) := dk_184 0 94 (dk_at dksX0_taken_0 11 rfl rfl)
theorem dX0_taken_14 : decode cX0_taken 14 = .ok (.ifCond .ne 5, 3) := dk_154 0 5 (dk_at dksX0_taken_0 14 rfl rfl)
theorem dX0_taken_17 : decode cX0_taken 17 = .ok (.iconst (-1), 1) := dk_2 (dk_at dksX0_taken_0 17 rfl rfl)
theorem dX0_taken_18 : decode cX0_taken 18 = .ok (.ireturn, 1) := dk_172 (dk_at dksX0_taken_0 18 rfl rfl)
theorem dX0_taken_19 : decode cX0_taken 19 = .ok (.aload_n 0, 1) := dk_42 (dk_at dksX0_taken_0 19 rfl rfl)
theorem dX0_taken_20 : decode cX0_taken 20 = .ok (.getfield 87, 3) := dk_180 0 87 (dk_at dksX0_taken_0 20 rfl rfl)
theorem dX0_taken_23 : decode cX0_taken 23 = .ok (.iload_n 1, 1) := dk_27 (dk_at dksX0_taken_0 23 rfl rfl)
theorem dX0_taken_24 : decode cX0_taken 24 = .ok (.aaload, 1) := dk_50 (dk_at dksX0_taken_1 0 rfl rfl)
theorem dX0_taken_25 : decode cX0_taken 25 = .ok (.checkcast 79, 3) := dk_192 0 79 (dk_at dksX0_taken_1 1 rfl rfl)
theorem dX0_taken_28 : decode cX0_taken 28 = .ok (.astore_n 3, 1) := dk_78 (dk_at dksX0_taken_1 4 rfl rfl)
theorem dX0_taken_29 : decode cX0_taken 29 = .ok (.aload_n 3, 1) := dk_45 (dk_at dksX0_taken_1 5 rfl rfl)
theorem dX0_taken_30 : decode cX0_taken 30 = .ok (.iload_n 2, 1) := dk_28 (dk_at dksX0_taken_1 6 rfl rfl)
theorem dX0_taken_31 : decode cX0_taken 31 = .ok (.invokevirtual 451, 3) := dk_182 1 195 (dk_at dksX0_taken_1 7 rfl rfl)
theorem dX0_taken_34 : decode cX0_taken 34 = .ok (.ifCond .eq 10, 3) := dk_153 0 10 (dk_at dksX0_taken_1 10 rfl rfl)
theorem dX0_taken_37 : decode cX0_taken 37 = .ok (.aload_n 3, 1) := dk_45 (dk_at dksX0_taken_1 13 rfl rfl)
theorem dX0_taken_38 : decode cX0_taken 38 = .ok (.invokevirtual 454, 3) := dk_182 1 198 (dk_at dksX0_taken_1 14 rfl rfl)
theorem dX0_taken_41 : decode cX0_taken 41 = .ok (.goto 5, 3) := dk_167 0 5 (dk_at dksX0_taken_1 17 rfl rfl)
theorem dX0_taken_44 : decode cX0_taken 44 = .ok (.bipush (-12), 2) := dk_16 244 (dk_at dksX0_taken_1 20 rfl rfl)
theorem dX0_taken_46 : decode cX0_taken 46 = .ok (.ireturn, 1) := dk_172 (dk_at dksX0_taken_1 22 rfl rfl)
theorem dX0_taken_47 : decode cX0_taken 47 = .ok (.astore_n 3, 1) := dk_78 (dk_at dksX0_taken_1 23 rfl rfl)
theorem dX0_taken_48 : decode cX0_taken 48 = .ok (.bipush (-11), 2) := dk_16 245 (dk_at dksX0_taken_2 0 rfl rfl)
theorem dX0_taken_50 : decode cX0_taken 50 = .ok (.ireturn, 1) := dk_172 (dk_at dksX0_taken_2 2 rfl rfl)
theorem dX0_taken_51 : decode cX0_taken 51 = .ok (.astore_n 3, 1) := dk_78 (dk_at dksX0_taken_2 3 rfl rfl)
theorem dX0_taken_52 : decode cX0_taken 52 = .ok (.bipush (-12), 2) := dk_16 244 (dk_at dksX0_taken_2 4 rfl rfl)
theorem dX0_taken_54 : decode cX0_taken 54 = .ok (.ireturn, 1) := dk_172 (dk_at dksX0_taken_2 6 rfl rfl)
abbrev cX0_count : ByteArray := prog_1_method_79_code
def yX0_count : MethodName := ⟨RX0, "count", "(I)I"⟩
def dkwX0_count_3 : List UInt8 := [172, 42, 180, 1, 114, 172, 42, 180, 1, 111, 172, 2, 172]
abbrev dktX0_count_3 : List UInt8 := dkwX0_count_3 ++ []
def dkwX0_count_2 : List UInt8 := [42, 180, 0, 91, 172, 42, 180, 1, 74, 172, 42, 182, 1, 201, 172, 42, 180, 0, 182, 172, 42, 180, 0, 157]
abbrev dktX0_count_2 : List UInt8 := dkwX0_count_2 ++ dktX0_count_3
def dkwX0_count_1 : List UInt8 := [170, 0, 0, 0, 0, 0, 78, 0, 0, 0, 0, 0, 0, 0, 6, 0, 0, 0, 43, 0, 0, 0, 48, 0, 0, 0, 53, 0, 0, 0, 58, 0, 0, 0, 63, 0, 0, 0, 68, 0, 0, 0, 73]
abbrev dktX0_count_1 : List UInt8 := dkwX0_count_1 ++ dktX0_count_2
def dkwX0_count_0 : List UInt8 := [27]
abbrev dktX0_count_0 : List UInt8 := dkwX0_count_0 ++ dktX0_count_1
theorem dksX0_count_0 : cX0_count.data.toList.drop 0 = dktX0_count_0 := by decide +kernel
theorem dksX0_count_1 : cX0_count.data.toList.drop 1 = dktX0_count_1 := dk_seg dksX0_count_0 1 rfl rfl
theorem dksX0_count_2 : cX0_count.data.toList.drop 44 = dktX0_count_2 := dk_seg dksX0_count_1 43 rfl rfl
theorem dksX0_count_3 : cX0_count.data.toList.drop 68 = dktX0_count_3 := dk_seg dksX0_count_2 24 rfl rfl
theorem dX0_count_0 : decode cX0_count 0 = .ok (.iload_n 1, 1) := dk_27 (dk_at dksX0_count_0 0 rfl rfl)
theorem dX0_count_1 : decode cX0_count 1 = .ok (.tableswitch 78 0 6 #[43, 48, 53, 58, 63, 68, 73], 43) := by decide +kernel
theorem dX0_count_44 : decode cX0_count 44 = .ok (.aload_n 0, 1) := dk_42 (dk_at dksX0_count_2 0 rfl rfl)
theorem dX0_count_45 : decode cX0_count 45 = .ok (.getfield 91, 3) := dk_180 0 91 (dk_at dksX0_count_2 1 rfl rfl)
theorem dX0_count_48 : decode cX0_count 48 = .ok (.ireturn, 1) := dk_172 (dk_at dksX0_count_2 4 rfl rfl)
theorem dX0_count_49 : decode cX0_count 49 = .ok (.aload_n 0, 1) := dk_42 (dk_at dksX0_count_2 5 rfl rfl)
theorem dX0_count_50 : decode cX0_count 50 = .ok (.getfield 330, 3) := dk_180 1 74 (dk_at dksX0_count_2 6 rfl rfl)
theorem dX0_count_53 : decode cX0_count 53 = .ok (.ireturn, 1) := dk_172 (dk_at dksX0_count_2 9 rfl rfl)
theorem dX0_count_54 : decode cX0_count 54 = .ok (.aload_n 0, 1) := dk_42 (dk_at dksX0_count_2 10 rfl rfl)
theorem dX0_count_55 : decode cX0_count 55 = .ok (.invokevirtual 457, 3) := dk_182 1 201 (dk_at dksX0_count_2 11 rfl rfl)
theorem dX0_count_58 : decode cX0_count 58 = .ok (.ireturn, 1) := dk_172 (dk_at dksX0_count_2 14 rfl rfl)
theorem dX0_count_59 : decode cX0_count 59 = .ok (.aload_n 0, 1) := dk_42 (dk_at dksX0_count_2 15 rfl rfl)
theorem dX0_count_60 : decode cX0_count 60 = .ok (.getfield 182, 3) := dk_180 0 182 (dk_at dksX0_count_2 16 rfl rfl)
theorem dX0_count_63 : decode cX0_count 63 = .ok (.ireturn, 1) := dk_172 (dk_at dksX0_count_2 19 rfl rfl)
theorem dX0_count_64 : decode cX0_count 64 = .ok (.aload_n 0, 1) := dk_42 (dk_at dksX0_count_2 20 rfl rfl)
theorem dX0_count_65 : decode cX0_count 65 = .ok (.getfield 157, 3) := dk_180 0 157 (dk_at dksX0_count_2 21 rfl rfl)
theorem dX0_count_68 : decode cX0_count 68 = .ok (.ireturn, 1) := dk_172 (dk_at dksX0_count_3 0 rfl rfl)
theorem dX0_count_69 : decode cX0_count 69 = .ok (.aload_n 0, 1) := dk_42 (dk_at dksX0_count_3 1 rfl rfl)
theorem dX0_count_70 : decode cX0_count 70 = .ok (.getfield 370, 3) := dk_180 1 114 (dk_at dksX0_count_3 2 rfl rfl)
theorem dX0_count_73 : decode cX0_count 73 = .ok (.ireturn, 1) := dk_172 (dk_at dksX0_count_3 5 rfl rfl)
theorem dX0_count_74 : decode cX0_count 74 = .ok (.aload_n 0, 1) := dk_42 (dk_at dksX0_count_3 6 rfl rfl)
theorem dX0_count_75 : decode cX0_count 75 = .ok (.getfield 367, 3) := dk_180 1 111 (dk_at dksX0_count_3 7 rfl rfl)
theorem dX0_count_78 : decode cX0_count 78 = .ok (.ireturn, 1) := dk_172 (dk_at dksX0_count_3 10 rfl rfl)
theorem dX0_count_79 : decode cX0_count 79 = .ok (.iconst (-1), 1) := dk_2 (dk_at dksX0_count_3 11 rfl rfl)
theorem dX0_count_80 : decode cX0_count 80 = .ok (.ireturn, 1) := dk_172 (dk_at dksX0_count_3 12 rfl rfl)
abbrev cX0_lookedAll : ByteArray := prog_1_method_64_code
def yX0_lookedAll : MethodName := ⟨RX0, "lookedAll", "()I"⟩
def dkwX0_lookedAll_1 : List UInt8 := [132, 2, 1, 167, 255, 233, 27, 172]
abbrev dktX0_lookedAll_1 : List UInt8 := dkwX0_lookedAll_1 ++ []
def dkwX0_lookedAll_0 : List UInt8 := [3, 60, 3, 61, 28, 42, 180, 0, 91, 162, 0, 21, 27, 42, 180, 0, 11, 28, 50, 182, 1, 108, 96, 60]
abbrev dktX0_lookedAll_0 : List UInt8 := dkwX0_lookedAll_0 ++ dktX0_lookedAll_1
theorem dksX0_lookedAll_0 : cX0_lookedAll.data.toList.drop 0 = dktX0_lookedAll_0 := by decide +kernel
theorem dksX0_lookedAll_1 : cX0_lookedAll.data.toList.drop 24 = dktX0_lookedAll_1 := dk_seg dksX0_lookedAll_0 24 rfl rfl
theorem dX0_lookedAll_0 : decode cX0_lookedAll 0 = .ok (.iconst 0, 1) := dk_3 (dk_at dksX0_lookedAll_0 0 rfl rfl)
theorem dX0_lookedAll_1 : decode cX0_lookedAll 1 = .ok (.istore_n 1, 1) := dk_60 (dk_at dksX0_lookedAll_0 1 rfl rfl)
theorem dX0_lookedAll_2 : decode cX0_lookedAll 2 = .ok (.iconst 0, 1) := dk_3 (dk_at dksX0_lookedAll_0 2 rfl rfl)
theorem dX0_lookedAll_3 : decode cX0_lookedAll 3 = .ok (.istore_n 2, 1) := dk_61 (dk_at dksX0_lookedAll_0 3 rfl rfl)
theorem dX0_lookedAll_4 : decode cX0_lookedAll 4 = .ok (.iload_n 2, 1) := dk_28 (dk_at dksX0_lookedAll_0 4 rfl rfl)
theorem dX0_lookedAll_5 : decode cX0_lookedAll 5 = .ok (.aload_n 0, 1) := dk_42 (dk_at dksX0_lookedAll_0 5 rfl rfl)
theorem dX0_lookedAll_6 : decode cX0_lookedAll 6 = .ok (.getfield 91, 3) := dk_180 0 91 (dk_at dksX0_lookedAll_0 6 rfl rfl)
theorem dX0_lookedAll_9 : decode cX0_lookedAll 9 = .ok (.if_icmp .ge 21, 3) := dk_162 0 21 (dk_at dksX0_lookedAll_0 9 rfl rfl)
theorem dX0_lookedAll_12 : decode cX0_lookedAll 12 = .ok (.iload_n 1, 1) := dk_27 (dk_at dksX0_lookedAll_0 12 rfl rfl)
theorem dX0_lookedAll_13 : decode cX0_lookedAll 13 = .ok (.aload_n 0, 1) := dk_42 (dk_at dksX0_lookedAll_0 13 rfl rfl)
theorem dX0_lookedAll_14 : decode cX0_lookedAll 14 = .ok (.getfield 11, 3) := dk_180 0 11 (dk_at dksX0_lookedAll_0 14 rfl rfl)
theorem dX0_lookedAll_17 : decode cX0_lookedAll 17 = .ok (.iload_n 2, 1) := dk_28 (dk_at dksX0_lookedAll_0 17 rfl rfl)
theorem dX0_lookedAll_18 : decode cX0_lookedAll 18 = .ok (.aaload, 1) := dk_50 (dk_at dksX0_lookedAll_0 18 rfl rfl)
theorem dX0_lookedAll_19 : decode cX0_lookedAll 19 = .ok (.invokevirtual 364, 3) := dk_182 1 108 (dk_at dksX0_lookedAll_0 19 rfl rfl)
theorem dX0_lookedAll_22 : decode cX0_lookedAll 22 = .ok (.iadd, 1) := dk_96 (dk_at dksX0_lookedAll_0 22 rfl rfl)
theorem dX0_lookedAll_23 : decode cX0_lookedAll 23 = .ok (.istore_n 1, 1) := dk_60 (dk_at dksX0_lookedAll_0 23 rfl rfl)
theorem dX0_lookedAll_24 : decode cX0_lookedAll 24 = .ok (.iinc 2 1, 3) := dk_132 2 1 (dk_at dksX0_lookedAll_1 0 rfl rfl)
theorem dX0_lookedAll_27 : decode cX0_lookedAll 27 = .ok (.goto (-23), 3) := dk_167 255 233 (dk_at dksX0_lookedAll_1 3 rfl rfl)
theorem dX0_lookedAll_30 : decode cX0_lookedAll 30 = .ok (.iload_n 1, 1) := dk_27 (dk_at dksX0_lookedAll_1 6 rfl rfl)
theorem dX0_lookedAll_31 : decode cX0_lookedAll 31 = .ok (.ireturn, 1) := dk_172 (dk_at dksX0_lookedAll_1 7 rfl rfl)
theorem q85 : (Jvm.Cond.initialized "ChairOld") ∈ lw_all := lw_g (lw_at lw_m1 1 rfl) rfl
theorem q133 : (Jvm.Cond.instantiable "ChairOld" (25 : Nat)) ∈ lw_all := lw_g (lw_at lw_m1 49 rfl) rfl
theorem q135 : (Jvm.Cond.instanceMethod ({ cls := "ChairOld", name := "<init>", desc := "()V" } : Jvm.MethodName)) ∈ lw_all := lw_g (lw_at lw_m1 51 rfl) rfl
theorem q136 : (Jvm.Cond.code ({ cls := "ChairOld", name := "<init>", desc := "()V" } : Jvm.MethodName) prog_1_method_1_code (1 : Nat) (Option.none : Option Jvm.ClassFile.FieldType)) ∈ lw_all := lw_g (lw_at lw_m1 52 rfl) rfl
theorem q137 : (Jvm.Cond.methodLink "ChairOld" (1 : Nat) ({ cls := "java/lang/Object", name := "<init>", desc := "()V" } : Jvm.MethodName)) ∈ lw_all := lw_g (lw_at lw_m1 53 rfl) rfl
theorem q140 : (Jvm.Cond.classLink "ChairOld" (9 : Nat) "ChairOld$Part") ∈ lw_all := lw_g (lw_at lw_m1 56 rfl) rfl
theorem q142 : (Jvm.Cond.classLink "ChairOld" (15 : Nat) "ChairOld$Kind") ∈ lw_all := lw_g (lw_at lw_m1 58 rfl) rfl
theorem q145 : (Jvm.Cond.methodLinkNest "ChairOld" (17 : Nat) ({ cls := "ChairOld$Kind", name := "<init>", desc := "()V" } : Jvm.MethodName) "ChairOld") ∈ lw_tbl := lw_at lw_m1 61 rfl
theorem q150 : (Jvm.Cond.fieldLinkNest "ChairOld" (136 : Nat) "ChairOld$Kind" "belief" "I" "ChairOld") ∈ lw_tbl := lw_at lw_m1 66 rfl
theorem q151 : (Jvm.Cond.fieldLinkNest "ChairOld" (139 : Nat) "ChairOld$Kind" "value" "I" "ChairOld") ∈ lw_tbl := lw_at lw_m1 67 rfl
theorem q157 : (Jvm.Cond.classLink "ChairOld" (22 : Nat) "ChairOld$Mark") ∈ lw_all := lw_g (lw_at lw_m1 73 rfl) rfl
theorem q160 : (Jvm.Cond.methodLinkNest "ChairOld" (24 : Nat) ({ cls := "ChairOld$Mark", name := "<init>", desc := "()V" } : Jvm.MethodName) "ChairOld") ∈ lw_tbl := lw_at lw_m1 76 rfl
theorem q165 : (Jvm.Cond.fieldLinkNest "ChairOld" (142 : Nat) "ChairOld$Mark" "minutes" "I" "ChairOld") ∈ lw_tbl := lw_at lw_m1 81 rfl
theorem q167 : (Jvm.Cond.fieldLinkNest "ChairOld" (145 : Nat) "ChairOld$Mark" "cost" "I" "ChairOld") ∈ lw_tbl := lw_at lw_m1 83 rfl
theorem q168 : (Jvm.Cond.fieldLinkNest "ChairOld" (197 : Nat) "ChairOld$Mark" "law" "LChairOld$Line;" "ChairOld") ∈ lw_tbl := lw_at lw_m1 84 rfl
theorem q176 : (Jvm.Cond.classLink "ChairOld" (29 : Nat) "ChairOld$Change") ∈ lw_all := lw_g (lw_at lw_m1 92 rfl) rfl
theorem q178 : (Jvm.Cond.classLink "ChairOld" (39 : Nat) "ChairOld$Facts") ∈ lw_all := lw_g (lw_at lw_m1 94 rfl) rfl
theorem q180 : (Jvm.Cond.methodLinkNest "ChairOld" (41 : Nat) ({ cls := "ChairOld$Facts", name := "<init>", desc := "()V" } : Jvm.MethodName) "ChairOld") ∈ lw_tbl := lw_at lw_m1 96 rfl
theorem q186 : (Jvm.Cond.fieldLinkNest "ChairOld" (221 : Nat) "ChairOld$Facts" "named" "[I" "ChairOld") ∈ lw_tbl := lw_at lw_m1 102 rfl
theorem q192 : (Jvm.Cond.classLink "ChairOld" (66 : Nat) "ChairOld$Paper") ∈ lw_all := lw_g (lw_at lw_m1 108 rfl) rfl
theorem q194 : (Jvm.Cond.classLink "ChairOld" (79 : Nat) "ChairOld$Plain") ∈ lw_all := lw_g (lw_at lw_m1 110 rfl) rfl
theorem q196 : (Jvm.Cond.classLink "ChairOld" (85 : Nat) "ChairOld$Held") ∈ lw_all := lw_g (lw_at lw_m1 112 rfl) rfl
theorem q198 : (Jvm.Cond.fieldLink "ChairOld" (11 : Nat) "ChairOld" "parts" "[LChairOld$Part;") ∈ lw_all := lw_g (lw_at lw_m1 114 rfl) rfl
theorem q199 : (Jvm.Cond.fieldLink "ChairOld" (18 : Nat) "ChairOld" "kinds" "[LChairOld$Kind;") ∈ lw_all := lw_g (lw_at lw_m1 115 rfl) rfl
theorem q200 : (Jvm.Cond.fieldLink "ChairOld" (25 : Nat) "ChairOld" "marks" "[LChairOld$Mark;") ∈ lw_all := lw_g (lw_at lw_m1 116 rfl) rfl
theorem q201 : (Jvm.Cond.fieldLink "ChairOld" (91 : Nat) "ChairOld" "partMany" "I") ∈ lw_all := lw_g (lw_at lw_m1 117 rfl) rfl
theorem q202 : (Jvm.Cond.fieldLink "ChairOld" (31 : Nat) "ChairOld" "changes" "[LChairOld$Change;") ∈ lw_all := lw_g (lw_at lw_m1 118 rfl) rfl
theorem q203 : (Jvm.Cond.fieldLink "ChairOld" (157 : Nat) "ChairOld" "doneMany" "I") ∈ lw_all := lw_g (lw_at lw_m1 119 rfl) rfl
theorem q204 : (Jvm.Cond.fieldLink "ChairOld" (154 : Nat) "ChairOld" "undoneMany" "I") ∈ lw_all := lw_g (lw_at lw_m1 120 rfl) rfl
theorem q205 : (Jvm.Cond.fieldLink "ChairOld" (35 : Nat) "ChairOld" "tape" "[B") ∈ lw_all := lw_g (lw_at lw_m1 121 rfl) rfl
theorem q208 : (Jvm.Cond.fieldLink "ChairOld" (182 : Nat) "ChairOld" "taped" "I") ∈ lw_all := lw_g (lw_at lw_m1 124 rfl) rfl
theorem q209 : (Jvm.Cond.fieldLink "ChairOld" (42 : Nat) "ChairOld" "facts" "LChairOld$Facts;") ∈ lw_all := lw_g (lw_at lw_m1 125 rfl) rfl
theorem q210 : (Jvm.Cond.fieldLink "ChairOld" (46 : Nat) "ChairOld" "numbers" "[I") ∈ lw_all := lw_g (lw_at lw_m1 126 rfl) rfl
theorem q211 : (Jvm.Cond.fieldLink "ChairOld" (50 : Nat) "ChairOld" "weights" "[J") ∈ lw_all := lw_g (lw_at lw_m1 127 rfl) rfl
theorem q212 : (Jvm.Cond.fieldLink "ChairOld" (54 : Nat) "ChairOld" "sums" "[J") ∈ lw_all := lw_g (lw_at lw_m1 128 rfl) rfl
theorem q213 : (Jvm.Cond.fieldLink "ChairOld" (57 : Nat) "ChairOld" "asked" "[B") ∈ lw_all := lw_g (lw_at lw_m1 129 rfl) rfl
theorem q214 : (Jvm.Cond.fieldLink "ChairOld" (242 : Nat) "ChairOld" "all" "J") ∈ lw_all := lw_g (lw_at lw_m1 130 rfl) rfl
theorem q215 : (Jvm.Cond.fieldLink "ChairOld" (60 : Nat) "ChairOld" "whens" "[I") ∈ lw_all := lw_g (lw_at lw_m1 131 rfl) rfl
theorem q216 : (Jvm.Cond.fieldLink "ChairOld" (63 : Nat) "ChairOld" "ordered" "[I") ∈ lw_all := lw_g (lw_at lw_m1 132 rfl) rfl
theorem q217 : (Jvm.Cond.fieldLink "ChairOld" (68 : Nat) "ChairOld" "papers" "[LChairOld$Paper;") ∈ lw_all := lw_g (lw_at lw_m1 133 rfl) rfl
theorem q218 : (Jvm.Cond.fieldLink "ChairOld" (330 : Nat) "ChairOld" "paperMany" "I") ∈ lw_all := lw_g (lw_at lw_m1 134 rfl) rfl
theorem q219 : (Jvm.Cond.fieldLink "ChairOld" (72 : Nat) "ChairOld" "imageMany" "I") ∈ lw_all := lw_g (lw_at lw_m1 135 rfl) rfl
theorem q220 : (Jvm.Cond.fieldLink "ChairOld" (367 : Nat) "ChairOld" "traces" "I") ∈ lw_all := lw_g (lw_at lw_m1 136 rfl) rfl
theorem q221 : (Jvm.Cond.fieldLink "ChairOld" (76 : Nat) "ChairOld" "traced" "[B") ∈ lw_all := lw_g (lw_at lw_m1 137 rfl) rfl
theorem q222 : (Jvm.Cond.fieldLink "ChairOld" (81 : Nat) "ChairOld" "bodies" "[LChairOld$Plain;") ∈ lw_all := lw_g (lw_at lw_m1 138 rfl) rfl
theorem q223 : (Jvm.Cond.fieldLink "ChairOld" (370 : Nat) "ChairOld" "bodyMany" "I") ∈ lw_all := lw_g (lw_at lw_m1 139 rfl) rfl
theorem q224 : (Jvm.Cond.fieldLink "ChairOld" (87 : Nat) "ChairOld" "shelves" "[LChairOld$Held;") ∈ lw_all := lw_g (lw_at lw_m1 140 rfl) rfl
theorem q225 : (Jvm.Cond.laysFinal "ChairOld" "ChairOld" "parts" "[LChairOld$Part;") ∈ lw_all := lw_g (lw_at lw_m1 141 rfl) rfl
theorem q226 : (Jvm.Cond.soleField "ChairOld" "parts") ∈ lw_all := lw_g (lw_at lw_m1 142 rfl) rfl
theorem q227 : (Jvm.Cond.laysFinal "ChairOld" "ChairOld" "kinds" "[LChairOld$Kind;") ∈ lw_all := lw_g (lw_at lw_m1 143 rfl) rfl
theorem q228 : (Jvm.Cond.soleField "ChairOld" "kinds") ∈ lw_all := lw_g (lw_at lw_m1 144 rfl) rfl
theorem q229 : (Jvm.Cond.laysFinal "ChairOld" "ChairOld" "marks" "[LChairOld$Mark;") ∈ lw_all := lw_g (lw_at lw_m1 145 rfl) rfl
theorem q230 : (Jvm.Cond.soleField "ChairOld" "marks") ∈ lw_all := lw_g (lw_at lw_m1 146 rfl) rfl
theorem q231 : (Jvm.Cond.lays "ChairOld" "ChairOld" "partMany" "I") ∈ lw_all := lw_g (lw_at lw_m1 147 rfl) rfl
theorem q232 : (Jvm.Cond.soleField "ChairOld" "partMany") ∈ lw_all := lw_g (lw_at lw_m1 148 rfl) rfl
theorem q233 : (Jvm.Cond.laysFinal "ChairOld" "ChairOld" "changes" "[LChairOld$Change;") ∈ lw_all := lw_g (lw_at lw_m1 149 rfl) rfl
theorem q234 : (Jvm.Cond.soleField "ChairOld" "changes") ∈ lw_all := lw_g (lw_at lw_m1 150 rfl) rfl
theorem q235 : (Jvm.Cond.lays "ChairOld" "ChairOld" "doneMany" "I") ∈ lw_all := lw_g (lw_at lw_m1 151 rfl) rfl
theorem q236 : (Jvm.Cond.soleField "ChairOld" "doneMany") ∈ lw_all := lw_g (lw_at lw_m1 152 rfl) rfl
theorem q237 : (Jvm.Cond.lays "ChairOld" "ChairOld" "undoneMany" "I") ∈ lw_all := lw_g (lw_at lw_m1 153 rfl) rfl
theorem q238 : (Jvm.Cond.soleField "ChairOld" "undoneMany") ∈ lw_all := lw_g (lw_at lw_m1 154 rfl) rfl
theorem q239 : (Jvm.Cond.laysFinal "ChairOld" "ChairOld" "tape" "[B") ∈ lw_all := lw_g (lw_at lw_m1 155 rfl) rfl
theorem q240 : (Jvm.Cond.soleField "ChairOld" "tape") ∈ lw_all := lw_g (lw_at lw_m1 156 rfl) rfl
theorem q241 : (Jvm.Cond.lays "ChairOld" "ChairOld" "taped" "I") ∈ lw_all := lw_g (lw_at lw_m1 157 rfl) rfl
theorem q242 : (Jvm.Cond.soleField "ChairOld" "taped") ∈ lw_all := lw_g (lw_at lw_m1 158 rfl) rfl
theorem q243 : (Jvm.Cond.laysFinal "ChairOld" "ChairOld" "facts" "LChairOld$Facts;") ∈ lw_all := lw_g (lw_at lw_m1 159 rfl) rfl
theorem q244 : (Jvm.Cond.soleField "ChairOld" "facts") ∈ lw_all := lw_g (lw_at lw_m1 160 rfl) rfl
theorem q245 : (Jvm.Cond.laysFinal "ChairOld" "ChairOld" "numbers" "[I") ∈ lw_all := lw_g (lw_at lw_m1 161 rfl) rfl
theorem q246 : (Jvm.Cond.soleField "ChairOld" "numbers") ∈ lw_all := lw_g (lw_at lw_m1 162 rfl) rfl
theorem q247 : (Jvm.Cond.laysFinal "ChairOld" "ChairOld" "weights" "[J") ∈ lw_all := lw_g (lw_at lw_m1 163 rfl) rfl
theorem q248 : (Jvm.Cond.soleField "ChairOld" "weights") ∈ lw_all := lw_g (lw_at lw_m1 164 rfl) rfl
theorem q249 : (Jvm.Cond.laysFinal "ChairOld" "ChairOld" "sums" "[J") ∈ lw_all := lw_g (lw_at lw_m1 165 rfl) rfl
theorem q250 : (Jvm.Cond.soleField "ChairOld" "sums") ∈ lw_all := lw_g (lw_at lw_m1 166 rfl) rfl
theorem q251 : (Jvm.Cond.laysFinal "ChairOld" "ChairOld" "asked" "[B") ∈ lw_all := lw_g (lw_at lw_m1 167 rfl) rfl
theorem q252 : (Jvm.Cond.soleField "ChairOld" "asked") ∈ lw_all := lw_g (lw_at lw_m1 168 rfl) rfl
theorem q253 : (Jvm.Cond.lays "ChairOld" "ChairOld" "all" "J") ∈ lw_all := lw_g (lw_at lw_m1 169 rfl) rfl
theorem q254 : (Jvm.Cond.soleField "ChairOld" "all") ∈ lw_all := lw_g (lw_at lw_m1 170 rfl) rfl
theorem q255 : (Jvm.Cond.laysFinal "ChairOld" "ChairOld" "whens" "[I") ∈ lw_all := lw_g (lw_at lw_m1 171 rfl) rfl
theorem q256 : (Jvm.Cond.soleField "ChairOld" "whens") ∈ lw_all := lw_g (lw_at lw_m1 172 rfl) rfl
theorem q257 : (Jvm.Cond.laysFinal "ChairOld" "ChairOld" "ordered" "[I") ∈ lw_all := lw_g (lw_at lw_m1 173 rfl) rfl
theorem q258 : (Jvm.Cond.soleField "ChairOld" "ordered") ∈ lw_all := lw_g (lw_at lw_m1 174 rfl) rfl
theorem q259 : (Jvm.Cond.laysFinal "ChairOld" "ChairOld" "papers" "[LChairOld$Paper;") ∈ lw_all := lw_g (lw_at lw_m1 175 rfl) rfl
theorem q260 : (Jvm.Cond.soleField "ChairOld" "papers") ∈ lw_all := lw_g (lw_at lw_m1 176 rfl) rfl
theorem q261 : (Jvm.Cond.lays "ChairOld" "ChairOld" "paperMany" "I") ∈ lw_all := lw_g (lw_at lw_m1 177 rfl) rfl
theorem q262 : (Jvm.Cond.soleField "ChairOld" "paperMany") ∈ lw_all := lw_g (lw_at lw_m1 178 rfl) rfl
theorem q263 : (Jvm.Cond.lays "ChairOld" "ChairOld" "imageMany" "I") ∈ lw_all := lw_g (lw_at lw_m1 179 rfl) rfl
theorem q264 : (Jvm.Cond.soleField "ChairOld" "imageMany") ∈ lw_all := lw_g (lw_at lw_m1 180 rfl) rfl
theorem q265 : (Jvm.Cond.lays "ChairOld" "ChairOld" "traces" "I") ∈ lw_all := lw_g (lw_at lw_m1 181 rfl) rfl
theorem q266 : (Jvm.Cond.soleField "ChairOld" "traces") ∈ lw_all := lw_g (lw_at lw_m1 182 rfl) rfl
theorem q267 : (Jvm.Cond.laysFinal "ChairOld" "ChairOld" "traced" "[B") ∈ lw_all := lw_g (lw_at lw_m1 183 rfl) rfl
theorem q268 : (Jvm.Cond.soleField "ChairOld" "traced") ∈ lw_all := lw_g (lw_at lw_m1 184 rfl) rfl
theorem q269 : (Jvm.Cond.laysFinal "ChairOld" "ChairOld" "bodies" "[LChairOld$Plain;") ∈ lw_all := lw_g (lw_at lw_m1 185 rfl) rfl
theorem q270 : (Jvm.Cond.soleField "ChairOld" "bodies") ∈ lw_all := lw_g (lw_at lw_m1 186 rfl) rfl
theorem q271 : (Jvm.Cond.lays "ChairOld" "ChairOld" "bodyMany" "I") ∈ lw_all := lw_g (lw_at lw_m1 187 rfl) rfl
theorem q272 : (Jvm.Cond.soleField "ChairOld" "bodyMany") ∈ lw_all := lw_g (lw_at lw_m1 188 rfl) rfl
theorem q273 : (Jvm.Cond.laysFinal "ChairOld" "ChairOld" "shelves" "[LChairOld$Held;") ∈ lw_all := lw_g (lw_at lw_m1 189 rfl) rfl
theorem q274 : (Jvm.Cond.soleField "ChairOld" "shelves") ∈ lw_all := lw_g (lw_at lw_m1 190 rfl) rfl
theorem q275 : (Jvm.Cond.superclass "ChairOld" "java/lang/Object") ∈ lw_all := lw_g (lw_at lw_m1 191 rfl) rfl
theorem q278 : (Jvm.Cond.instanceMethod ({ cls := "ChairOld", name := "part", desc := "(I)I" } : Jvm.MethodName)) ∈ lw_all := lw_g (lw_at lw_m1 194 rfl) rfl
theorem q279 : (Jvm.Cond.selects "ChairOld" ({ cls := "ChairOld", name := "part", desc := "(I)I" } : Jvm.MethodName) ({ cls := "ChairOld", name := "part", desc := "(I)I" } : Jvm.MethodName)) ∈ lw_all := lw_g (lw_at lw_m1 195 rfl) rfl
theorem q280 : (Jvm.Cond.code ({ cls := "ChairOld", name := "part", desc := "(I)I" } : Jvm.MethodName) prog_1_method_11_code (2 : Nat) (Option.some Jvm.ClassFile.FieldType.int)) ∈ lw_all := lw_g (lw_at lw_m1 196 rfl) rfl
theorem q281 : (Jvm.Cond.methodLink "ChairOld" (94 : Nat) ({ cls := "ChairOld", name := "in", desc := "(III)Z" } : Jvm.MethodName)) ∈ lw_all := lw_g (lw_at lw_m1 197 rfl) rfl
theorem q282 : (Jvm.Cond.static ({ cls := "ChairOld", name := "in", desc := "(III)Z" } : Jvm.MethodName)) ∈ lw_all := lw_g (lw_at lw_m1 198 rfl) rfl
theorem q283 : (Jvm.Cond.code ({ cls := "ChairOld", name := "in", desc := "(III)Z" } : Jvm.MethodName) prog_1_method_2_code (3 : Nat) (Option.some Jvm.ClassFile.FieldType.boolean)) ∈ lw_all := lw_g (lw_at lw_m1 199 rfl) rfl
theorem q284 : (Jvm.Cond.methodLink "ChairOld" (111 : Nat) ({ cls := "ChairOld", name := "addPart", desc := "(II)I" } : Jvm.MethodName)) ∈ lw_all := lw_g (lw_at lw_m1 200 rfl) rfl
theorem q285 : (Jvm.Cond.privateMethod ({ cls := "ChairOld", name := "addPart", desc := "(II)I" } : Jvm.MethodName)) ∈ lw_tbl := lw_at lw_m1 201 rfl
theorem q286 : (Jvm.Cond.instanceMethod ({ cls := "ChairOld", name := "addPart", desc := "(II)I" } : Jvm.MethodName)) ∈ lw_all := lw_g (lw_at lw_m1 202 rfl) rfl
theorem q287 : (Jvm.Cond.code ({ cls := "ChairOld", name := "addPart", desc := "(II)I" } : Jvm.MethodName) prog_1_method_10_code (3 : Nat) (Option.some Jvm.ClassFile.FieldType.int)) ∈ lw_all := lw_g (lw_at lw_m1 203 rfl) rfl
theorem q289 : (Jvm.Cond.methodLink "ChairOld" (108 : Nat) ({ cls := "ChairOld$Part", name := "<init>", desc := "(II)V" } : Jvm.MethodName)) ∈ lw_all := lw_g (lw_at lw_m1 205 rfl) rfl
theorem q294 : (Jvm.Cond.fieldLinkNest "ChairOld" (148 : Nat) "ChairOld$Part" "wood" "I" "ChairOld") ∈ lw_tbl := lw_at lw_m1 210 rfl
theorem q296 : (Jvm.Cond.fieldLinkNest "ChairOld" (151 : Nat) "ChairOld$Part" "place" "I" "ChairOld") ∈ lw_tbl := lw_at lw_m1 212 rfl
theorem q298 : (Jvm.Cond.fieldLinkNest "ChairOld" (133 : Nat) "ChairOld$Part" "found" "[B" "ChairOld") ∈ lw_tbl := lw_at lw_m1 214 rfl
theorem q300 : (Jvm.Cond.fieldLinkNest "ChairOld" (361 : Nat) "ChairOld$Part" "kept" "[B" "ChairOld") ∈ lw_tbl := lw_at lw_m1 216 rfl
theorem q311 : (Jvm.Cond.instanceMethod ({ cls := "ChairOld", name := "parts", desc := "(III)I" } : Jvm.MethodName)) ∈ lw_all := lw_g (lw_at lw_m1 227 rfl) rfl
theorem q312 : (Jvm.Cond.selects "ChairOld" ({ cls := "ChairOld", name := "parts", desc := "(III)I" } : Jvm.MethodName) ({ cls := "ChairOld", name := "parts", desc := "(III)I" } : Jvm.MethodName)) ∈ lw_all := lw_g (lw_at lw_m1 228 rfl) rfl
theorem q313 : (Jvm.Cond.codeWith ({ cls := "ChairOld", name := "parts", desc := "(III)I" } : Jvm.MethodName) prog_1_method_12_code (9 : Nat) (Option.some Jvm.ClassFile.FieldType.int) [((22 : Nat), (105 : Nat), (127 : Nat), (124 : Nat)), ((106 : Nat), (124 : Nat), (127 : Nat), (124 : Nat)), ((22 : Nat), (105 : Nat), (132 : Nat), (126 : Nat)), ((106 : Nat), (124 : Nat), (132 : Nat), (126 : Nat)), ((22 : Nat), (105 : Nat), (137 : Nat), (128 : Nat)), ((106 : Nat), (124 : Nat), (137 : Nat), (128 : Nat))]) ∈ lw_all := lw_g (lw_at lw_m1 229 rfl) rfl
theorem q314 : (Jvm.Cond.classLink "ChairOld" (124 : Nat) "java/lang/ClassCastException") ∈ lw_all := lw_g (lw_at lw_m1 230 rfl) rfl
theorem q398 : (Jvm.Cond.classLink "ChairOld" (126 : Nat) "java/lang/NullPointerException") ∈ lw_all := lw_g (lw_at lw_m2 74 rfl) rfl
theorem q423 : (Jvm.Cond.classLink "ChairOld" (128 : Nat) "java/lang/IndexOutOfBoundsException") ∈ lw_all := lw_g (lw_at lw_m2 99 rfl) rfl
theorem q442 : (Jvm.Cond.methodLink "ChairOld" (115 : Nat) ({ cls := "ChairOld", name := "isShelf", desc := "(I)Z" } : Jvm.MethodName)) ∈ lw_all := lw_g (lw_at lw_m2 118 rfl) rfl
theorem q443 : (Jvm.Cond.static ({ cls := "ChairOld", name := "isShelf", desc := "(I)Z" } : Jvm.MethodName)) ∈ lw_all := lw_g (lw_at lw_m2 119 rfl) rfl
theorem q444 : (Jvm.Cond.code ({ cls := "ChairOld", name := "isShelf", desc := "(I)Z" } : Jvm.MethodName) prog_1_method_69_code (1 : Nat) (Option.some Jvm.ClassFile.FieldType.boolean)) ∈ lw_all := lw_g (lw_at lw_m2 120 rfl) rfl
theorem q445 : (Jvm.Cond.classLink "ChairOld" (118 : Nat) "ChairOld$ByteRow") ∈ lw_all := lw_g (lw_at lw_m2 121 rfl) rfl
theorem q446 : (Jvm.Cond.methodLink "ChairOld" (120 : Nat) ({ cls := "ChairOld$ByteRow", name := "at", desc := "(I)J" } : Jvm.MethodName)) ∈ lw_all := lw_g (lw_at lw_m2 122 rfl) rfl
theorem q451 : (Jvm.Cond.instanceMethod ({ cls := "ChairOld", name := "find", desc := "(II)I" } : Jvm.MethodName)) ∈ lw_all := lw_g (lw_at lw_m2 127 rfl) rfl
theorem q452 : (Jvm.Cond.selects "ChairOld" ({ cls := "ChairOld", name := "find", desc := "(II)I" } : Jvm.MethodName) ({ cls := "ChairOld", name := "find", desc := "(II)I" } : Jvm.MethodName)) ∈ lw_all := lw_g (lw_at lw_m2 128 rfl) rfl
theorem q453 : (Jvm.Cond.code ({ cls := "ChairOld", name := "find", desc := "(II)I" } : Jvm.MethodName) prog_1_method_13_code (5 : Nat) (Option.some Jvm.ClassFile.FieldType.int)) ∈ lw_all := lw_g (lw_at lw_m2 129 rfl) rfl
theorem q454 : (Jvm.Cond.methodLink "ChairOld" (130 : Nat) ({ cls := "ChairOld", name := "isFound", desc := "(I)Z" } : Jvm.MethodName)) ∈ lw_all := lw_g (lw_at lw_m2 130 rfl) rfl
theorem q455 : (Jvm.Cond.privateMethod ({ cls := "ChairOld", name := "isFound", desc := "(I)Z" } : Jvm.MethodName)) ∈ lw_tbl := lw_at lw_m2 131 rfl
theorem q456 : (Jvm.Cond.instanceMethod ({ cls := "ChairOld", name := "isFound", desc := "(I)Z" } : Jvm.MethodName)) ∈ lw_all := lw_g (lw_at lw_m2 132 rfl) rfl
theorem q457 : (Jvm.Cond.code ({ cls := "ChairOld", name := "isFound", desc := "(I)Z" } : Jvm.MethodName) prog_1_method_8_code (2 : Nat) (Option.some Jvm.ClassFile.FieldType.boolean)) ∈ lw_all := lw_g (lw_at lw_m2 133 rfl) rfl
theorem q458 : (Jvm.Cond.methodLink "ChairOld" (98 : Nat) ({ cls := "ChairOld", name := "isPart", desc := "(I)Z" } : Jvm.MethodName)) ∈ lw_all := lw_g (lw_at lw_m2 134 rfl) rfl
theorem q459 : (Jvm.Cond.privateMethod ({ cls := "ChairOld", name := "isPart", desc := "(I)Z" } : Jvm.MethodName)) ∈ lw_tbl := lw_at lw_m2 135 rfl
theorem q460 : (Jvm.Cond.instanceMethod ({ cls := "ChairOld", name := "isPart", desc := "(I)Z" } : Jvm.MethodName)) ∈ lw_all := lw_g (lw_at lw_m2 136 rfl) rfl
theorem q461 : (Jvm.Cond.code ({ cls := "ChairOld", name := "isPart", desc := "(I)Z" } : Jvm.MethodName) prog_1_method_3_code (2 : Nat) (Option.some Jvm.ClassFile.FieldType.boolean)) ∈ lw_all := lw_g (lw_at lw_m2 137 rfl) rfl
theorem q462 : (Jvm.Cond.methodLink "ChairOld" (102 : Nat) ({ cls := "ChairOld", name := "isMark", desc := "(I)Z" } : Jvm.MethodName)) ∈ lw_all := lw_g (lw_at lw_m2 138 rfl) rfl
theorem q463 : (Jvm.Cond.static ({ cls := "ChairOld", name := "isMark", desc := "(I)Z" } : Jvm.MethodName)) ∈ lw_all := lw_g (lw_at lw_m2 139 rfl) rfl
theorem q464 : (Jvm.Cond.code ({ cls := "ChairOld", name := "isMark", desc := "(I)Z" } : Jvm.MethodName) prog_1_method_5_code (1 : Nat) (Option.some Jvm.ClassFile.FieldType.boolean)) ∈ lw_all := lw_g (lw_at lw_m2 140 rfl) rfl
theorem q466 : (Jvm.Cond.instanceMethod ({ cls := "ChairOld", name := "of", desc := "(II)I" } : Jvm.MethodName)) ∈ lw_all := lw_g (lw_at lw_m2 142 rfl) rfl
theorem q467 : (Jvm.Cond.selects "ChairOld" ({ cls := "ChairOld", name := "of", desc := "(II)I" } : Jvm.MethodName) ({ cls := "ChairOld", name := "of", desc := "(II)I" } : Jvm.MethodName)) ∈ lw_all := lw_g (lw_at lw_m2 143 rfl) rfl
theorem q468 : (Jvm.Cond.code ({ cls := "ChairOld", name := "of", desc := "(II)I" } : Jvm.MethodName) prog_1_method_14_code (3 : Nat) (Option.some Jvm.ClassFile.FieldType.int)) ∈ lw_all := lw_g (lw_at lw_m2 144 rfl) rfl
theorem q469 : (Jvm.Cond.methodLink "ChairOld" (105 : Nat) ({ cls := "ChairOld", name := "isKind", desc := "(I)Z" } : Jvm.MethodName)) ∈ lw_all := lw_g (lw_at lw_m2 145 rfl) rfl
theorem q470 : (Jvm.Cond.static ({ cls := "ChairOld", name := "isKind", desc := "(I)Z" } : Jvm.MethodName)) ∈ lw_all := lw_g (lw_at lw_m2 146 rfl) rfl
theorem q471 : (Jvm.Cond.code ({ cls := "ChairOld", name := "isKind", desc := "(I)Z" } : Jvm.MethodName) prog_1_method_4_code (1 : Nat) (Option.some Jvm.ClassFile.FieldType.boolean)) ∈ lw_all := lw_g (lw_at lw_m2 147 rfl) rfl
theorem q473 : (Jvm.Cond.instanceMethod ({ cls := "ChairOld", name := "undo", desc := "()I" } : Jvm.MethodName)) ∈ lw_all := lw_g (lw_at lw_m2 149 rfl) rfl
theorem q474 : (Jvm.Cond.selects "ChairOld" ({ cls := "ChairOld", name := "undo", desc := "()I" } : Jvm.MethodName) ({ cls := "ChairOld", name := "undo", desc := "()I" } : Jvm.MethodName)) ∈ lw_all := lw_g (lw_at lw_m2 150 rfl) rfl
theorem q475 : (Jvm.Cond.code ({ cls := "ChairOld", name := "undo", desc := "()I" } : Jvm.MethodName) prog_1_method_17_code (1 : Nat) (Option.some Jvm.ClassFile.FieldType.int)) ∈ lw_all := lw_g (lw_at lw_m2 151 rfl) rfl
theorem q476 : (Jvm.Cond.methodLink "ChairOld" (163 : Nat) ({ cls := "ChairOld", name := "setTo", desc := "(III)V" } : Jvm.MethodName)) ∈ lw_all := lw_g (lw_at lw_m2 152 rfl) rfl
theorem q477 : (Jvm.Cond.privateMethod ({ cls := "ChairOld", name := "setTo", desc := "(III)V" } : Jvm.MethodName)) ∈ lw_tbl := lw_at lw_m2 153 rfl
theorem q478 : (Jvm.Cond.instanceMethod ({ cls := "ChairOld", name := "setTo", desc := "(III)V" } : Jvm.MethodName)) ∈ lw_all := lw_g (lw_at lw_m2 154 rfl) rfl
theorem q479 : (Jvm.Cond.code ({ cls := "ChairOld", name := "setTo", desc := "(III)V" } : Jvm.MethodName) prog_1_method_15_code (4 : Nat) (Option.none : Option Jvm.ClassFile.FieldType)) ∈ lw_all := lw_g (lw_at lw_m2 155 rfl) rfl
theorem q481 : (Jvm.Cond.instanceMethod ({ cls := "ChairOld", name := "redo", desc := "()I" } : Jvm.MethodName)) ∈ lw_all := lw_g (lw_at lw_m2 157 rfl) rfl
theorem q482 : (Jvm.Cond.selects "ChairOld" ({ cls := "ChairOld", name := "redo", desc := "()I" } : Jvm.MethodName) ({ cls := "ChairOld", name := "redo", desc := "()I" } : Jvm.MethodName)) ∈ lw_all := lw_g (lw_at lw_m2 158 rfl) rfl
theorem q483 : (Jvm.Cond.code ({ cls := "ChairOld", name := "redo", desc := "()I" } : Jvm.MethodName) prog_1_method_18_code (1 : Nat) (Option.some Jvm.ClassFile.FieldType.int)) ∈ lw_all := lw_g (lw_at lw_m2 159 rfl) rfl
theorem q485 : (Jvm.Cond.instanceMethod ({ cls := "ChairOld", name := "mend", desc := "(III)I" } : Jvm.MethodName)) ∈ lw_all := lw_g (lw_at lw_m2 161 rfl) rfl
theorem q486 : (Jvm.Cond.selects "ChairOld" ({ cls := "ChairOld", name := "mend", desc := "(III)I" } : Jvm.MethodName) ({ cls := "ChairOld", name := "mend", desc := "(III)I" } : Jvm.MethodName)) ∈ lw_all := lw_g (lw_at lw_m2 162 rfl) rfl
theorem q487 : (Jvm.Cond.code ({ cls := "ChairOld", name := "mend", desc := "(III)I" } : Jvm.MethodName) prog_1_method_19_code (4 : Nat) (Option.some Jvm.ClassFile.FieldType.int)) ∈ lw_all := lw_g (lw_at lw_m2 163 rfl) rfl
theorem q488 : (Jvm.Cond.methodLink "ChairOld" (178 : Nat) ({ cls := "ChairOld", name := "become", desc := "(IIII)I" } : Jvm.MethodName)) ∈ lw_all := lw_g (lw_at lw_m2 164 rfl) rfl
theorem q489 : (Jvm.Cond.privateMethod ({ cls := "ChairOld", name := "become", desc := "(IIII)I" } : Jvm.MethodName)) ∈ lw_tbl := lw_at lw_m2 165 rfl
theorem q490 : (Jvm.Cond.instanceMethod ({ cls := "ChairOld", name := "become", desc := "(IIII)I" } : Jvm.MethodName)) ∈ lw_all := lw_g (lw_at lw_m2 166 rfl) rfl
theorem q491 : (Jvm.Cond.code ({ cls := "ChairOld", name := "become", desc := "(IIII)I" } : Jvm.MethodName) prog_1_method_16_code (6 : Nat) (Option.some Jvm.ClassFile.FieldType.int)) ∈ lw_all := lw_g (lw_at lw_m2 167 rfl) rfl
theorem q493 : (Jvm.Cond.methodLink "ChairOld" (160 : Nat) ({ cls := "ChairOld$Change", name := "<init>", desc := "(IIII)V" } : Jvm.MethodName)) ∈ lw_all := lw_g (lw_at lw_m2 169 rfl) rfl
theorem q498 : (Jvm.Cond.fieldLinkNest "ChairOld" (167 : Nat) "ChairOld$Change" "of" "I" "ChairOld") ∈ lw_tbl := lw_at lw_m2 174 rfl
theorem q500 : (Jvm.Cond.fieldLinkNest "ChairOld" (170 : Nat) "ChairOld$Change" "at" "I" "ChairOld") ∈ lw_tbl := lw_at lw_m2 176 rfl
theorem q502 : (Jvm.Cond.fieldLinkNest "ChairOld" (172 : Nat) "ChairOld$Change" "before" "I" "ChairOld") ∈ lw_tbl := lw_at lw_m2 178 rfl
theorem q504 : (Jvm.Cond.fieldLinkNest "ChairOld" (175 : Nat) "ChairOld$Change" "behind" "I" "ChairOld") ∈ lw_tbl := lw_at lw_m2 180 rfl
theorem q515 : (Jvm.Cond.instanceMethod ({ cls := "ChairOld", name := "feed", desc := "(I)I" } : Jvm.MethodName)) ∈ lw_all := lw_g (lw_at lw_m2 191 rfl) rfl
theorem q516 : (Jvm.Cond.selects "ChairOld" ({ cls := "ChairOld", name := "feed", desc := "(I)I" } : Jvm.MethodName) ({ cls := "ChairOld", name := "feed", desc := "(I)I" } : Jvm.MethodName)) ∈ lw_all := lw_g (lw_at lw_m2 192 rfl) rfl
theorem q517 : (Jvm.Cond.code ({ cls := "ChairOld", name := "feed", desc := "(I)I" } : Jvm.MethodName) prog_1_method_20_code (2 : Nat) (Option.some Jvm.ClassFile.FieldType.int)) ∈ lw_all := lw_g (lw_at lw_m2 193 rfl) rfl
theorem q519 : (Jvm.Cond.instanceMethod ({ cls := "ChairOld", name := "law", desc := "(I)I" } : Jvm.MethodName)) ∈ lw_all := lw_g (lw_at lw_m2 195 rfl) rfl
theorem q520 : (Jvm.Cond.selects "ChairOld" ({ cls := "ChairOld", name := "law", desc := "(I)I" } : Jvm.MethodName) ({ cls := "ChairOld", name := "law", desc := "(I)I" } : Jvm.MethodName)) ∈ lw_all := lw_g (lw_at lw_m2 196 rfl) rfl
theorem q521 : (Jvm.Cond.code ({ cls := "ChairOld", name := "law", desc := "(I)I" } : Jvm.MethodName) prog_1_method_21_code (4 : Nat) (Option.some Jvm.ClassFile.FieldType.int)) ∈ lw_all := lw_g (lw_at lw_m2 197 rfl) rfl
theorem q522 : (Jvm.Cond.classLink "ChairOld" (185 : Nat) "ChairOld$Reader") ∈ lw_all := lw_g (lw_at lw_m2 198 rfl) rfl
theorem q524 : (Jvm.Cond.methodLinkNest "ChairOld" (187 : Nat) ({ cls := "ChairOld$Reader", name := "<init>", desc := "(LChairOld;)V" } : Jvm.MethodName) "ChairOld") ∈ lw_tbl := lw_at lw_m2 200 rfl
theorem q530 : (Jvm.Cond.fieldLinkNest "ChairOld" (194 : Nat) "ChairOld$Reader" "fault" "I" "ChairOld") ∈ lw_tbl := lw_at lw_m2 206 rfl
theorem q542 : (Jvm.Cond.methodLink "ChairOld" (190 : Nat) ({ cls := "ChairOld$Reader", name := "lines", desc := "()LChairOld$Line;" } : Jvm.MethodName)) ∈ lw_all := lw_g (lw_at lw_m2 218 rfl) rfl
theorem q557 : (Jvm.Cond.fieldLinkNest "ChairOld" (201 : Nat) "ChairOld$Line" "test" "LChairOld$Node;" "ChairOld") ∈ lw_tbl := lw_at lw_m2 233 rfl
theorem q559 : (Jvm.Cond.fieldLinkNest "ChairOld" (212 : Nat) "ChairOld$Line" "gives" "LChairOld$Node;" "ChairOld") ∈ lw_tbl := lw_at lw_m2 235 rfl
theorem q561 : (Jvm.Cond.fieldLinkNest "ChairOld" (215 : Nat) "ChairOld$Line" "next" "LChairOld$Line;" "ChairOld") ∈ lw_tbl := lw_at lw_m2 237 rfl
theorem q764 : (Jvm.Cond.instanceMethod ({ cls := "ChairOld", name := "number", desc := "(II)I" } : Jvm.MethodName)) ∈ lw_all := lw_g (lw_at lw_m3 200 rfl) rfl
theorem q765 : (Jvm.Cond.selects "ChairOld" ({ cls := "ChairOld", name := "number", desc := "(II)I" } : Jvm.MethodName) ({ cls := "ChairOld", name := "number", desc := "(II)I" } : Jvm.MethodName)) ∈ lw_all := lw_g (lw_at lw_m3 201 rfl) rfl
theorem q766 : (Jvm.Cond.code ({ cls := "ChairOld", name := "number", desc := "(II)I" } : Jvm.MethodName) prog_1_method_24_code (3 : Nat) (Option.some Jvm.ClassFile.FieldType.int)) ∈ lw_all := lw_g (lw_at lw_m3 202 rfl) rfl
theorem q767 : (Jvm.Cond.methodLink "ChairOld" (235 : Nat) ({ cls := "ChairOld", name := "isTime", desc := "(I)Z" } : Jvm.MethodName)) ∈ lw_all := lw_g (lw_at lw_m3 203 rfl) rfl
theorem q768 : (Jvm.Cond.static ({ cls := "ChairOld", name := "isTime", desc := "(I)Z" } : Jvm.MethodName)) ∈ lw_all := lw_g (lw_at lw_m3 204 rfl) rfl
theorem q769 : (Jvm.Cond.code ({ cls := "ChairOld", name := "isTime", desc := "(I)Z" } : Jvm.MethodName) prog_1_method_6_code (1 : Nat) (Option.some Jvm.ClassFile.FieldType.boolean)) ∈ lw_all := lw_g (lw_at lw_m3 205 rfl) rfl
theorem q770 : (Jvm.Cond.methodLink "ChairOld" (238 : Nat) ({ cls := "ChairOld", name := "numberOf", desc := "(LChairOld$Part;III)I" } : Jvm.MethodName)) ∈ lw_all := lw_g (lw_at lw_m3 206 rfl) rfl
theorem q771 : (Jvm.Cond.privateMethod ({ cls := "ChairOld", name := "numberOf", desc := "(LChairOld$Part;III)I" } : Jvm.MethodName)) ∈ lw_tbl := lw_at lw_m3 207 rfl
theorem q772 : (Jvm.Cond.instanceMethod ({ cls := "ChairOld", name := "numberOf", desc := "(LChairOld$Part;III)I" } : Jvm.MethodName)) ∈ lw_all := lw_g (lw_at lw_m3 208 rfl) rfl
theorem q773 : (Jvm.Cond.code ({ cls := "ChairOld", name := "numberOf", desc := "(LChairOld$Part;III)I" } : Jvm.MethodName) prog_1_method_23_code (5 : Nat) (Option.some Jvm.ClassFile.FieldType.int)) ∈ lw_all := lw_g (lw_at lw_m3 209 rfl) rfl
theorem q774 : (Jvm.Cond.methodLink "ChairOld" (218 : Nat) ({ cls := "ChairOld$Facts", name := "clear", desc := "()V" } : Jvm.MethodName)) ∈ lw_all := lw_g (lw_at lw_m3 210 rfl) rfl
theorem q778 : (Jvm.Cond.methodLink "ChairOld" (224 : Nat) ({ cls := "ChairOld", name := "gives", desc := "(LChairOld$Line;LChairOld$Facts;)I" } : Jvm.MethodName)) ∈ lw_all := lw_g (lw_at lw_m3 214 rfl) rfl
theorem q779 : (Jvm.Cond.static ({ cls := "ChairOld", name := "gives", desc := "(LChairOld$Line;LChairOld$Facts;)I" } : Jvm.MethodName)) ∈ lw_all := lw_g (lw_at lw_m3 215 rfl) rfl
theorem q780 : (Jvm.Cond.code ({ cls := "ChairOld", name := "gives", desc := "(LChairOld$Line;LChairOld$Facts;)I" } : Jvm.MethodName) prog_1_method_22_code (3 : Nat) (Option.some Jvm.ClassFile.FieldType.int)) ∈ lw_all := lw_g (lw_at lw_m3 216 rfl) rfl
theorem q781 : (Jvm.Cond.methodLink "ChairOld" (207 : Nat) ({ cls := "ChairOld$Node", name := "value", desc := "(LChairOld$Facts;)I" } : Jvm.MethodName)) ∈ lw_all := lw_g (lw_at lw_m3 217 rfl) rfl
theorem q805 : (Jvm.Cond.methodLink "ChairOld" (227 : Nat) ({ cls := "java/lang/Math", name := "min", desc := "(II)I" } : Jvm.MethodName)) ∈ lw_all := lw_g (lw_at lw_m4 1 rfl) rfl
theorem q806 : (Jvm.Cond.methodLink "ChairOld" (232 : Nat) ({ cls := "java/lang/Math", name := "max", desc := "(II)I" } : Jvm.MethodName)) ∈ lw_all := lw_g (lw_at lw_m4 2 rfl) rfl
theorem q808 : (Jvm.Cond.instanceMethod ({ cls := "ChairOld", name := "likely", desc := "(II)J" } : Jvm.MethodName)) ∈ lw_all := lw_g (lw_at lw_m4 4 rfl) rfl
theorem q809 : (Jvm.Cond.selects "ChairOld" ({ cls := "ChairOld", name := "likely", desc := "(II)J" } : Jvm.MethodName) ({ cls := "ChairOld", name := "likely", desc := "(II)J" } : Jvm.MethodName)) ∈ lw_all := lw_g (lw_at lw_m4 5 rfl) rfl
theorem q810 : (Jvm.Cond.code ({ cls := "ChairOld", name := "likely", desc := "(II)J" } : Jvm.MethodName) prog_1_method_31_code (5 : Nat) (Option.some Jvm.ClassFile.FieldType.long)) ∈ lw_all := lw_g (lw_at lw_m4 6 rfl) rfl
theorem q811 : (Jvm.Cond.methodLink "ChairOld" (256 : Nat) ({ cls := "ChairOld", name := "isPartKind", desc := "(I)Z" } : Jvm.MethodName)) ∈ lw_all := lw_g (lw_at lw_m4 7 rfl) rfl
theorem q812 : (Jvm.Cond.privateMethod ({ cls := "ChairOld", name := "isPartKind", desc := "(I)Z" } : Jvm.MethodName)) ∈ lw_tbl := lw_at lw_m4 8 rfl
theorem q813 : (Jvm.Cond.instanceMethod ({ cls := "ChairOld", name := "isPartKind", desc := "(I)Z" } : Jvm.MethodName)) ∈ lw_all := lw_g (lw_at lw_m4 9 rfl) rfl
theorem q814 : (Jvm.Cond.code ({ cls := "ChairOld", name := "isPartKind", desc := "(I)Z" } : Jvm.MethodName) prog_1_method_9_code (2 : Nat) (Option.some Jvm.ClassFile.FieldType.boolean)) ∈ lw_all := lw_g (lw_at lw_m4 10 rfl) rfl
theorem q815 : (Jvm.Cond.constantLong "ChairOld" (261 : Nat) (-9223372036854775808 : Int64)) ∈ lw_all := lw_g (lw_at lw_m4 11 rfl) rfl
theorem q816 : (Jvm.Cond.methodLink "ChairOld" (263 : Nat) ({ cls := "ChairOld", name := "findWeights", desc := "(I)V" } : Jvm.MethodName)) ∈ lw_all := lw_g (lw_at lw_m4 12 rfl) rfl
theorem q817 : (Jvm.Cond.privateMethod ({ cls := "ChairOld", name := "findWeights", desc := "(I)V" } : Jvm.MethodName)) ∈ lw_tbl := lw_at lw_m4 13 rfl
theorem q818 : (Jvm.Cond.instanceMethod ({ cls := "ChairOld", name := "findWeights", desc := "(I)V" } : Jvm.MethodName)) ∈ lw_all := lw_g (lw_at lw_m4 14 rfl) rfl
theorem q819 : (Jvm.Cond.code ({ cls := "ChairOld", name := "findWeights", desc := "(I)V" } : Jvm.MethodName) prog_1_method_28_code (3 : Nat) (Option.none : Option Jvm.ClassFile.FieldType)) ∈ lw_all := lw_g (lw_at lw_m4 15 rfl) rfl
theorem q820 : (Jvm.Cond.methodLink "ChairOld" (249 : Nat) ({ cls := "ChairOld", name := "findNumbers", desc := "(LChairOld$Part;)V" } : Jvm.MethodName)) ∈ lw_all := lw_g (lw_at lw_m4 16 rfl) rfl
theorem q821 : (Jvm.Cond.privateMethod ({ cls := "ChairOld", name := "findNumbers", desc := "(LChairOld$Part;)V" } : Jvm.MethodName)) ∈ lw_tbl := lw_at lw_m4 17 rfl
theorem q822 : (Jvm.Cond.instanceMethod ({ cls := "ChairOld", name := "findNumbers", desc := "(LChairOld$Part;)V" } : Jvm.MethodName)) ∈ lw_all := lw_g (lw_at lw_m4 18 rfl) rfl
theorem q823 : (Jvm.Cond.code ({ cls := "ChairOld", name := "findNumbers", desc := "(LChairOld$Part;)V" } : Jvm.MethodName) prog_1_method_25_code (5 : Nat) (Option.none : Option Jvm.ClassFile.FieldType)) ∈ lw_all := lw_g (lw_at lw_m4 19 rfl) rfl
theorem q824 : (Jvm.Cond.methodLink "ChairOld" (253 : Nat) ({ cls := "ChairOld", name := "weigh", desc := "()V" } : Jvm.MethodName)) ∈ lw_all := lw_g (lw_at lw_m4 20 rfl) rfl
theorem q825 : (Jvm.Cond.privateMethod ({ cls := "ChairOld", name := "weigh", desc := "()V" } : Jvm.MethodName)) ∈ lw_tbl := lw_at lw_m4 21 rfl
theorem q826 : (Jvm.Cond.instanceMethod ({ cls := "ChairOld", name := "weigh", desc := "()V" } : Jvm.MethodName)) ∈ lw_all := lw_g (lw_at lw_m4 22 rfl) rfl
theorem q827 : (Jvm.Cond.code ({ cls := "ChairOld", name := "weigh", desc := "()V" } : Jvm.MethodName) prog_1_method_27_code (7 : Nat) (Option.none : Option Jvm.ClassFile.FieldType)) ∈ lw_all := lw_g (lw_at lw_m4 23 rfl) rfl
theorem q828 : (Jvm.Cond.methodLink "ChairOld" (246 : Nat) ({ cls := "ChairOld", name := "numberAt", desc := "(II)I" } : Jvm.MethodName)) ∈ lw_all := lw_g (lw_at lw_m4 24 rfl) rfl
theorem q829 : (Jvm.Cond.privateMethod ({ cls := "ChairOld", name := "numberAt", desc := "(II)I" } : Jvm.MethodName)) ∈ lw_tbl := lw_at lw_m4 25 rfl
theorem q830 : (Jvm.Cond.instanceMethod ({ cls := "ChairOld", name := "numberAt", desc := "(II)I" } : Jvm.MethodName)) ∈ lw_all := lw_g (lw_at lw_m4 26 rfl) rfl
theorem q831 : (Jvm.Cond.code ({ cls := "ChairOld", name := "numberAt", desc := "(II)I" } : Jvm.MethodName) prog_1_method_26_code (3 : Nat) (Option.some Jvm.ClassFile.FieldType.int)) ∈ lw_all := lw_g (lw_at lw_m4 27 rfl) rfl
theorem q832 : (Jvm.Cond.methodLink "ChairOld" (267 : Nat) ({ cls := "ChairOld", name := "common", desc := "(JJ)J" } : Jvm.MethodName)) ∈ lw_all := lw_g (lw_at lw_m4 28 rfl) rfl
theorem q833 : (Jvm.Cond.static ({ cls := "ChairOld", name := "common", desc := "(JJ)J" } : Jvm.MethodName)) ∈ lw_all := lw_g (lw_at lw_m4 29 rfl) rfl
theorem q834 : (Jvm.Cond.code ({ cls := "ChairOld", name := "common", desc := "(JJ)J" } : Jvm.MethodName) prog_1_method_30_code (10 : Nat) (Option.some Jvm.ClassFile.FieldType.long)) ∈ lw_all := lw_g (lw_at lw_m4 30 rfl) rfl
theorem q836 : (Jvm.Cond.instanceMethod ({ cls := "ChairOld", name := "percent", desc := "(I)I" } : Jvm.MethodName)) ∈ lw_all := lw_g (lw_at lw_m4 32 rfl) rfl
theorem q837 : (Jvm.Cond.selects "ChairOld" ({ cls := "ChairOld", name := "percent", desc := "(I)I" } : Jvm.MethodName) ({ cls := "ChairOld", name := "percent", desc := "(I)I" } : Jvm.MethodName)) ∈ lw_all := lw_g (lw_at lw_m4 33 rfl) rfl
theorem q838 : (Jvm.Cond.code ({ cls := "ChairOld", name := "percent", desc := "(I)I" } : Jvm.MethodName) prog_1_method_33_code (2 : Nat) (Option.some Jvm.ClassFile.FieldType.int)) ∈ lw_all := lw_g (lw_at lw_m4 34 rfl) rfl
theorem q839 : (Jvm.Cond.methodLink "ChairOld" (273 : Nat) ({ cls := "ChairOld", name := "percentOf", desc := "(I)I" } : Jvm.MethodName)) ∈ lw_all := lw_g (lw_at lw_m4 35 rfl) rfl
theorem q840 : (Jvm.Cond.privateMethod ({ cls := "ChairOld", name := "percentOf", desc := "(I)I" } : Jvm.MethodName)) ∈ lw_tbl := lw_at lw_m4 36 rfl
theorem q841 : (Jvm.Cond.instanceMethod ({ cls := "ChairOld", name := "percentOf", desc := "(I)I" } : Jvm.MethodName)) ∈ lw_all := lw_g (lw_at lw_m4 37 rfl) rfl
theorem q842 : (Jvm.Cond.code ({ cls := "ChairOld", name := "percentOf", desc := "(I)I" } : Jvm.MethodName) prog_1_method_32_code (2 : Nat) (Option.some Jvm.ClassFile.FieldType.int)) ∈ lw_all := lw_g (lw_at lw_m4 38 rfl) rfl
theorem q843 : (Jvm.Cond.constantLong "ChairOld" (271 : Nat) (100 : Int64)) ∈ lw_all := lw_g (lw_at lw_m4 39 rfl) rfl
theorem q845 : (Jvm.Cond.instanceMethod ({ cls := "ChairOld", name := "likeliest", desc := "(I)I" } : Jvm.MethodName)) ∈ lw_all := lw_g (lw_at lw_m4 41 rfl) rfl
theorem q846 : (Jvm.Cond.selects "ChairOld" ({ cls := "ChairOld", name := "likeliest", desc := "(I)I" } : Jvm.MethodName) ({ cls := "ChairOld", name := "likeliest", desc := "(I)I" } : Jvm.MethodName)) ∈ lw_all := lw_g (lw_at lw_m4 42 rfl) rfl
theorem q847 : (Jvm.Cond.code ({ cls := "ChairOld", name := "likeliest", desc := "(I)I" } : Jvm.MethodName) prog_1_method_35_code (2 : Nat) (Option.some Jvm.ClassFile.FieldType.int)) ∈ lw_all := lw_g (lw_at lw_m4 43 rfl) rfl
theorem q848 : (Jvm.Cond.methodLink "ChairOld" (277 : Nat) ({ cls := "ChairOld", name := "best", desc := "()I" } : Jvm.MethodName)) ∈ lw_all := lw_g (lw_at lw_m4 44 rfl) rfl
theorem q849 : (Jvm.Cond.privateMethod ({ cls := "ChairOld", name := "best", desc := "()I" } : Jvm.MethodName)) ∈ lw_tbl := lw_at lw_m4 45 rfl
theorem q850 : (Jvm.Cond.instanceMethod ({ cls := "ChairOld", name := "best", desc := "()I" } : Jvm.MethodName)) ∈ lw_all := lw_g (lw_at lw_m4 46 rfl) rfl
theorem q851 : (Jvm.Cond.code ({ cls := "ChairOld", name := "best", desc := "()I" } : Jvm.MethodName) prog_1_method_34_code (3 : Nat) (Option.some Jvm.ClassFile.FieldType.int)) ∈ lw_all := lw_g (lw_at lw_m4 47 rfl) rfl
theorem q853 : (Jvm.Cond.instanceMethod ({ cls := "ChairOld", name := "when", desc := "(II)I" } : Jvm.MethodName)) ∈ lw_all := lw_g (lw_at lw_m4 49 rfl) rfl
theorem q854 : (Jvm.Cond.selects "ChairOld" ({ cls := "ChairOld", name := "when", desc := "(II)I" } : Jvm.MethodName) ({ cls := "ChairOld", name := "when", desc := "(II)I" } : Jvm.MethodName)) ∈ lw_all := lw_g (lw_at lw_m4 50 rfl) rfl
theorem q855 : (Jvm.Cond.code ({ cls := "ChairOld", name := "when", desc := "(II)I" } : Jvm.MethodName) prog_1_method_37_code (5 : Nat) (Option.some Jvm.ClassFile.FieldType.int)) ∈ lw_all := lw_g (lw_at lw_m4 51 rfl) rfl
theorem q856 : (Jvm.Cond.methodLink "ChairOld" (281 : Nat) ({ cls := "ChairOld", name := "whenOf", desc := "(I)I" } : Jvm.MethodName)) ∈ lw_all := lw_g (lw_at lw_m4 52 rfl) rfl
theorem q857 : (Jvm.Cond.privateMethod ({ cls := "ChairOld", name := "whenOf", desc := "(I)I" } : Jvm.MethodName)) ∈ lw_tbl := lw_at lw_m4 53 rfl
theorem q858 : (Jvm.Cond.instanceMethod ({ cls := "ChairOld", name := "whenOf", desc := "(I)I" } : Jvm.MethodName)) ∈ lw_all := lw_g (lw_at lw_m4 54 rfl) rfl
theorem q859 : (Jvm.Cond.code ({ cls := "ChairOld", name := "whenOf", desc := "(I)I" } : Jvm.MethodName) prog_1_method_36_code (4 : Nat) (Option.some Jvm.ClassFile.FieldType.int)) ∈ lw_all := lw_g (lw_at lw_m4 55 rfl) rfl
theorem q861 : (Jvm.Cond.instanceMethod ({ cls := "ChairOld", name := "whole", desc := "(I)I" } : Jvm.MethodName)) ∈ lw_all := lw_g (lw_at lw_m4 57 rfl) rfl
theorem q862 : (Jvm.Cond.selects "ChairOld" ({ cls := "ChairOld", name := "whole", desc := "(I)I" } : Jvm.MethodName) ({ cls := "ChairOld", name := "whole", desc := "(I)I" } : Jvm.MethodName)) ∈ lw_all := lw_g (lw_at lw_m4 58 rfl) rfl
theorem q863 : (Jvm.Cond.code ({ cls := "ChairOld", name := "whole", desc := "(I)I" } : Jvm.MethodName) prog_1_method_39_code (4 : Nat) (Option.some Jvm.ClassFile.FieldType.int)) ∈ lw_all := lw_g (lw_at lw_m4 59 rfl) rfl
theorem q864 : (Jvm.Cond.methodLink "ChairOld" (286 : Nat) ({ cls := "ChairOld", name := "two", desc := "()I" } : Jvm.MethodName)) ∈ lw_all := lw_g (lw_at lw_m4 60 rfl) rfl
theorem q865 : (Jvm.Cond.privateMethod ({ cls := "ChairOld", name := "two", desc := "()I" } : Jvm.MethodName)) ∈ lw_tbl := lw_at lw_m4 61 rfl
theorem q866 : (Jvm.Cond.instanceMethod ({ cls := "ChairOld", name := "two", desc := "()I" } : Jvm.MethodName)) ∈ lw_all := lw_g (lw_at lw_m4 62 rfl) rfl
theorem q867 : (Jvm.Cond.code ({ cls := "ChairOld", name := "two", desc := "()I" } : Jvm.MethodName) prog_1_method_38_code (9 : Nat) (Option.some Jvm.ClassFile.FieldType.int)) ∈ lw_all := lw_g (lw_at lw_m4 63 rfl) rfl
theorem q868 : (Jvm.Cond.constantLong "ChairOld" (284 : Nat) (10000 : Int64)) ∈ lw_all := lw_g (lw_at lw_m4 64 rfl) rfl
theorem q870 : (Jvm.Cond.instanceMethod ({ cls := "ChairOld", name := "odd", desc := "()I" } : Jvm.MethodName)) ∈ lw_all := lw_g (lw_at lw_m4 66 rfl) rfl
theorem q871 : (Jvm.Cond.selects "ChairOld" ({ cls := "ChairOld", name := "odd", desc := "()I" } : Jvm.MethodName) ({ cls := "ChairOld", name := "odd", desc := "()I" } : Jvm.MethodName)) ∈ lw_all := lw_g (lw_at lw_m4 67 rfl) rfl
theorem q872 : (Jvm.Cond.code ({ cls := "ChairOld", name := "odd", desc := "()I" } : Jvm.MethodName) prog_1_method_40_code (4 : Nat) (Option.some Jvm.ClassFile.FieldType.int)) ∈ lw_all := lw_g (lw_at lw_m4 68 rfl) rfl
theorem q873 : (Jvm.Cond.methodLink "ChairOld" (289 : Nat) ({ cls := "java/lang/Math", name := "abs", desc := "(I)I" } : Jvm.MethodName)) ∈ lw_all := lw_g (lw_at lw_m4 69 rfl) rfl
theorem q877 : (Jvm.Cond.instanceMethod ({ cls := "ChairOld", name := "next", desc := "(I)I" } : Jvm.MethodName)) ∈ lw_all := lw_g (lw_at lw_m4 73 rfl) rfl
theorem q878 : (Jvm.Cond.selects "ChairOld" ({ cls := "ChairOld", name := "next", desc := "(I)I" } : Jvm.MethodName) ({ cls := "ChairOld", name := "next", desc := "(I)I" } : Jvm.MethodName)) ∈ lw_all := lw_g (lw_at lw_m4 74 rfl) rfl
theorem q879 : (Jvm.Cond.code ({ cls := "ChairOld", name := "next", desc := "(I)I" } : Jvm.MethodName) prog_1_method_41_code (12 : Nat) (Option.some Jvm.ClassFile.FieldType.int)) ∈ lw_all := lw_g (lw_at lw_m4 75 rfl) rfl
theorem q880 : (Jvm.Cond.methodLink "ChairOld" (292 : Nat) ({ cls := "java/lang/Math", name := "max", desc := "(JJ)J" } : Jvm.MethodName)) ∈ lw_all := lw_g (lw_at lw_m4 76 rfl) rfl
theorem q884 : (Jvm.Cond.instanceMethod ({ cls := "ChairOld", name := "named", desc := "(II)I" } : Jvm.MethodName)) ∈ lw_all := lw_g (lw_at lw_m4 80 rfl) rfl
theorem q885 : (Jvm.Cond.selects "ChairOld" ({ cls := "ChairOld", name := "named", desc := "(II)I" } : Jvm.MethodName) ({ cls := "ChairOld", name := "named", desc := "(II)I" } : Jvm.MethodName)) ∈ lw_all := lw_g (lw_at lw_m4 81 rfl) rfl
theorem q886 : (Jvm.Cond.code ({ cls := "ChairOld", name := "named", desc := "(II)I" } : Jvm.MethodName) prog_1_method_45_code (3 : Nat) (Option.some Jvm.ClassFile.FieldType.int)) ∈ lw_all := lw_g (lw_at lw_m4 82 rfl) rfl
theorem q887 : (Jvm.Cond.methodLink "ChairOld" (305 : Nat) ({ cls := "ChairOld", name := "isSet", desc := "(I)Z" } : Jvm.MethodName)) ∈ lw_all := lw_g (lw_at lw_m4 83 rfl) rfl
theorem q888 : (Jvm.Cond.static ({ cls := "ChairOld", name := "isSet", desc := "(I)Z" } : Jvm.MethodName)) ∈ lw_all := lw_g (lw_at lw_m4 84 rfl) rfl
theorem q889 : (Jvm.Cond.code ({ cls := "ChairOld", name := "isSet", desc := "(I)Z" } : Jvm.MethodName) prog_1_method_7_code (1 : Nat) (Option.some Jvm.ClassFile.FieldType.boolean)) ∈ lw_all := lw_g (lw_at lw_m4 85 rfl) rfl
theorem q890 : (Jvm.Cond.methodLink "ChairOld" (308 : Nat) ({ cls := "ChairOld", name := "unseen", desc := "(I)I" } : Jvm.MethodName)) ∈ lw_all := lw_g (lw_at lw_m4 86 rfl) rfl
theorem q891 : (Jvm.Cond.privateMethod ({ cls := "ChairOld", name := "unseen", desc := "(I)I" } : Jvm.MethodName)) ∈ lw_tbl := lw_at lw_m4 87 rfl
theorem q892 : (Jvm.Cond.instanceMethod ({ cls := "ChairOld", name := "unseen", desc := "(I)I" } : Jvm.MethodName)) ∈ lw_all := lw_g (lw_at lw_m4 88 rfl) rfl
theorem q893 : (Jvm.Cond.code ({ cls := "ChairOld", name := "unseen", desc := "(I)I" } : Jvm.MethodName) prog_1_method_42_code (4 : Nat) (Option.some Jvm.ClassFile.FieldType.int)) ∈ lw_all := lw_g (lw_at lw_m4 89 rfl) rfl
theorem q894 : (Jvm.Cond.methodLink "ChairOld" (311 : Nat) ({ cls := "ChairOld", name := "namedOf", desc := "(IIJ)I" } : Jvm.MethodName)) ∈ lw_all := lw_g (lw_at lw_m4 90 rfl) rfl
theorem q895 : (Jvm.Cond.privateMethod ({ cls := "ChairOld", name := "namedOf", desc := "(IIJ)I" } : Jvm.MethodName)) ∈ lw_tbl := lw_at lw_m4 91 rfl
theorem q896 : (Jvm.Cond.instanceMethod ({ cls := "ChairOld", name := "namedOf", desc := "(IIJ)I" } : Jvm.MethodName)) ∈ lw_all := lw_g (lw_at lw_m4 92 rfl) rfl
theorem q897 : (Jvm.Cond.code ({ cls := "ChairOld", name := "namedOf", desc := "(IIJ)I" } : Jvm.MethodName) prog_1_method_44_code (8 : Nat) (Option.some Jvm.ClassFile.FieldType.int)) ∈ lw_all := lw_g (lw_at lw_m4 93 rfl) rfl
theorem q898 : (Jvm.Cond.methodLink "ChairOld" (298 : Nat) ({ cls := "java/lang/Integer", name := "bitCount", desc := "(I)I" } : Jvm.MethodName)) ∈ lw_all := lw_g (lw_at lw_m4 94 rfl) rfl
theorem q904 : (Jvm.Cond.constantLong "ChairOld" (303 : Nat) (1000 : Int64)) ∈ lw_all := lw_g (lw_at lw_m4 100 rfl) rfl
theorem q905 : (Jvm.Cond.methodLink "ChairOld" (294 : Nat) ({ cls := "ChairOld", name := "namedBy", desc := "(III)J" } : Jvm.MethodName)) ∈ lw_all := lw_g (lw_at lw_m4 101 rfl) rfl
theorem q906 : (Jvm.Cond.privateMethod ({ cls := "ChairOld", name := "namedBy", desc := "(III)J" } : Jvm.MethodName)) ∈ lw_tbl := lw_at lw_m4 102 rfl
theorem q907 : (Jvm.Cond.instanceMethod ({ cls := "ChairOld", name := "namedBy", desc := "(III)J" } : Jvm.MethodName)) ∈ lw_all := lw_g (lw_at lw_m4 103 rfl) rfl
theorem q908 : (Jvm.Cond.code ({ cls := "ChairOld", name := "namedBy", desc := "(III)J" } : Jvm.MethodName) prog_1_method_43_code (7 : Nat) (Option.some Jvm.ClassFile.FieldType.long)) ∈ lw_all := lw_g (lw_at lw_m4 104 rfl) rfl
theorem q910 : (Jvm.Cond.instanceMethod ({ cls := "ChairOld", name := "plan", desc := "(II)I" } : Jvm.MethodName)) ∈ lw_all := lw_g (lw_at lw_m4 106 rfl) rfl
theorem q911 : (Jvm.Cond.selects "ChairOld" ({ cls := "ChairOld", name := "plan", desc := "(II)I" } : Jvm.MethodName) ({ cls := "ChairOld", name := "plan", desc := "(II)I" } : Jvm.MethodName)) ∈ lw_all := lw_g (lw_at lw_m4 107 rfl) rfl
theorem q912 : (Jvm.Cond.code ({ cls := "ChairOld", name := "plan", desc := "(II)I" } : Jvm.MethodName) prog_1_method_47_code (10 : Nat) (Option.some Jvm.ClassFile.FieldType.int)) ∈ lw_all := lw_g (lw_at lw_m4 108 rfl) rfl
theorem q913 : (Jvm.Cond.methodLink "ChairOld" (315 : Nat) ({ cls := "ChairOld", name := "minutesOf", desc := "(I)I" } : Jvm.MethodName)) ∈ lw_all := lw_g (lw_at lw_m4 109 rfl) rfl
theorem q914 : (Jvm.Cond.privateMethod ({ cls := "ChairOld", name := "minutesOf", desc := "(I)I" } : Jvm.MethodName)) ∈ lw_tbl := lw_at lw_m4 110 rfl
theorem q915 : (Jvm.Cond.instanceMethod ({ cls := "ChairOld", name := "minutesOf", desc := "(I)I" } : Jvm.MethodName)) ∈ lw_all := lw_g (lw_at lw_m4 111 rfl) rfl
theorem q916 : (Jvm.Cond.code ({ cls := "ChairOld", name := "minutesOf", desc := "(I)I" } : Jvm.MethodName) prog_1_method_46_code (4 : Nat) (Option.some Jvm.ClassFile.FieldType.int)) ∈ lw_all := lw_g (lw_at lw_m4 112 rfl) rfl
theorem q918 : (Jvm.Cond.instanceMethod ({ cls := "ChairOld", name := "believed", desc := "(II)I" } : Jvm.MethodName)) ∈ lw_all := lw_g (lw_at lw_m4 114 rfl) rfl
theorem q919 : (Jvm.Cond.selects "ChairOld" ({ cls := "ChairOld", name := "believed", desc := "(II)I" } : Jvm.MethodName) ({ cls := "ChairOld", name := "believed", desc := "(II)I" } : Jvm.MethodName)) ∈ lw_all := lw_g (lw_at lw_m4 115 rfl) rfl
theorem q920 : (Jvm.Cond.code ({ cls := "ChairOld", name := "believed", desc := "(II)I" } : Jvm.MethodName) prog_1_method_49_code (3 : Nat) (Option.some Jvm.ClassFile.FieldType.int)) ∈ lw_all := lw_g (lw_at lw_m4 116 rfl) rfl
theorem q921 : (Jvm.Cond.methodLink "ChairOld" (321 : Nat) ({ cls := "ChairOld", name := "believedBy", desc := "(I)I" } : Jvm.MethodName)) ∈ lw_all := lw_g (lw_at lw_m4 117 rfl) rfl
theorem q922 : (Jvm.Cond.privateMethod ({ cls := "ChairOld", name := "believedBy", desc := "(I)I" } : Jvm.MethodName)) ∈ lw_tbl := lw_at lw_m4 118 rfl
theorem q923 : (Jvm.Cond.instanceMethod ({ cls := "ChairOld", name := "believedBy", desc := "(I)I" } : Jvm.MethodName)) ∈ lw_all := lw_g (lw_at lw_m4 119 rfl) rfl
theorem q924 : (Jvm.Cond.code ({ cls := "ChairOld", name := "believedBy", desc := "(I)I" } : Jvm.MethodName) prog_1_method_48_code (2 : Nat) (Option.some Jvm.ClassFile.FieldType.int)) ∈ lw_all := lw_g (lw_at lw_m4 120 rfl) rfl
theorem q925 : (Jvm.Cond.methodLink "ChairOld" (318 : Nat) ({ cls := "ChairOld", name := "weighMade", desc := "(I)V" } : Jvm.MethodName)) ∈ lw_all := lw_g (lw_at lw_m4 121 rfl) rfl
theorem q926 : (Jvm.Cond.privateMethod ({ cls := "ChairOld", name := "weighMade", desc := "(I)V" } : Jvm.MethodName)) ∈ lw_tbl := lw_at lw_m4 122 rfl
theorem q927 : (Jvm.Cond.instanceMethod ({ cls := "ChairOld", name := "weighMade", desc := "(I)V" } : Jvm.MethodName)) ∈ lw_all := lw_g (lw_at lw_m4 123 rfl) rfl
theorem q928 : (Jvm.Cond.code ({ cls := "ChairOld", name := "weighMade", desc := "(I)V" } : Jvm.MethodName) prog_1_method_29_code (3 : Nat) (Option.none : Option Jvm.ClassFile.FieldType)) ∈ lw_all := lw_g (lw_at lw_m4 124 rfl) rfl
theorem q930 : (Jvm.Cond.instanceMethod ({ cls := "ChairOld", name := "cheapest", desc := "(III)I" } : Jvm.MethodName)) ∈ lw_all := lw_g (lw_at lw_m4 126 rfl) rfl
theorem q931 : (Jvm.Cond.selects "ChairOld" ({ cls := "ChairOld", name := "cheapest", desc := "(III)I" } : Jvm.MethodName) ({ cls := "ChairOld", name := "cheapest", desc := "(III)I" } : Jvm.MethodName)) ∈ lw_all := lw_g (lw_at lw_m4 127 rfl) rfl
theorem q932 : (Jvm.Cond.code ({ cls := "ChairOld", name := "cheapest", desc := "(III)I" } : Jvm.MethodName) prog_1_method_51_code (6 : Nat) (Option.some Jvm.ClassFile.FieldType.int)) ∈ lw_all := lw_g (lw_at lw_m4 128 rfl) rfl
theorem q933 : (Jvm.Cond.methodLink "ChairOld" (324 : Nat) ({ cls := "ChairOld", name := "costOf", desc := "(I)I" } : Jvm.MethodName)) ∈ lw_all := lw_g (lw_at lw_m4 129 rfl) rfl
theorem q934 : (Jvm.Cond.privateMethod ({ cls := "ChairOld", name := "costOf", desc := "(I)I" } : Jvm.MethodName)) ∈ lw_tbl := lw_at lw_m4 130 rfl
theorem q935 : (Jvm.Cond.instanceMethod ({ cls := "ChairOld", name := "costOf", desc := "(I)I" } : Jvm.MethodName)) ∈ lw_all := lw_g (lw_at lw_m4 131 rfl) rfl
theorem q936 : (Jvm.Cond.code ({ cls := "ChairOld", name := "costOf", desc := "(I)I" } : Jvm.MethodName) prog_1_method_50_code (4 : Nat) (Option.some Jvm.ClassFile.FieldType.int)) ∈ lw_all := lw_g (lw_at lw_m4 132 rfl) rfl
theorem q938 : (Jvm.Cond.instanceMethod ({ cls := "ChairOld", name := "spoils", desc := "(II)I" } : Jvm.MethodName)) ∈ lw_all := lw_g (lw_at lw_m4 134 rfl) rfl
theorem q939 : (Jvm.Cond.selects "ChairOld" ({ cls := "ChairOld", name := "spoils", desc := "(II)I" } : Jvm.MethodName) ({ cls := "ChairOld", name := "spoils", desc := "(II)I" } : Jvm.MethodName)) ∈ lw_all := lw_g (lw_at lw_m4 135 rfl) rfl
theorem q940 : (Jvm.Cond.code ({ cls := "ChairOld", name := "spoils", desc := "(II)I" } : Jvm.MethodName) prog_1_method_52_code (7 : Nat) (Option.some Jvm.ClassFile.FieldType.int)) ∈ lw_all := lw_g (lw_at lw_m4 136 rfl) rfl
theorem q942 : (Jvm.Cond.instanceMethod ({ cls := "ChairOld", name := "price", desc := "(I)I" } : Jvm.MethodName)) ∈ lw_all := lw_g (lw_at lw_m4 138 rfl) rfl
theorem q943 : (Jvm.Cond.selects "ChairOld" ({ cls := "ChairOld", name := "price", desc := "(I)I" } : Jvm.MethodName) ({ cls := "ChairOld", name := "price", desc := "(I)I" } : Jvm.MethodName)) ∈ lw_all := lw_g (lw_at lw_m4 139 rfl) rfl
theorem q944 : (Jvm.Cond.code ({ cls := "ChairOld", name := "price", desc := "(I)I" } : Jvm.MethodName) prog_1_method_54_code (4 : Nat) (Option.some Jvm.ClassFile.FieldType.int)) ∈ lw_all := lw_g (lw_at lw_m4 140 rfl) rfl
theorem q945 : (Jvm.Cond.methodLink "ChairOld" (327 : Nat) ({ cls := "ChairOld", name := "priceOf", desc := "(I)I" } : Jvm.MethodName)) ∈ lw_all := lw_g (lw_at lw_m4 141 rfl) rfl
theorem q946 : (Jvm.Cond.privateMethod ({ cls := "ChairOld", name := "priceOf", desc := "(I)I" } : Jvm.MethodName)) ∈ lw_tbl := lw_at lw_m4 142 rfl
theorem q947 : (Jvm.Cond.instanceMethod ({ cls := "ChairOld", name := "priceOf", desc := "(I)I" } : Jvm.MethodName)) ∈ lw_all := lw_g (lw_at lw_m4 143 rfl) rfl
theorem q948 : (Jvm.Cond.code ({ cls := "ChairOld", name := "priceOf", desc := "(I)I" } : Jvm.MethodName) prog_1_method_53_code (4 : Nat) (Option.some Jvm.ClassFile.FieldType.int)) ∈ lw_all := lw_g (lw_at lw_m4 144 rfl) rfl
theorem q950 : (Jvm.Cond.instanceMethod ({ cls := "ChairOld", name := "paper", desc := "(II)I" } : Jvm.MethodName)) ∈ lw_all := lw_g (lw_at lw_m4 146 rfl) rfl
theorem q951 : (Jvm.Cond.selects "ChairOld" ({ cls := "ChairOld", name := "paper", desc := "(II)I" } : Jvm.MethodName) ({ cls := "ChairOld", name := "paper", desc := "(II)I" } : Jvm.MethodName)) ∈ lw_all := lw_g (lw_at lw_m4 147 rfl) rfl
theorem q952 : (Jvm.Cond.code ({ cls := "ChairOld", name := "paper", desc := "(II)I" } : Jvm.MethodName) prog_1_method_55_code (3 : Nat) (Option.some Jvm.ClassFile.FieldType.int)) ∈ lw_all := lw_g (lw_at lw_m4 148 rfl) rfl
theorem q954 : (Jvm.Cond.methodLink "ChairOld" (333 : Nat) ({ cls := "ChairOld$Paper", name := "<init>", desc := "(III)V" } : Jvm.MethodName)) ∈ lw_all := lw_g (lw_at lw_m4 150 rfl) rfl
theorem q959 : (Jvm.Cond.fieldLinkNest "ChairOld" (345 : Nat) "ChairOld$Paper" "from" "I" "ChairOld") ∈ lw_tbl := lw_at lw_m4 155 rfl
theorem q961 : (Jvm.Cond.fieldLinkNest "ChairOld" (348 : Nat) "ChairOld$Paper" "to" "I" "ChairOld") ∈ lw_tbl := lw_at lw_m4 157 rfl
theorem q963 : (Jvm.Cond.fieldLinkNest "ChairOld" (338 : Nat) "ChairOld$Paper" "house" "I" "ChairOld") ∈ lw_tbl := lw_at lw_m4 159 rfl
theorem q972 : (Jvm.Cond.instanceMethod ({ cls := "ChairOld", name := "papers", desc := "(I)I" } : Jvm.MethodName)) ∈ lw_all := lw_g (lw_at lw_m4 168 rfl) rfl
theorem q973 : (Jvm.Cond.selects "ChairOld" ({ cls := "ChairOld", name := "papers", desc := "(I)I" } : Jvm.MethodName) ({ cls := "ChairOld", name := "papers", desc := "(I)I" } : Jvm.MethodName)) ∈ lw_all := lw_g (lw_at lw_m4 169 rfl) rfl
theorem q974 : (Jvm.Cond.code ({ cls := "ChairOld", name := "papers", desc := "(I)I" } : Jvm.MethodName) prog_1_method_59_code (2 : Nat) (Option.some Jvm.ClassFile.FieldType.int)) ∈ lw_all := lw_g (lw_at lw_m4 170 rfl) rfl
theorem q975 : (Jvm.Cond.methodLink "ChairOld" (354 : Nat) ({ cls := "ChairOld", name := "clash", desc := "()I" } : Jvm.MethodName)) ∈ lw_all := lw_g (lw_at lw_m4 171 rfl) rfl
theorem q976 : (Jvm.Cond.privateMethod ({ cls := "ChairOld", name := "clash", desc := "()I" } : Jvm.MethodName)) ∈ lw_tbl := lw_at lw_m4 172 rfl
theorem q977 : (Jvm.Cond.instanceMethod ({ cls := "ChairOld", name := "clash", desc := "()I" } : Jvm.MethodName)) ∈ lw_all := lw_g (lw_at lw_m4 173 rfl) rfl
theorem q978 : (Jvm.Cond.code ({ cls := "ChairOld", name := "clash", desc := "()I" } : Jvm.MethodName) prog_1_method_57_code (3 : Nat) (Option.some Jvm.ClassFile.FieldType.int)) ∈ lw_all := lw_g (lw_at lw_m4 174 rfl) rfl
theorem q979 : (Jvm.Cond.methodLink "ChairOld" (341 : Nat) ({ cls := "ChairOld$Paper", name := "meets", desc := "(LChairOld$Paper;)Z" } : Jvm.MethodName)) ∈ lw_all := lw_g (lw_at lw_m4 175 rfl) rfl
theorem q983 : (Jvm.Cond.methodLink "ChairOld" (357 : Nat) ({ cls := "ChairOld", name := "gaps", desc := "()I" } : Jvm.MethodName)) ∈ lw_all := lw_g (lw_at lw_m4 179 rfl) rfl
theorem q984 : (Jvm.Cond.privateMethod ({ cls := "ChairOld", name := "gaps", desc := "()I" } : Jvm.MethodName)) ∈ lw_tbl := lw_at lw_m4 180 rfl
theorem q985 : (Jvm.Cond.instanceMethod ({ cls := "ChairOld", name := "gaps", desc := "()I" } : Jvm.MethodName)) ∈ lw_all := lw_g (lw_at lw_m4 181 rfl) rfl
theorem q986 : (Jvm.Cond.code ({ cls := "ChairOld", name := "gaps", desc := "()I" } : Jvm.MethodName) prog_1_method_58_code (5 : Nat) (Option.some Jvm.ClassFile.FieldType.int)) ∈ lw_all := lw_g (lw_at lw_m4 182 rfl) rfl
theorem q987 : (Jvm.Cond.methodLink "ChairOld" (351 : Nat) ({ cls := "ChairOld", name := "houseOf", desc := "(I)I" } : Jvm.MethodName)) ∈ lw_all := lw_g (lw_at lw_m4 183 rfl) rfl
theorem q988 : (Jvm.Cond.privateMethod ({ cls := "ChairOld", name := "houseOf", desc := "(I)I" } : Jvm.MethodName)) ∈ lw_tbl := lw_at lw_m4 184 rfl
theorem q989 : (Jvm.Cond.instanceMethod ({ cls := "ChairOld", name := "houseOf", desc := "(I)I" } : Jvm.MethodName)) ∈ lw_all := lw_g (lw_at lw_m4 185 rfl) rfl
theorem q990 : (Jvm.Cond.code ({ cls := "ChairOld", name := "houseOf", desc := "(I)I" } : Jvm.MethodName) prog_1_method_56_code (3 : Nat) (Option.some Jvm.ClassFile.FieldType.int)) ∈ lw_all := lw_g (lw_at lw_m4 186 rfl) rfl
theorem q991 : (Jvm.Cond.methodLink "ChairOld" (335 : Nat) ({ cls := "ChairOld$Paper", name := "has", desc := "(I)Z" } : Jvm.MethodName)) ∈ lw_all := lw_g (lw_at lw_m4 187 rfl) rfl
theorem q996 : (Jvm.Cond.instanceMethod ({ cls := "ChairOld", name := "house", desc := "(I)I" } : Jvm.MethodName)) ∈ lw_all := lw_g (lw_at lw_m4 192 rfl) rfl
theorem q997 : (Jvm.Cond.selects "ChairOld" ({ cls := "ChairOld", name := "house", desc := "(I)I" } : Jvm.MethodName) ({ cls := "ChairOld", name := "house", desc := "(I)I" } : Jvm.MethodName)) ∈ lw_all := lw_g (lw_at lw_m4 193 rfl) rfl
theorem q998 : (Jvm.Cond.code ({ cls := "ChairOld", name := "house", desc := "(I)I" } : Jvm.MethodName) prog_1_method_60_code (2 : Nat) (Option.some Jvm.ClassFile.FieldType.int)) ∈ lw_all := lw_g (lw_at lw_m4 194 rfl) rfl
theorem q1000 : (Jvm.Cond.instanceMethod ({ cls := "ChairOld", name := "drawn", desc := "(III)I" } : Jvm.MethodName)) ∈ lw_all := lw_g (lw_at lw_m4 196 rfl) rfl
theorem q1001 : (Jvm.Cond.selects "ChairOld" ({ cls := "ChairOld", name := "drawn", desc := "(III)I" } : Jvm.MethodName) ({ cls := "ChairOld", name := "drawn", desc := "(III)I" } : Jvm.MethodName)) ∈ lw_all := lw_g (lw_at lw_m4 197 rfl) rfl
theorem q1002 : (Jvm.Cond.code ({ cls := "ChairOld", name := "drawn", desc := "(III)I" } : Jvm.MethodName) prog_1_method_61_code (10 : Nat) (Option.some Jvm.ClassFile.FieldType.int)) ∈ lw_all := lw_g (lw_at lw_m4 198 rfl) rfl
theorem q1003 : (Jvm.Cond.constant "ChairOld" (360 : Nat) (1103515245 : Int32)) ∈ lw_all := lw_g (lw_at lw_m4 199 rfl) rfl
theorem q1005 : (Jvm.Cond.instanceMethod ({ cls := "ChairOld", name := "image", desc := "()I" } : Jvm.MethodName)) ∈ lw_all := lw_g (lw_at lw_m4 201 rfl) rfl
theorem q1006 : (Jvm.Cond.selects "ChairOld" ({ cls := "ChairOld", name := "image", desc := "()I" } : Jvm.MethodName) ({ cls := "ChairOld", name := "image", desc := "()I" } : Jvm.MethodName)) ∈ lw_all := lw_g (lw_at lw_m4 202 rfl) rfl
theorem q1007 : (Jvm.Cond.code ({ cls := "ChairOld", name := "image", desc := "()I" } : Jvm.MethodName) prog_1_method_62_code (3 : Nat) (Option.some Jvm.ClassFile.FieldType.int)) ∈ lw_all := lw_g (lw_at lw_m4 203 rfl) rfl
theorem q1009 : (Jvm.Cond.instanceMethod ({ cls := "ChairOld", name := "back", desc := "()I" } : Jvm.MethodName)) ∈ lw_all := lw_g (lw_at lw_m4 205 rfl) rfl
theorem q1010 : (Jvm.Cond.selects "ChairOld" ({ cls := "ChairOld", name := "back", desc := "()I" } : Jvm.MethodName) ({ cls := "ChairOld", name := "back", desc := "()I" } : Jvm.MethodName)) ∈ lw_all := lw_g (lw_at lw_m4 206 rfl) rfl
theorem q1011 : (Jvm.Cond.code ({ cls := "ChairOld", name := "back", desc := "()I" } : Jvm.MethodName) prog_1_method_63_code (3 : Nat) (Option.some Jvm.ClassFile.FieldType.int)) ∈ lw_all := lw_g (lw_at lw_m4 207 rfl) rfl
theorem q1013 : (Jvm.Cond.instanceMethod ({ cls := "ChairOld", name := "body", desc := "(I)I" } : Jvm.MethodName)) ∈ lw_all := lw_g (lw_at lw_m4 209 rfl) rfl
theorem q1014 : (Jvm.Cond.selects "ChairOld" ({ cls := "ChairOld", name := "body", desc := "(I)I" } : Jvm.MethodName) ({ cls := "ChairOld", name := "body", desc := "(I)I" } : Jvm.MethodName)) ∈ lw_all := lw_g (lw_at lw_m4 210 rfl) rfl
theorem q1015 : (Jvm.Cond.code ({ cls := "ChairOld", name := "body", desc := "(I)I" } : Jvm.MethodName) prog_1_method_68_code (2 : Nat) (Option.some Jvm.ClassFile.FieldType.int)) ∈ lw_all := lw_g (lw_at lw_m4 211 rfl) rfl
theorem q1016 : (Jvm.Cond.methodLink "ChairOld" (397 : Nat) ({ cls := "ChairOld", name := "made", desc := "(I)LChairOld$Plain;" } : Jvm.MethodName)) ∈ lw_all := lw_g (lw_at lw_m4 212 rfl) rfl
theorem q1017 : (Jvm.Cond.privateMethod ({ cls := "ChairOld", name := "made", desc := "(I)LChairOld$Plain;" } : Jvm.MethodName)) ∈ lw_tbl := lw_at lw_m4 213 rfl
theorem q1018 : (Jvm.Cond.instanceMethod ({ cls := "ChairOld", name := "made", desc := "(I)LChairOld$Plain;" } : Jvm.MethodName)) ∈ lw_all := lw_g (lw_at lw_m4 214 rfl) rfl
theorem q1019 : (Jvm.Cond.code ({ cls := "ChairOld", name := "made", desc := "(I)LChairOld$Plain;" } : Jvm.MethodName) prog_1_method_67_code (2 : Nat) (Option.some (Jvm.ClassFile.FieldType.object "ChairOld$Plain"))) ∈ lw_all := lw_g (lw_at lw_m4 215 rfl) rfl
theorem q1020 : (Jvm.Cond.classLink "ChairOld" (373 : Nat) "ChairOld$Old") ∈ lw_all := lw_g (lw_at lw_m4 216 rfl) rfl
theorem q1022 : (Jvm.Cond.methodLink "ChairOld" (375 : Nat) ({ cls := "ChairOld$Old", name := "<init>", desc := "(LChairOld;I)V" } : Jvm.MethodName)) ∈ lw_all := lw_g (lw_at lw_m4 218 rfl) rfl
theorem q1042 : (Jvm.Cond.classLink "ChairOld" (378 : Nat) "ChairOld$Mended") ∈ lw_all := lw_g (lw_at lw_m4 238 rfl) rfl
theorem q1044 : (Jvm.Cond.methodLink "ChairOld" (380 : Nat) ({ cls := "ChairOld$Mended", name := "<init>", desc := "(LChairOld;I)V" } : Jvm.MethodName)) ∈ lw_all := lw_g (lw_at lw_m5 0 rfl) rfl
theorem q1054 : (Jvm.Cond.classLink "ChairOld" (381 : Nat) "ChairOld$Aged") ∈ lw_all := lw_g (lw_at lw_m5 10 rfl) rfl
theorem q1056 : (Jvm.Cond.methodLink "ChairOld" (383 : Nat) ({ cls := "ChairOld$Aged", name := "<init>", desc := "(LChairOld;I)V" } : Jvm.MethodName)) ∈ lw_all := lw_g (lw_at lw_m5 12 rfl) rfl
theorem q1067 : (Jvm.Cond.classLink "ChairOld" (384 : Nat) "ChairOld$Split") ∈ lw_all := lw_g (lw_at lw_m5 23 rfl) rfl
theorem q1069 : (Jvm.Cond.methodLink "ChairOld" (386 : Nat) ({ cls := "ChairOld$Split", name := "<init>", desc := "(LChairOld;I)V" } : Jvm.MethodName)) ∈ lw_all := lw_g (lw_at lw_m5 25 rfl) rfl
theorem q1080 : (Jvm.Cond.classLink "ChairOld" (387 : Nat) "ChairOld$Cut") ∈ lw_all := lw_g (lw_at lw_m5 36 rfl) rfl
theorem q1082 : (Jvm.Cond.methodLink "ChairOld" (389 : Nat) ({ cls := "ChairOld$Cut", name := "<init>", desc := "(LChairOld;I)V" } : Jvm.MethodName)) ∈ lw_all := lw_g (lw_at lw_m5 38 rfl) rfl
theorem q1094 : (Jvm.Cond.classLink "ChairOld" (390 : Nat) "ChairOld$Fresh") ∈ lw_all := lw_g (lw_at lw_m5 50 rfl) rfl
theorem q1096 : (Jvm.Cond.methodLink "ChairOld" (392 : Nat) ({ cls := "ChairOld$Fresh", name := "<init>", desc := "(LChairOld;I)V" } : Jvm.MethodName)) ∈ lw_all := lw_g (lw_at lw_m5 52 rfl) rfl
theorem q1106 : (Jvm.Cond.classLink "ChairOld" (393 : Nat) "ChairOld$Foreign") ∈ lw_all := lw_g (lw_at lw_m5 62 rfl) rfl
theorem q1108 : (Jvm.Cond.methodLink "ChairOld" (395 : Nat) ({ cls := "ChairOld$Foreign", name := "<init>", desc := "(LChairOld;I)V" } : Jvm.MethodName)) ∈ lw_all := lw_g (lw_at lw_m5 64 rfl) rfl
theorem q1121 : (Jvm.Cond.methodLink "ChairOld" (396 : Nat) ({ cls := "ChairOld$Plain", name := "<init>", desc := "(LChairOld;I)V" } : Jvm.MethodName)) ∈ lw_all := lw_g (lw_at lw_m5 77 rfl) rfl
theorem q1126 : (Jvm.Cond.instanceMethod ({ cls := "ChairOld", name := "act", desc := "(III)I" } : Jvm.MethodName)) ∈ lw_all := lw_g (lw_at lw_m5 82 rfl) rfl
theorem q1127 : (Jvm.Cond.selects "ChairOld" ({ cls := "ChairOld", name := "act", desc := "(III)I" } : Jvm.MethodName) ({ cls := "ChairOld", name := "act", desc := "(III)I" } : Jvm.MethodName)) ∈ lw_all := lw_g (lw_at lw_m5 83 rfl) rfl
theorem q1128 : (Jvm.Cond.code ({ cls := "ChairOld", name := "act", desc := "(III)I" } : Jvm.MethodName) prog_1_method_70_code (6 : Nat) (Option.some Jvm.ClassFile.FieldType.int)) ∈ lw_all := lw_g (lw_at lw_m5 84 rfl) rfl
theorem q1129 : (Jvm.Cond.methodLink "ChairOld" (401 : Nat) ({ cls := "ChairOld", name := "isBody", desc := "(I)Z" } : Jvm.MethodName)) ∈ lw_all := lw_g (lw_at lw_m5 85 rfl) rfl
theorem q1130 : (Jvm.Cond.privateMethod ({ cls := "ChairOld", name := "isBody", desc := "(I)Z" } : Jvm.MethodName)) ∈ lw_tbl := lw_at lw_m5 86 rfl
theorem q1131 : (Jvm.Cond.instanceMethod ({ cls := "ChairOld", name := "isBody", desc := "(I)Z" } : Jvm.MethodName)) ∈ lw_all := lw_g (lw_at lw_m5 87 rfl) rfl
theorem q1132 : (Jvm.Cond.code ({ cls := "ChairOld", name := "isBody", desc := "(I)Z" } : Jvm.MethodName) prog_1_method_66_code (2 : Nat) (Option.some Jvm.ClassFile.FieldType.boolean)) ∈ lw_all := lw_g (lw_at lw_m5 88 rfl) rfl
theorem q1133 : (Jvm.Cond.interfaceEntry "ChairOld" (404 : Nat)) ∈ lw_tbl := lw_at lw_m5 89 rfl
theorem q1134 : (Jvm.Cond.methodLink "ChairOld" (404 : Nat) ({ cls := "ChairOld$Ages", name := "ages", desc := "(I)I" } : Jvm.MethodName)) ∈ lw_all := lw_g (lw_at lw_m5 90 rfl) rfl
theorem q1144 : (Jvm.Cond.privateMethod ({ cls := "ChairOld", name := "ran", desc := "(I)V" } : Jvm.MethodName)) ∈ lw_tbl := lw_at lw_m5 100 rfl
theorem q1145 : (Jvm.Cond.instanceMethod ({ cls := "ChairOld", name := "ran", desc := "(I)V" } : Jvm.MethodName)) ∈ lw_all := lw_g (lw_at lw_m5 101 rfl) rfl
theorem q1146 : (Jvm.Cond.code ({ cls := "ChairOld", name := "ran", desc := "(I)V" } : Jvm.MethodName) prog_1_method_65_code (2 : Nat) (Option.none : Option Jvm.ClassFile.FieldType)) ∈ lw_all := lw_g (lw_at lw_m5 102 rfl) rfl
theorem q1178 : (Jvm.Cond.interfaceEntry "ChairOld" (409 : Nat)) ∈ lw_tbl := lw_at lw_m5 134 rfl
theorem q1179 : (Jvm.Cond.methodLink "ChairOld" (409 : Nat) ({ cls := "ChairOld$Tells", name := "tells", desc := "(I)I" } : Jvm.MethodName)) ∈ lw_all := lw_g (lw_at lw_m5 135 rfl) rfl
theorem q1270 : (Jvm.Cond.methodLink "ChairOld" (414 : Nat) ({ cls := "ChairOld$Plain", name := "joins", desc := "(I)I" } : Jvm.MethodName)) ∈ lw_all := lw_g (lw_at lw_m5 226 rfl) rfl
theorem q1271 : (Jvm.Cond.methodLink "ChairOld" (417 : Nat) ({ cls := "ChairOld$Plain", name := "shows", desc := "(I)I" } : Jvm.MethodName)) ∈ lw_all := lw_g (lw_at lw_m5 227 rfl) rfl
theorem q1273 : (Jvm.Cond.instanceMethod ({ cls := "ChairOld", name := "trace", desc := "(I)I" } : Jvm.MethodName)) ∈ lw_all := lw_g (lw_at lw_m5 229 rfl) rfl
theorem q1274 : (Jvm.Cond.selects "ChairOld" ({ cls := "ChairOld", name := "trace", desc := "(I)I" } : Jvm.MethodName) ({ cls := "ChairOld", name := "trace", desc := "(I)I" } : Jvm.MethodName)) ∈ lw_all := lw_g (lw_at lw_m5 230 rfl) rfl
theorem q1275 : (Jvm.Cond.code ({ cls := "ChairOld", name := "trace", desc := "(I)I" } : Jvm.MethodName) prog_1_method_71_code (2 : Nat) (Option.some Jvm.ClassFile.FieldType.int)) ∈ lw_all := lw_g (lw_at lw_m5 231 rfl) rfl
theorem q1277 : (Jvm.Cond.instanceMethod ({ cls := "ChairOld", name := "keep", desc := "(II)I" } : Jvm.MethodName)) ∈ lw_all := lw_g (lw_at lw_m5 233 rfl) rfl
theorem q1278 : (Jvm.Cond.selects "ChairOld" ({ cls := "ChairOld", name := "keep", desc := "(II)I" } : Jvm.MethodName) ({ cls := "ChairOld", name := "keep", desc := "(II)I" } : Jvm.MethodName)) ∈ lw_all := lw_g (lw_at lw_m5 234 rfl) rfl
theorem q1279 : (Jvm.Cond.code ({ cls := "ChairOld", name := "keep", desc := "(II)I" } : Jvm.MethodName) prog_1_method_72_code (3 : Nat) (Option.some Jvm.ClassFile.FieldType.int)) ∈ lw_all := lw_g (lw_at lw_m5 235 rfl) rfl
theorem q1281 : (Jvm.Cond.instanceMethod ({ cls := "ChairOld", name := "row", desc := "(III)I" } : Jvm.MethodName)) ∈ lw_all := lw_g (lw_at lw_m5 237 rfl) rfl
theorem q1282 : (Jvm.Cond.selects "ChairOld" ({ cls := "ChairOld", name := "row", desc := "(III)I" } : Jvm.MethodName) ({ cls := "ChairOld", name := "row", desc := "(III)I" } : Jvm.MethodName)) ∈ lw_all := lw_g (lw_at lw_m5 238 rfl) rfl
theorem q1283 : (Jvm.Cond.codeWith ({ cls := "ChairOld", name := "row", desc := "(III)I" } : Jvm.MethodName) prog_1_method_74_code (5 : Nat) (Option.some Jvm.ClassFile.FieldType.int) [((24 : Nat), (35 : Nat), (38 : Nat), (438 : Nat))]) ∈ lw_all := lw_g (lw_at lw_m5 239 rfl) rfl
theorem q1284 : (Jvm.Cond.classLink "ChairOld" (438 : Nat) "java/lang/NegativeArraySizeException") ∈ lw_all := lw_g (lw_at lw_m6 0 rfl) rfl
theorem q1298 : (Jvm.Cond.methodLink "ChairOld" (434 : Nat) ({ cls := "ChairOld", name := "newRow", desc := "(II)LChairOld$Row;" } : Jvm.MethodName)) ∈ lw_all := lw_g (lw_at lw_m6 14 rfl) rfl
theorem q1299 : (Jvm.Cond.static ({ cls := "ChairOld", name := "newRow", desc := "(II)LChairOld$Row;" } : Jvm.MethodName)) ∈ lw_all := lw_g (lw_at lw_m6 15 rfl) rfl
theorem q1300 : (Jvm.Cond.code ({ cls := "ChairOld", name := "newRow", desc := "(II)LChairOld$Row;" } : Jvm.MethodName) prog_1_method_73_code (2 : Nat) (Option.some (Jvm.ClassFile.FieldType.object "ChairOld$Row"))) ∈ lw_all := lw_g (lw_at lw_m6 16 rfl) rfl
theorem q1302 : (Jvm.Cond.methodLink "ChairOld" (420 : Nat) ({ cls := "ChairOld$ByteRow", name := "<init>", desc := "(I)V" } : Jvm.MethodName)) ∈ lw_all := lw_g (lw_at lw_m6 18 rfl) rfl
theorem q1313 : (Jvm.Cond.classLink "ChairOld" (422 : Nat) "ChairOld$ShortRow") ∈ lw_all := lw_g (lw_at lw_m6 29 rfl) rfl
theorem q1315 : (Jvm.Cond.methodLink "ChairOld" (424 : Nat) ({ cls := "ChairOld$ShortRow", name := "<init>", desc := "(I)V" } : Jvm.MethodName)) ∈ lw_all := lw_g (lw_at lw_m6 31 rfl) rfl
theorem q1324 : (Jvm.Cond.classLink "ChairOld" (425 : Nat) "ChairOld$IntRow") ∈ lw_all := lw_g (lw_at lw_m6 40 rfl) rfl
theorem q1326 : (Jvm.Cond.methodLink "ChairOld" (427 : Nat) ({ cls := "ChairOld$IntRow", name := "<init>", desc := "(I)V" } : Jvm.MethodName)) ∈ lw_all := lw_g (lw_at lw_m6 42 rfl) rfl
theorem q1334 : (Jvm.Cond.classLink "ChairOld" (428 : Nat) "ChairOld$LongRow") ∈ lw_all := lw_g (lw_at lw_m6 50 rfl) rfl
theorem q1336 : (Jvm.Cond.methodLink "ChairOld" (430 : Nat) ({ cls := "ChairOld$LongRow", name := "<init>", desc := "(I)V" } : Jvm.MethodName)) ∈ lw_all := lw_g (lw_at lw_m6 52 rfl) rfl
theorem q1344 : (Jvm.Cond.classLink "ChairOld" (431 : Nat) "ChairOld$BooleanRow") ∈ lw_all := lw_g (lw_at lw_m6 60 rfl) rfl
theorem q1346 : (Jvm.Cond.methodLink "ChairOld" (433 : Nat) ({ cls := "ChairOld$BooleanRow", name := "<init>", desc := "(I)V" } : Jvm.MethodName)) ∈ lw_all := lw_g (lw_at lw_m6 62 rfl) rfl
theorem q1356 : (Jvm.Cond.instanceMethod ({ cls := "ChairOld", name := "put", desc := "(IIJ)I" } : Jvm.MethodName)) ∈ lw_all := lw_g (lw_at lw_m6 72 rfl) rfl
theorem q1357 : (Jvm.Cond.selects "ChairOld" ({ cls := "ChairOld", name := "put", desc := "(IIJ)I" } : Jvm.MethodName) ({ cls := "ChairOld", name := "put", desc := "(IIJ)I" } : Jvm.MethodName)) ∈ lw_all := lw_g (lw_at lw_m6 73 rfl) rfl
theorem q1358 : (Jvm.Cond.codeWith ({ cls := "ChairOld", name := "put", desc := "(IIJ)I" } : Jvm.MethodName) prog_1_method_75_code (6 : Nat) (Option.some Jvm.ClassFile.FieldType.int) [((9 : Nat), (31 : Nat), (32 : Nat), (126 : Nat)), ((9 : Nat), (31 : Nat), (37 : Nat), (124 : Nat)), ((9 : Nat), (31 : Nat), (42 : Nat), (128 : Nat))]) ∈ lw_all := lw_g (lw_at lw_m6 74 rfl) rfl
theorem q1359 : (Jvm.Cond.classLink "ChairOld" (440 : Nat) "ChairOld$Row") ∈ lw_all := lw_g (lw_at lw_m6 75 rfl) rfl
theorem q1360 : (Jvm.Cond.methodLink "ChairOld" (442 : Nat) ({ cls := "ChairOld$Row", name := "put", desc := "(IJ)Z" } : Jvm.MethodName)) ∈ lw_all := lw_g (lw_at lw_m6 76 rfl) rfl
theorem q1379 : (Jvm.Cond.instanceMethod ({ cls := "ChairOld", name := "element", desc := "(II)J" } : Jvm.MethodName)) ∈ lw_all := lw_g (lw_at lw_m6 95 rfl) rfl
theorem q1380 : (Jvm.Cond.selects "ChairOld" ({ cls := "ChairOld", name := "element", desc := "(II)J" } : Jvm.MethodName) ({ cls := "ChairOld", name := "element", desc := "(II)J" } : Jvm.MethodName)) ∈ lw_all := lw_g (lw_at lw_m6 96 rfl) rfl
theorem q1381 : (Jvm.Cond.codeWith ({ cls := "ChairOld", name := "element", desc := "(II)J" } : Jvm.MethodName) prog_1_method_76_code (4 : Nat) (Option.some Jvm.ClassFile.FieldType.long) [((11 : Nat), (24 : Nat), (25 : Nat), (126 : Nat)), ((11 : Nat), (24 : Nat), (30 : Nat), (124 : Nat)), ((11 : Nat), (24 : Nat), (35 : Nat), (128 : Nat))]) ∈ lw_all := lw_g (lw_at lw_m6 97 rfl) rfl
theorem q1382 : (Jvm.Cond.methodLink "ChairOld" (446 : Nat) ({ cls := "ChairOld$Row", name := "at", desc := "(I)J" } : Jvm.MethodName)) ∈ lw_all := lw_g (lw_at lw_m6 98 rfl) rfl
theorem q1399 : (Jvm.Cond.instanceMethod ({ cls := "ChairOld", name := "shift", desc := "(IIIII)I" } : Jvm.MethodName)) ∈ lw_all := lw_g (lw_at lw_m6 115 rfl) rfl
theorem q1400 : (Jvm.Cond.selects "ChairOld" ({ cls := "ChairOld", name := "shift", desc := "(IIIII)I" } : Jvm.MethodName) ({ cls := "ChairOld", name := "shift", desc := "(IIIII)I" } : Jvm.MethodName)) ∈ lw_all := lw_g (lw_at lw_m6 116 rfl) rfl
theorem q1401 : (Jvm.Cond.codeWith ({ cls := "ChairOld", name := "shift", desc := "(IIIII)I" } : Jvm.MethodName) prog_1_method_77_code (7 : Nat) (Option.some Jvm.ClassFile.FieldType.int) [((37 : Nat), (63 : Nat), (66 : Nat), (124 : Nat)), ((37 : Nat), (63 : Nat), (71 : Nat), (128 : Nat))]) ∈ lw_all := lw_g (lw_at lw_m6 117 rfl) rfl
theorem q1402 : (Jvm.Cond.methodLink "ChairOld" (447 : Nat) ({ cls := "ChairOld$Row", name := "copy", desc := "(ILChairOld$Row;II)V" } : Jvm.MethodName)) ∈ lw_all := lw_g (lw_at lw_m6 118 rfl) rfl
theorem q1433 : (Jvm.Cond.instanceMethod ({ cls := "ChairOld", name := "taken", desc := "(II)I" } : Jvm.MethodName)) ∈ lw_all := lw_g (lw_at lw_m6 149 rfl) rfl
theorem q1434 : (Jvm.Cond.selects "ChairOld" ({ cls := "ChairOld", name := "taken", desc := "(II)I" } : Jvm.MethodName) ({ cls := "ChairOld", name := "taken", desc := "(II)I" } : Jvm.MethodName)) ∈ lw_all := lw_g (lw_at lw_m6 150 rfl) rfl
theorem q1435 : (Jvm.Cond.codeWith ({ cls := "ChairOld", name := "taken", desc := "(II)I" } : Jvm.MethodName) prog_1_method_78_code (4 : Nat) (Option.some Jvm.ClassFile.FieldType.int) [((19 : Nat), (46 : Nat), (47 : Nat), (126 : Nat)), ((19 : Nat), (46 : Nat), (51 : Nat), (124 : Nat))]) ∈ lw_all := lw_g (lw_at lw_m6 151 rfl) rfl
theorem q1436 : (Jvm.Cond.methodLink "ChairOld" (451 : Nat) ({ cls := "ChairOld$Plain", name := "isUnder", desc := "(I)Z" } : Jvm.MethodName)) ∈ lw_all := lw_g (lw_at lw_m6 152 rfl) rfl
theorem q1486 : (Jvm.Cond.methodLink "ChairOld" (454 : Nat) ({ cls := "ChairOld$Plain", name := "kind", desc := "()I" } : Jvm.MethodName)) ∈ lw_all := lw_g (lw_at lw_m6 202 rfl) rfl
theorem q1488 : (Jvm.Cond.instanceMethod ({ cls := "ChairOld", name := "count", desc := "(I)I" } : Jvm.MethodName)) ∈ lw_all := lw_g (lw_at lw_m6 204 rfl) rfl
theorem q1489 : (Jvm.Cond.selects "ChairOld" ({ cls := "ChairOld", name := "count", desc := "(I)I" } : Jvm.MethodName) ({ cls := "ChairOld", name := "count", desc := "(I)I" } : Jvm.MethodName)) ∈ lw_all := lw_g (lw_at lw_m6 205 rfl) rfl
theorem q1490 : (Jvm.Cond.code ({ cls := "ChairOld", name := "count", desc := "(I)I" } : Jvm.MethodName) prog_1_method_79_code (2 : Nat) (Option.some Jvm.ClassFile.FieldType.int)) ∈ lw_all := lw_g (lw_at lw_m6 206 rfl) rfl
theorem q1491 : (Jvm.Cond.methodLink "ChairOld" (457 : Nat) ({ cls := "ChairOld", name := "lookedAll", desc := "()I" } : Jvm.MethodName)) ∈ lw_all := lw_g (lw_at lw_m6 207 rfl) rfl
theorem q1492 : (Jvm.Cond.privateMethod ({ cls := "ChairOld", name := "lookedAll", desc := "()I" } : Jvm.MethodName)) ∈ lw_tbl := lw_at lw_m6 208 rfl
theorem q1493 : (Jvm.Cond.instanceMethod ({ cls := "ChairOld", name := "lookedAll", desc := "()I" } : Jvm.MethodName)) ∈ lw_all := lw_g (lw_at lw_m6 209 rfl) rfl
theorem q1494 : (Jvm.Cond.code ({ cls := "ChairOld", name := "lookedAll", desc := "()I" } : Jvm.MethodName) prog_1_method_64_code (3 : Nat) (Option.some Jvm.ClassFile.FieldType.int)) ∈ lw_all := lw_g (lw_at lw_m6 210 rfl) rfl
theorem q1495 : (Jvm.Cond.methodLink "ChairOld" (364 : Nat) ({ cls := "ChairOld$Part", name := "looked", desc := "()I" } : Jvm.MethodName)) ∈ lw_all := lw_g (lw_at lw_m6 211 rfl) rfl
theorem in_X0 : ∀ w ∈ wsX00, w ∈ lw_all := lw_in wsX00 [225, 227, 229, 231, 233, 235, 237, 239, 241, 243, 245, 247, 249, 251, 253, 255, 257, 259, 261, 263, 265, 267, 269, 271, 273] (by decide +kernel) (by decide +kernel)
