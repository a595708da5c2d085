/-! ChairOld$Kind -/
set_option maxRecDepth 100000
def RX1 : String := "ChairOld$Kind"
def TX1 : u_T := fun k => match k with
  | 0 => ("ChairOld$Kind", "belief", "I", false)
  | _ => ("ChairOld$Kind", "value", "I", false)
def tyX1 : Nat → FieldType := fun k => match k with
  | 0 => .int
  | _ => .int
abbrev wsX10 : List Cond := u_ws RX1 TX1 2
theorem nmX1 : ∀ a, a < 2 → ∀ b, b < 2 → a ≠ b → (TX1 a).2.1 ≠ (TX1 b).2.1 := by decide +kernel
theorem tyX1_ok : ∀ k, k < 2 → parseFieldDescriptor (TX1 k).2.2.1 = some (tyX1 k) := by decide +kernel
abbrev cX1_init : ByteArray := prog_14_method_1_code
def yX1_init : MethodName := ⟨RX1, "<init>", "()V"⟩
def dkwX1_init_0 : List UInt8 := [42, 183, 0, 1, 42, 4, 181, 0, 7, 177]
abbrev dktX1_init_0 : List UInt8 := dkwX1_init_0 ++ []
theorem dksX1_init_0 : cX1_init.data.toList.drop 0 = dktX1_init_0 := by decide +kernel
theorem dX1_init_0 : decode cX1_init 0 = .ok (.aload_n 0, 1) := dk_42 (dk_at dksX1_init_0 0 rfl rfl)
theorem dX1_init_1 : decode cX1_init 1 = .ok (.invokespecial 1, 3) := dk_183 0 1 (dk_at dksX1_init_0 1 rfl rfl)
theorem dX1_init_4 : decode cX1_init 4 = .ok (.aload_n 0, 1) := dk_42 (dk_at dksX1_init_0 4 rfl rfl)
theorem dX1_init_5 : decode cX1_init 5 = .ok (.iconst 1, 1) := dk_4 (dk_at dksX1_init_0 5 rfl rfl)
theorem dX1_init_6 : decode cX1_init 6 = .ok (.putfield 7, 3) := dk_181 0 7 (dk_at dksX1_init_0 6 rfl rfl)
theorem dX1_init_9 : decode cX1_init 9 = .ok (.return_, 1) := dk_177 (dk_at dksX1_init_0 9 rfl rfl)
theorem q86 : (Jvm.Cond.initialized "ChairOld$Kind") ∈ lw_all := lw_g (lw_at lw_m1 2 rfl) rfl
theorem q144 : (Jvm.Cond.instantiable "ChairOld$Kind" (2 : Nat)) ∈ lw_all := lw_g (lw_at lw_m1 60 rfl) rfl
theorem q146 : (Jvm.Cond.instanceMethod ({ cls := "ChairOld$Kind", name := "<init>", desc := "()V" } : Jvm.MethodName)) ∈ lw_all := lw_g (lw_at lw_m1 62 rfl) rfl
theorem q147 : (Jvm.Cond.code ({ cls := "ChairOld$Kind", name := "<init>", desc := "()V" } : Jvm.MethodName) prog_14_method_1_code (1 : Nat) (Option.none : Option Jvm.ClassFile.FieldType)) ∈ lw_all := lw_g (lw_at lw_m1 63 rfl) rfl
theorem q148 : (Jvm.Cond.methodLink "ChairOld$Kind" (1 : Nat) ({ cls := "java/lang/Object", name := "<init>", desc := "()V" } : Jvm.MethodName)) ∈ lw_all := lw_g (lw_at lw_m1 64 rfl) rfl
theorem q149 : (Jvm.Cond.fieldLink "ChairOld$Kind" (7 : Nat) "ChairOld$Kind" "belief" "I") ∈ lw_all := lw_g (lw_at lw_m1 65 rfl) rfl
theorem q152 : (Jvm.Cond.lays "ChairOld$Kind" "ChairOld$Kind" "belief" "I") ∈ lw_all := lw_g (lw_at lw_m1 68 rfl) rfl
theorem q153 : (Jvm.Cond.soleField "ChairOld$Kind" "belief") ∈ lw_all := lw_g (lw_at lw_m1 69 rfl) rfl
theorem q154 : (Jvm.Cond.lays "ChairOld$Kind" "ChairOld$Kind" "value" "I") ∈ lw_all := lw_g (lw_at lw_m1 70 rfl) rfl
theorem q155 : (Jvm.Cond.soleField "ChairOld$Kind" "value") ∈ lw_all := lw_g (lw_at lw_m1 71 rfl) rfl
theorem q156 : (Jvm.Cond.superclass "ChairOld$Kind" "java/lang/Object") ∈ lw_all := lw_g (lw_at lw_m1 72 rfl) rfl
theorem in_X1 : ∀ w ∈ wsX10, w ∈ lw_all := lw_in wsX10 [152, 154] (by decide +kernel) (by decide +kernel)
/-! ChairOld$Mark -/
set_option maxRecDepth 100000
def RX2 : String := "ChairOld$Mark"
def TX2 : u_T := fun k => match k with
  | 0 => ("ChairOld$Mark", "minutes", "I", false)
  | 1 => ("ChairOld$Mark", "cost", "I", false)
  | _ => ("ChairOld$Mark", "law", "LChairOld$Line;", false)
def tyX2 : Nat → FieldType := fun k => match k with
  | 0 => .int
  | 1 => .int
  | _ => .object "ChairOld$Line"
abbrev wsX20 : List Cond := u_ws RX2 TX2 3
theorem nmX2 : ∀ a, a < 3 → ∀ b, b < 3 → a ≠ b → (TX2 a).2.1 ≠ (TX2 b).2.1 := by decide +kernel
theorem tyX2_ok : ∀ k, k < 3 → parseFieldDescriptor (TX2 k).2.2.1 = some (tyX2 k) := by decide +kernel
abbrev cX2_init : ByteArray := prog_18_method_1_code
def yX2_init : MethodName := ⟨RX2, "<init>", "()V"⟩
def dkwX2_init_0 : List UInt8 := [42, 183, 0, 1, 42, 4, 181, 0, 7, 42, 16, 10, 181, 0, 13, 177]
abbrev dktX2_init_0 : List UInt8 := dkwX2_init_0 ++ []
theorem dksX2_init_0 : cX2_init.data.toList.drop 0 = dktX2_init_0 := by decide +kernel
theorem dX2_init_0 : decode cX2_init 0 = .ok (.aload_n 0, 1) := dk_42 (dk_at dksX2_init_0 0 rfl rfl)
theorem dX2_init_1 : decode cX2_init 1 = .ok (.invokespecial 1, 3) := dk_183 0 1 (dk_at dksX2_init_0 1 rfl rfl)
theorem dX2_init_4 : decode cX2_init 4 = .ok (.aload_n 0, 1) := dk_42 (dk_at dksX2_init_0 4 rfl rfl)
theorem dX2_init_5 : decode cX2_init 5 = .ok (.iconst 1, 1) := dk_4 (dk_at dksX2_init_0 5 rfl rfl)
theorem dX2_init_6 : decode cX2_init 6 = .ok (.putfield 7, 3) := dk_181 0 7 (dk_at dksX2_init_0 6 rfl rfl)
theorem dX2_init_9 : decode cX2_init 9 = .ok (.aload_n 0, 1) := dk_42 (dk_at dksX2_init_0 9 rfl rfl)
theorem dX2_init_10 : decode cX2_init 10 = .ok (.bipush 10, 2) := dk_16 10 (dk_at dksX2_init_0 10 rfl rfl)
theorem dX2_init_12 : decode cX2_init 12 = .ok (.putfield 13, 3) := dk_181 0 13 (dk_at dksX2_init_0 12 rfl rfl)
theorem dX2_init_15 : decode cX2_init 15 = .ok (.return_, 1) := dk_177 (dk_at dksX2_init_0 15 rfl rfl)
theorem q87 : (Jvm.Cond.initialized "ChairOld$Mark") ∈ lw_all := lw_g (lw_at lw_m1 3 rfl) rfl
theorem q159 : (Jvm.Cond.instantiable "ChairOld$Mark" (3 : Nat)) ∈ lw_all := lw_g (lw_at lw_m1 75 rfl) rfl
theorem q161 : (Jvm.Cond.instanceMethod ({ cls := "ChairOld$Mark", name := "<init>", desc := "()V" } : Jvm.MethodName)) ∈ lw_all := lw_g (lw_at lw_m1 77 rfl) rfl
theorem q162 : (Jvm.Cond.code ({ cls := "ChairOld$Mark", name := "<init>", desc := "()V" } : Jvm.MethodName) prog_18_method_1_code (1 : Nat) (Option.none : Option Jvm.ClassFile.FieldType)) ∈ lw_all := lw_g (lw_at lw_m1 78 rfl) rfl
theorem q163 : (Jvm.Cond.methodLink "ChairOld$Mark" (1 : Nat) ({ cls := "java/lang/Object", name := "<init>", desc := "()V" } : Jvm.MethodName)) ∈ lw_all := lw_g (lw_at lw_m1 79 rfl) rfl
theorem q164 : (Jvm.Cond.fieldLink "ChairOld$Mark" (7 : Nat) "ChairOld$Mark" "minutes" "I") ∈ lw_all := lw_g (lw_at lw_m1 80 rfl) rfl
theorem q166 : (Jvm.Cond.fieldLink "ChairOld$Mark" (13 : Nat) "ChairOld$Mark" "cost" "I") ∈ lw_all := lw_g (lw_at lw_m1 82 rfl) rfl
theorem q169 : (Jvm.Cond.lays "ChairOld$Mark" "ChairOld$Mark" "minutes" "I") ∈ lw_all := lw_g (lw_at lw_m1 85 rfl) rfl
theorem q170 : (Jvm.Cond.soleField "ChairOld$Mark" "minutes") ∈ lw_all := lw_g (lw_at lw_m1 86 rfl) rfl
theorem q171 : (Jvm.Cond.lays "ChairOld$Mark" "ChairOld$Mark" "cost" "I") ∈ lw_all := lw_g (lw_at lw_m1 87 rfl) rfl
theorem q172 : (Jvm.Cond.soleField "ChairOld$Mark" "cost") ∈ lw_all := lw_g (lw_at lw_m1 88 rfl) rfl
theorem q173 : (Jvm.Cond.lays "ChairOld$Mark" "ChairOld$Mark" "law" "LChairOld$Line;") ∈ lw_all := lw_g (lw_at lw_m1 89 rfl) rfl
theorem q174 : (Jvm.Cond.soleField "ChairOld$Mark" "law") ∈ lw_all := lw_g (lw_at lw_m1 90 rfl) rfl
theorem q175 : (Jvm.Cond.superclass "ChairOld$Mark" "java/lang/Object") ∈ lw_all := lw_g (lw_at lw_m1 91 rfl) rfl
theorem in_X2 : ∀ w ∈ wsX20, w ∈ lw_all := lw_in wsX20 [169, 171, 173] (by decide +kernel) (by decide +kernel)
/-! ChairOld$Facts -/
set_option maxRecDepth 100000
def RX3 : String := "ChairOld$Facts"
def TX3 : u_T := fun k => match k with
  | _ => ("ChairOld$Facts", "named", "[I", true)
def tyX3 : Nat → FieldType := fun k => match k with
  | _ => .array .int
abbrev wsX30 : List Cond := u_ws RX3 TX3 1
theorem nmX3 : ∀ a, a < 1 → ∀ b, b < 1 → a ≠ b → (TX3 a).2.1 ≠ (TX3 b).2.1 := by decide +kernel
theorem tyX3_ok : ∀ k, k < 1 → parseFieldDescriptor (TX3 k).2.2.1 = some (tyX3 k) := by decide +kernel
abbrev cX3_init : ByteArray := prog_9_method_1_code
def yX3_init : MethodName := ⟨RX3, "<init>", "()V"⟩
def dkwX3_init_0 : List UInt8 := [42, 183, 0, 1, 42, 17, 0, 128, 188, 10, 181, 0, 7, 177]
abbrev dktX3_init_0 : List UInt8 := dkwX3_init_0 ++ []
theorem dksX3_init_0 : cX3_init.data.toList.drop 0 = dktX3_init_0 := by decide +kernel
theorem dX3_init_0 : decode cX3_init 0 = .ok (.aload_n 0, 1) := dk_42 (dk_at dksX3_init_0 0 rfl rfl)
theorem dX3_init_1 : decode cX3_init 1 = .ok (.invokespecial 1, 3) := dk_183 0 1 (dk_at dksX3_init_0 1 rfl rfl)
theorem dX3_init_4 : decode cX3_init 4 = .ok (.aload_n 0, 1) := dk_42 (dk_at dksX3_init_0 4 rfl rfl)
theorem dX3_init_5 : decode cX3_init 5 = .ok (.sipush 128, 3) := dk_17 0 128 (dk_at dksX3_init_0 5 rfl rfl)
theorem dX3_init_8 : decode cX3_init 8 = .ok (.newarray .int, 2) := dk_188_10 (dk_at dksX3_init_0 8 rfl rfl)
theorem dX3_init_10 : decode cX3_init 10 = .ok (.putfield 7, 3) := dk_181 0 7 (dk_at dksX3_init_0 10 rfl rfl)
theorem dX3_init_13 : decode cX3_init 13 = .ok (.return_, 1) := dk_177 (dk_at dksX3_init_0 13 rfl rfl)
abbrev cX3_clear : ByteArray := prog_9_method_2_code
def yX3_clear : MethodName := ⟨RX3, "clear", "()V"⟩
def dkwX3_clear_1 : List UInt8 := [177]
abbrev dktX3_clear_1 : List UInt8 := dkwX3_clear_1 ++ []
def dkwX3_clear_0 : List UInt8 := [3, 60, 27, 42, 180, 0, 7, 190, 162, 0, 16, 42, 180, 0, 7, 27, 3, 79, 132, 1, 1, 167, 255, 237]
abbrev dktX3_clear_0 : List UInt8 := dkwX3_clear_0 ++ dktX3_clear_1
theorem dksX3_clear_0 : cX3_clear.data.toList.drop 0 = dktX3_clear_0 := by decide +kernel
theorem dksX3_clear_1 : cX3_clear.data.toList.drop 24 = dktX3_clear_1 := dk_seg dksX3_clear_0 24 rfl rfl
theorem dX3_clear_0 : decode cX3_clear 0 = .ok (.iconst 0, 1) := dk_3 (dk_at dksX3_clear_0 0 rfl rfl)
theorem dX3_clear_1 : decode cX3_clear 1 = .ok (.istore_n 1, 1) := dk_60 (dk_at dksX3_clear_0 1 rfl rfl)
theorem dX3_clear_2 : decode cX3_clear 2 = .ok (.iload_n 1, 1) := dk_27 (dk_at dksX3_clear_0 2 rfl rfl)
theorem dX3_clear_3 : decode cX3_clear 3 = .ok (.aload_n 0, 1) := dk_42 (dk_at dksX3_clear_0 3 rfl rfl)
theorem dX3_clear_4 : decode cX3_clear 4 = .ok (.getfield 7, 3) := dk_180 0 7 (dk_at dksX3_clear_0 4 rfl rfl)
theorem dX3_clear_7 : decode cX3_clear 7 = .ok (.arraylength, 1) := dk_190 (dk_at dksX3_clear_0 7 rfl rfl)
theorem dX3_clear_8 : decode cX3_clear 8 = .ok (.if_icmp .ge 16, 3) := dk_162 0 16 (dk_at dksX3_clear_0 8 rfl rfl)
theorem dX3_clear_11 : decode cX3_clear 11 = .ok (.aload_n 0, 1) := dk_42 (dk_at dksX3_clear_0 11 rfl rfl)
theorem dX3_clear_12 : decode cX3_clear 12 = .ok (.getfield 7, 3) := dk_180 0 7 (dk_at dksX3_clear_0 12 rfl rfl)
theorem dX3_clear_15 : decode cX3_clear 15 = .ok (.iload_n 1, 1) := dk_27 (dk_at dksX3_clear_0 15 rfl rfl)
theorem dX3_clear_16 : decode cX3_clear 16 = .ok (.iconst 0, 1) := dk_3 (dk_at dksX3_clear_0 16 rfl rfl)
theorem dX3_clear_17 : decode cX3_clear 17 = .ok (.iastore, 1) := dk_79 (dk_at dksX3_clear_0 17 rfl rfl)
theorem dX3_clear_18 : decode cX3_clear 18 = .ok (.iinc 1 1, 3) := dk_132 1 1 (dk_at dksX3_clear_0 18 rfl rfl)
theorem dX3_clear_21 : decode cX3_clear 21 = .ok (.goto (-19), 3) := dk_167 255 237 (dk_at dksX3_clear_0 21 rfl rfl)
theorem dX3_clear_24 : decode cX3_clear 24 = .ok (.return_, 1) := dk_177 (dk_at dksX3_clear_1 0 rfl rfl)
theorem q88 : (Jvm.Cond.initialized "ChairOld$Facts") ∈ lw_all := lw_g (lw_at lw_m1 4 rfl) rfl
theorem q179 : (Jvm.Cond.instantiable "ChairOld$Facts" (1 : Nat)) ∈ lw_all := lw_g (lw_at lw_m1 95 rfl) rfl
theorem q181 : (Jvm.Cond.instanceMethod ({ cls := "ChairOld$Facts", name := "<init>", desc := "()V" } : Jvm.MethodName)) ∈ lw_all := lw_g (lw_at lw_m1 97 rfl) rfl
theorem q182 : (Jvm.Cond.code ({ cls := "ChairOld$Facts", name := "<init>", desc := "()V" } : Jvm.MethodName) prog_9_method_1_code (1 : Nat) (Option.none : Option Jvm.ClassFile.FieldType)) ∈ lw_all := lw_g (lw_at lw_m1 98 rfl) rfl
theorem q183 : (Jvm.Cond.methodLink "ChairOld$Facts" (1 : Nat) ({ cls := "java/lang/Object", name := "<init>", desc := "()V" } : Jvm.MethodName)) ∈ lw_all := lw_g (lw_at lw_m1 99 rfl) rfl
theorem q184 : (Jvm.Cond.fieldLink "ChairOld$Facts" (7 : Nat) "ChairOld$Facts" "named" "[I") ∈ lw_all := lw_g (lw_at lw_m1 100 rfl) rfl
theorem q187 : (Jvm.Cond.laysFinal "ChairOld$Facts" "ChairOld$Facts" "named" "[I") ∈ lw_all := lw_g (lw_at lw_m1 103 rfl) rfl
theorem q188 : (Jvm.Cond.soleField "ChairOld$Facts" "named") ∈ lw_all := lw_g (lw_at lw_m1 104 rfl) rfl
theorem q189 : (Jvm.Cond.superclass "ChairOld$Facts" "java/lang/Object") ∈ lw_all := lw_g (lw_at lw_m1 105 rfl) rfl
theorem q775 : (Jvm.Cond.instanceMethod ({ cls := "ChairOld$Facts", name := "clear", desc := "()V" } : Jvm.MethodName)) ∈ lw_all := lw_g (lw_at lw_m3 211 rfl) rfl
theorem q776 : (Jvm.Cond.selects "ChairOld$Facts" ({ cls := "ChairOld$Facts", name := "clear", desc := "()V" } : Jvm.MethodName) ({ cls := "ChairOld$Facts", name := "clear", desc := "()V" } : Jvm.MethodName)) ∈ lw_all := lw_g (lw_at lw_m3 212 rfl) rfl
theorem q777 : (Jvm.Cond.code ({ cls := "ChairOld$Facts", name := "clear", desc := "()V" } : Jvm.MethodName) prog_9_method_2_code (2 : Nat) (Option.none : Option Jvm.ClassFile.FieldType)) ∈ lw_all := lw_g (lw_at lw_m3 213 rfl) rfl
theorem in_X3 : ∀ w ∈ wsX30, w ∈ lw_all := lw_in wsX30 [187] (by decide +kernel) (by decide +kernel)
/-! ChairOld$Part -/
set_option maxRecDepth 100000
def RX5 : String := "ChairOld$Part"
def TX5 : u_T := fun k => match k with
  | 0 => ("ChairOld$Part", "wood", "I", true)
  | 1 => ("ChairOld$Part", "place", "I", true)
  | 2 => ("ChairOld$Part", "found", "[B", true)
  | _ => ("ChairOld$Part", "kept", "[B", true)
def tyX5 : Nat → FieldType := fun k => match k with
  | 0 => .int
  | 1 => .int
  | 2 => .array .byte
  | _ => .array .byte
abbrev wsX50 : List Cond := u_ws RX5 TX5 4
theorem nmX5 : ∀ a, a < 4 → ∀ b, b < 4 → a ≠ b → (TX5 a).2.1 ≠ (TX5 b).2.1 := by decide +kernel
theorem tyX5_ok : ∀ k, k < 4 → parseFieldDescriptor (TX5 k).2.2.1 = some (tyX5 k) := by decide +kernel
abbrev cX5_init : ByteArray := prog_25_method_1_code
def yX5_init : MethodName := ⟨RX5, "<init>", "(II)V"⟩
def dkwX5_init_1 : List UInt8 := [181, 0, 18, 42, 28, 181, 0, 22, 177]
abbrev dktX5_init_1 : List UInt8 := dkwX5_init_1 ++ []
def dkwX5_init_0 : List UInt8 := [42, 183, 0, 3, 42, 16, 6, 188, 8, 181, 0, 9, 42, 16, 6, 188, 8, 181, 0, 15, 42, 27]
abbrev dktX5_init_0 : List UInt8 := dkwX5_init_0 ++ dktX5_init_1
theorem dksX5_init_0 : cX5_init.data.toList.drop 0 = dktX5_init_0 := by decide +kernel
theorem dksX5_init_1 : cX5_init.data.toList.drop 22 = dktX5_init_1 := dk_seg dksX5_init_0 22 rfl rfl
theorem dX5_init_0 : decode cX5_init 0 = .ok (.aload_n 0, 1) := dk_42 (dk_at dksX5_init_0 0 rfl rfl)
theorem dX5_init_1 : decode cX5_init 1 = .ok (.invokespecial 3, 3) := dk_183 0 3 (dk_at dksX5_init_0 1 rfl rfl)
theorem dX5_init_4 : decode cX5_init 4 = .ok (.aload_n 0, 1) := dk_42 (dk_at dksX5_init_0 4 rfl rfl)
theorem dX5_init_5 : decode cX5_init 5 = .ok (.bipush 6, 2) := dk_16 6 (dk_at dksX5_init_0 5 rfl rfl)
theorem dX5_init_7 : decode cX5_init 7 = .ok (.newarray .byte, 2) := dk_188_8 (dk_at dksX5_init_0 7 rfl rfl)
theorem dX5_init_9 : decode cX5_init 9 = .ok (.putfield 9, 3) := dk_181 0 9 (dk_at dksX5_init_0 9 rfl rfl)
theorem dX5_init_12 : decode cX5_init 12 = .ok (.aload_n 0, 1) := dk_42 (dk_at dksX5_init_0 12 rfl rfl)
theorem dX5_init_13 : decode cX5_init 13 = .ok (.bipush 6, 2) := dk_16 6 (dk_at dksX5_init_0 13 rfl rfl)
theorem dX5_init_15 : decode cX5_init 15 = .ok (.newarray .byte, 2) := dk_188_8 (dk_at dksX5_init_0 15 rfl rfl)
theorem dX5_init_17 : decode cX5_init 17 = .ok (.putfield 15, 3) := dk_181 0 15 (dk_at dksX5_init_0 17 rfl rfl)
theorem dX5_init_20 : decode cX5_init 20 = .ok (.aload_n 0, 1) := dk_42 (dk_at dksX5_init_0 20 rfl rfl)
theorem dX5_init_21 : decode cX5_init 21 = .ok (.iload_n 1, 1) := dk_27 (dk_at dksX5_init_0 21 rfl rfl)
theorem dX5_init_22 : decode cX5_init 22 = .ok (.putfield 18, 3) := dk_181 0 18 (dk_at dksX5_init_1 0 rfl rfl)
theorem dX5_init_25 : decode cX5_init 25 = .ok (.aload_n 0, 1) := dk_42 (dk_at dksX5_init_1 3 rfl rfl)
theorem dX5_init_26 : decode cX5_init 26 = .ok (.iload_n 2, 1) := dk_28 (dk_at dksX5_init_1 4 rfl rfl)
theorem dX5_init_27 : decode cX5_init 27 = .ok (.putfield 22, 3) := dk_181 0 22 (dk_at dksX5_init_1 5 rfl rfl)
theorem dX5_init_30 : decode cX5_init 30 = .ok (.return_, 1) := dk_177 (dk_at dksX5_init_1 8 rfl rfl)
abbrev cX5_looked : ByteArray := prog_25_method_2_code
def yX5_looked : MethodName := ⟨RX5, "looked", "()I"⟩
def dkwX5_looked_1 : List UInt8 := [4, 96, 60, 132, 2, 1, 167, 255, 230, 27, 172]
abbrev dktX5_looked_1 : List UInt8 := dkwX5_looked_1 ++ []
def dkwX5_looked_0 : List UInt8 := [3, 60, 3, 61, 28, 16, 6, 162, 0, 26, 27, 42, 180, 0, 9, 28, 51, 154, 0, 7, 3, 167, 0, 4]
abbrev dktX5_looked_0 : List UInt8 := dkwX5_looked_0 ++ dktX5_looked_1
theorem dksX5_looked_0 : cX5_looked.data.toList.drop 0 = dktX5_looked_0 := by decide +kernel
theorem dksX5_looked_1 : cX5_looked.data.toList.drop 24 = dktX5_looked_1 := dk_seg dksX5_looked_0 24 rfl rfl
theorem dX5_looked_0 : decode cX5_looked 0 = .ok (.iconst 0, 1) := dk_3 (dk_at dksX5_looked_0 0 rfl rfl)
theorem dX5_looked_1 : decode cX5_looked 1 = .ok (.istore_n 1, 1) := dk_60 (dk_at dksX5_looked_0 1 rfl rfl)
theorem dX5_looked_2 : decode cX5_looked 2 = .ok (.iconst 0, 1) := dk_3 (dk_at dksX5_looked_0 2 rfl rfl)
theorem dX5_looked_3 : decode cX5_looked 3 = .ok (.istore_n 2, 1) := dk_61 (dk_at dksX5_looked_0 3 rfl rfl)
theorem dX5_looked_4 : decode cX5_looked 4 = .ok (.iload_n 2, 1) := dk_28 (dk_at dksX5_looked_0 4 rfl rfl)
theorem dX5_looked_5 : decode cX5_looked 5 = .ok (.bipush 6, 2) := dk_16 6 (dk_at dksX5_looked_0 5 rfl rfl)
theorem dX5_looked_7 : decode cX5_looked 7 = .ok (.if_icmp .ge 26, 3) := dk_162 0 26 (dk_at dksX5_looked_0 7 rfl rfl)
theorem dX5_looked_10 : decode cX5_looked 10 = .ok (.iload_n 1, 1) := dk_27 (dk_at dksX5_looked_0 10 rfl rfl)
theorem dX5_looked_11 : decode cX5_looked 11 = .ok (.aload_n 0, 1) := dk_42 (dk_at dksX5_looked_0 11 rfl rfl)
theorem dX5_looked_12 : decode cX5_looked 12 = .ok (.getfield 9, 3) := dk_180 0 9 (dk_at dksX5_looked_0 12 rfl rfl)
theorem dX5_looked_15 : decode cX5_looked 15 = .ok (.iload_n 2, 1) := dk_28 (dk_at dksX5_looked_0 15 rfl rfl)
theorem dX5_looked_16 : decode cX5_looked 16 = .ok (.baload, 1) := dk_51 (dk_at dksX5_looked_0 16 rfl rfl)
theorem dX5_looked_17 : decode cX5_looked 17 = .ok (.ifCond .ne 7, 3) := dk_154 0 7 (dk_at dksX5_looked_0 17 rfl rfl)
theorem dX5_looked_20 : decode cX5_looked 20 = .ok (.iconst 0, 1) := dk_3 (dk_at dksX5_looked_0 20 rfl rfl)
theorem dX5_looked_21 : decode cX5_looked 21 = .ok (.goto 4, 3) := dk_167 0 4 (dk_at dksX5_looked_0 21 rfl rfl)
theorem dX5_looked_24 : decode cX5_looked 24 = .ok (.iconst 1, 1) := dk_4 (dk_at dksX5_looked_1 0 rfl rfl)
theorem dX5_looked_25 : decode cX5_looked 25 = .ok (.iadd, 1) := dk_96 (dk_at dksX5_looked_1 1 rfl rfl)
theorem dX5_looked_26 : decode cX5_looked 26 = .ok (.istore_n 1, 1) := dk_60 (dk_at dksX5_looked_1 2 rfl rfl)
theorem dX5_looked_27 : decode cX5_looked 27 = .ok (.iinc 2 1, 3) := dk_132 2 1 (dk_at dksX5_looked_1 3 rfl rfl)
theorem dX5_looked_30 : decode cX5_looked 30 = .ok (.goto (-26), 3) := dk_167 255 230 (dk_at dksX5_looked_1 6 rfl rfl)
theorem dX5_looked_33 : decode cX5_looked 33 = .ok (.iload_n 1, 1) := dk_27 (dk_at dksX5_looked_1 9 rfl rfl)
theorem dX5_looked_34 : decode cX5_looked 34 = .ok (.ireturn, 1) := dk_172 (dk_at dksX5_looked_1 10 rfl rfl)
theorem q90 : (Jvm.Cond.initialized "ChairOld$Part") ∈ lw_all := lw_g (lw_at lw_m1 6 rfl) rfl
theorem q288 : (Jvm.Cond.instantiable "ChairOld$Part" (4 : Nat)) ∈ lw_all := lw_g (lw_at lw_m1 204 rfl) rfl
theorem q290 : (Jvm.Cond.instanceMethod ({ cls := "ChairOld$Part", name := "<init>", desc := "(II)V" } : Jvm.MethodName)) ∈ lw_all := lw_g (lw_at lw_m1 206 rfl) rfl
theorem q291 : (Jvm.Cond.code ({ cls := "ChairOld$Part", name := "<init>", desc := "(II)V" } : Jvm.MethodName) prog_25_method_1_code (3 : Nat) (Option.none : Option Jvm.ClassFile.FieldType)) ∈ lw_all := lw_g (lw_at lw_m1 207 rfl) rfl
theorem q292 : (Jvm.Cond.methodLink "ChairOld$Part" (3 : Nat) ({ cls := "java/lang/Object", name := "<init>", desc := "()V" } : Jvm.MethodName)) ∈ lw_all := lw_g (lw_at lw_m1 208 rfl) rfl
theorem q293 : (Jvm.Cond.fieldLink "ChairOld$Part" (18 : Nat) "ChairOld$Part" "wood" "I") ∈ lw_all := lw_g (lw_at lw_m1 209 rfl) rfl
theorem q295 : (Jvm.Cond.fieldLink "ChairOld$Part" (22 : Nat) "ChairOld$Part" "place" "I") ∈ lw_all := lw_g (lw_at lw_m1 211 rfl) rfl
theorem q297 : (Jvm.Cond.fieldLink "ChairOld$Part" (9 : Nat) "ChairOld$Part" "found" "[B") ∈ lw_all := lw_g (lw_at lw_m1 213 rfl) rfl
theorem q299 : (Jvm.Cond.fieldLink "ChairOld$Part" (15 : Nat) "ChairOld$Part" "kept" "[B") ∈ lw_all := lw_g (lw_at lw_m1 215 rfl) rfl
theorem q301 : (Jvm.Cond.laysFinal "ChairOld$Part" "ChairOld$Part" "wood" "I") ∈ lw_all := lw_g (lw_at lw_m1 217 rfl) rfl
theorem q302 : (Jvm.Cond.soleField "ChairOld$Part" "wood") ∈ lw_all := lw_g (lw_at lw_m1 218 rfl) rfl
theorem q303 : (Jvm.Cond.laysFinal "ChairOld$Part" "ChairOld$Part" "place" "I") ∈ lw_all := lw_g (lw_at lw_m1 219 rfl) rfl
theorem q304 : (Jvm.Cond.soleField "ChairOld$Part" "place") ∈ lw_all := lw_g (lw_at lw_m1 220 rfl) rfl
theorem q305 : (Jvm.Cond.laysFinal "ChairOld$Part" "ChairOld$Part" "found" "[B") ∈ lw_all := lw_g (lw_at lw_m1 221 rfl) rfl
theorem q306 : (Jvm.Cond.soleField "ChairOld$Part" "found") ∈ lw_all := lw_g (lw_at lw_m1 222 rfl) rfl
theorem q307 : (Jvm.Cond.laysFinal "ChairOld$Part" "ChairOld$Part" "kept" "[B") ∈ lw_all := lw_g (lw_at lw_m1 223 rfl) rfl
theorem q308 : (Jvm.Cond.soleField "ChairOld$Part" "kept") ∈ lw_all := lw_g (lw_at lw_m1 224 rfl) rfl
theorem q309 : (Jvm.Cond.superclass "ChairOld$Part" "java/lang/Object") ∈ lw_all := lw_g (lw_at lw_m1 225 rfl) rfl
theorem q1496 : (Jvm.Cond.instanceMethod ({ cls := "ChairOld$Part", name := "looked", desc := "()I" } : Jvm.MethodName)) ∈ lw_all := lw_g (lw_at lw_m6 212 rfl) rfl
theorem q1497 : (Jvm.Cond.selects "ChairOld$Part" ({ cls := "ChairOld$Part", name := "looked", desc := "()I" } : Jvm.MethodName) ({ cls := "ChairOld$Part", name := "looked", desc := "()I" } : Jvm.MethodName)) ∈ lw_all := lw_g (lw_at lw_m6 213 rfl) rfl
theorem q1498 : (Jvm.Cond.code ({ cls := "ChairOld$Part", name := "looked", desc := "()I" } : Jvm.MethodName) prog_25_method_2_code (3 : Nat) (Option.some Jvm.ClassFile.FieldType.int)) ∈ lw_all := lw_g (lw_at lw_m6 214 rfl) rfl
theorem in_X5 : ∀ w ∈ wsX50, w ∈ lw_all := lw_in wsX50 [301, 303, 305, 307] (by decide +kernel) (by decide +kernel)
/-! ChairOld$Change -/
set_option maxRecDepth 100000
def RX6 : String := "ChairOld$Change"
def TX6 : u_T := fun k => match k with
  | 0 => ("ChairOld$Change", "of", "I", true)
  | 1 => ("ChairOld$Change", "at", "I", true)
  | 2 => ("ChairOld$Change", "before", "I", true)
  | _ => ("ChairOld$Change", "behind", "I", true)
def tyX6 : Nat → FieldType := fun k => match k with
  | 0 => .int
  | 1 => .int
  | 2 => .int
  | _ => .int
abbrev wsX60 : List Cond := u_ws RX6 TX6 4
theorem nmX6 : ∀ a, a < 4 → ∀ b, b < 4 → a ≠ b → (TX6 a).2.1 ≠ (TX6 b).2.1 := by decide +kernel
theorem tyX6_ok : ∀ k, k < 4 → parseFieldDescriptor (TX6 k).2.2.1 = some (tyX6 k) := by decide +kernel
abbrev cX6_init : ByteArray := prog_6_method_1_code
def yX6_init : MethodName := ⟨RX6, "<init>", "(IIII)V"⟩
def dkwX6_init_1 : List UInt8 := [181, 0, 19, 177]
abbrev dktX6_init_1 : List UInt8 := dkwX6_init_1 ++ []
def dkwX6_init_0 : List UInt8 := [42, 183, 0, 1, 42, 27, 181, 0, 7, 42, 28, 181, 0, 13, 42, 29, 181, 0, 16, 42, 21, 4]
abbrev dktX6_init_0 : List UInt8 := dkwX6_init_0 ++ dktX6_init_1
theorem dksX6_init_0 : cX6_init.data.toList.drop 0 = dktX6_init_0 := by decide +kernel
theorem dksX6_init_1 : cX6_init.data.toList.drop 22 = dktX6_init_1 := dk_seg dksX6_init_0 22 rfl rfl
theorem dX6_init_0 : decode cX6_init 0 = .ok (.aload_n 0, 1) := dk_42 (dk_at dksX6_init_0 0 rfl rfl)
theorem dX6_init_1 : decode cX6_init 1 = .ok (.invokespecial 1, 3) := dk_183 0 1 (dk_at dksX6_init_0 1 rfl rfl)
theorem dX6_init_4 : decode cX6_init 4 = .ok (.aload_n 0, 1) := dk_42 (dk_at dksX6_init_0 4 rfl rfl)
theorem dX6_init_5 : decode cX6_init 5 = .ok (.iload_n 1, 1) := dk_27 (dk_at dksX6_init_0 5 rfl rfl)
theorem dX6_init_6 : decode cX6_init 6 = .ok (.putfield 7, 3) := dk_181 0 7 (dk_at dksX6_init_0 6 rfl rfl)
theorem dX6_init_9 : decode cX6_init 9 = .ok (.aload_n 0, 1) := dk_42 (dk_at dksX6_init_0 9 rfl rfl)
theorem dX6_init_10 : decode cX6_init 10 = .ok (.iload_n 2, 1) := dk_28 (dk_at dksX6_init_0 10 rfl rfl)
theorem dX6_init_11 : decode cX6_init 11 = .ok (.putfield 13, 3) := dk_181 0 13 (dk_at dksX6_init_0 11 rfl rfl)
theorem dX6_init_14 : decode cX6_init 14 = .ok (.aload_n 0, 1) := dk_42 (dk_at dksX6_init_0 14 rfl rfl)
theorem dX6_init_15 : decode cX6_init 15 = .ok (.iload_n 3, 1) := dk_29 (dk_at dksX6_init_0 15 rfl rfl)
theorem dX6_init_16 : decode cX6_init 16 = .ok (.putfield 16, 3) := dk_181 0 16 (dk_at dksX6_init_0 16 rfl rfl)
theorem dX6_init_19 : decode cX6_init 19 = .ok (.aload_n 0, 1) := dk_42 (dk_at dksX6_init_0 19 rfl rfl)
theorem dX6_init_20 : decode cX6_init 20 = .ok (.iload 4, 2) := dk_21 4 (dk_at dksX6_init_0 20 rfl rfl)
theorem dX6_init_22 : decode cX6_init 22 = .ok (.putfield 19, 3) := dk_181 0 19 (dk_at dksX6_init_1 0 rfl rfl)
theorem dX6_init_25 : decode cX6_init 25 = .ok (.return_, 1) := dk_177 (dk_at dksX6_init_1 3 rfl rfl)
theorem q99 : (Jvm.Cond.initialized "ChairOld$Change") ∈ lw_all := lw_g (lw_at lw_m1 15 rfl) rfl
theorem q492 : (Jvm.Cond.instantiable "ChairOld$Change" (4 : Nat)) ∈ lw_all := lw_g (lw_at lw_m2 168 rfl) rfl
theorem q494 : (Jvm.Cond.instanceMethod ({ cls := "ChairOld$Change", name := "<init>", desc := "(IIII)V" } : Jvm.MethodName)) ∈ lw_all := lw_g (lw_at lw_m2 170 rfl) rfl
theorem q495 : (Jvm.Cond.code ({ cls := "ChairOld$Change", name := "<init>", desc := "(IIII)V" } : Jvm.MethodName) prog_6_method_1_code (5 : Nat) (Option.none : Option Jvm.ClassFile.FieldType)) ∈ lw_all := lw_g (lw_at lw_m2 171 rfl) rfl
theorem q496 : (Jvm.Cond.methodLink "ChairOld$Change" (1 : Nat) ({ cls := "java/lang/Object", name := "<init>", desc := "()V" } : Jvm.MethodName)) ∈ lw_all := lw_g (lw_at lw_m2 172 rfl) rfl
theorem q497 : (Jvm.Cond.fieldLink "ChairOld$Change" (7 : Nat) "ChairOld$Change" "of" "I") ∈ lw_all := lw_g (lw_at lw_m2 173 rfl) rfl
theorem q499 : (Jvm.Cond.fieldLink "ChairOld$Change" (13 : Nat) "ChairOld$Change" "at" "I") ∈ lw_all := lw_g (lw_at lw_m2 175 rfl) rfl
theorem q501 : (Jvm.Cond.fieldLink "ChairOld$Change" (16 : Nat) "ChairOld$Change" "before" "I") ∈ lw_all := lw_g (lw_at lw_m2 177 rfl) rfl
theorem q503 : (Jvm.Cond.fieldLink "ChairOld$Change" (19 : Nat) "ChairOld$Change" "behind" "I") ∈ lw_all := lw_g (lw_at lw_m2 179 rfl) rfl
theorem q505 : (Jvm.Cond.laysFinal "ChairOld$Change" "ChairOld$Change" "of" "I") ∈ lw_all := lw_g (lw_at lw_m2 181 rfl) rfl
theorem q506 : (Jvm.Cond.soleField "ChairOld$Change" "of") ∈ lw_all := lw_g (lw_at lw_m2 182 rfl) rfl
theorem q507 : (Jvm.Cond.laysFinal "ChairOld$Change" "ChairOld$Change" "at" "I") ∈ lw_all := lw_g (lw_at lw_m2 183 rfl) rfl
theorem q508 : (Jvm.Cond.soleField "ChairOld$Change" "at") ∈ lw_all := lw_g (lw_at lw_m2 184 rfl) rfl
theorem q509 : (Jvm.Cond.laysFinal "ChairOld$Change" "ChairOld$Change" "before" "I") ∈ lw_all := lw_g (lw_at lw_m2 185 rfl) rfl
theorem q510 : (Jvm.Cond.soleField "ChairOld$Change" "before") ∈ lw_all := lw_g (lw_at lw_m2 186 rfl) rfl
theorem q511 : (Jvm.Cond.laysFinal "ChairOld$Change" "ChairOld$Change" "behind" "I") ∈ lw_all := lw_g (lw_at lw_m2 187 rfl) rfl
theorem q512 : (Jvm.Cond.soleField "ChairOld$Change" "behind") ∈ lw_all := lw_g (lw_at lw_m2 188 rfl) rfl
theorem q513 : (Jvm.Cond.superclass "ChairOld$Change" "java/lang/Object") ∈ lw_all := lw_g (lw_at lw_m2 189 rfl) rfl
theorem in_X6 : ∀ w ∈ wsX60, w ∈ lw_all := lw_in wsX60 [505, 507, 509, 511] (by decide +kernel) (by decide +kernel)
/-! ChairOld$Reader -/
set_option maxRecDepth 100000
def RX7 : String := "ChairOld$Reader"
def TX7 : u_T := fun k => match k with
  | 0 => ("ChairOld$Reader", "at", "I", false)
  | 1 => ("ChairOld$Reader", "fault", "I", false)
  | 2 => ("ChairOld$Reader", "open", "I", false)
  | _ => ("ChairOld$Reader", "this$0", "LChairOld;", true)
def tyX7 : Nat → FieldType := fun k => match k with
  | 0 => .int
  | 1 => .int
  | 2 => .int
  | _ => .object "ChairOld"
abbrev wsX70 : List Cond := u_ws RX7 TX7 4
theorem nmX7 : ∀ a, a < 4 → ∀ b, b < 4 → a ≠ b → (TX7 a).2.1 ≠ (TX7 b).2.1 := by decide +kernel
theorem tyX7_ok : ∀ k, k < 4 → parseFieldDescriptor (TX7 k).2.2.1 = some (tyX7 k) := by decide +kernel
abbrev cX7_init : ByteArray := prog_27_method_1_code
def yX7_init : MethodName := ⟨RX7, "<init>", "(LChairOld;)V"⟩
def dkwX7_init_0 : List UInt8 := [42, 43, 181, 0, 3, 42, 183, 0, 9, 42, 2, 181, 0, 15, 177]
abbrev dktX7_init_0 : List UInt8 := dkwX7_init_0 ++ []
theorem dksX7_init_0 : cX7_init.data.toList.drop 0 = dktX7_init_0 := by decide +kernel
theorem dX7_init_0 : decode cX7_init 0 = .ok (.aload_n 0, 1) := dk_42 (dk_at dksX7_init_0 0 rfl rfl)
theorem dX7_init_1 : decode cX7_init 1 = .ok (.aload_n 1, 1) := dk_43 (dk_at dksX7_init_0 1 rfl rfl)
theorem dX7_init_2 : decode cX7_init 2 = .ok (.putfield 3, 3) := dk_181 0 3 (dk_at dksX7_init_0 2 rfl rfl)
theorem dX7_init_5 : decode cX7_init 5 = .ok (.aload_n 0, 1) := dk_42 (dk_at dksX7_init_0 5 rfl rfl)
theorem dX7_init_6 : decode cX7_init 6 = .ok (.invokespecial 9, 3) := dk_183 0 9 (dk_at dksX7_init_0 6 rfl rfl)
theorem dX7_init_9 : decode cX7_init 9 = .ok (.aload_n 0, 1) := dk_42 (dk_at dksX7_init_0 9 rfl rfl)
theorem dX7_init_10 : decode cX7_init 10 = .ok (.iconst (-1), 1) := dk_2 (dk_at dksX7_init_0 10 rfl rfl)
theorem dX7_init_11 : decode cX7_init 11 = .ok (.putfield 15, 3) := dk_181 0 15 (dk_at dksX7_init_0 11 rfl rfl)
theorem dX7_init_14 : decode cX7_init 14 = .ok (.return_, 1) := dk_177 (dk_at dksX7_init_0 14 rfl rfl)
abbrev cX7_lines : ByteArray := prog_27_method_5_code
def yX7_lines : MethodName := ⟨RX7, "lines", "()LChairOld$Line;"⟩
def dkwX7_lines_3 : List UInt8 := [42, 42, 180, 0, 19, 181, 0, 15, 43, 176]
abbrev dktX7_lines_3 : List UInt8 := dkwX7_lines_3 ++ []
def dkwX7_lines_2 : List UInt8 := [167, 255, 217, 42, 180, 0, 15, 156, 0, 25, 42, 180, 0, 19, 42, 180, 0, 3, 180, 0, 22, 162, 0, 11]
abbrev dktX7_lines_2 : List UInt8 := dkwX7_lines_2 ++ dktX7_lines_3
def dkwX7_lines_1 : List UInt8 := [89, 180, 0, 19, 4, 96, 181, 0, 19, 44, 42, 182, 0, 39, 181, 0, 43, 44, 180, 0, 43, 77]
abbrev dktX7_lines_1 : List UInt8 := dkwX7_lines_1 ++ dktX7_lines_2
def dkwX7_lines_0 : List UInt8 := [42, 182, 0, 39, 76, 43, 77, 42, 180, 0, 15, 156, 0, 38, 42, 182, 0, 29, 16, 59, 160, 0, 29, 42]
abbrev dktX7_lines_0 : List UInt8 := dkwX7_lines_0 ++ dktX7_lines_1
theorem dksX7_lines_0 : cX7_lines.data.toList.drop 0 = dktX7_lines_0 := by decide +kernel
theorem dksX7_lines_1 : cX7_lines.data.toList.drop 24 = dktX7_lines_1 := dk_seg dksX7_lines_0 24 rfl rfl
theorem dksX7_lines_2 : cX7_lines.data.toList.drop 46 = dktX7_lines_2 := dk_seg dksX7_lines_1 22 rfl rfl
theorem dksX7_lines_3 : cX7_lines.data.toList.drop 70 = dktX7_lines_3 := dk_seg dksX7_lines_2 24 rfl rfl
theorem dX7_lines_0 : decode cX7_lines 0 = .ok (.aload_n 0, 1) := dk_42 (dk_at dksX7_lines_0 0 rfl rfl)
theorem dX7_lines_1 : decode cX7_lines 1 = .ok (.invokevirtual 39, 3) := dk_182 0 39 (dk_at dksX7_lines_0 1 rfl rfl)
theorem dX7_lines_4 : decode cX7_lines 4 = .ok (.astore_n 1, 1) := dk_76 (dk_at dksX7_lines_0 4 rfl rfl)
theorem dX7_lines_5 : decode cX7_lines 5 = .ok (.aload_n 1, 1) := dk_43 (dk_at dksX7_lines_0 5 rfl rfl)
theorem dX7_lines_6 : decode cX7_lines 6 = .ok (.astore_n 2, 1) := dk_77 (dk_at dksX7_lines_0 6 rfl rfl)
theorem dX7_lines_7 : decode cX7_lines 7 = .ok (.aload_n 0, 1) := dk_42 (dk_at dksX7_lines_0 7 rfl rfl)
theorem dX7_lines_8 : decode cX7_lines 8 = .ok (.getfield 15, 3) := dk_180 0 15 (dk_at dksX7_lines_0 8 rfl rfl)
theorem dX7_lines_11 : decode cX7_lines 11 = .ok (.ifCond .ge 38, 3) := dk_156 0 38 (dk_at dksX7_lines_0 11 rfl rfl)
theorem dX7_lines_14 : decode cX7_lines 14 = .ok (.aload_n 0, 1) := dk_42 (dk_at dksX7_lines_0 14 rfl rfl)
theorem dX7_lines_15 : decode cX7_lines 15 = .ok (.invokevirtual 29, 3) := dk_182 0 29 (dk_at dksX7_lines_0 15 rfl rfl)
theorem dX7_lines_18 : decode cX7_lines 18 = .ok (.bipush 59, 2) := dk_16 59 (dk_at dksX7_lines_0 18 rfl rfl)
theorem dX7_lines_20 : decode cX7_lines 20 = .ok (.if_icmp .ne 29, 3) := dk_160 0 29 (dk_at dksX7_lines_0 20 rfl rfl)
theorem dX7_lines_23 : decode cX7_lines 23 = .ok (.aload_n 0, 1) := dk_42 (dk_at dksX7_lines_0 23 rfl rfl)
theorem dX7_lines_24 : decode cX7_lines 24 = .ok (.dup, 1) := dk_89 (dk_at dksX7_lines_1 0 rfl rfl)
theorem dX7_lines_25 : decode cX7_lines 25 = .ok (.getfield 19, 3) := dk_180 0 19 (dk_at dksX7_lines_1 1 rfl rfl)
theorem dX7_lines_28 : decode cX7_lines 28 = .ok (.iconst 1, 1) := dk_4 (dk_at dksX7_lines_1 4 rfl rfl)
theorem dX7_lines_29 : decode cX7_lines 29 = .ok (.iadd, 1) := dk_96 (dk_at dksX7_lines_1 5 rfl rfl)
theorem dX7_lines_30 : decode cX7_lines 30 = .ok (.putfield 19, 3) := dk_181 0 19 (dk_at dksX7_lines_1 6 rfl rfl)
theorem dX7_lines_33 : decode cX7_lines 33 = .ok (.aload_n 2, 1) := dk_44 (dk_at dksX7_lines_1 9 rfl rfl)
theorem dX7_lines_34 : decode cX7_lines 34 = .ok (.aload_n 0, 1) := dk_42 (dk_at dksX7_lines_1 10 rfl rfl)
theorem dX7_lines_35 : decode cX7_lines 35 = .ok (.invokevirtual 39, 3) := dk_182 0 39 (dk_at dksX7_lines_1 11 rfl rfl)
theorem dX7_lines_38 : decode cX7_lines 38 = .ok (.putfield 43, 3) := dk_181 0 43 (dk_at dksX7_lines_1 14 rfl rfl)
theorem dX7_lines_41 : decode cX7_lines 41 = .ok (.aload_n 2, 1) := dk_44 (dk_at dksX7_lines_1 17 rfl rfl)
theorem dX7_lines_42 : decode cX7_lines 42 = .ok (.getfield 43, 3) := dk_180 0 43 (dk_at dksX7_lines_1 18 rfl rfl)
theorem dX7_lines_45 : decode cX7_lines 45 = .ok (.astore_n 2, 1) := dk_77 (dk_at dksX7_lines_1 21 rfl rfl)
theorem dX7_lines_46 : decode cX7_lines 46 = .ok (.goto (-39), 3) := dk_167 255 217 (dk_at dksX7_lines_2 0 rfl rfl)
theorem dX7_lines_49 : decode cX7_lines 49 = .ok (.aload_n 0, 1) := dk_42 (dk_at dksX7_lines_2 3 rfl rfl)
theorem dX7_lines_50 : decode cX7_lines 50 = .ok (.getfield 15, 3) := dk_180 0 15 (dk_at dksX7_lines_2 4 rfl rfl)
theorem dX7_lines_53 : decode cX7_lines 53 = .ok (.ifCond .ge 25, 3) := dk_156 0 25 (dk_at dksX7_lines_2 7 rfl rfl)
theorem dX7_lines_56 : decode cX7_lines 56 = .ok (.aload_n 0, 1) := dk_42 (dk_at dksX7_lines_2 10 rfl rfl)
theorem dX7_lines_57 : decode cX7_lines 57 = .ok (.getfield 19, 3) := dk_180 0 19 (dk_at dksX7_lines_2 11 rfl rfl)
theorem dX7_lines_60 : decode cX7_lines 60 = .ok (.aload_n 0, 1) := dk_42 (dk_at dksX7_lines_2 14 rfl rfl)
theorem dX7_lines_61 : decode cX7_lines 61 = .ok (.getfield 3, 3) := dk_180 0 3 (dk_at dksX7_lines_2 15 rfl rfl)
theorem dX7_lines_64 : decode cX7_lines 64 = .ok (.getfield 22, 3) := dk_180 0 22 (dk_at dksX7_lines_2 18 rfl rfl)
theorem dX7_lines_67 : decode cX7_lines 67 = .ok (.if_icmp .ge 11, 3) := dk_162 0 11 (dk_at dksX7_lines_2 21 rfl rfl)
theorem dX7_lines_70 : decode cX7_lines 70 = .ok (.aload_n 0, 1) := dk_42 (dk_at dksX7_lines_3 0 rfl rfl)
theorem dX7_lines_71 : decode cX7_lines 71 = .ok (.aload_n 0, 1) := dk_42 (dk_at dksX7_lines_3 1 rfl rfl)
theorem dX7_lines_72 : decode cX7_lines 72 = .ok (.getfield 19, 3) := dk_180 0 19 (dk_at dksX7_lines_3 2 rfl rfl)
theorem dX7_lines_75 : decode cX7_lines 75 = .ok (.putfield 15, 3) := dk_181 0 15 (dk_at dksX7_lines_3 5 rfl rfl)
theorem dX7_lines_78 : decode cX7_lines 78 = .ok (.aload_n 1, 1) := dk_43 (dk_at dksX7_lines_3 8 rfl rfl)
theorem dX7_lines_79 : decode cX7_lines 79 = .ok (.areturn, 1) := dk_176 (dk_at dksX7_lines_3 9 rfl rfl)
abbrev cX7_line : ByteArray := prog_27_method_6_code
def yX7_line : MethodName := ⟨RX7, "line", "()LChairOld$Line;"⟩
def dkwX7_line_2 : List UInt8 := [180, 0, 54, 181, 0, 58, 43, 42, 182, 0, 50, 181, 0, 54, 43, 176]
abbrev dktX7_line_2 : List UInt8 := dkwX7_line_2 ++ []
def dkwX7_line_1 : List UInt8 := [182, 0, 29, 16, 63, 159, 0, 5, 43, 176, 42, 89, 180, 0, 19, 4, 96, 181, 0, 19, 43, 43]
abbrev dktX7_line_1 : List UInt8 := dkwX7_line_1 ++ dktX7_line_2
def dkwX7_line_0 : List UInt8 := [187, 0, 44, 89, 183, 0, 49, 76, 43, 42, 182, 0, 50, 181, 0, 54, 42, 180, 0, 15, 156, 0, 12, 42]
abbrev dktX7_line_0 : List UInt8 := dkwX7_line_0 ++ dktX7_line_1
theorem dksX7_line_0 : cX7_line.data.toList.drop 0 = dktX7_line_0 := by decide +kernel
theorem dksX7_line_1 : cX7_line.data.toList.drop 24 = dktX7_line_1 := dk_seg dksX7_line_0 24 rfl rfl
theorem dksX7_line_2 : cX7_line.data.toList.drop 46 = dktX7_line_2 := dk_seg dksX7_line_1 22 rfl rfl
theorem dX7_line_0 : decode cX7_line 0 = .ok (.new 44, 3) := dk_187 0 44 (dk_at dksX7_line_0 0 rfl rfl)
theorem dX7_line_3 : decode cX7_line 3 = .ok (.dup, 1) := dk_89 (dk_at dksX7_line_0 3 rfl rfl)
theorem dX7_line_4 : decode cX7_line 4 = .ok (.invokespecial 49, 3) := dk_183 0 49 (dk_at dksX7_line_0 4 rfl rfl)
theorem dX7_line_7 : decode cX7_line 7 = .ok (.astore_n 1, 1) := dk_76 (dk_at dksX7_line_0 7 rfl rfl)
theorem dX7_line_8 : decode cX7_line 8 = .ok (.aload_n 1, 1) := dk_43 (dk_at dksX7_line_0 8 rfl rfl)
theorem dX7_line_9 : decode cX7_line 9 = .ok (.aload_n 0, 1) := dk_42 (dk_at dksX7_line_0 9 rfl rfl)
theorem dX7_line_10 : decode cX7_line 10 = .ok (.invokevirtual 50, 3) := dk_182 0 50 (dk_at dksX7_line_0 10 rfl rfl)
theorem dX7_line_13 : decode cX7_line 13 = .ok (.putfield 54, 3) := dk_181 0 54 (dk_at dksX7_line_0 13 rfl rfl)
theorem dX7_line_16 : decode cX7_line 16 = .ok (.aload_n 0, 1) := dk_42 (dk_at dksX7_line_0 16 rfl rfl)
theorem dX7_line_17 : decode cX7_line 17 = .ok (.getfield 15, 3) := dk_180 0 15 (dk_at dksX7_line_0 17 rfl rfl)
theorem dX7_line_20 : decode cX7_line 20 = .ok (.ifCond .ge 12, 3) := dk_156 0 12 (dk_at dksX7_line_0 20 rfl rfl)
theorem dX7_line_23 : decode cX7_line 23 = .ok (.aload_n 0, 1) := dk_42 (dk_at dksX7_line_0 23 rfl rfl)
theorem dX7_line_24 : decode cX7_line 24 = .ok (.invokevirtual 29, 3) := dk_182 0 29 (dk_at dksX7_line_1 0 rfl rfl)
theorem dX7_line_27 : decode cX7_line 27 = .ok (.bipush 63, 2) := dk_16 63 (dk_at dksX7_line_1 3 rfl rfl)
theorem dX7_line_29 : decode cX7_line 29 = .ok (.if_icmp .eq 5, 3) := dk_159 0 5 (dk_at dksX7_line_1 5 rfl rfl)
theorem dX7_line_32 : decode cX7_line 32 = .ok (.aload_n 1, 1) := dk_43 (dk_at dksX7_line_1 8 rfl rfl)
theorem dX7_line_33 : decode cX7_line 33 = .ok (.areturn, 1) := dk_176 (dk_at dksX7_line_1 9 rfl rfl)
theorem dX7_line_34 : decode cX7_line 34 = .ok (.aload_n 0, 1) := dk_42 (dk_at dksX7_line_1 10 rfl rfl)
theorem dX7_line_35 : decode cX7_line 35 = .ok (.dup, 1) := dk_89 (dk_at dksX7_line_1 11 rfl rfl)
theorem dX7_line_36 : decode cX7_line 36 = .ok (.getfield 19, 3) := dk_180 0 19 (dk_at dksX7_line_1 12 rfl rfl)
theorem dX7_line_39 : decode cX7_line 39 = .ok (.iconst 1, 1) := dk_4 (dk_at dksX7_line_1 15 rfl rfl)
theorem dX7_line_40 : decode cX7_line 40 = .ok (.iadd, 1) := dk_96 (dk_at dksX7_line_1 16 rfl rfl)
theorem dX7_line_41 : decode cX7_line 41 = .ok (.putfield 19, 3) := dk_181 0 19 (dk_at dksX7_line_1 17 rfl rfl)
theorem dX7_line_44 : decode cX7_line 44 = .ok (.aload_n 1, 1) := dk_43 (dk_at dksX7_line_1 20 rfl rfl)
theorem dX7_line_45 : decode cX7_line 45 = .ok (.aload_n 1, 1) := dk_43 (dk_at dksX7_line_1 21 rfl rfl)
theorem dX7_line_46 : decode cX7_line 46 = .ok (.getfield 54, 3) := dk_180 0 54 (dk_at dksX7_line_2 0 rfl rfl)
theorem dX7_line_49 : decode cX7_line 49 = .ok (.putfield 58, 3) := dk_181 0 58 (dk_at dksX7_line_2 3 rfl rfl)
theorem dX7_line_52 : decode cX7_line 52 = .ok (.aload_n 1, 1) := dk_43 (dk_at dksX7_line_2 6 rfl rfl)
theorem dX7_line_53 : decode cX7_line 53 = .ok (.aload_n 0, 1) := dk_42 (dk_at dksX7_line_2 7 rfl rfl)
theorem dX7_line_54 : decode cX7_line 54 = .ok (.invokevirtual 50, 3) := dk_182 0 50 (dk_at dksX7_line_2 8 rfl rfl)
theorem dX7_line_57 : decode cX7_line 57 = .ok (.putfield 54, 3) := dk_181 0 54 (dk_at dksX7_line_2 11 rfl rfl)
theorem dX7_line_60 : decode cX7_line 60 = .ok (.aload_n 1, 1) := dk_43 (dk_at dksX7_line_2 14 rfl rfl)
theorem dX7_line_61 : decode cX7_line 61 = .ok (.areturn, 1) := dk_176 (dk_at dksX7_line_2 15 rfl rfl)
abbrev cX7_either : ByteArray := prog_27_method_8_code
def yX7_either : MethodName := ⟨RX7, "either", "()LChairOld$Node;"⟩
def dkwX7_either_2 : List UInt8 := [176]
abbrev dktX7_either_2 : List UInt8 := dkwX7_either_2 ++ []
def dkwX7_either_1 : List UInt8 := [180, 0, 19, 4, 96, 181, 0, 19, 42, 16, 124, 43, 42, 182, 0, 66, 182, 0, 69, 76, 167, 255, 218, 43]
abbrev dktX7_either_1 : List UInt8 := dkwX7_either_1 ++ dktX7_either_2
def dkwX7_either_0 : List UInt8 := [42, 182, 0, 66, 76, 42, 180, 0, 15, 156, 0, 37, 42, 182, 0, 29, 16, 124, 160, 0, 28, 42, 89]
abbrev dktX7_either_0 : List UInt8 := dkwX7_either_0 ++ dktX7_either_1
theorem dksX7_either_0 : cX7_either.data.toList.drop 0 = dktX7_either_0 := by decide +kernel
theorem dksX7_either_1 : cX7_either.data.toList.drop 23 = dktX7_either_1 := dk_seg dksX7_either_0 23 rfl rfl
theorem dksX7_either_2 : cX7_either.data.toList.drop 47 = dktX7_either_2 := dk_seg dksX7_either_1 24 rfl rfl
theorem dX7_either_0 : decode cX7_either 0 = .ok (.aload_n 0, 1) := dk_42 (dk_at dksX7_either_0 0 rfl rfl)
theorem dX7_either_1 : decode cX7_either 1 = .ok (.invokevirtual 66, 3) := dk_182 0 66 (dk_at dksX7_either_0 1 rfl rfl)
theorem dX7_either_4 : decode cX7_either 4 = .ok (.astore_n 1, 1) := dk_76 (dk_at dksX7_either_0 4 rfl rfl)
theorem dX7_either_5 : decode cX7_either 5 = .ok (.aload_n 0, 1) := dk_42 (dk_at dksX7_either_0 5 rfl rfl)
theorem dX7_either_6 : decode cX7_either 6 = .ok (.getfield 15, 3) := dk_180 0 15 (dk_at dksX7_either_0 6 rfl rfl)
theorem dX7_either_9 : decode cX7_either 9 = .ok (.ifCond .ge 37, 3) := dk_156 0 37 (dk_at dksX7_either_0 9 rfl rfl)
theorem dX7_either_12 : decode cX7_either 12 = .ok (.aload_n 0, 1) := dk_42 (dk_at dksX7_either_0 12 rfl rfl)
theorem dX7_either_13 : decode cX7_either 13 = .ok (.invokevirtual 29, 3) := dk_182 0 29 (dk_at dksX7_either_0 13 rfl rfl)
theorem dX7_either_16 : decode cX7_either 16 = .ok (.bipush 124, 2) := dk_16 124 (dk_at dksX7_either_0 16 rfl rfl)
theorem dX7_either_18 : decode cX7_either 18 = .ok (.if_icmp .ne 28, 3) := dk_160 0 28 (dk_at dksX7_either_0 18 rfl rfl)
theorem dX7_either_21 : decode cX7_either 21 = .ok (.aload_n 0, 1) := dk_42 (dk_at dksX7_either_0 21 rfl rfl)
theorem dX7_either_22 : decode cX7_either 22 = .ok (.dup, 1) := dk_89 (dk_at dksX7_either_0 22 rfl rfl)
theorem dX7_either_23 : decode cX7_either 23 = .ok (.getfield 19, 3) := dk_180 0 19 (dk_at dksX7_either_1 0 rfl rfl)
theorem dX7_either_26 : decode cX7_either 26 = .ok (.iconst 1, 1) := dk_4 (dk_at dksX7_either_1 3 rfl rfl)
theorem dX7_either_27 : decode cX7_either 27 = .ok (.iadd, 1) := dk_96 (dk_at dksX7_either_1 4 rfl rfl)
theorem dX7_either_28 : decode cX7_either 28 = .ok (.putfield 19, 3) := dk_181 0 19 (dk_at dksX7_either_1 5 rfl rfl)
theorem dX7_either_31 : decode cX7_either 31 = .ok (.aload_n 0, 1) := dk_42 (dk_at dksX7_either_1 8 rfl rfl)
theorem dX7_either_32 : decode cX7_either 32 = .ok (.bipush 124, 2) := dk_16 124 (dk_at dksX7_either_1 9 rfl rfl)
theorem dX7_either_34 : decode cX7_either 34 = .ok (.aload_n 1, 1) := dk_43 (dk_at dksX7_either_1 11 rfl rfl)
theorem dX7_either_35 : decode cX7_either 35 = .ok (.aload_n 0, 1) := dk_42 (dk_at dksX7_either_1 12 rfl rfl)
theorem dX7_either_36 : decode cX7_either 36 = .ok (.invokevirtual 66, 3) := dk_182 0 66 (dk_at dksX7_either_1 13 rfl rfl)
theorem dX7_either_39 : decode cX7_either 39 = .ok (.invokevirtual 69, 3) := dk_182 0 69 (dk_at dksX7_either_1 16 rfl rfl)
theorem dX7_either_42 : decode cX7_either 42 = .ok (.astore_n 1, 1) := dk_76 (dk_at dksX7_either_1 19 rfl rfl)
theorem dX7_either_43 : decode cX7_either 43 = .ok (.goto (-38), 3) := dk_167 255 218 (dk_at dksX7_either_1 20 rfl rfl)
theorem dX7_either_46 : decode cX7_either 46 = .ok (.aload_n 1, 1) := dk_43 (dk_at dksX7_either_1 23 rfl rfl)
theorem dX7_either_47 : decode cX7_either 47 = .ok (.areturn, 1) := dk_176 (dk_at dksX7_either_2 0 rfl rfl)
abbrev cX7_all : ByteArray := prog_27_method_9_code
def yX7_all : MethodName := ⟨RX7, "all", "()LChairOld$Node;"⟩
def dkwX7_all_2 : List UInt8 := [176]
abbrev dktX7_all_2 : List UInt8 := dkwX7_all_2 ++ []
def dkwX7_all_1 : List UInt8 := [180, 0, 19, 4, 96, 181, 0, 19, 42, 16, 38, 43, 42, 182, 0, 73, 182, 0, 69, 76, 167, 255, 218, 43]
abbrev dktX7_all_1 : List UInt8 := dkwX7_all_1 ++ dktX7_all_2
def dkwX7_all_0 : List UInt8 := [42, 182, 0, 73, 76, 42, 180, 0, 15, 156, 0, 37, 42, 182, 0, 29, 16, 38, 160, 0, 28, 42, 89]
abbrev dktX7_all_0 : List UInt8 := dkwX7_all_0 ++ dktX7_all_1
theorem dksX7_all_0 : cX7_all.data.toList.drop 0 = dktX7_all_0 := by decide +kernel
theorem dksX7_all_1 : cX7_all.data.toList.drop 23 = dktX7_all_1 := dk_seg dksX7_all_0 23 rfl rfl
theorem dksX7_all_2 : cX7_all.data.toList.drop 47 = dktX7_all_2 := dk_seg dksX7_all_1 24 rfl rfl
theorem dX7_all_0 : decode cX7_all 0 = .ok (.aload_n 0, 1) := dk_42 (dk_at dksX7_all_0 0 rfl rfl)
theorem dX7_all_1 : decode cX7_all 1 = .ok (.invokevirtual 73, 3) := dk_182 0 73 (dk_at dksX7_all_0 1 rfl rfl)
theorem dX7_all_4 : decode cX7_all 4 = .ok (.astore_n 1, 1) := dk_76 (dk_at dksX7_all_0 4 rfl rfl)
theorem dX7_all_5 : decode cX7_all 5 = .ok (.aload_n 0, 1) := dk_42 (dk_at dksX7_all_0 5 rfl rfl)
theorem dX7_all_6 : decode cX7_all 6 = .ok (.getfield 15, 3) := dk_180 0 15 (dk_at dksX7_all_0 6 rfl rfl)
theorem dX7_all_9 : decode cX7_all 9 = .ok (.ifCond .ge 37, 3) := dk_156 0 37 (dk_at dksX7_all_0 9 rfl rfl)
theorem dX7_all_12 : decode cX7_all 12 = .ok (.aload_n 0, 1) := dk_42 (dk_at dksX7_all_0 12 rfl rfl)
theorem dX7_all_13 : decode cX7_all 13 = .ok (.invokevirtual 29, 3) := dk_182 0 29 (dk_at dksX7_all_0 13 rfl rfl)
theorem dX7_all_16 : decode cX7_all 16 = .ok (.bipush 38, 2) := dk_16 38 (dk_at dksX7_all_0 16 rfl rfl)
theorem dX7_all_18 : decode cX7_all 18 = .ok (.if_icmp .ne 28, 3) := dk_160 0 28 (dk_at dksX7_all_0 18 rfl rfl)
theorem dX7_all_21 : decode cX7_all 21 = .ok (.aload_n 0, 1) := dk_42 (dk_at dksX7_all_0 21 rfl rfl)
theorem dX7_all_22 : decode cX7_all 22 = .ok (.dup, 1) := dk_89 (dk_at dksX7_all_0 22 rfl rfl)
theorem dX7_all_23 : decode cX7_all 23 = .ok (.getfield 19, 3) := dk_180 0 19 (dk_at dksX7_all_1 0 rfl rfl)
theorem dX7_all_26 : decode cX7_all 26 = .ok (.iconst 1, 1) := dk_4 (dk_at dksX7_all_1 3 rfl rfl)
theorem dX7_all_27 : decode cX7_all 27 = .ok (.iadd, 1) := dk_96 (dk_at dksX7_all_1 4 rfl rfl)
theorem dX7_all_28 : decode cX7_all 28 = .ok (.putfield 19, 3) := dk_181 0 19 (dk_at dksX7_all_1 5 rfl rfl)
theorem dX7_all_31 : decode cX7_all 31 = .ok (.aload_n 0, 1) := dk_42 (dk_at dksX7_all_1 8 rfl rfl)
theorem dX7_all_32 : decode cX7_all 32 = .ok (.bipush 38, 2) := dk_16 38 (dk_at dksX7_all_1 9 rfl rfl)
theorem dX7_all_34 : decode cX7_all 34 = .ok (.aload_n 1, 1) := dk_43 (dk_at dksX7_all_1 11 rfl rfl)
theorem dX7_all_35 : decode cX7_all 35 = .ok (.aload_n 0, 1) := dk_42 (dk_at dksX7_all_1 12 rfl rfl)
theorem dX7_all_36 : decode cX7_all 36 = .ok (.invokevirtual 73, 3) := dk_182 0 73 (dk_at dksX7_all_1 13 rfl rfl)
theorem dX7_all_39 : decode cX7_all 39 = .ok (.invokevirtual 69, 3) := dk_182 0 69 (dk_at dksX7_all_1 16 rfl rfl)
theorem dX7_all_42 : decode cX7_all 42 = .ok (.astore_n 1, 1) := dk_76 (dk_at dksX7_all_1 19 rfl rfl)
theorem dX7_all_43 : decode cX7_all 43 = .ok (.goto (-38), 3) := dk_167 255 218 (dk_at dksX7_all_1 20 rfl rfl)
theorem dX7_all_46 : decode cX7_all 46 = .ok (.aload_n 1, 1) := dk_43 (dk_at dksX7_all_1 23 rfl rfl)
theorem dX7_all_47 : decode cX7_all 47 = .ok (.areturn, 1) := dk_176 (dk_at dksX7_all_2 0 rfl rfl)
abbrev cX7_compared : ByteArray := prog_27_method_10_code
def yX7_compared : MethodName := ⟨RX7, "compared", "()LChairOld$Node;"⟩
def dkwX7_compared_2 : List UInt8 := [176]
abbrev dktX7_compared_2 : List UInt8 := dkwX7_compared_2 ++ []
def dkwX7_compared_1 : List UInt8 := [182, 0, 29, 61, 42, 89, 180, 0, 19, 4, 96, 181, 0, 19, 42, 28, 43, 42, 182, 0, 76, 182, 0, 69]
abbrev dktX7_compared_1 : List UInt8 := dkwX7_compared_1 ++ dktX7_compared_2
def dkwX7_compared_0 : List UInt8 := [42, 182, 0, 76, 76, 42, 180, 0, 15, 156, 0, 12, 42, 18, 79, 182, 0, 81, 154, 0, 5, 43, 176, 42]
abbrev dktX7_compared_0 : List UInt8 := dkwX7_compared_0 ++ dktX7_compared_1
theorem dksX7_compared_0 : cX7_compared.data.toList.drop 0 = dktX7_compared_0 := by decide +kernel
theorem dksX7_compared_1 : cX7_compared.data.toList.drop 24 = dktX7_compared_1 := dk_seg dksX7_compared_0 24 rfl rfl
theorem dksX7_compared_2 : cX7_compared.data.toList.drop 48 = dktX7_compared_2 := dk_seg dksX7_compared_1 24 rfl rfl
theorem dX7_compared_0 : decode cX7_compared 0 = .ok (.aload_n 0, 1) := dk_42 (dk_at dksX7_compared_0 0 rfl rfl)
theorem dX7_compared_1 : decode cX7_compared 1 = .ok (.invokevirtual 76, 3) := dk_182 0 76 (dk_at dksX7_compared_0 1 rfl rfl)
theorem dX7_compared_4 : decode cX7_compared 4 = .ok (.astore_n 1, 1) := dk_76 (dk_at dksX7_compared_0 4 rfl rfl)
theorem dX7_compared_5 : decode cX7_compared 5 = .ok (.aload_n 0, 1) := dk_42 (dk_at dksX7_compared_0 5 rfl rfl)
theorem dX7_compared_6 : decode cX7_compared 6 = .ok (.getfield 15, 3) := dk_180 0 15 (dk_at dksX7_compared_0 6 rfl rfl)
theorem dX7_compared_9 : decode cX7_compared 9 = .ok (.ifCond .ge 12, 3) := dk_156 0 12 (dk_at dksX7_compared_0 9 rfl rfl)
theorem dX7_compared_12 : decode cX7_compared 12 = .ok (.aload_n 0, 1) := dk_42 (dk_at dksX7_compared_0 12 rfl rfl)
theorem dX7_compared_13 : decode cX7_compared 13 = .ok (.ldc 79, 2) := dk_18 79 (dk_at dksX7_compared_0 13 rfl rfl)
theorem dX7_compared_15 : decode cX7_compared 15 = .ok (.invokevirtual 81, 3) := dk_182 0 81 (dk_at dksX7_compared_0 15 rfl rfl)
theorem dX7_compared_18 : decode cX7_compared 18 = .ok (.ifCond .ne 5, 3) := dk_154 0 5 (dk_at dksX7_compared_0 18 rfl rfl)
theorem dX7_compared_21 : decode cX7_compared 21 = .ok (.aload_n 1, 1) := dk_43 (dk_at dksX7_compared_0 21 rfl rfl)
theorem dX7_compared_22 : decode cX7_compared 22 = .ok (.areturn, 1) := dk_176 (dk_at dksX7_compared_0 22 rfl rfl)
theorem dX7_compared_23 : decode cX7_compared 23 = .ok (.aload_n 0, 1) := dk_42 (dk_at dksX7_compared_0 23 rfl rfl)
theorem dX7_compared_24 : decode cX7_compared 24 = .ok (.invokevirtual 29, 3) := dk_182 0 29 (dk_at dksX7_compared_1 0 rfl rfl)
theorem dX7_compared_27 : decode cX7_compared 27 = .ok (.istore_n 2, 1) := dk_61 (dk_at dksX7_compared_1 3 rfl rfl)
theorem dX7_compared_28 : decode cX7_compared 28 = .ok (.aload_n 0, 1) := dk_42 (dk_at dksX7_compared_1 4 rfl rfl)
theorem dX7_compared_29 : decode cX7_compared 29 = .ok (.dup, 1) := dk_89 (dk_at dksX7_compared_1 5 rfl rfl)
theorem dX7_compared_30 : decode cX7_compared 30 = .ok (.getfield 19, 3) := dk_180 0 19 (dk_at dksX7_compared_1 6 rfl rfl)
theorem dX7_compared_33 : decode cX7_compared 33 = .ok (.iconst 1, 1) := dk_4 (dk_at dksX7_compared_1 9 rfl rfl)
theorem dX7_compared_34 : decode cX7_compared 34 = .ok (.iadd, 1) := dk_96 (dk_at dksX7_compared_1 10 rfl rfl)
theorem dX7_compared_35 : decode cX7_compared 35 = .ok (.putfield 19, 3) := dk_181 0 19 (dk_at dksX7_compared_1 11 rfl rfl)
theorem dX7_compared_38 : decode cX7_compared 38 = .ok (.aload_n 0, 1) := dk_42 (dk_at dksX7_compared_1 14 rfl rfl)
theorem dX7_compared_39 : decode cX7_compared 39 = .ok (.iload_n 2, 1) := dk_28 (dk_at dksX7_compared_1 15 rfl rfl)
theorem dX7_compared_40 : decode cX7_compared 40 = .ok (.aload_n 1, 1) := dk_43 (dk_at dksX7_compared_1 16 rfl rfl)
theorem dX7_compared_41 : decode cX7_compared 41 = .ok (.aload_n 0, 1) := dk_42 (dk_at dksX7_compared_1 17 rfl rfl)
theorem dX7_compared_42 : decode cX7_compared 42 = .ok (.invokevirtual 76, 3) := dk_182 0 76 (dk_at dksX7_compared_1 18 rfl rfl)
theorem dX7_compared_45 : decode cX7_compared 45 = .ok (.invokevirtual 69, 3) := dk_182 0 69 (dk_at dksX7_compared_1 21 rfl rfl)
theorem dX7_compared_48 : decode cX7_compared 48 = .ok (.areturn, 1) := dk_176 (dk_at dksX7_compared_2 0 rfl rfl)
abbrev cX7_sum : ByteArray := prog_27_method_11_code
def yX7_sum : MethodName := ⟨RX7, "sum", "()LChairOld$Node;"⟩
def dkwX7_sum_2 : List UInt8 := [76, 167, 255, 214, 43, 176]
abbrev dktX7_sum_2 : List UInt8 := dkwX7_sum_2 ++ []
def dkwX7_sum_1 : List UInt8 := [182, 0, 29, 61, 42, 89, 180, 0, 19, 4, 96, 181, 0, 19, 42, 28, 43, 42, 182, 0, 85, 182, 0, 69]
abbrev dktX7_sum_1 : List UInt8 := dkwX7_sum_1 ++ dktX7_sum_2
def dkwX7_sum_0 : List UInt8 := [42, 182, 0, 85, 76, 42, 180, 0, 15, 156, 0, 41, 42, 18, 88, 182, 0, 81, 153, 0, 32, 42]
abbrev dktX7_sum_0 : List UInt8 := dkwX7_sum_0 ++ dktX7_sum_1
theorem dksX7_sum_0 : cX7_sum.data.toList.drop 0 = dktX7_sum_0 := by decide +kernel
theorem dksX7_sum_1 : cX7_sum.data.toList.drop 22 = dktX7_sum_1 := dk_seg dksX7_sum_0 22 rfl rfl
theorem dksX7_sum_2 : cX7_sum.data.toList.drop 46 = dktX7_sum_2 := dk_seg dksX7_sum_1 24 rfl rfl
theorem dX7_sum_0 : decode cX7_sum 0 = .ok (.aload_n 0, 1) := dk_42 (dk_at dksX7_sum_0 0 rfl rfl)
theorem dX7_sum_1 : decode cX7_sum 1 = .ok (.invokevirtual 85, 3) := dk_182 0 85 (dk_at dksX7_sum_0 1 rfl rfl)
theorem dX7_sum_4 : decode cX7_sum 4 = .ok (.astore_n 1, 1) := dk_76 (dk_at dksX7_sum_0 4 rfl rfl)
theorem dX7_sum_5 : decode cX7_sum 5 = .ok (.aload_n 0, 1) := dk_42 (dk_at dksX7_sum_0 5 rfl rfl)
theorem dX7_sum_6 : decode cX7_sum 6 = .ok (.getfield 15, 3) := dk_180 0 15 (dk_at dksX7_sum_0 6 rfl rfl)
theorem dX7_sum_9 : decode cX7_sum 9 = .ok (.ifCond .ge 41, 3) := dk_156 0 41 (dk_at dksX7_sum_0 9 rfl rfl)
theorem dX7_sum_12 : decode cX7_sum 12 = .ok (.aload_n 0, 1) := dk_42 (dk_at dksX7_sum_0 12 rfl rfl)
theorem dX7_sum_13 : decode cX7_sum 13 = .ok (.ldc 88, 2) := dk_18 88 (dk_at dksX7_sum_0 13 rfl rfl)
theorem dX7_sum_15 : decode cX7_sum 15 = .ok (.invokevirtual 81, 3) := dk_182 0 81 (dk_at dksX7_sum_0 15 rfl rfl)
theorem dX7_sum_18 : decode cX7_sum 18 = .ok (.ifCond .eq 32, 3) := dk_153 0 32 (dk_at dksX7_sum_0 18 rfl rfl)
theorem dX7_sum_21 : decode cX7_sum 21 = .ok (.aload_n 0, 1) := dk_42 (dk_at dksX7_sum_0 21 rfl rfl)
theorem dX7_sum_22 : decode cX7_sum 22 = .ok (.invokevirtual 29, 3) := dk_182 0 29 (dk_at dksX7_sum_1 0 rfl rfl)
theorem dX7_sum_25 : decode cX7_sum 25 = .ok (.istore_n 2, 1) := dk_61 (dk_at dksX7_sum_1 3 rfl rfl)
theorem dX7_sum_26 : decode cX7_sum 26 = .ok (.aload_n 0, 1) := dk_42 (dk_at dksX7_sum_1 4 rfl rfl)
theorem dX7_sum_27 : decode cX7_sum 27 = .ok (.dup, 1) := dk_89 (dk_at dksX7_sum_1 5 rfl rfl)
theorem dX7_sum_28 : decode cX7_sum 28 = .ok (.getfield 19, 3) := dk_180 0 19 (dk_at dksX7_sum_1 6 rfl rfl)
theorem dX7_sum_31 : decode cX7_sum 31 = .ok (.iconst 1, 1) := dk_4 (dk_at dksX7_sum_1 9 rfl rfl)
theorem dX7_sum_32 : decode cX7_sum 32 = .ok (.iadd, 1) := dk_96 (dk_at dksX7_sum_1 10 rfl rfl)
theorem dX7_sum_33 : decode cX7_sum 33 = .ok (.putfield 19, 3) := dk_181 0 19 (dk_at dksX7_sum_1 11 rfl rfl)
theorem dX7_sum_36 : decode cX7_sum 36 = .ok (.aload_n 0, 1) := dk_42 (dk_at dksX7_sum_1 14 rfl rfl)
theorem dX7_sum_37 : decode cX7_sum 37 = .ok (.iload_n 2, 1) := dk_28 (dk_at dksX7_sum_1 15 rfl rfl)
theorem dX7_sum_38 : decode cX7_sum 38 = .ok (.aload_n 1, 1) := dk_43 (dk_at dksX7_sum_1 16 rfl rfl)
theorem dX7_sum_39 : decode cX7_sum 39 = .ok (.aload_n 0, 1) := dk_42 (dk_at dksX7_sum_1 17 rfl rfl)
theorem dX7_sum_40 : decode cX7_sum 40 = .ok (.invokevirtual 85, 3) := dk_182 0 85 (dk_at dksX7_sum_1 18 rfl rfl)
theorem dX7_sum_43 : decode cX7_sum 43 = .ok (.invokevirtual 69, 3) := dk_182 0 69 (dk_at dksX7_sum_1 21 rfl rfl)
theorem dX7_sum_46 : decode cX7_sum 46 = .ok (.astore_n 1, 1) := dk_76 (dk_at dksX7_sum_2 0 rfl rfl)
theorem dX7_sum_47 : decode cX7_sum 47 = .ok (.goto (-42), 3) := dk_167 255 214 (dk_at dksX7_sum_2 1 rfl rfl)
theorem dX7_sum_50 : decode cX7_sum 50 = .ok (.aload_n 1, 1) := dk_43 (dk_at dksX7_sum_2 4 rfl rfl)
theorem dX7_sum_51 : decode cX7_sum 51 = .ok (.areturn, 1) := dk_176 (dk_at dksX7_sum_2 5 rfl rfl)
abbrev cX7_product : ByteArray := prog_27_method_12_code
def yX7_product : MethodName := ⟨RX7, "product", "()LChairOld$Node;"⟩
def dkwX7_product_2 : List UInt8 := [76, 167, 255, 214, 43, 176]
abbrev dktX7_product_2 : List UInt8 := dkwX7_product_2 ++ []
def dkwX7_product_1 : List UInt8 := [182, 0, 29, 61, 42, 89, 180, 0, 19, 4, 96, 181, 0, 19, 42, 28, 43, 42, 182, 0, 90, 182, 0, 69]
abbrev dktX7_product_1 : List UInt8 := dkwX7_product_1 ++ dktX7_product_2
def dkwX7_product_0 : List UInt8 := [42, 182, 0, 90, 76, 42, 180, 0, 15, 156, 0, 41, 42, 18, 93, 182, 0, 81, 153, 0, 32, 42]
abbrev dktX7_product_0 : List UInt8 := dkwX7_product_0 ++ dktX7_product_1
theorem dksX7_product_0 : cX7_product.data.toList.drop 0 = dktX7_product_0 := by decide +kernel
theorem dksX7_product_1 : cX7_product.data.toList.drop 22 = dktX7_product_1 := dk_seg dksX7_product_0 22 rfl rfl
theorem dksX7_product_2 : cX7_product.data.toList.drop 46 = dktX7_product_2 := dk_seg dksX7_product_1 24 rfl rfl
theorem dX7_product_0 : decode cX7_product 0 = .ok (.aload_n 0, 1) := dk_42 (dk_at dksX7_product_0 0 rfl rfl)
theorem dX7_product_1 : decode cX7_product 1 = .ok (.invokevirtual 90, 3) := dk_182 0 90 (dk_at dksX7_product_0 1 rfl rfl)
theorem dX7_product_4 : decode cX7_product 4 = .ok (.astore_n 1, 1) := dk_76 (dk_at dksX7_product_0 4 rfl rfl)
theorem dX7_product_5 : decode cX7_product 5 = .ok (.aload_n 0, 1) := dk_42 (dk_at dksX7_product_0 5 rfl rfl)
theorem dX7_product_6 : decode cX7_product 6 = .ok (.getfield 15, 3) := dk_180 0 15 (dk_at dksX7_product_0 6 rfl rfl)
theorem dX7_product_9 : decode cX7_product 9 = .ok (.ifCond .ge 41, 3) := dk_156 0 41 (dk_at dksX7_product_0 9 rfl rfl)
theorem dX7_product_12 : decode cX7_product 12 = .ok (.aload_n 0, 1) := dk_42 (dk_at dksX7_product_0 12 rfl rfl)
theorem dX7_product_13 : decode cX7_product 13 = .ok (.ldc 93, 2) := dk_18 93 (dk_at dksX7_product_0 13 rfl rfl)
theorem dX7_product_15 : decode cX7_product 15 = .ok (.invokevirtual 81, 3) := dk_182 0 81 (dk_at dksX7_product_0 15 rfl rfl)
theorem dX7_product_18 : decode cX7_product 18 = .ok (.ifCond .eq 32, 3) := dk_153 0 32 (dk_at dksX7_product_0 18 rfl rfl)
theorem dX7_product_21 : decode cX7_product 21 = .ok (.aload_n 0, 1) := dk_42 (dk_at dksX7_product_0 21 rfl rfl)
theorem dX7_product_22 : decode cX7_product 22 = .ok (.invokevirtual 29, 3) := dk_182 0 29 (dk_at dksX7_product_1 0 rfl rfl)
theorem dX7_product_25 : decode cX7_product 25 = .ok (.istore_n 2, 1) := dk_61 (dk_at dksX7_product_1 3 rfl rfl)
theorem dX7_product_26 : decode cX7_product 26 = .ok (.aload_n 0, 1) := dk_42 (dk_at dksX7_product_1 4 rfl rfl)
theorem dX7_product_27 : decode cX7_product 27 = .ok (.dup, 1) := dk_89 (dk_at dksX7_product_1 5 rfl rfl)
theorem dX7_product_28 : decode cX7_product 28 = .ok (.getfield 19, 3) := dk_180 0 19 (dk_at dksX7_product_1 6 rfl rfl)
theorem dX7_product_31 : decode cX7_product 31 = .ok (.iconst 1, 1) := dk_4 (dk_at dksX7_product_1 9 rfl rfl)
theorem dX7_product_32 : decode cX7_product 32 = .ok (.iadd, 1) := dk_96 (dk_at dksX7_product_1 10 rfl rfl)
theorem dX7_product_33 : decode cX7_product 33 = .ok (.putfield 19, 3) := dk_181 0 19 (dk_at dksX7_product_1 11 rfl rfl)
theorem dX7_product_36 : decode cX7_product 36 = .ok (.aload_n 0, 1) := dk_42 (dk_at dksX7_product_1 14 rfl rfl)
theorem dX7_product_37 : decode cX7_product 37 = .ok (.iload_n 2, 1) := dk_28 (dk_at dksX7_product_1 15 rfl rfl)
theorem dX7_product_38 : decode cX7_product 38 = .ok (.aload_n 1, 1) := dk_43 (dk_at dksX7_product_1 16 rfl rfl)
theorem dX7_product_39 : decode cX7_product 39 = .ok (.aload_n 0, 1) := dk_42 (dk_at dksX7_product_1 17 rfl rfl)
theorem dX7_product_40 : decode cX7_product 40 = .ok (.invokevirtual 90, 3) := dk_182 0 90 (dk_at dksX7_product_1 18 rfl rfl)
theorem dX7_product_43 : decode cX7_product 43 = .ok (.invokevirtual 69, 3) := dk_182 0 69 (dk_at dksX7_product_1 21 rfl rfl)
theorem dX7_product_46 : decode cX7_product 46 = .ok (.astore_n 1, 1) := dk_76 (dk_at dksX7_product_2 0 rfl rfl)
theorem dX7_product_47 : decode cX7_product 47 = .ok (.goto (-42), 3) := dk_167 255 214 (dk_at dksX7_product_2 1 rfl rfl)
theorem dX7_product_50 : decode cX7_product 50 = .ok (.aload_n 1, 1) := dk_43 (dk_at dksX7_product_2 4 rfl rfl)
theorem dX7_product_51 : decode cX7_product 51 = .ok (.areturn, 1) := dk_176 (dk_at dksX7_product_2 5 rfl rfl)
abbrev cX7_operand : ByteArray := prog_27_method_14_code
def yX7_operand : MethodName := ⟨RX7, "operand", "()LChairOld$Node;"⟩
def dkwX7_operand_11 : List UInt8 := [89, 29, 183, 0, 126, 176]
abbrev dktX7_operand_11 : List UInt8 := dkwX7_operand_11 ++ []
def dkwX7_operand_10 : List UInt8 := [42, 182, 0, 29, 16, 48, 16, 57, 184, 0, 120, 153, 0, 10, 42, 182, 0, 109, 167, 0, 11, 187, 0, 124]
abbrev dktX7_operand_10 : List UInt8 := dkwX7_operand_10 ++ dktX7_operand_11
def dkwX7_operand_9 : List UInt8 := [16, 48, 100, 62, 132, 2, 1, 42, 89, 180, 0, 19, 4, 96, 181, 0, 19, 167, 255, 211, 28, 153, 0, 17]
abbrev dktX7_operand_9 : List UInt8 := dkwX7_operand_9 ++ dktX7_operand_10
def dkwX7_operand_8 : List UInt8 := [42, 182, 0, 29, 16, 48, 16, 57, 184, 0, 120, 153, 0, 32, 16, 10, 29, 104, 42, 182, 0, 29, 96]
abbrev dktX7_operand_8 : List UInt8 := dkwX7_operand_8 ++ dktX7_operand_9
def dkwX7_operand_7 : List UInt8 := [181, 0, 19, 42, 89, 180, 0, 95, 4, 100, 181, 0, 95, 44, 176, 3, 61, 3, 62, 28, 7, 162, 0, 46]
abbrev dktX7_operand_7 : List UInt8 := dkwX7_operand_7 ++ dktX7_operand_8
def dkwX7_operand_6 : List UInt8 := [176, 42, 182, 0, 29, 16, 41, 159, 0, 8, 42, 182, 0, 109, 176, 42, 89, 180, 0, 19, 4, 96]
abbrev dktX7_operand_6 : List UInt8 := dkwX7_operand_6 ++ dktX7_operand_7
def dkwX7_operand_5 : List UInt8 := [182, 0, 105, 154, 0, 8, 42, 182, 0, 109, 176, 42, 182, 0, 50, 77, 42, 180, 0, 15, 155, 0, 5, 1]
abbrev dktX7_operand_5 : List UInt8 := dkwX7_operand_5 ++ dktX7_operand_6
def dkwX7_operand_4 : List UInt8 := [183, 0, 114, 167, 0, 11, 187, 0, 117, 89, 44, 183, 0, 119, 176, 27, 16, 40, 160, 0, 65, 42]
abbrev dktX7_operand_4 : List UInt8 := dkwX7_operand_4 ++ dktX7_operand_5
def dkwX7_operand_3 : List UInt8 := [181, 0, 95, 42, 180, 0, 15, 155, 0, 5, 1, 176, 27, 16, 33, 160, 0, 14, 187, 0, 112, 89, 44]
abbrev dktX7_operand_3 : List UInt8 := dkwX7_operand_3 ++ dktX7_operand_4
def dkwX7_operand_2 : List UInt8 := [182, 0, 105, 154, 0, 8, 42, 182, 0, 109, 176, 42, 182, 0, 90, 77, 42, 89, 180, 0, 95, 4, 100]
abbrev dktX7_operand_2 : List UInt8 := dkwX7_operand_2 ++ dktX7_operand_3
def dkwX7_operand_1 : List UInt8 := [187, 0, 100, 89, 27, 183, 0, 102, 176, 27, 16, 33, 159, 0, 9, 27, 16, 45, 160, 0, 65, 42]
abbrev dktX7_operand_1 : List UInt8 := dkwX7_operand_1 ++ dktX7_operand_2
def dkwX7_operand_0 : List UInt8 := [42, 182, 0, 29, 60, 42, 18, 98, 182, 0, 81, 153, 0, 22, 42, 89, 180, 0, 19, 4, 96, 181, 0, 19]
abbrev dktX7_operand_0 : List UInt8 := dkwX7_operand_0 ++ dktX7_operand_1
theorem dksX7_operand_0 : cX7_operand.data.toList.drop 0 = dktX7_operand_0 := by decide +kernel
theorem dksX7_operand_1 : cX7_operand.data.toList.drop 24 = dktX7_operand_1 := dk_seg dksX7_operand_0 24 rfl rfl
theorem dksX7_operand_2 : cX7_operand.data.toList.drop 46 = dktX7_operand_2 := dk_seg dksX7_operand_1 22 rfl rfl
theorem dksX7_operand_3 : cX7_operand.data.toList.drop 69 = dktX7_operand_3 := dk_seg dksX7_operand_2 23 rfl rfl
theorem dksX7_operand_4 : cX7_operand.data.toList.drop 92 = dktX7_operand_4 := dk_seg dksX7_operand_3 23 rfl rfl
theorem dksX7_operand_5 : cX7_operand.data.toList.drop 114 = dktX7_operand_5 := dk_seg dksX7_operand_4 22 rfl rfl
theorem dksX7_operand_6 : cX7_operand.data.toList.drop 138 = dktX7_operand_6 := dk_seg dksX7_operand_5 24 rfl rfl
theorem dksX7_operand_7 : cX7_operand.data.toList.drop 160 = dktX7_operand_7 := dk_seg dksX7_operand_6 22 rfl rfl
theorem dksX7_operand_8 : cX7_operand.data.toList.drop 184 = dktX7_operand_8 := dk_seg dksX7_operand_7 24 rfl rfl
theorem dksX7_operand_9 : cX7_operand.data.toList.drop 207 = dktX7_operand_9 := dk_seg dksX7_operand_8 23 rfl rfl
theorem dksX7_operand_10 : cX7_operand.data.toList.drop 231 = dktX7_operand_10 := dk_seg dksX7_operand_9 24 rfl rfl
theorem dksX7_operand_11 : cX7_operand.data.toList.drop 255 = dktX7_operand_11 := dk_seg dksX7_operand_10 24 rfl rfl
theorem dX7_operand_0 : decode cX7_operand 0 = .ok (.aload_n 0, 1) := dk_42 (dk_at dksX7_operand_0 0 rfl rfl)
theorem dX7_operand_1 : decode cX7_operand 1 = .ok (.invokevirtual 29, 3) := dk_182 0 29 (dk_at dksX7_operand_0 1 rfl rfl)
theorem dX7_operand_4 : decode cX7_operand 4 = .ok (.istore_n 1, 1) := dk_60 (dk_at dksX7_operand_0 4 rfl rfl)
theorem dX7_operand_5 : decode cX7_operand 5 = .ok (.aload_n 0, 1) := dk_42 (dk_at dksX7_operand_0 5 rfl rfl)
theorem dX7_operand_6 : decode cX7_operand 6 = .ok (.ldc 98, 2) := dk_18 98 (dk_at dksX7_operand_0 6 rfl rfl)
theorem dX7_operand_8 : decode cX7_operand 8 = .ok (.invokevirtual 81, 3) := dk_182 0 81 (dk_at dksX7_operand_0 8 rfl rfl)
theorem dX7_operand_11 : decode cX7_operand 11 = .ok (.ifCond .eq 22, 3) := dk_153 0 22 (dk_at dksX7_operand_0 11 rfl rfl)
theorem dX7_operand_14 : decode cX7_operand 14 = .ok (.aload_n 0, 1) := dk_42 (dk_at dksX7_operand_0 14 rfl rfl)
theorem dX7_operand_15 : decode cX7_operand 15 = .ok (.dup, 1) := dk_89 (dk_at dksX7_operand_0 15 rfl rfl)
theorem dX7_operand_16 : decode cX7_operand 16 = .ok (.getfield 19, 3) := dk_180 0 19 (dk_at dksX7_operand_0 16 rfl rfl)
theorem dX7_operand_19 : decode cX7_operand 19 = .ok (.iconst 1, 1) := dk_4 (dk_at dksX7_operand_0 19 rfl rfl)
theorem dX7_operand_20 : decode cX7_operand 20 = .ok (.iadd, 1) := dk_96 (dk_at dksX7_operand_0 20 rfl rfl)
theorem dX7_operand_21 : decode cX7_operand 21 = .ok (.putfield 19, 3) := dk_181 0 19 (dk_at dksX7_operand_0 21 rfl rfl)
theorem dX7_operand_24 : decode cX7_operand 24 = .ok (.new 100, 3) := dk_187 0 100 (dk_at dksX7_operand_1 0 rfl rfl)
theorem dX7_operand_27 : decode cX7_operand 27 = .ok (.dup, 1) := dk_89 (dk_at dksX7_operand_1 3 rfl rfl)
theorem dX7_operand_28 : decode cX7_operand 28 = .ok (.iload_n 1, 1) := dk_27 (dk_at dksX7_operand_1 4 rfl rfl)
theorem dX7_operand_29 : decode cX7_operand 29 = .ok (.invokespecial 102, 3) := dk_183 0 102 (dk_at dksX7_operand_1 5 rfl rfl)
theorem dX7_operand_32 : decode cX7_operand 32 = .ok (.areturn, 1) := dk_176 (dk_at dksX7_operand_1 8 rfl rfl)
theorem dX7_operand_33 : decode cX7_operand 33 = .ok (.iload_n 1, 1) := dk_27 (dk_at dksX7_operand_1 9 rfl rfl)
theorem dX7_operand_34 : decode cX7_operand 34 = .ok (.bipush 33, 2) := dk_16 33 (dk_at dksX7_operand_1 10 rfl rfl)
theorem dX7_operand_36 : decode cX7_operand 36 = .ok (.if_icmp .eq 9, 3) := dk_159 0 9 (dk_at dksX7_operand_1 12 rfl rfl)
theorem dX7_operand_39 : decode cX7_operand 39 = .ok (.iload_n 1, 1) := dk_27 (dk_at dksX7_operand_1 15 rfl rfl)
theorem dX7_operand_40 : decode cX7_operand 40 = .ok (.bipush 45, 2) := dk_16 45 (dk_at dksX7_operand_1 16 rfl rfl)
theorem dX7_operand_42 : decode cX7_operand 42 = .ok (.if_icmp .ne 65, 3) := dk_160 0 65 (dk_at dksX7_operand_1 18 rfl rfl)
theorem dX7_operand_45 : decode cX7_operand 45 = .ok (.aload_n 0, 1) := dk_42 (dk_at dksX7_operand_1 21 rfl rfl)
theorem dX7_operand_46 : decode cX7_operand 46 = .ok (.invokevirtual 105, 3) := dk_182 0 105 (dk_at dksX7_operand_2 0 rfl rfl)
theorem dX7_operand_49 : decode cX7_operand 49 = .ok (.ifCond .ne 8, 3) := dk_154 0 8 (dk_at dksX7_operand_2 3 rfl rfl)
theorem dX7_operand_52 : decode cX7_operand 52 = .ok (.aload_n 0, 1) := dk_42 (dk_at dksX7_operand_2 6 rfl rfl)
theorem dX7_operand_53 : decode cX7_operand 53 = .ok (.invokevirtual 109, 3) := dk_182 0 109 (dk_at dksX7_operand_2 7 rfl rfl)
theorem dX7_operand_56 : decode cX7_operand 56 = .ok (.areturn, 1) := dk_176 (dk_at dksX7_operand_2 10 rfl rfl)
theorem dX7_operand_57 : decode cX7_operand 57 = .ok (.aload_n 0, 1) := dk_42 (dk_at dksX7_operand_2 11 rfl rfl)
theorem dX7_operand_58 : decode cX7_operand 58 = .ok (.invokevirtual 90, 3) := dk_182 0 90 (dk_at dksX7_operand_2 12 rfl rfl)
theorem dX7_operand_61 : decode cX7_operand 61 = .ok (.astore_n 2, 1) := dk_77 (dk_at dksX7_operand_2 15 rfl rfl)
theorem dX7_operand_62 : decode cX7_operand 62 = .ok (.aload_n 0, 1) := dk_42 (dk_at dksX7_operand_2 16 rfl rfl)
theorem dX7_operand_63 : decode cX7_operand 63 = .ok (.dup, 1) := dk_89 (dk_at dksX7_operand_2 17 rfl rfl)
theorem dX7_operand_64 : decode cX7_operand 64 = .ok (.getfield 95, 3) := dk_180 0 95 (dk_at dksX7_operand_2 18 rfl rfl)
theorem dX7_operand_67 : decode cX7_operand 67 = .ok (.iconst 1, 1) := dk_4 (dk_at dksX7_operand_2 21 rfl rfl)
theorem dX7_operand_68 : decode cX7_operand 68 = .ok (.isub, 1) := dk_100 (dk_at dksX7_operand_2 22 rfl rfl)
theorem dX7_operand_69 : decode cX7_operand 69 = .ok (.putfield 95, 3) := dk_181 0 95 (dk_at dksX7_operand_3 0 rfl rfl)
theorem dX7_operand_72 : decode cX7_operand 72 = .ok (.aload_n 0, 1) := dk_42 (dk_at dksX7_operand_3 3 rfl rfl)
theorem dX7_operand_73 : decode cX7_operand 73 = .ok (.getfield 15, 3) := dk_180 0 15 (dk_at dksX7_operand_3 4 rfl rfl)
theorem dX7_operand_76 : decode cX7_operand 76 = .ok (.ifCond .lt 5, 3) := dk_155 0 5 (dk_at dksX7_operand_3 7 rfl rfl)
theorem dX7_operand_79 : decode cX7_operand 79 = .ok (.aconst_null, 1) := dk_1 (dk_at dksX7_operand_3 10 rfl rfl)
theorem dX7_operand_80 : decode cX7_operand 80 = .ok (.areturn, 1) := dk_176 (dk_at dksX7_operand_3 11 rfl rfl)
theorem dX7_operand_81 : decode cX7_operand 81 = .ok (.iload_n 1, 1) := dk_27 (dk_at dksX7_operand_3 12 rfl rfl)
theorem dX7_operand_82 : decode cX7_operand 82 = .ok (.bipush 33, 2) := dk_16 33 (dk_at dksX7_operand_3 13 rfl rfl)
theorem dX7_operand_84 : decode cX7_operand 84 = .ok (.if_icmp .ne 14, 3) := dk_160 0 14 (dk_at dksX7_operand_3 15 rfl rfl)
theorem dX7_operand_87 : decode cX7_operand 87 = .ok (.new 112, 3) := dk_187 0 112 (dk_at dksX7_operand_3 18 rfl rfl)
theorem dX7_operand_90 : decode cX7_operand 90 = .ok (.dup, 1) := dk_89 (dk_at dksX7_operand_3 21 rfl rfl)
theorem dX7_operand_91 : decode cX7_operand 91 = .ok (.aload_n 2, 1) := dk_44 (dk_at dksX7_operand_3 22 rfl rfl)
theorem dX7_operand_92 : decode cX7_operand 92 = .ok (.invokespecial 114, 3) := dk_183 0 114 (dk_at dksX7_operand_4 0 rfl rfl)
theorem dX7_operand_95 : decode cX7_operand 95 = .ok (.goto 11, 3) := dk_167 0 11 (dk_at dksX7_operand_4 3 rfl rfl)
theorem dX7_operand_98 : decode cX7_operand 98 = .ok (.new 117, 3) := dk_187 0 117 (dk_at dksX7_operand_4 6 rfl rfl)
theorem dX7_operand_101 : decode cX7_operand 101 = .ok (.dup, 1) := dk_89 (dk_at dksX7_operand_4 9 rfl rfl)
theorem dX7_operand_102 : decode cX7_operand 102 = .ok (.aload_n 2, 1) := dk_44 (dk_at dksX7_operand_4 10 rfl rfl)
theorem dX7_operand_103 : decode cX7_operand 103 = .ok (.invokespecial 119, 3) := dk_183 0 119 (dk_at dksX7_operand_4 11 rfl rfl)
theorem dX7_operand_106 : decode cX7_operand 106 = .ok (.areturn, 1) := dk_176 (dk_at dksX7_operand_4 14 rfl rfl)
theorem dX7_operand_107 : decode cX7_operand 107 = .ok (.iload_n 1, 1) := dk_27 (dk_at dksX7_operand_4 15 rfl rfl)
theorem dX7_operand_108 : decode cX7_operand 108 = .ok (.bipush 40, 2) := dk_16 40 (dk_at dksX7_operand_4 16 rfl rfl)
theorem dX7_operand_110 : decode cX7_operand 110 = .ok (.if_icmp .ne 65, 3) := dk_160 0 65 (dk_at dksX7_operand_4 18 rfl rfl)
theorem dX7_operand_113 : decode cX7_operand 113 = .ok (.aload_n 0, 1) := dk_42 (dk_at dksX7_operand_4 21 rfl rfl)
theorem dX7_operand_114 : decode cX7_operand 114 = .ok (.invokevirtual 105, 3) := dk_182 0 105 (dk_at dksX7_operand_5 0 rfl rfl)
theorem dX7_operand_117 : decode cX7_operand 117 = .ok (.ifCond .ne 8, 3) := dk_154 0 8 (dk_at dksX7_operand_5 3 rfl rfl)
theorem dX7_operand_120 : decode cX7_operand 120 = .ok (.aload_n 0, 1) := dk_42 (dk_at dksX7_operand_5 6 rfl rfl)
theorem dX7_operand_121 : decode cX7_operand 121 = .ok (.invokevirtual 109, 3) := dk_182 0 109 (dk_at dksX7_operand_5 7 rfl rfl)
theorem dX7_operand_124 : decode cX7_operand 124 = .ok (.areturn, 1) := dk_176 (dk_at dksX7_operand_5 10 rfl rfl)
theorem dX7_operand_125 : decode cX7_operand 125 = .ok (.aload_n 0, 1) := dk_42 (dk_at dksX7_operand_5 11 rfl rfl)
theorem dX7_operand_126 : decode cX7_operand 126 = .ok (.invokevirtual 50, 3) := dk_182 0 50 (dk_at dksX7_operand_5 12 rfl rfl)
theorem dX7_operand_129 : decode cX7_operand 129 = .ok (.astore_n 2, 1) := dk_77 (dk_at dksX7_operand_5 15 rfl rfl)
theorem dX7_operand_130 : decode cX7_operand 130 = .ok (.aload_n 0, 1) := dk_42 (dk_at dksX7_operand_5 16 rfl rfl)
theorem dX7_operand_131 : decode cX7_operand 131 = .ok (.getfield 15, 3) := dk_180 0 15 (dk_at dksX7_operand_5 17 rfl rfl)
theorem dX7_operand_134 : decode cX7_operand 134 = .ok (.ifCond .lt 5, 3) := dk_155 0 5 (dk_at dksX7_operand_5 20 rfl rfl)
theorem dX7_operand_137 : decode cX7_operand 137 = .ok (.aconst_null, 1) := dk_1 (dk_at dksX7_operand_5 23 rfl rfl)
theorem dX7_operand_138 : decode cX7_operand 138 = .ok (.areturn, 1) := dk_176 (dk_at dksX7_operand_6 0 rfl rfl)
theorem dX7_operand_139 : decode cX7_operand 139 = .ok (.aload_n 0, 1) := dk_42 (dk_at dksX7_operand_6 1 rfl rfl)
theorem dX7_operand_140 : decode cX7_operand 140 = .ok (.invokevirtual 29, 3) := dk_182 0 29 (dk_at dksX7_operand_6 2 rfl rfl)
theorem dX7_operand_143 : decode cX7_operand 143 = .ok (.bipush 41, 2) := dk_16 41 (dk_at dksX7_operand_6 5 rfl rfl)
theorem dX7_operand_145 : decode cX7_operand 145 = .ok (.if_icmp .eq 8, 3) := dk_159 0 8 (dk_at dksX7_operand_6 7 rfl rfl)
theorem dX7_operand_148 : decode cX7_operand 148 = .ok (.aload_n 0, 1) := dk_42 (dk_at dksX7_operand_6 10 rfl rfl)
theorem dX7_operand_149 : decode cX7_operand 149 = .ok (.invokevirtual 109, 3) := dk_182 0 109 (dk_at dksX7_operand_6 11 rfl rfl)
theorem dX7_operand_152 : decode cX7_operand 152 = .ok (.areturn, 1) := dk_176 (dk_at dksX7_operand_6 14 rfl rfl)
theorem dX7_operand_153 : decode cX7_operand 153 = .ok (.aload_n 0, 1) := dk_42 (dk_at dksX7_operand_6 15 rfl rfl)
theorem dX7_operand_154 : decode cX7_operand 154 = .ok (.dup, 1) := dk_89 (dk_at dksX7_operand_6 16 rfl rfl)
theorem dX7_operand_155 : decode cX7_operand 155 = .ok (.getfield 19, 3) := dk_180 0 19 (dk_at dksX7_operand_6 17 rfl rfl)
theorem dX7_operand_158 : decode cX7_operand 158 = .ok (.iconst 1, 1) := dk_4 (dk_at dksX7_operand_6 20 rfl rfl)
theorem dX7_operand_159 : decode cX7_operand 159 = .ok (.iadd, 1) := dk_96 (dk_at dksX7_operand_6 21 rfl rfl)
theorem dX7_operand_160 : decode cX7_operand 160 = .ok (.putfield 19, 3) := dk_181 0 19 (dk_at dksX7_operand_7 0 rfl rfl)
theorem dX7_operand_163 : decode cX7_operand 163 = .ok (.aload_n 0, 1) := dk_42 (dk_at dksX7_operand_7 3 rfl rfl)
theorem dX7_operand_164 : decode cX7_operand 164 = .ok (.dup, 1) := dk_89 (dk_at dksX7_operand_7 4 rfl rfl)
theorem dX7_operand_165 : decode cX7_operand 165 = .ok (.getfield 95, 3) := dk_180 0 95 (dk_at dksX7_operand_7 5 rfl rfl)
theorem dX7_operand_168 : decode cX7_operand 168 = .ok (.iconst 1, 1) := dk_4 (dk_at dksX7_operand_7 8 rfl rfl)
theorem dX7_operand_169 : decode cX7_operand 169 = .ok (.isub, 1) := dk_100 (dk_at dksX7_operand_7 9 rfl rfl)
theorem dX7_operand_170 : decode cX7_operand 170 = .ok (.putfield 95, 3) := dk_181 0 95 (dk_at dksX7_operand_7 10 rfl rfl)
theorem dX7_operand_173 : decode cX7_operand 173 = .ok (.aload_n 2, 1) := dk_44 (dk_at dksX7_operand_7 13 rfl rfl)
theorem dX7_operand_174 : decode cX7_operand 174 = .ok (.areturn, 1) := dk_176 (dk_at dksX7_operand_7 14 rfl rfl)
theorem dX7_operand_175 : decode cX7_operand 175 = .ok (.iconst 0, 1) := dk_3 (dk_at dksX7_operand_7 15 rfl rfl)
theorem dX7_operand_176 : decode cX7_operand 176 = .ok (.istore_n 2, 1) := dk_61 (dk_at dksX7_operand_7 16 rfl rfl)
theorem dX7_operand_177 : decode cX7_operand 177 = .ok (.iconst 0, 1) := dk_3 (dk_at dksX7_operand_7 17 rfl rfl)
theorem dX7_operand_178 : decode cX7_operand 178 = .ok (.istore_n 3, 1) := dk_62 (dk_at dksX7_operand_7 18 rfl rfl)
theorem dX7_operand_179 : decode cX7_operand 179 = .ok (.iload_n 2, 1) := dk_28 (dk_at dksX7_operand_7 19 rfl rfl)
theorem dX7_operand_180 : decode cX7_operand 180 = .ok (.iconst 4, 1) := dk_7 (dk_at dksX7_operand_7 20 rfl rfl)
theorem dX7_operand_181 : decode cX7_operand 181 = .ok (.if_icmp .ge 46, 3) := dk_162 0 46 (dk_at dksX7_operand_7 21 rfl rfl)
theorem dX7_operand_184 : decode cX7_operand 184 = .ok (.aload_n 0, 1) := dk_42 (dk_at dksX7_operand_8 0 rfl rfl)
theorem dX7_operand_185 : decode cX7_operand 185 = .ok (.invokevirtual 29, 3) := dk_182 0 29 (dk_at dksX7_operand_8 1 rfl rfl)
theorem dX7_operand_188 : decode cX7_operand 188 = .ok (.bipush 48, 2) := dk_16 48 (dk_at dksX7_operand_8 4 rfl rfl)
theorem dX7_operand_190 : decode cX7_operand 190 = .ok (.bipush 57, 2) := dk_16 57 (dk_at dksX7_operand_8 6 rfl rfl)
theorem dX7_operand_192 : decode cX7_operand 192 = .ok (.invokestatic 120, 3) := dk_184 0 120 (dk_at dksX7_operand_8 8 rfl rfl)
theorem dX7_operand_195 : decode cX7_operand 195 = .ok (.ifCond .eq 32, 3) := dk_153 0 32 (dk_at dksX7_operand_8 11 rfl rfl)
theorem dX7_operand_198 : decode cX7_operand 198 = .ok (.bipush 10, 2) := dk_16 10 (dk_at dksX7_operand_8 14 rfl rfl)
theorem dX7_operand_200 : decode cX7_operand 200 = .ok (.iload_n 3, 1) := dk_29 (dk_at dksX7_operand_8 16 rfl rfl)
theorem dX7_operand_201 : decode cX7_operand 201 = .ok (.imul, 1) := dk_104 (dk_at dksX7_operand_8 17 rfl rfl)
theorem dX7_operand_202 : decode cX7_operand 202 = .ok (.aload_n 0, 1) := dk_42 (dk_at dksX7_operand_8 18 rfl rfl)
theorem dX7_operand_203 : decode cX7_operand 203 = .ok (.invokevirtual 29, 3) := dk_182 0 29 (dk_at dksX7_operand_8 19 rfl rfl)
theorem dX7_operand_206 : decode cX7_operand 206 = .ok (.iadd, 1) := dk_96 (dk_at dksX7_operand_8 22 rfl rfl)
theorem dX7_operand_207 : decode cX7_operand 207 = .ok (.bipush 48, 2) := dk_16 48 (dk_at dksX7_operand_9 0 rfl rfl)
theorem dX7_operand_209 : decode cX7_operand 209 = .ok (.isub, 1) := dk_100 (dk_at dksX7_operand_9 2 rfl rfl)
theorem dX7_operand_210 : decode cX7_operand 210 = .ok (.istore_n 3, 1) := dk_62 (dk_at dksX7_operand_9 3 rfl rfl)
theorem dX7_operand_211 : decode cX7_operand 211 = .ok (.iinc 2 1, 3) := dk_132 2 1 (dk_at dksX7_operand_9 4 rfl rfl)
theorem dX7_operand_214 : decode cX7_operand 214 = .ok (.aload_n 0, 1) := dk_42 (dk_at dksX7_operand_9 7 rfl rfl)
theorem dX7_operand_215 : decode cX7_operand 215 = .ok (.dup, 1) := dk_89 (dk_at dksX7_operand_9 8 rfl rfl)
theorem dX7_operand_216 : decode cX7_operand 216 = .ok (.getfield 19, 3) := dk_180 0 19 (dk_at dksX7_operand_9 9 rfl rfl)
theorem dX7_operand_219 : decode cX7_operand 219 = .ok (.iconst 1, 1) := dk_4 (dk_at dksX7_operand_9 12 rfl rfl)
theorem dX7_operand_220 : decode cX7_operand 220 = .ok (.iadd, 1) := dk_96 (dk_at dksX7_operand_9 13 rfl rfl)
theorem dX7_operand_221 : decode cX7_operand 221 = .ok (.putfield 19, 3) := dk_181 0 19 (dk_at dksX7_operand_9 14 rfl rfl)
theorem dX7_operand_224 : decode cX7_operand 224 = .ok (.goto (-45), 3) := dk_167 255 211 (dk_at dksX7_operand_9 17 rfl rfl)
theorem dX7_operand_227 : decode cX7_operand 227 = .ok (.iload_n 2, 1) := dk_28 (dk_at dksX7_operand_9 20 rfl rfl)
theorem dX7_operand_228 : decode cX7_operand 228 = .ok (.ifCond .eq 17, 3) := dk_153 0 17 (dk_at dksX7_operand_9 21 rfl rfl)
theorem dX7_operand_231 : decode cX7_operand 231 = .ok (.aload_n 0, 1) := dk_42 (dk_at dksX7_operand_10 0 rfl rfl)
theorem dX7_operand_232 : decode cX7_operand 232 = .ok (.invokevirtual 29, 3) := dk_182 0 29 (dk_at dksX7_operand_10 1 rfl rfl)
theorem dX7_operand_235 : decode cX7_operand 235 = .ok (.bipush 48, 2) := dk_16 48 (dk_at dksX7_operand_10 4 rfl rfl)
theorem dX7_operand_237 : decode cX7_operand 237 = .ok (.bipush 57, 2) := dk_16 57 (dk_at dksX7_operand_10 6 rfl rfl)
theorem dX7_operand_239 : decode cX7_operand 239 = .ok (.invokestatic 120, 3) := dk_184 0 120 (dk_at dksX7_operand_10 8 rfl rfl)
theorem dX7_operand_242 : decode cX7_operand 242 = .ok (.ifCond .eq 10, 3) := dk_153 0 10 (dk_at dksX7_operand_10 11 rfl rfl)
theorem dX7_operand_245 : decode cX7_operand 245 = .ok (.aload_n 0, 1) := dk_42 (dk_at dksX7_operand_10 14 rfl rfl)
theorem dX7_operand_246 : decode cX7_operand 246 = .ok (.invokevirtual 109, 3) := dk_182 0 109 (dk_at dksX7_operand_10 15 rfl rfl)
theorem dX7_operand_249 : decode cX7_operand 249 = .ok (.goto 11, 3) := dk_167 0 11 (dk_at dksX7_operand_10 18 rfl rfl)
theorem dX7_operand_252 : decode cX7_operand 252 = .ok (.new 124, 3) := dk_187 0 124 (dk_at dksX7_operand_10 21 rfl rfl)
theorem dX7_operand_255 : decode cX7_operand 255 = .ok (.dup, 1) := dk_89 (dk_at dksX7_operand_11 0 rfl rfl)
theorem dX7_operand_256 : decode cX7_operand 256 = .ok (.iload_n 3, 1) := dk_29 (dk_at dksX7_operand_11 1 rfl rfl)
theorem dX7_operand_257 : decode cX7_operand 257 = .ok (.invokespecial 126, 3) := dk_183 0 126 (dk_at dksX7_operand_11 2 rfl rfl)
theorem dX7_operand_260 : decode cX7_operand 260 = .ok (.areturn, 1) := dk_176 (dk_at dksX7_operand_11 5 rfl rfl)
abbrev cX7_here : ByteArray := prog_27_method_2_code
def yX7_here : MethodName := ⟨RX7, "here", "()I"⟩
def dkwX7_here_1 : List UInt8 := [180, 0, 19, 51, 167, 0, 4, 2, 172]
abbrev dktX7_here_1 : List UInt8 := dkwX7_here_1 ++ []
def dkwX7_here_0 : List UInt8 := [42, 180, 0, 19, 42, 180, 0, 3, 180, 0, 22, 162, 0, 18, 42, 180, 0, 3, 180, 0, 25, 42]
abbrev dktX7_here_0 : List UInt8 := dkwX7_here_0 ++ dktX7_here_1
theorem dksX7_here_0 : cX7_here.data.toList.drop 0 = dktX7_here_0 := by decide +kernel
theorem dksX7_here_1 : cX7_here.data.toList.drop 22 = dktX7_here_1 := dk_seg dksX7_here_0 22 rfl rfl
theorem dX7_here_0 : decode cX7_here 0 = .ok (.aload_n 0, 1) := dk_42 (dk_at dksX7_here_0 0 rfl rfl)
theorem dX7_here_1 : decode cX7_here 1 = .ok (.getfield 19, 3) := dk_180 0 19 (dk_at dksX7_here_0 1 rfl rfl)
theorem dX7_here_4 : decode cX7_here 4 = .ok (.aload_n 0, 1) := dk_42 (dk_at dksX7_here_0 4 rfl rfl)
theorem dX7_here_5 : decode cX7_here 5 = .ok (.getfield 3, 3) := dk_180 0 3 (dk_at dksX7_here_0 5 rfl rfl)
theorem dX7_here_8 : decode cX7_here 8 = .ok (.getfield 22, 3) := dk_180 0 22 (dk_at dksX7_here_0 8 rfl rfl)
theorem dX7_here_11 : decode cX7_here 11 = .ok (.if_icmp .ge 18, 3) := dk_162 0 18 (dk_at dksX7_here_0 11 rfl rfl)
theorem dX7_here_14 : decode cX7_here 14 = .ok (.aload_n 0, 1) := dk_42 (dk_at dksX7_here_0 14 rfl rfl)
theorem dX7_here_15 : decode cX7_here 15 = .ok (.getfield 3, 3) := dk_180 0 3 (dk_at dksX7_here_0 15 rfl rfl)
theorem dX7_here_18 : decode cX7_here 18 = .ok (.getfield 25, 3) := dk_180 0 25 (dk_at dksX7_here_0 18 rfl rfl)
theorem dX7_here_21 : decode cX7_here 21 = .ok (.aload_n 0, 1) := dk_42 (dk_at dksX7_here_0 21 rfl rfl)
theorem dX7_here_22 : decode cX7_here 22 = .ok (.getfield 19, 3) := dk_180 0 19 (dk_at dksX7_here_1 0 rfl rfl)
theorem dX7_here_25 : decode cX7_here 25 = .ok (.baload, 1) := dk_51 (dk_at dksX7_here_1 3 rfl rfl)
theorem dX7_here_26 : decode cX7_here 26 = .ok (.goto 4, 3) := dk_167 0 4 (dk_at dksX7_here_1 4 rfl rfl)
theorem dX7_here_29 : decode cX7_here 29 = .ok (.iconst (-1), 1) := dk_2 (dk_at dksX7_here_1 7 rfl rfl)
theorem dX7_here_30 : decode cX7_here 30 = .ok (.ireturn, 1) := dk_172 (dk_at dksX7_here_1 8 rfl rfl)
abbrev cX7_isOne : ByteArray := prog_27_method_3_code
def yX7_isOne : MethodName := ⟨RX7, "isOne", "(Ljava/lang/String;)Z"⟩
def dkwX7_isOne_0 : List UInt8 := [42, 182, 0, 29, 155, 0, 18, 43, 42, 182, 0, 29, 182, 0, 33, 155, 0, 7, 4, 167, 0, 4, 3, 172]
abbrev dktX7_isOne_0 : List UInt8 := dkwX7_isOne_0 ++ []
theorem dksX7_isOne_0 : cX7_isOne.data.toList.drop 0 = dktX7_isOne_0 := by decide +kernel
theorem dX7_isOne_0 : decode cX7_isOne 0 = .ok (.aload_n 0, 1) := dk_42 (dk_at dksX7_isOne_0 0 rfl rfl)
theorem dX7_isOne_1 : decode cX7_isOne 1 = .ok (.invokevirtual 29, 3) := dk_182 0 29 (dk_at dksX7_isOne_0 1 rfl rfl)
theorem dX7_isOne_4 : decode cX7_isOne 4 = .ok (.ifCond .lt 18, 3) := dk_155 0 18 (dk_at dksX7_isOne_0 4 rfl rfl)
theorem dX7_isOne_7 : decode cX7_isOne 7 = .ok (.aload_n 1, 1) := dk_43 (dk_at dksX7_isOne_0 7 rfl rfl)
theorem dX7_isOne_8 : decode cX7_isOne 8 = .ok (.aload_n 0, 1) := dk_42 (dk_at dksX7_isOne_0 8 rfl rfl)
theorem dX7_isOne_9 : decode cX7_isOne 9 = .ok (.invokevirtual 29, 3) := dk_182 0 29 (dk_at dksX7_isOne_0 9 rfl rfl)
theorem dX7_isOne_12 : decode cX7_isOne 12 = .ok (.invokevirtual 33, 3) := dk_182 0 33 (dk_at dksX7_isOne_0 12 rfl rfl)
theorem dX7_isOne_15 : decode cX7_isOne 15 = .ok (.ifCond .lt 7, 3) := dk_155 0 7 (dk_at dksX7_isOne_0 15 rfl rfl)
theorem dX7_isOne_18 : decode cX7_isOne 18 = .ok (.iconst 1, 1) := dk_4 (dk_at dksX7_isOne_0 18 rfl rfl)
theorem dX7_isOne_19 : decode cX7_isOne 19 = .ok (.goto 4, 3) := dk_167 0 4 (dk_at dksX7_isOne_0 19 rfl rfl)
theorem dX7_isOne_22 : decode cX7_isOne 22 = .ok (.iconst 0, 1) := dk_3 (dk_at dksX7_isOne_0 22 rfl rfl)
theorem dX7_isOne_23 : decode cX7_isOne 23 = .ok (.ireturn, 1) := dk_172 (dk_at dksX7_isOne_0 23 rfl rfl)
abbrev cX7_opens : ByteArray := prog_27_method_13_code
def yX7_opens : MethodName := ⟨RX7, "opens", "()Z"⟩
def dkwX7_opens_1 : List UInt8 := [180, 0, 19, 4, 96, 181, 0, 19, 4, 172]
abbrev dktX7_opens_1 : List UInt8 := dkwX7_opens_1 ++ []
def dkwX7_opens_0 : List UInt8 := [42, 180, 0, 95, 16, 6, 160, 0, 5, 3, 172, 42, 89, 180, 0, 95, 4, 96, 181, 0, 95, 42, 89]
abbrev dktX7_opens_0 : List UInt8 := dkwX7_opens_0 ++ dktX7_opens_1
theorem dksX7_opens_0 : cX7_opens.data.toList.drop 0 = dktX7_opens_0 := by decide +kernel
theorem dksX7_opens_1 : cX7_opens.data.toList.drop 23 = dktX7_opens_1 := dk_seg dksX7_opens_0 23 rfl rfl
theorem dX7_opens_0 : decode cX7_opens 0 = .ok (.aload_n 0, 1) := dk_42 (dk_at dksX7_opens_0 0 rfl rfl)
theorem dX7_opens_1 : decode cX7_opens 1 = .ok (.getfield 95, 3) := dk_180 0 95 (dk_at dksX7_opens_0 1 rfl rfl)
theorem dX7_opens_4 : decode cX7_opens 4 = .ok (.bipush 6, 2) := dk_16 6 (dk_at dksX7_opens_0 4 rfl rfl)
theorem dX7_opens_6 : decode cX7_opens 6 = .ok (.if_icmp .ne 5, 3) := dk_160 0 5 (dk_at dksX7_opens_0 6 rfl rfl)
theorem dX7_opens_9 : decode cX7_opens 9 = .ok (.iconst 0, 1) := dk_3 (dk_at dksX7_opens_0 9 rfl rfl)
theorem dX7_opens_10 : decode cX7_opens 10 = .ok (.ireturn, 1) := dk_172 (dk_at dksX7_opens_0 10 rfl rfl)
theorem dX7_opens_11 : decode cX7_opens 11 = .ok (.aload_n 0, 1) := dk_42 (dk_at dksX7_opens_0 11 rfl rfl)
theorem dX7_opens_12 : decode cX7_opens 12 = .ok (.dup, 1) := dk_89 (dk_at dksX7_opens_0 12 rfl rfl)
theorem dX7_opens_13 : decode cX7_opens 13 = .ok (.getfield 95, 3) := dk_180 0 95 (dk_at dksX7_opens_0 13 rfl rfl)
theorem dX7_opens_16 : decode cX7_opens 16 = .ok (.iconst 1, 1) := dk_4 (dk_at dksX7_opens_0 16 rfl rfl)
theorem dX7_opens_17 : decode cX7_opens 17 = .ok (.iadd, 1) := dk_96 (dk_at dksX7_opens_0 17 rfl rfl)
theorem dX7_opens_18 : decode cX7_opens 18 = .ok (.putfield 95, 3) := dk_181 0 95 (dk_at dksX7_opens_0 18 rfl rfl)
theorem dX7_opens_21 : decode cX7_opens 21 = .ok (.aload_n 0, 1) := dk_42 (dk_at dksX7_opens_0 21 rfl rfl)
theorem dX7_opens_22 : decode cX7_opens 22 = .ok (.dup, 1) := dk_89 (dk_at dksX7_opens_0 22 rfl rfl)
theorem dX7_opens_23 : decode cX7_opens 23 = .ok (.getfield 19, 3) := dk_180 0 19 (dk_at dksX7_opens_1 0 rfl rfl)
theorem dX7_opens_26 : decode cX7_opens 26 = .ok (.iconst 1, 1) := dk_4 (dk_at dksX7_opens_1 3 rfl rfl)
theorem dX7_opens_27 : decode cX7_opens 27 = .ok (.iadd, 1) := dk_96 (dk_at dksX7_opens_1 4 rfl rfl)
theorem dX7_opens_28 : decode cX7_opens 28 = .ok (.putfield 19, 3) := dk_181 0 19 (dk_at dksX7_opens_1 5 rfl rfl)
theorem dX7_opens_31 : decode cX7_opens 31 = .ok (.iconst 1, 1) := dk_4 (dk_at dksX7_opens_1 8 rfl rfl)
theorem dX7_opens_32 : decode cX7_opens 32 = .ok (.ireturn, 1) := dk_172 (dk_at dksX7_opens_1 9 rfl rfl)
abbrev cX7_wrong : ByteArray := prog_27_method_4_code
def yX7_wrong : MethodName := ⟨RX7, "wrong", "()LChairOld$Node;"⟩
def dkwX7_wrong_0 : List UInt8 := [42, 180, 0, 15, 156, 0, 11, 42, 42, 180, 0, 19, 181, 0, 15, 1, 176]
abbrev dktX7_wrong_0 : List UInt8 := dkwX7_wrong_0 ++ []
theorem dksX7_wrong_0 : cX7_wrong.data.toList.drop 0 = dktX7_wrong_0 := by decide +kernel
theorem dX7_wrong_0 : decode cX7_wrong 0 = .ok (.aload_n 0, 1) := dk_42 (dk_at dksX7_wrong_0 0 rfl rfl)
theorem dX7_wrong_1 : decode cX7_wrong 1 = .ok (.getfield 15, 3) := dk_180 0 15 (dk_at dksX7_wrong_0 1 rfl rfl)
theorem dX7_wrong_4 : decode cX7_wrong 4 = .ok (.ifCond .ge 11, 3) := dk_156 0 11 (dk_at dksX7_wrong_0 4 rfl rfl)
theorem dX7_wrong_7 : decode cX7_wrong 7 = .ok (.aload_n 0, 1) := dk_42 (dk_at dksX7_wrong_0 7 rfl rfl)
theorem dX7_wrong_8 : decode cX7_wrong 8 = .ok (.aload_n 0, 1) := dk_42 (dk_at dksX7_wrong_0 8 rfl rfl)
theorem dX7_wrong_9 : decode cX7_wrong 9 = .ok (.getfield 19, 3) := dk_180 0 19 (dk_at dksX7_wrong_0 9 rfl rfl)
theorem dX7_wrong_12 : decode cX7_wrong 12 = .ok (.putfield 15, 3) := dk_181 0 15 (dk_at dksX7_wrong_0 12 rfl rfl)
theorem dX7_wrong_15 : decode cX7_wrong 15 = .ok (.aconst_null, 1) := dk_1 (dk_at dksX7_wrong_0 15 rfl rfl)
theorem dX7_wrong_16 : decode cX7_wrong 16 = .ok (.areturn, 1) := dk_176 (dk_at dksX7_wrong_0 16 rfl rfl)
abbrev cX7_joined : ByteArray := prog_27_method_7_code
def yX7_joined : MethodName := ⟨RX7, "joined", "(ILChairOld$Node;LChairOld$Node;)LChairOld$Node;"⟩
def dkwX7_joined_0 : List UInt8 := [42, 180, 0, 15, 155, 0, 7, 1, 167, 0, 13, 187, 0, 61, 89, 27, 44, 45, 183, 0, 63, 176]
abbrev dktX7_joined_0 : List UInt8 := dkwX7_joined_0 ++ []
theorem dksX7_joined_0 : cX7_joined.data.toList.drop 0 = dktX7_joined_0 := by decide +kernel
theorem dX7_joined_0 : decode cX7_joined 0 = .ok (.aload_n 0, 1) := dk_42 (dk_at dksX7_joined_0 0 rfl rfl)
theorem dX7_joined_1 : decode cX7_joined 1 = .ok (.getfield 15, 3) := dk_180 0 15 (dk_at dksX7_joined_0 1 rfl rfl)
theorem dX7_joined_4 : decode cX7_joined 4 = .ok (.ifCond .lt 7, 3) := dk_155 0 7 (dk_at dksX7_joined_0 4 rfl rfl)
theorem dX7_joined_7 : decode cX7_joined 7 = .ok (.aconst_null, 1) := dk_1 (dk_at dksX7_joined_0 7 rfl rfl)
theorem dX7_joined_8 : decode cX7_joined 8 = .ok (.goto 13, 3) := dk_167 0 13 (dk_at dksX7_joined_0 8 rfl rfl)
theorem dX7_joined_11 : decode cX7_joined 11 = .ok (.new 61, 3) := dk_187 0 61 (dk_at dksX7_joined_0 11 rfl rfl)
theorem dX7_joined_14 : decode cX7_joined 14 = .ok (.dup, 1) := dk_89 (dk_at dksX7_joined_0 14 rfl rfl)
theorem dX7_joined_15 : decode cX7_joined 15 = .ok (.iload_n 1, 1) := dk_27 (dk_at dksX7_joined_0 15 rfl rfl)
theorem dX7_joined_16 : decode cX7_joined 16 = .ok (.aload_n 2, 1) := dk_44 (dk_at dksX7_joined_0 16 rfl rfl)
theorem dX7_joined_17 : decode cX7_joined 17 = .ok (.aload_n 3, 1) := dk_45 (dk_at dksX7_joined_0 17 rfl rfl)
theorem dX7_joined_18 : decode cX7_joined 18 = .ok (.invokespecial 63, 3) := dk_183 0 63 (dk_at dksX7_joined_0 18 rfl rfl)
theorem dX7_joined_21 : decode cX7_joined 21 = .ok (.areturn, 1) := dk_176 (dk_at dksX7_joined_0 21 rfl rfl)
theorem q100 : (Jvm.Cond.initialized "ChairOld$Reader") ∈ lw_all := lw_g (lw_at lw_m1 16 rfl) rfl
theorem q206 : (Jvm.Cond.fieldLinkNest "ChairOld$Reader" (25 : Nat) "ChairOld" "tape" "[B" "ChairOld") ∈ lw_tbl := lw_at lw_m1 122 rfl
theorem q207 : (Jvm.Cond.fieldLinkNest "ChairOld$Reader" (22 : Nat) "ChairOld" "taped" "I" "ChairOld") ∈ lw_tbl := lw_at lw_m1 123 rfl
theorem q523 : (Jvm.Cond.instantiable "ChairOld$Reader" (4 : Nat)) ∈ lw_all := lw_g (lw_at lw_m2 199 rfl) rfl
theorem q525 : (Jvm.Cond.instanceMethod ({ cls := "ChairOld$Reader", name := "<init>", desc := "(LChairOld;)V" } : Jvm.MethodName)) ∈ lw_all := lw_g (lw_at lw_m2 201 rfl) rfl
theorem q526 : (Jvm.Cond.code ({ cls := "ChairOld$Reader", name := "<init>", desc := "(LChairOld;)V" } : Jvm.MethodName) prog_27_method_1_code (2 : Nat) (Option.none : Option Jvm.ClassFile.FieldType)) ∈ lw_all := lw_g (lw_at lw_m2 202 rfl) rfl
theorem q527 : (Jvm.Cond.methodLink "ChairOld$Reader" (9 : Nat) ({ cls := "java/lang/Object", name := "<init>", desc := "()V" } : Jvm.MethodName)) ∈ lw_all := lw_g (lw_at lw_m2 203 rfl) rfl
theorem q528 : (Jvm.Cond.fieldLink "ChairOld$Reader" (19 : Nat) "ChairOld$Reader" "at" "I") ∈ lw_all := lw_g (lw_at lw_m2 204 rfl) rfl
theorem q529 : (Jvm.Cond.fieldLink "ChairOld$Reader" (15 : Nat) "ChairOld$Reader" "fault" "I") ∈ lw_all := lw_g (lw_at lw_m2 205 rfl) rfl
theorem q531 : (Jvm.Cond.fieldLink "ChairOld$Reader" (95 : Nat) "ChairOld$Reader" "open" "I") ∈ lw_all := lw_g (lw_at lw_m2 207 rfl) rfl
theorem q532 : (Jvm.Cond.fieldLink "ChairOld$Reader" (3 : Nat) "ChairOld$Reader" "this$0" "LChairOld;") ∈ lw_all := lw_g (lw_at lw_m2 208 rfl) rfl
theorem q533 : (Jvm.Cond.lays "ChairOld$Reader" "ChairOld$Reader" "at" "I") ∈ lw_all := lw_g (lw_at lw_m2 209 rfl) rfl
theorem q534 : (Jvm.Cond.soleField "ChairOld$Reader" "at") ∈ lw_all := lw_g (lw_at lw_m2 210 rfl) rfl
theorem q535 : (Jvm.Cond.lays "ChairOld$Reader" "ChairOld$Reader" "fault" "I") ∈ lw_all := lw_g (lw_at lw_m2 211 rfl) rfl
theorem q536 : (Jvm.Cond.soleField "ChairOld$Reader" "fault") ∈ lw_all := lw_g (lw_at lw_m2 212 rfl) rfl
theorem q537 : (Jvm.Cond.lays "ChairOld$Reader" "ChairOld$Reader" "open" "I") ∈ lw_all := lw_g (lw_at lw_m2 213 rfl) rfl
theorem q538 : (Jvm.Cond.soleField "ChairOld$Reader" "open") ∈ lw_all := lw_g (lw_at lw_m2 214 rfl) rfl
theorem q539 : (Jvm.Cond.laysFinal "ChairOld$Reader" "ChairOld$Reader" "this$0" "LChairOld;") ∈ lw_all := lw_g (lw_at lw_m2 215 rfl) rfl
theorem q540 : (Jvm.Cond.soleField "ChairOld$Reader" "this$0") ∈ lw_all := lw_g (lw_at lw_m2 216 rfl) rfl
theorem q541 : (Jvm.Cond.superclass "ChairOld$Reader" "java/lang/Object") ∈ lw_all := lw_g (lw_at lw_m2 217 rfl) rfl
theorem q543 : (Jvm.Cond.instanceMethod ({ cls := "ChairOld$Reader", name := "lines", desc := "()LChairOld$Line;" } : Jvm.MethodName)) ∈ lw_all := lw_g (lw_at lw_m2 219 rfl) rfl
theorem q544 : (Jvm.Cond.selects "ChairOld$Reader" ({ cls := "ChairOld$Reader", name := "lines", desc := "()LChairOld$Line;" } : Jvm.MethodName) ({ cls := "ChairOld$Reader", name := "lines", desc := "()LChairOld$Line;" } : Jvm.MethodName)) ∈ lw_all := lw_g (lw_at lw_m2 220 rfl) rfl
theorem q545 : (Jvm.Cond.code ({ cls := "ChairOld$Reader", name := "lines", desc := "()LChairOld$Line;" } : Jvm.MethodName) prog_27_method_5_code (3 : Nat) (Option.some (Jvm.ClassFile.FieldType.object "ChairOld$Line"))) ∈ lw_all := lw_g (lw_at lw_m2 221 rfl) rfl
theorem q546 : (Jvm.Cond.methodLink "ChairOld$Reader" (39 : Nat) ({ cls := "ChairOld$Reader", name := "line", desc := "()LChairOld$Line;" } : Jvm.MethodName)) ∈ lw_all := lw_g (lw_at lw_m2 222 rfl) rfl
theorem q547 : (Jvm.Cond.privateMethod ({ cls := "ChairOld$Reader", name := "line", desc := "()LChairOld$Line;" } : Jvm.MethodName)) ∈ lw_tbl := lw_at lw_m2 223 rfl
theorem q548 : (Jvm.Cond.instanceMethod ({ cls := "ChairOld$Reader", name := "line", desc := "()LChairOld$Line;" } : Jvm.MethodName)) ∈ lw_all := lw_g (lw_at lw_m2 224 rfl) rfl
theorem q549 : (Jvm.Cond.code ({ cls := "ChairOld$Reader", name := "line", desc := "()LChairOld$Line;" } : Jvm.MethodName) prog_27_method_6_code (2 : Nat) (Option.some (Jvm.ClassFile.FieldType.object "ChairOld$Line"))) ∈ lw_all := lw_g (lw_at lw_m2 225 rfl) rfl
theorem q550 : (Jvm.Cond.classLink "ChairOld$Reader" (44 : Nat) "ChairOld$Line") ∈ lw_all := lw_g (lw_at lw_m2 226 rfl) rfl
theorem q552 : (Jvm.Cond.methodLinkNest "ChairOld$Reader" (49 : Nat) ({ cls := "ChairOld$Line", name := "<init>", desc := "()V" } : Jvm.MethodName) "ChairOld") ∈ lw_tbl := lw_at lw_m2 228 rfl
theorem q556 : (Jvm.Cond.fieldLinkNest "ChairOld$Reader" (58 : Nat) "ChairOld$Line" "test" "LChairOld$Node;" "ChairOld") ∈ lw_tbl := lw_at lw_m2 232 rfl
theorem q558 : (Jvm.Cond.fieldLinkNest "ChairOld$Reader" (54 : Nat) "ChairOld$Line" "gives" "LChairOld$Node;" "ChairOld") ∈ lw_tbl := lw_at lw_m2 234 rfl
theorem q560 : (Jvm.Cond.fieldLinkNest "ChairOld$Reader" (43 : Nat) "ChairOld$Line" "next" "LChairOld$Line;" "ChairOld") ∈ lw_tbl := lw_at lw_m2 236 rfl
theorem q569 : (Jvm.Cond.methodLink "ChairOld$Reader" (50 : Nat) ({ cls := "ChairOld$Reader", name := "either", desc := "()LChairOld$Node;" } : Jvm.MethodName)) ∈ lw_all := lw_g (lw_at lw_m3 5 rfl) rfl
theorem q570 : (Jvm.Cond.privateMethod ({ cls := "ChairOld$Reader", name := "either", desc := "()LChairOld$Node;" } : Jvm.MethodName)) ∈ lw_tbl := lw_at lw_m3 6 rfl
theorem q571 : (Jvm.Cond.instanceMethod ({ cls := "ChairOld$Reader", name := "either", desc := "()LChairOld$Node;" } : Jvm.MethodName)) ∈ lw_all := lw_g (lw_at lw_m3 7 rfl) rfl
theorem q572 : (Jvm.Cond.code ({ cls := "ChairOld$Reader", name := "either", desc := "()LChairOld$Node;" } : Jvm.MethodName) prog_27_method_8_code (2 : Nat) (Option.some (Jvm.ClassFile.FieldType.object "ChairOld$Node"))) ∈ lw_all := lw_g (lw_at lw_m3 8 rfl) rfl
theorem q573 : (Jvm.Cond.methodLink "ChairOld$Reader" (66 : Nat) ({ cls := "ChairOld$Reader", name := "all", desc := "()LChairOld$Node;" } : Jvm.MethodName)) ∈ lw_all := lw_g (lw_at lw_m3 9 rfl) rfl
theorem q574 : (Jvm.Cond.privateMethod ({ cls := "ChairOld$Reader", name := "all", desc := "()LChairOld$Node;" } : Jvm.MethodName)) ∈ lw_tbl := lw_at lw_m3 10 rfl
theorem q575 : (Jvm.Cond.instanceMethod ({ cls := "ChairOld$Reader", name := "all", desc := "()LChairOld$Node;" } : Jvm.MethodName)) ∈ lw_all := lw_g (lw_at lw_m3 11 rfl) rfl
theorem q576 : (Jvm.Cond.code ({ cls := "ChairOld$Reader", name := "all", desc := "()LChairOld$Node;" } : Jvm.MethodName) prog_27_method_9_code (2 : Nat) (Option.some (Jvm.ClassFile.FieldType.object "ChairOld$Node"))) ∈ lw_all := lw_g (lw_at lw_m3 12 rfl) rfl
theorem q577 : (Jvm.Cond.methodLink "ChairOld$Reader" (73 : Nat) ({ cls := "ChairOld$Reader", name := "compared", desc := "()LChairOld$Node;" } : Jvm.MethodName)) ∈ lw_all := lw_g (lw_at lw_m3 13 rfl) rfl
theorem q578 : (Jvm.Cond.privateMethod ({ cls := "ChairOld$Reader", name := "compared", desc := "()LChairOld$Node;" } : Jvm.MethodName)) ∈ lw_tbl := lw_at lw_m3 14 rfl
theorem q579 : (Jvm.Cond.instanceMethod ({ cls := "ChairOld$Reader", name := "compared", desc := "()LChairOld$Node;" } : Jvm.MethodName)) ∈ lw_all := lw_g (lw_at lw_m3 15 rfl) rfl
theorem q580 : (Jvm.Cond.code ({ cls := "ChairOld$Reader", name := "compared", desc := "()LChairOld$Node;" } : Jvm.MethodName) prog_27_method_10_code (3 : Nat) (Option.some (Jvm.ClassFile.FieldType.object "ChairOld$Node"))) ∈ lw_all := lw_g (lw_at lw_m3 16 rfl) rfl
theorem q581 : (Jvm.Cond.methodLink "ChairOld$Reader" (76 : Nat) ({ cls := "ChairOld$Reader", name := "sum", desc := "()LChairOld$Node;" } : Jvm.MethodName)) ∈ lw_all := lw_g (lw_at lw_m3 17 rfl) rfl
theorem q582 : (Jvm.Cond.privateMethod ({ cls := "ChairOld$Reader", name := "sum", desc := "()LChairOld$Node;" } : Jvm.MethodName)) ∈ lw_tbl := lw_at lw_m3 18 rfl
theorem q583 : (Jvm.Cond.instanceMethod ({ cls := "ChairOld$Reader", name := "sum", desc := "()LChairOld$Node;" } : Jvm.MethodName)) ∈ lw_all := lw_g (lw_at lw_m3 19 rfl) rfl
theorem q584 : (Jvm.Cond.code ({ cls := "ChairOld$Reader", name := "sum", desc := "()LChairOld$Node;" } : Jvm.MethodName) prog_27_method_11_code (3 : Nat) (Option.some (Jvm.ClassFile.FieldType.object "ChairOld$Node"))) ∈ lw_all := lw_g (lw_at lw_m3 20 rfl) rfl
theorem q585 : (Jvm.Cond.methodLink "ChairOld$Reader" (85 : Nat) ({ cls := "ChairOld$Reader", name := "product", desc := "()LChairOld$Node;" } : Jvm.MethodName)) ∈ lw_all := lw_g (lw_at lw_m3 21 rfl) rfl
theorem q586 : (Jvm.Cond.privateMethod ({ cls := "ChairOld$Reader", name := "product", desc := "()LChairOld$Node;" } : Jvm.MethodName)) ∈ lw_tbl := lw_at lw_m3 22 rfl
theorem q587 : (Jvm.Cond.instanceMethod ({ cls := "ChairOld$Reader", name := "product", desc := "()LChairOld$Node;" } : Jvm.MethodName)) ∈ lw_all := lw_g (lw_at lw_m3 23 rfl) rfl
theorem q588 : (Jvm.Cond.code ({ cls := "ChairOld$Reader", name := "product", desc := "()LChairOld$Node;" } : Jvm.MethodName) prog_27_method_12_code (3 : Nat) (Option.some (Jvm.ClassFile.FieldType.object "ChairOld$Node"))) ∈ lw_all := lw_g (lw_at lw_m3 24 rfl) rfl
theorem q589 : (Jvm.Cond.methodLink "ChairOld$Reader" (90 : Nat) ({ cls := "ChairOld$Reader", name := "operand", desc := "()LChairOld$Node;" } : Jvm.MethodName)) ∈ lw_all := lw_g (lw_at lw_m3 25 rfl) rfl
theorem q590 : (Jvm.Cond.privateMethod ({ cls := "ChairOld$Reader", name := "operand", desc := "()LChairOld$Node;" } : Jvm.MethodName)) ∈ lw_tbl := lw_at lw_m3 26 rfl
theorem q591 : (Jvm.Cond.instanceMethod ({ cls := "ChairOld$Reader", name := "operand", desc := "()LChairOld$Node;" } : Jvm.MethodName)) ∈ lw_all := lw_g (lw_at lw_m3 27 rfl) rfl
theorem q592 : (Jvm.Cond.code ({ cls := "ChairOld$Reader", name := "operand", desc := "()LChairOld$Node;" } : Jvm.MethodName) prog_27_method_14_code (4 : Nat) (Option.some (Jvm.ClassFile.FieldType.object "ChairOld$Node"))) ∈ lw_all := lw_g (lw_at lw_m3 28 rfl) rfl
theorem q593 : (Jvm.Cond.methodLink "ChairOld$Reader" (29 : Nat) ({ cls := "ChairOld$Reader", name := "here", desc := "()I" } : Jvm.MethodName)) ∈ lw_all := lw_g (lw_at lw_m3 29 rfl) rfl
theorem q594 : (Jvm.Cond.privateMethod ({ cls := "ChairOld$Reader", name := "here", desc := "()I" } : Jvm.MethodName)) ∈ lw_tbl := lw_at lw_m3 30 rfl
theorem q595 : (Jvm.Cond.instanceMethod ({ cls := "ChairOld$Reader", name := "here", desc := "()I" } : Jvm.MethodName)) ∈ lw_all := lw_g (lw_at lw_m3 31 rfl) rfl
theorem q596 : (Jvm.Cond.code ({ cls := "ChairOld$Reader", name := "here", desc := "()I" } : Jvm.MethodName) prog_27_method_2_code (1 : Nat) (Option.some Jvm.ClassFile.FieldType.int)) ∈ lw_all := lw_g (lw_at lw_m3 32 rfl) rfl
theorem q597 : (Jvm.Cond.stringRef "ChairOld$Reader" (98 : Nat) "ykwp") ∈ lw_tbl := lw_at lw_m3 33 rfl
theorem q598 : (Jvm.Cond.methodLink "ChairOld$Reader" (81 : Nat) ({ cls := "ChairOld$Reader", name := "isOne", desc := "(Ljava/lang/String;)Z" } : Jvm.MethodName)) ∈ lw_all := lw_g (lw_at lw_m3 34 rfl) rfl
theorem q599 : (Jvm.Cond.privateMethod ({ cls := "ChairOld$Reader", name := "isOne", desc := "(Ljava/lang/String;)Z" } : Jvm.MethodName)) ∈ lw_tbl := lw_at lw_m3 35 rfl
theorem q600 : (Jvm.Cond.instanceMethod ({ cls := "ChairOld$Reader", name := "isOne", desc := "(Ljava/lang/String;)Z" } : Jvm.MethodName)) ∈ lw_all := lw_g (lw_at lw_m3 36 rfl) rfl
theorem q601 : (Jvm.Cond.code ({ cls := "ChairOld$Reader", name := "isOne", desc := "(Ljava/lang/String;)Z" } : Jvm.MethodName) prog_27_method_3_code (2 : Nat) (Option.some Jvm.ClassFile.FieldType.boolean)) ∈ lw_all := lw_g (lw_at lw_m3 37 rfl) rfl
theorem q602 : (Jvm.Cond.methodLink "ChairOld$Reader" (33 : Nat) ({ cls := "java/lang/String", name := "indexOf", desc := "(I)I" } : Jvm.MethodName)) ∈ lw_all := lw_g (lw_at lw_m3 38 rfl) rfl
theorem q688 : (Jvm.Cond.classLink "ChairOld$Reader" (100 : Nat) "ChairOld$Name") ∈ lw_all := lw_g (lw_at lw_m3 124 rfl) rfl
theorem q690 : (Jvm.Cond.methodLink "ChairOld$Reader" (102 : Nat) ({ cls := "ChairOld$Name", name := "<init>", desc := "(I)V" } : Jvm.MethodName)) ∈ lw_all := lw_g (lw_at lw_m3 126 rfl) rfl
theorem q701 : (Jvm.Cond.methodLink "ChairOld$Reader" (105 : Nat) ({ cls := "ChairOld$Reader", name := "opens", desc := "()Z" } : Jvm.MethodName)) ∈ lw_all := lw_g (lw_at lw_m3 137 rfl) rfl
theorem q702 : (Jvm.Cond.privateMethod ({ cls := "ChairOld$Reader", name := "opens", desc := "()Z" } : Jvm.MethodName)) ∈ lw_tbl := lw_at lw_m3 138 rfl
theorem q703 : (Jvm.Cond.instanceMethod ({ cls := "ChairOld$Reader", name := "opens", desc := "()Z" } : Jvm.MethodName)) ∈ lw_all := lw_g (lw_at lw_m3 139 rfl) rfl
theorem q704 : (Jvm.Cond.code ({ cls := "ChairOld$Reader", name := "opens", desc := "()Z" } : Jvm.MethodName) prog_27_method_13_code (1 : Nat) (Option.some Jvm.ClassFile.FieldType.boolean)) ∈ lw_all := lw_g (lw_at lw_m3 140 rfl) rfl
theorem q705 : (Jvm.Cond.methodLink "ChairOld$Reader" (109 : Nat) ({ cls := "ChairOld$Reader", name := "wrong", desc := "()LChairOld$Node;" } : Jvm.MethodName)) ∈ lw_all := lw_g (lw_at lw_m3 141 rfl) rfl
theorem q706 : (Jvm.Cond.privateMethod ({ cls := "ChairOld$Reader", name := "wrong", desc := "()LChairOld$Node;" } : Jvm.MethodName)) ∈ lw_tbl := lw_at lw_m3 142 rfl
theorem q707 : (Jvm.Cond.instanceMethod ({ cls := "ChairOld$Reader", name := "wrong", desc := "()LChairOld$Node;" } : Jvm.MethodName)) ∈ lw_all := lw_g (lw_at lw_m3 143 rfl) rfl
theorem q708 : (Jvm.Cond.code ({ cls := "ChairOld$Reader", name := "wrong", desc := "()LChairOld$Node;" } : Jvm.MethodName) prog_27_method_4_code (1 : Nat) (Option.some (Jvm.ClassFile.FieldType.object "ChairOld$Node"))) ∈ lw_all := lw_g (lw_at lw_m3 144 rfl) rfl
theorem q709 : (Jvm.Cond.classLink "ChairOld$Reader" (112 : Nat) "ChairOld$Denied") ∈ lw_all := lw_g (lw_at lw_m3 145 rfl) rfl
theorem q711 : (Jvm.Cond.methodLink "ChairOld$Reader" (114 : Nat) ({ cls := "ChairOld$Denied", name := "<init>", desc := "(LChairOld$Node;)V" } : Jvm.MethodName)) ∈ lw_all := lw_g (lw_at lw_m3 147 rfl) rfl
theorem q719 : (Jvm.Cond.classLink "ChairOld$Reader" (117 : Nat) "ChairOld$Turned") ∈ lw_all := lw_g (lw_at lw_m3 155 rfl) rfl
theorem q721 : (Jvm.Cond.methodLink "ChairOld$Reader" (119 : Nat) ({ cls := "ChairOld$Turned", name := "<init>", desc := "(LChairOld$Node;)V" } : Jvm.MethodName)) ∈ lw_all := lw_g (lw_at lw_m3 157 rfl) rfl
theorem q729 : (Jvm.Cond.methodLinkNest "ChairOld$Reader" (120 : Nat) ({ cls := "ChairOld", name := "in", desc := "(III)Z" } : Jvm.MethodName) "ChairOld") ∈ lw_tbl := lw_at lw_m3 165 rfl
theorem q730 : (Jvm.Cond.classLink "ChairOld$Reader" (124 : Nat) "ChairOld$Leaf") ∈ lw_all := lw_g (lw_at lw_m3 166 rfl) rfl
theorem q732 : (Jvm.Cond.methodLink "ChairOld$Reader" (126 : Nat) ({ cls := "ChairOld$Leaf", name := "<init>", desc := "(I)V" } : Jvm.MethodName)) ∈ lw_all := lw_g (lw_at lw_m3 168 rfl) rfl
theorem q740 : (Jvm.Cond.stringRef "ChairOld$Reader" (93 : Nat) "*/%") ∈ lw_tbl := lw_at lw_m3 176 rfl
theorem q741 : (Jvm.Cond.methodLink "ChairOld$Reader" (69 : Nat) ({ cls := "ChairOld$Reader", name := "joined", desc := "(ILChairOld$Node;LChairOld$Node;)LChairOld$Node;" } : Jvm.MethodName)) ∈ lw_all := lw_g (lw_at lw_m3 177 rfl) rfl
theorem q742 : (Jvm.Cond.privateMethod ({ cls := "ChairOld$Reader", name := "joined", desc := "(ILChairOld$Node;LChairOld$Node;)LChairOld$Node;" } : Jvm.MethodName)) ∈ lw_tbl := lw_at lw_m3 178 rfl
theorem q743 : (Jvm.Cond.instanceMethod ({ cls := "ChairOld$Reader", name := "joined", desc := "(ILChairOld$Node;LChairOld$Node;)LChairOld$Node;" } : Jvm.MethodName)) ∈ lw_all := lw_g (lw_at lw_m3 179 rfl) rfl
theorem q744 : (Jvm.Cond.code ({ cls := "ChairOld$Reader", name := "joined", desc := "(ILChairOld$Node;LChairOld$Node;)LChairOld$Node;" } : Jvm.MethodName) prog_27_method_7_code (4 : Nat) (Option.some (Jvm.ClassFile.FieldType.object "ChairOld$Node"))) ∈ lw_all := lw_g (lw_at lw_m3 180 rfl) rfl
theorem q745 : (Jvm.Cond.classLink "ChairOld$Reader" (61 : Nat) "ChairOld$Pair") ∈ lw_all := lw_g (lw_at lw_m3 181 rfl) rfl
theorem q747 : (Jvm.Cond.methodLink "ChairOld$Reader" (63 : Nat) ({ cls := "ChairOld$Pair", name := "<init>", desc := "(ILChairOld$Node;LChairOld$Node;)V" } : Jvm.MethodName)) ∈ lw_all := lw_g (lw_at lw_m3 183 rfl) rfl
theorem q761 : (Jvm.Cond.stringRef "ChairOld$Reader" (88 : Nat) "+-") ∈ lw_tbl := lw_at lw_m3 197 rfl
theorem q762 : (Jvm.Cond.stringRef "ChairOld$Reader" (79 : Nat) "<=>") ∈ lw_tbl := lw_at lw_m3 198 rfl
theorem in_X7 : ∀ w ∈ wsX70, w ∈ lw_all := lw_in wsX70 [533, 535, 537, 539] (by decide +kernel) (by decide +kernel)
/-! ChairOld$Line -/
set_option maxRecDepth 100000
def RX8 : String := "ChairOld$Line"
def TX8 : u_T := fun k => match k with
  | 0 => ("ChairOld$Line", "test", "LChairOld$Node;", false)
  | 1 => ("ChairOld$Line", "gives", "LChairOld$Node;", false)
  | _ => ("ChairOld$Line", "next", "LChairOld$Line;", false)
def tyX8 : Nat → FieldType := fun k => match k with
  | 0 => .object "ChairOld$Node"
  | 1 => .object "ChairOld$Node"
  | _ => .object "ChairOld$Line"
abbrev wsX80 : List Cond := u_ws RX8 TX8 3
theorem nmX8 : ∀ a, a < 3 → ∀ b, b < 3 → a ≠ b → (TX8 a).2.1 ≠ (TX8 b).2.1 := by decide +kernel
theorem tyX8_ok : ∀ k, k < 3 → parseFieldDescriptor (TX8 k).2.2.1 = some (tyX8 k) := by decide +kernel
abbrev cX8_init : ByteArray := prog_16_method_1_code
def yX8_init : MethodName := ⟨RX8, "<init>", "()V"⟩
theorem dX8_init_0 : decode cX8_init 0 = .ok (.aload_n 0, 1) := by decide +kernel
theorem dX8_init_1 : decode cX8_init 1 = .ok (.invokespecial 1, 3) := by decide +kernel
theorem dX8_init_4 : decode cX8_init 4 = .ok (.return_, 1) := by decide +kernel
theorem q101 : (Jvm.Cond.initialized "ChairOld$Line") ∈ lw_all := lw_g (lw_at lw_m1 17 rfl) rfl
theorem q551 : (Jvm.Cond.instantiable "ChairOld$Line" (3 : Nat)) ∈ lw_all := lw_g (lw_at lw_m2 227 rfl) rfl
theorem q553 : (Jvm.Cond.instanceMethod ({ cls := "ChairOld$Line", name := "<init>", desc := "()V" } : Jvm.MethodName)) ∈ lw_all := lw_g (lw_at lw_m2 229 rfl) rfl
theorem q554 : (Jvm.Cond.code ({ cls := "ChairOld$Line", name := "<init>", desc := "()V" } : Jvm.MethodName) prog_16_method_1_code (1 : Nat) (Option.none : Option Jvm.ClassFile.FieldType)) ∈ lw_all := lw_g (lw_at lw_m2 230 rfl) rfl
theorem q555 : (Jvm.Cond.methodLink "ChairOld$Line" (1 : Nat) ({ cls := "java/lang/Object", name := "<init>", desc := "()V" } : Jvm.MethodName)) ∈ lw_all := lw_g (lw_at lw_m2 231 rfl) rfl
theorem q562 : (Jvm.Cond.lays "ChairOld$Line" "ChairOld$Line" "test" "LChairOld$Node;") ∈ lw_all := lw_g (lw_at lw_m2 238 rfl) rfl
theorem q563 : (Jvm.Cond.soleField "ChairOld$Line" "test") ∈ lw_all := lw_g (lw_at lw_m2 239 rfl) rfl
theorem q564 : (Jvm.Cond.lays "ChairOld$Line" "ChairOld$Line" "gives" "LChairOld$Node;") ∈ lw_all := lw_g (lw_at lw_m3 0 rfl) rfl
theorem q565 : (Jvm.Cond.soleField "ChairOld$Line" "gives") ∈ lw_all := lw_g (lw_at lw_m3 1 rfl) rfl
theorem q566 : (Jvm.Cond.lays "ChairOld$Line" "ChairOld$Line" "next" "LChairOld$Line;") ∈ lw_all := lw_g (lw_at lw_m3 2 rfl) rfl
theorem q567 : (Jvm.Cond.soleField "ChairOld$Line" "next") ∈ lw_all := lw_g (lw_at lw_m3 3 rfl) rfl
theorem q568 : (Jvm.Cond.superclass "ChairOld$Line" "java/lang/Object") ∈ lw_all := lw_g (lw_at lw_m3 4 rfl) rfl
theorem in_X8 : ∀ w ∈ wsX80, w ∈ lw_all := lw_in wsX80 [562, 564, 566] (by decide +kernel) (by decide +kernel)
/-! ChairOld$Node -/
set_option maxRecDepth 100000
def RX9 : String := "ChairOld$Node"
abbrev cX9_init : ByteArray := prog_21_method_1_code
def yX9_init : MethodName := ⟨RX9, "<init>", "()V"⟩
theorem dX9_init_0 : decode cX9_init 0 = .ok (.aload_n 0, 1) := by decide +kernel
theorem dX9_init_1 : decode cX9_init 1 = .ok (.invokespecial 1, 3) := by decide +kernel
theorem dX9_init_4 : decode cX9_init 4 = .ok (.return_, 1) := by decide +kernel
theorem q107 : (Jvm.Cond.initialized "ChairOld$Node") ∈ lw_all := lw_g (lw_at lw_m1 23 rfl) rfl
theorem q694 : (Jvm.Cond.instanceMethod ({ cls := "ChairOld$Node", name := "<init>", desc := "()V" } : Jvm.MethodName)) ∈ lw_all := lw_g (lw_at lw_m3 130 rfl) rfl
theorem q695 : (Jvm.Cond.code ({ cls := "ChairOld$Node", name := "<init>", desc := "()V" } : Jvm.MethodName) prog_21_method_1_code (1 : Nat) (Option.none : Option Jvm.ClassFile.FieldType)) ∈ lw_all := lw_g (lw_at lw_m3 131 rfl) rfl
theorem q696 : (Jvm.Cond.methodLink "ChairOld$Node" (1 : Nat) ({ cls := "java/lang/Object", name := "<init>", desc := "()V" } : Jvm.MethodName)) ∈ lw_all := lw_g (lw_at lw_m3 132 rfl) rfl
theorem q782 : (Jvm.Cond.declares ({ cls := "ChairOld$Node", name := "value", desc := "(LChairOld$Facts;)I" } : Jvm.MethodName)) ∈ lw_tbl := lw_at lw_m3 218 rfl
theorem q783 : (Jvm.Cond.sameMethod "ChairOld$Node" "ChairOld$Node" "value" "(LChairOld$Facts;)I") ∈ lw_all := lw_g (lw_at lw_m3 219 rfl) rfl
/-! ChairOld$Name -/
set_option maxRecDepth 100000
def RX10 : String := "ChairOld$Name"
def TX10 : u_T := fun k => match k with
  | _ => ("ChairOld$Name", "letter", "I", true)
def tyX10 : Nat → FieldType := fun k => match k with
  | _ => .int
abbrev wsX100 : List Cond := u_ws RX10 TX10 1
theorem nmX10 : ∀ a, a < 1 → ∀ b, b < 1 → a ≠ b → (TX10 a).2.1 ≠ (TX10 b).2.1 := by decide +kernel
theorem tyX10_ok : ∀ k, k < 1 → parseFieldDescriptor (TX10 k).2.2.1 = some (tyX10 k) := by decide +kernel
abbrev cX10_init : ByteArray := prog_20_method_1_code
def yX10_init : MethodName := ⟨RX10, "<init>", "(I)V"⟩
def dkwX10_init_0 : List UInt8 := [42, 183, 0, 1, 42, 27, 181, 0, 7, 177]
abbrev dktX10_init_0 : List UInt8 := dkwX10_init_0 ++ []
theorem dksX10_init_0 : cX10_init.data.toList.drop 0 = dktX10_init_0 := by decide +kernel
theorem dX10_init_0 : decode cX10_init 0 = .ok (.aload_n 0, 1) := dk_42 (dk_at dksX10_init_0 0 rfl rfl)
theorem dX10_init_1 : decode cX10_init 1 = .ok (.invokespecial 1, 3) := dk_183 0 1 (dk_at dksX10_init_0 1 rfl rfl)
theorem dX10_init_4 : decode cX10_init 4 = .ok (.aload_n 0, 1) := dk_42 (dk_at dksX10_init_0 4 rfl rfl)
theorem dX10_init_5 : decode cX10_init 5 = .ok (.iload_n 1, 1) := dk_27 (dk_at dksX10_init_0 5 rfl rfl)
theorem dX10_init_6 : decode cX10_init 6 = .ok (.putfield 7, 3) := dk_181 0 7 (dk_at dksX10_init_0 6 rfl rfl)
theorem dX10_init_9 : decode cX10_init 9 = .ok (.return_, 1) := dk_177 (dk_at dksX10_init_0 9 rfl rfl)
abbrev cX10_value : ByteArray := prog_20_method_2_code
def yX10_value : MethodName := ⟨RX10, "value", "(LChairOld$Facts;)I"⟩
def dkwX10_value_0 : List UInt8 := [43, 180, 0, 13, 42, 180, 0, 7, 46, 172]
abbrev dktX10_value_0 : List UInt8 := dkwX10_value_0 ++ []
theorem dksX10_value_0 : cX10_value.data.toList.drop 0 = dktX10_value_0 := by decide +kernel
theorem dX10_value_0 : decode cX10_value 0 = .ok (.aload_n 1, 1) := dk_43 (dk_at dksX10_value_0 0 rfl rfl)
theorem dX10_value_1 : decode cX10_value 1 = .ok (.getfield 13, 3) := dk_180 0 13 (dk_at dksX10_value_0 1 rfl rfl)
theorem dX10_value_4 : decode cX10_value 4 = .ok (.aload_n 0, 1) := dk_42 (dk_at dksX10_value_0 4 rfl rfl)
theorem dX10_value_5 : decode cX10_value 5 = .ok (.getfield 7, 3) := dk_180 0 7 (dk_at dksX10_value_0 5 rfl rfl)
theorem dX10_value_8 : decode cX10_value 8 = .ok (.iaload, 1) := dk_46 (dk_at dksX10_value_0 8 rfl rfl)
theorem dX10_value_9 : decode cX10_value 9 = .ok (.ireturn, 1) := dk_172 (dk_at dksX10_value_0 9 rfl rfl)
theorem q108 : (Jvm.Cond.initialized "ChairOld$Name") ∈ lw_all := lw_g (lw_at lw_m1 24 rfl) rfl
theorem q185 : (Jvm.Cond.fieldLinkNest "ChairOld$Name" (13 : Nat) "ChairOld$Facts" "named" "[I" "ChairOld") ∈ lw_tbl := lw_at lw_m1 101 rfl
theorem q689 : (Jvm.Cond.instantiable "ChairOld$Name" (1 : Nat)) ∈ lw_all := lw_g (lw_at lw_m3 125 rfl) rfl
theorem q691 : (Jvm.Cond.instanceMethod ({ cls := "ChairOld$Name", name := "<init>", desc := "(I)V" } : Jvm.MethodName)) ∈ lw_all := lw_g (lw_at lw_m3 127 rfl) rfl
theorem q692 : (Jvm.Cond.code ({ cls := "ChairOld$Name", name := "<init>", desc := "(I)V" } : Jvm.MethodName) prog_20_method_1_code (2 : Nat) (Option.none : Option Jvm.ClassFile.FieldType)) ∈ lw_all := lw_g (lw_at lw_m3 128 rfl) rfl
theorem q693 : (Jvm.Cond.methodLinkNest "ChairOld$Name" (1 : Nat) ({ cls := "ChairOld$Node", name := "<init>", desc := "()V" } : Jvm.MethodName) "ChairOld") ∈ lw_tbl := lw_at lw_m3 129 rfl
theorem q697 : (Jvm.Cond.fieldLink "ChairOld$Name" (7 : Nat) "ChairOld$Name" "letter" "I") ∈ lw_all := lw_g (lw_at lw_m3 133 rfl) rfl
theorem q698 : (Jvm.Cond.laysFinal "ChairOld$Name" "ChairOld$Name" "letter" "I") ∈ lw_all := lw_g (lw_at lw_m3 134 rfl) rfl
theorem q699 : (Jvm.Cond.soleField "ChairOld$Name" "letter") ∈ lw_all := lw_g (lw_at lw_m3 135 rfl) rfl
theorem q700 : (Jvm.Cond.superclass "ChairOld$Name" "ChairOld$Node") ∈ lw_all := lw_g (lw_at lw_m3 136 rfl) rfl
theorem q790 : (Jvm.Cond.instanceMethod ({ cls := "ChairOld$Name", name := "value", desc := "(LChairOld$Facts;)I" } : Jvm.MethodName)) ∈ lw_all := lw_g (lw_at lw_m3 226 rfl) rfl
theorem q791 : (Jvm.Cond.code ({ cls := "ChairOld$Name", name := "value", desc := "(LChairOld$Facts;)I" } : Jvm.MethodName) prog_20_method_2_code (2 : Nat) (Option.some Jvm.ClassFile.FieldType.int)) ∈ lw_all := lw_g (lw_at lw_m3 227 rfl) rfl
theorem q802 : (Jvm.Cond.selects "ChairOld$Name" ({ cls := "ChairOld$Node", name := "value", desc := "(LChairOld$Facts;)I" } : Jvm.MethodName) ({ cls := "ChairOld$Name", name := "value", desc := "(LChairOld$Facts;)I" } : Jvm.MethodName)) ∈ lw_all := lw_g (lw_at lw_m3 238 rfl) rfl
theorem in_X10 : ∀ w ∈ wsX100, w ∈ lw_all := lw_in wsX100 [698] (by decide +kernel) (by decide +kernel)
/-! ChairOld$Denied -/
set_option maxRecDepth 100000
def RX11 : String := "ChairOld$Denied"
def TX11 : u_T := fun k => match k with
  | _ => ("ChairOld$Denied", "of", "LChairOld$Node;", true)
def tyX11 : Nat → FieldType := fun k => match k with
  | _ => .object "ChairOld$Node"
abbrev wsX110 : List Cond := u_ws RX11 TX11 1
theorem nmX11 : ∀ a, a < 1 → ∀ b, b < 1 → a ≠ b → (TX11 a).2.1 ≠ (TX11 b).2.1 := by decide +kernel
theorem tyX11_ok : ∀ k, k < 1 → parseFieldDescriptor (TX11 k).2.2.1 = some (tyX11 k) := by decide +kernel
abbrev cX11_init : ByteArray := prog_8_method_1_code
def yX11_init : MethodName := ⟨RX11, "<init>", "(LChairOld$Node;)V"⟩
def dkwX11_init_0 : List UInt8 := [42, 183, 0, 1, 42, 43, 181, 0, 7, 177]
abbrev dktX11_init_0 : List UInt8 := dkwX11_init_0 ++ []
theorem dksX11_init_0 : cX11_init.data.toList.drop 0 = dktX11_init_0 := by decide +kernel
theorem dX11_init_0 : decode cX11_init 0 = .ok (.aload_n 0, 1) := dk_42 (dk_at dksX11_init_0 0 rfl rfl)
theorem dX11_init_1 : decode cX11_init 1 = .ok (.invokespecial 1, 3) := dk_183 0 1 (dk_at dksX11_init_0 1 rfl rfl)
theorem dX11_init_4 : decode cX11_init 4 = .ok (.aload_n 0, 1) := dk_42 (dk_at dksX11_init_0 4 rfl rfl)
theorem dX11_init_5 : decode cX11_init 5 = .ok (.aload_n 1, 1) := dk_43 (dk_at dksX11_init_0 5 rfl rfl)
theorem dX11_init_6 : decode cX11_init 6 = .ok (.putfield 7, 3) := dk_181 0 7 (dk_at dksX11_init_0 6 rfl rfl)
theorem dX11_init_9 : decode cX11_init 9 = .ok (.return_, 1) := dk_177 (dk_at dksX11_init_0 9 rfl rfl)
abbrev cX11_value : ByteArray := prog_8_method_2_code
def yX11_value : MethodName := ⟨RX11, "value", "(LChairOld$Facts;)I"⟩
def dkwX11_value_0 : List UInt8 := [42, 180, 0, 7, 43, 182, 0, 13, 154, 0, 7, 4, 167, 0, 4, 3, 172]
abbrev dktX11_value_0 : List UInt8 := dkwX11_value_0 ++ []
theorem dksX11_value_0 : cX11_value.data.toList.drop 0 = dktX11_value_0 := by decide +kernel
theorem dX11_value_0 : decode cX11_value 0 = .ok (.aload_n 0, 1) := dk_42 (dk_at dksX11_value_0 0 rfl rfl)
theorem dX11_value_1 : decode cX11_value 1 = .ok (.getfield 7, 3) := dk_180 0 7 (dk_at dksX11_value_0 1 rfl rfl)
theorem dX11_value_4 : decode cX11_value 4 = .ok (.aload_n 1, 1) := dk_43 (dk_at dksX11_value_0 4 rfl rfl)
theorem dX11_value_5 : decode cX11_value 5 = .ok (.invokevirtual 13, 3) := dk_182 0 13 (dk_at dksX11_value_0 5 rfl rfl)
theorem dX11_value_8 : decode cX11_value 8 = .ok (.ifCond .ne 7, 3) := dk_154 0 7 (dk_at dksX11_value_0 8 rfl rfl)
theorem dX11_value_11 : decode cX11_value 11 = .ok (.iconst 1, 1) := dk_4 (dk_at dksX11_value_0 11 rfl rfl)
theorem dX11_value_12 : decode cX11_value 12 = .ok (.goto 4, 3) := dk_167 0 4 (dk_at dksX11_value_0 12 rfl rfl)
theorem dX11_value_15 : decode cX11_value 15 = .ok (.iconst 0, 1) := dk_3 (dk_at dksX11_value_0 15 rfl rfl)
theorem dX11_value_16 : decode cX11_value 16 = .ok (.ireturn, 1) := dk_172 (dk_at dksX11_value_0 16 rfl rfl)
theorem q109 : (Jvm.Cond.initialized "ChairOld$Denied") ∈ lw_all := lw_g (lw_at lw_m1 25 rfl) rfl
theorem q710 : (Jvm.Cond.instantiable "ChairOld$Denied" (1 : Nat)) ∈ lw_all := lw_g (lw_at lw_m3 146 rfl) rfl
theorem q712 : (Jvm.Cond.instanceMethod ({ cls := "ChairOld$Denied", name := "<init>", desc := "(LChairOld$Node;)V" } : Jvm.MethodName)) ∈ lw_all := lw_g (lw_at lw_m3 148 rfl) rfl
theorem q713 : (Jvm.Cond.code ({ cls := "ChairOld$Denied", name := "<init>", desc := "(LChairOld$Node;)V" } : Jvm.MethodName) prog_8_method_1_code (2 : Nat) (Option.none : Option Jvm.ClassFile.FieldType)) ∈ lw_all := lw_g (lw_at lw_m3 149 rfl) rfl
theorem q714 : (Jvm.Cond.methodLinkNest "ChairOld$Denied" (1 : Nat) ({ cls := "ChairOld$Node", name := "<init>", desc := "()V" } : Jvm.MethodName) "ChairOld") ∈ lw_tbl := lw_at lw_m3 150 rfl
theorem q715 : (Jvm.Cond.fieldLink "ChairOld$Denied" (7 : Nat) "ChairOld$Denied" "of" "LChairOld$Node;") ∈ lw_all := lw_g (lw_at lw_m3 151 rfl) rfl
theorem q716 : (Jvm.Cond.laysFinal "ChairOld$Denied" "ChairOld$Denied" "of" "LChairOld$Node;") ∈ lw_all := lw_g (lw_at lw_m3 152 rfl) rfl
theorem q717 : (Jvm.Cond.soleField "ChairOld$Denied" "of") ∈ lw_all := lw_g (lw_at lw_m3 153 rfl) rfl
theorem q718 : (Jvm.Cond.superclass "ChairOld$Denied" "ChairOld$Node") ∈ lw_all := lw_g (lw_at lw_m3 154 rfl) rfl
theorem q784 : (Jvm.Cond.selects "ChairOld$Denied" ({ cls := "ChairOld$Node", name := "value", desc := "(LChairOld$Facts;)I" } : Jvm.MethodName) ({ cls := "ChairOld$Denied", name := "value", desc := "(LChairOld$Facts;)I" } : Jvm.MethodName)) ∈ lw_all := lw_g (lw_at lw_m3 220 rfl) rfl
theorem q785 : (Jvm.Cond.instanceMethod ({ cls := "ChairOld$Denied", name := "value", desc := "(LChairOld$Facts;)I" } : Jvm.MethodName)) ∈ lw_all := lw_g (lw_at lw_m3 221 rfl) rfl
theorem q786 : (Jvm.Cond.code ({ cls := "ChairOld$Denied", name := "value", desc := "(LChairOld$Facts;)I" } : Jvm.MethodName) prog_8_method_2_code (2 : Nat) (Option.some Jvm.ClassFile.FieldType.int)) ∈ lw_all := lw_g (lw_at lw_m3 222 rfl) rfl
theorem q787 : (Jvm.Cond.methodLink "ChairOld$Denied" (13 : Nat) ({ cls := "ChairOld$Node", name := "value", desc := "(LChairOld$Facts;)I" } : Jvm.MethodName)) ∈ lw_all := lw_g (lw_at lw_m3 223 rfl) rfl
theorem in_X11 : ∀ w ∈ wsX110, w ∈ lw_all := lw_in wsX110 [716] (by decide +kernel) (by decide +kernel)
/-! ChairOld$Turned -/
set_option maxRecDepth 100000
def RX12 : String := "ChairOld$Turned"
def TX12 : u_T := fun k => match k with
  | _ => ("ChairOld$Turned", "of", "LChairOld$Node;", true)
def tyX12 : Nat → FieldType := fun k => match k with
  | _ => .object "ChairOld$Node"
abbrev wsX120 : List Cond := u_ws RX12 TX12 1
theorem nmX12 : ∀ a, a < 1 → ∀ b, b < 1 → a ≠ b → (TX12 a).2.1 ≠ (TX12 b).2.1 := by decide +kernel
theorem tyX12_ok : ∀ k, k < 1 → parseFieldDescriptor (TX12 k).2.2.1 = some (tyX12 k) := by decide +kernel
abbrev cX12_init : ByteArray := prog_32_method_1_code
def yX12_init : MethodName := ⟨RX12, "<init>", "(LChairOld$Node;)V"⟩
def dkwX12_init_0 : List UInt8 := [42, 183, 0, 1, 42, 43, 181, 0, 7, 177]
abbrev dktX12_init_0 : List UInt8 := dkwX12_init_0 ++ []
theorem dksX12_init_0 : cX12_init.data.toList.drop 0 = dktX12_init_0 := by decide +kernel
theorem dX12_init_0 : decode cX12_init 0 = .ok (.aload_n 0, 1) := dk_42 (dk_at dksX12_init_0 0 rfl rfl)
theorem dX12_init_1 : decode cX12_init 1 = .ok (.invokespecial 1, 3) := dk_183 0 1 (dk_at dksX12_init_0 1 rfl rfl)
theorem dX12_init_4 : decode cX12_init 4 = .ok (.aload_n 0, 1) := dk_42 (dk_at dksX12_init_0 4 rfl rfl)
theorem dX12_init_5 : decode cX12_init 5 = .ok (.aload_n 1, 1) := dk_43 (dk_at dksX12_init_0 5 rfl rfl)
theorem dX12_init_6 : decode cX12_init 6 = .ok (.putfield 7, 3) := dk_181 0 7 (dk_at dksX12_init_0 6 rfl rfl)
theorem dX12_init_9 : decode cX12_init 9 = .ok (.return_, 1) := dk_177 (dk_at dksX12_init_0 9 rfl rfl)
abbrev cX12_value : ByteArray := prog_32_method_2_code
def yX12_value : MethodName := ⟨RX12, "value", "(LChairOld$Facts;)I"⟩
def dkwX12_value_0 : List UInt8 := [42, 180, 0, 7, 43, 182, 0, 13, 116, 172]
abbrev dktX12_value_0 : List UInt8 := dkwX12_value_0 ++ []
theorem dksX12_value_0 : cX12_value.data.toList.drop 0 = dktX12_value_0 := by decide +kernel
theorem dX12_value_0 : decode cX12_value 0 = .ok (.aload_n 0, 1) := dk_42 (dk_at dksX12_value_0 0 rfl rfl)
theorem dX12_value_1 : decode cX12_value 1 = .ok (.getfield 7, 3) := dk_180 0 7 (dk_at dksX12_value_0 1 rfl rfl)
theorem dX12_value_4 : decode cX12_value 4 = .ok (.aload_n 1, 1) := dk_43 (dk_at dksX12_value_0 4 rfl rfl)
theorem dX12_value_5 : decode cX12_value 5 = .ok (.invokevirtual 13, 3) := dk_182 0 13 (dk_at dksX12_value_0 5 rfl rfl)
theorem dX12_value_8 : decode cX12_value 8 = .ok (.ineg, 1) := dk_116 (dk_at dksX12_value_0 8 rfl rfl)
theorem dX12_value_9 : decode cX12_value 9 = .ok (.ireturn, 1) := dk_172 (dk_at dksX12_value_0 9 rfl rfl)
theorem q110 : (Jvm.Cond.initialized "ChairOld$Turned") ∈ lw_all := lw_g (lw_at lw_m1 26 rfl) rfl
theorem q720 : (Jvm.Cond.instantiable "ChairOld$Turned" (1 : Nat)) ∈ lw_all := lw_g (lw_at lw_m3 156 rfl) rfl
theorem q722 : (Jvm.Cond.instanceMethod ({ cls := "ChairOld$Turned", name := "<init>", desc := "(LChairOld$Node;)V" } : Jvm.MethodName)) ∈ lw_all := lw_g (lw_at lw_m3 158 rfl) rfl
theorem q723 : (Jvm.Cond.code ({ cls := "ChairOld$Turned", name := "<init>", desc := "(LChairOld$Node;)V" } : Jvm.MethodName) prog_32_method_1_code (2 : Nat) (Option.none : Option Jvm.ClassFile.FieldType)) ∈ lw_all := lw_g (lw_at lw_m3 159 rfl) rfl
theorem q724 : (Jvm.Cond.methodLinkNest "ChairOld$Turned" (1 : Nat) ({ cls := "ChairOld$Node", name := "<init>", desc := "()V" } : Jvm.MethodName) "ChairOld") ∈ lw_tbl := lw_at lw_m3 160 rfl
theorem q725 : (Jvm.Cond.fieldLink "ChairOld$Turned" (7 : Nat) "ChairOld$Turned" "of" "LChairOld$Node;") ∈ lw_all := lw_g (lw_at lw_m3 161 rfl) rfl
theorem q726 : (Jvm.Cond.laysFinal "ChairOld$Turned" "ChairOld$Turned" "of" "LChairOld$Node;") ∈ lw_all := lw_g (lw_at lw_m3 162 rfl) rfl
theorem q727 : (Jvm.Cond.soleField "ChairOld$Turned" "of") ∈ lw_all := lw_g (lw_at lw_m3 163 rfl) rfl
theorem q728 : (Jvm.Cond.superclass "ChairOld$Turned" "ChairOld$Node") ∈ lw_all := lw_g (lw_at lw_m3 164 rfl) rfl
theorem q795 : (Jvm.Cond.instanceMethod ({ cls := "ChairOld$Turned", name := "value", desc := "(LChairOld$Facts;)I" } : Jvm.MethodName)) ∈ lw_all := lw_g (lw_at lw_m3 231 rfl) rfl
theorem q796 : (Jvm.Cond.code ({ cls := "ChairOld$Turned", name := "value", desc := "(LChairOld$Facts;)I" } : Jvm.MethodName) prog_32_method_2_code (2 : Nat) (Option.some Jvm.ClassFile.FieldType.int)) ∈ lw_all := lw_g (lw_at lw_m3 232 rfl) rfl
theorem q797 : (Jvm.Cond.methodLink "ChairOld$Turned" (13 : Nat) ({ cls := "ChairOld$Node", name := "value", desc := "(LChairOld$Facts;)I" } : Jvm.MethodName)) ∈ lw_all := lw_g (lw_at lw_m3 233 rfl) rfl
theorem q804 : (Jvm.Cond.selects "ChairOld$Turned" ({ cls := "ChairOld$Node", name := "value", desc := "(LChairOld$Facts;)I" } : Jvm.MethodName) ({ cls := "ChairOld$Turned", name := "value", desc := "(LChairOld$Facts;)I" } : Jvm.MethodName)) ∈ lw_all := lw_g (lw_at lw_m4 0 rfl) rfl
theorem in_X12 : ∀ w ∈ wsX120, w ∈ lw_all := lw_in wsX120 [726] (by decide +kernel) (by decide +kernel)
/-! ChairOld$Leaf -/
set_option maxRecDepth 100000
def RX13 : String := "ChairOld$Leaf"
def TX13 : u_T := fun k => match k with
  | _ => ("ChairOld$Leaf", "number", "I", true)
def tyX13 : Nat → FieldType := fun k => match k with
  | _ => .int
abbrev wsX130 : List Cond := u_ws RX13 TX13 1
theorem nmX13 : ∀ a, a < 1 → ∀ b, b < 1 → a ≠ b → (TX13 a).2.1 ≠ (TX13 b).2.1 := by decide +kernel
theorem tyX13_ok : ∀ k, k < 1 → parseFieldDescriptor (TX13 k).2.2.1 = some (tyX13 k) := by decide +kernel
abbrev cX13_init : ByteArray := prog_15_method_1_code
def yX13_init : MethodName := ⟨RX13, "<init>", "(I)V"⟩
def dkwX13_init_0 : List UInt8 := [42, 183, 0, 1, 42, 27, 181, 0, 7, 177]
abbrev dktX13_init_0 : List UInt8 := dkwX13_init_0 ++ []
theorem dksX13_init_0 : cX13_init.data.toList.drop 0 = dktX13_init_0 := by decide +kernel
theorem dX13_init_0 : decode cX13_init 0 = .ok (.aload_n 0, 1) := dk_42 (dk_at dksX13_init_0 0 rfl rfl)
theorem dX13_init_1 : decode cX13_init 1 = .ok (.invokespecial 1, 3) := dk_183 0 1 (dk_at dksX13_init_0 1 rfl rfl)
theorem dX13_init_4 : decode cX13_init 4 = .ok (.aload_n 0, 1) := dk_42 (dk_at dksX13_init_0 4 rfl rfl)
theorem dX13_init_5 : decode cX13_init 5 = .ok (.iload_n 1, 1) := dk_27 (dk_at dksX13_init_0 5 rfl rfl)
theorem dX13_init_6 : decode cX13_init 6 = .ok (.putfield 7, 3) := dk_181 0 7 (dk_at dksX13_init_0 6 rfl rfl)
theorem dX13_init_9 : decode cX13_init 9 = .ok (.return_, 1) := dk_177 (dk_at dksX13_init_0 9 rfl rfl)
abbrev cX13_value : ByteArray := prog_15_method_2_code
def yX13_value : MethodName := ⟨RX13, "value", "(LChairOld$Facts;)I"⟩
theorem dX13_value_0 : decode cX13_value 0 = .ok (.aload_n 0, 1) := by decide +kernel
theorem dX13_value_1 : decode cX13_value 1 = .ok (.getfield 7, 3) := by decide +kernel
theorem dX13_value_4 : decode cX13_value 4 = .ok (.ireturn, 1) := by decide +kernel
theorem q111 : (Jvm.Cond.initialized "ChairOld$Leaf") ∈ lw_all := lw_g (lw_at lw_m1 27 rfl) rfl
theorem q731 : (Jvm.Cond.instantiable "ChairOld$Leaf" (1 : Nat)) ∈ lw_all := lw_g (lw_at lw_m3 167 rfl) rfl
theorem q733 : (Jvm.Cond.instanceMethod ({ cls := "ChairOld$Leaf", name := "<init>", desc := "(I)V" } : Jvm.MethodName)) ∈ lw_all := lw_g (lw_at lw_m3 169 rfl) rfl
theorem q734 : (Jvm.Cond.code ({ cls := "ChairOld$Leaf", name := "<init>", desc := "(I)V" } : Jvm.MethodName) prog_15_method_1_code (2 : Nat) (Option.none : Option Jvm.ClassFile.FieldType)) ∈ lw_all := lw_g (lw_at lw_m3 170 rfl) rfl
theorem q735 : (Jvm.Cond.methodLinkNest "ChairOld$Leaf" (1 : Nat) ({ cls := "ChairOld$Node", name := "<init>", desc := "()V" } : Jvm.MethodName) "ChairOld") ∈ lw_tbl := lw_at lw_m3 171 rfl
theorem q736 : (Jvm.Cond.fieldLink "ChairOld$Leaf" (7 : Nat) "ChairOld$Leaf" "number" "I") ∈ lw_all := lw_g (lw_at lw_m3 172 rfl) rfl
theorem q737 : (Jvm.Cond.laysFinal "ChairOld$Leaf" "ChairOld$Leaf" "number" "I") ∈ lw_all := lw_g (lw_at lw_m3 173 rfl) rfl
theorem q738 : (Jvm.Cond.soleField "ChairOld$Leaf" "number") ∈ lw_all := lw_g (lw_at lw_m3 174 rfl) rfl
theorem q739 : (Jvm.Cond.superclass "ChairOld$Leaf" "ChairOld$Node") ∈ lw_all := lw_g (lw_at lw_m3 175 rfl) rfl
theorem q788 : (Jvm.Cond.instanceMethod ({ cls := "ChairOld$Leaf", name := "value", desc := "(LChairOld$Facts;)I" } : Jvm.MethodName)) ∈ lw_all := lw_g (lw_at lw_m3 224 rfl) rfl
theorem q789 : (Jvm.Cond.code ({ cls := "ChairOld$Leaf", name := "value", desc := "(LChairOld$Facts;)I" } : Jvm.MethodName) prog_15_method_2_code (2 : Nat) (Option.some Jvm.ClassFile.FieldType.int)) ∈ lw_all := lw_g (lw_at lw_m3 225 rfl) rfl
theorem q801 : (Jvm.Cond.selects "ChairOld$Leaf" ({ cls := "ChairOld$Node", name := "value", desc := "(LChairOld$Facts;)I" } : Jvm.MethodName) ({ cls := "ChairOld$Leaf", name := "value", desc := "(LChairOld$Facts;)I" } : Jvm.MethodName)) ∈ lw_all := lw_g (lw_at lw_m3 237 rfl) rfl
theorem in_X13 : ∀ w ∈ wsX130, w ∈ lw_all := lw_in wsX130 [737] (by decide +kernel) (by decide +kernel)
/-! ChairOld$Pair -/
set_option maxRecDepth 100000
def RX14 : String := "ChairOld$Pair"
def TX14 : u_T := fun k => match k with
  | 0 => ("ChairOld$Pair", "sign", "I", true)
  | 1 => ("ChairOld$Pair", "left", "LChairOld$Node;", true)
  | _ => ("ChairOld$Pair", "right", "LChairOld$Node;", true)
def tyX14 : Nat → FieldType := fun k => match k with
  | 0 => .int
  | 1 => .object "ChairOld$Node"
  | _ => .object "ChairOld$Node"
abbrev wsX140 : List Cond := u_ws RX14 TX14 3
theorem nmX14 : ∀ a, a < 3 → ∀ b, b < 3 → a ≠ b → (TX14 a).2.1 ≠ (TX14 b).2.1 := by decide +kernel
theorem tyX14_ok : ∀ k, k < 3 → parseFieldDescriptor (TX14 k).2.2.1 = some (tyX14 k) := by decide +kernel
abbrev cX14_init : ByteArray := prog_23_method_1_code
def yX14_init : MethodName := ⟨RX14, "<init>", "(ILChairOld$Node;LChairOld$Node;)V"⟩
def dkwX14_init_0 : List UInt8 := [42, 183, 0, 1, 42, 27, 181, 0, 7, 42, 44, 181, 0, 13, 42, 45, 181, 0, 17, 177]
abbrev dktX14_init_0 : List UInt8 := dkwX14_init_0 ++ []
theorem dksX14_init_0 : cX14_init.data.toList.drop 0 = dktX14_init_0 := by decide +kernel
theorem dX14_init_0 : decode cX14_init 0 = .ok (.aload_n 0, 1) := dk_42 (dk_at dksX14_init_0 0 rfl rfl)
theorem dX14_init_1 : decode cX14_init 1 = .ok (.invokespecial 1, 3) := dk_183 0 1 (dk_at dksX14_init_0 1 rfl rfl)
theorem dX14_init_4 : decode cX14_init 4 = .ok (.aload_n 0, 1) := dk_42 (dk_at dksX14_init_0 4 rfl rfl)
theorem dX14_init_5 : decode cX14_init 5 = .ok (.iload_n 1, 1) := dk_27 (dk_at dksX14_init_0 5 rfl rfl)
theorem dX14_init_6 : decode cX14_init 6 = .ok (.putfield 7, 3) := dk_181 0 7 (dk_at dksX14_init_0 6 rfl rfl)
theorem dX14_init_9 : decode cX14_init 9 = .ok (.aload_n 0, 1) := dk_42 (dk_at dksX14_init_0 9 rfl rfl)
theorem dX14_init_10 : decode cX14_init 10 = .ok (.aload_n 2, 1) := dk_44 (dk_at dksX14_init_0 10 rfl rfl)
theorem dX14_init_11 : decode cX14_init 11 = .ok (.putfield 13, 3) := dk_181 0 13 (dk_at dksX14_init_0 11 rfl rfl)
theorem dX14_init_14 : decode cX14_init 14 = .ok (.aload_n 0, 1) := dk_42 (dk_at dksX14_init_0 14 rfl rfl)
theorem dX14_init_15 : decode cX14_init 15 = .ok (.aload_n 3, 1) := dk_45 (dk_at dksX14_init_0 15 rfl rfl)
theorem dX14_init_16 : decode cX14_init 16 = .ok (.putfield 17, 3) := dk_181 0 17 (dk_at dksX14_init_0 16 rfl rfl)
theorem dX14_init_19 : decode cX14_init 19 = .ok (.return_, 1) := dk_177 (dk_at dksX14_init_0 19 rfl rfl)
abbrev cX14_value : ByteArray := prog_23_method_3_code
def yX14_value : MethodName := ⟨RX14, "value", "(LChairOld$Facts;)I"⟩
def dkwX14_value_7 : List UInt8 := [154, 0, 7, 29, 153, 0, 7, 4, 167, 0, 4, 3, 184, 0, 24, 172]
abbrev dktX14_value_7 : List UInt8 := dkwX14_value_7 ++ []
def dkwX14_value_6 : List UInt8 := [184, 0, 24, 172, 28, 153, 0, 11, 29, 153, 0, 7, 4, 167, 0, 4, 3, 184, 0, 24, 172, 28]
abbrev dktX14_value_6 : List UInt8 := dkwX14_value_6 ++ dktX14_value_7
def dkwX14_value_5 : List UInt8 := [160, 0, 7, 4, 167, 0, 4, 3, 184, 0, 24, 172, 28, 29, 164, 0, 7, 4, 167, 0, 4, 3]
abbrev dktX14_value_5 : List UInt8 := dkwX14_value_5 ++ dktX14_value_6
def dkwX14_value_4 : List UInt8 := [167, 0, 6, 28, 29, 112, 172, 28, 29, 162, 0, 7, 4, 167, 0, 4, 3, 184, 0, 24, 172, 28, 29]
abbrev dktX14_value_4 : List UInt8 := dkwX14_value_4 ++ dktX14_value_5
def dkwX14_value_3 : List UInt8 := [160, 0, 8, 28, 116, 167, 0, 6, 28, 29, 108, 172, 29, 153, 0, 8, 29, 2, 160, 0, 7, 3]
abbrev dktX14_value_3 : List UInt8 := dkwX14_value_3 ++ dktX14_value_4
def dkwX14_value_2 : List UInt8 := [28, 29, 96, 172, 28, 29, 100, 172, 28, 29, 104, 172, 29, 154, 0, 7, 3, 167, 0, 16, 29, 2]
abbrev dktX14_value_2 : List UInt8 := dkwX14_value_2 ++ dktX14_value_3
def dkwX14_value_1 : List UInt8 := [170, 0, 0, 0, 0, 228, 0, 0, 0, 37, 0, 0, 0, 62, 0, 0, 0, 152, 0, 0, 0, 211, 0, 0, 0, 228, 0, 0, 0, 228, 0, 0, 0, 228, 0, 0, 0, 126, 0, 0, 0, 118, 0, 0, 0, 228, 0, 0, 0, 122, 0, 0, 0, 228, 0, 0, 0, 130, 0, 0, 0, 228, 0, 0, 0, 228, 0, 0, 0, 228, 0, 0, 0, 228, 0, 0, 0, 228, 0, 0, 0, 228, 0, 0, 0, 228, 0, 0, 0, 228, 0, 0, 0, 228, 0, 0, 0, 228, 0, 0, 0, 228, 0, 0, 0, 228, 0, 0, 0, 169, 0, 0, 0, 183, 0, 0, 0, 197]
abbrev dktX14_value_1 : List UInt8 := dkwX14_value_1 ++ dktX14_value_2
def dkwX14_value_0 : List UInt8 := [42, 180, 0, 13, 43, 182, 0, 20, 61, 42, 180, 0, 17, 43, 182, 0, 20, 62, 42, 180, 0, 7]
abbrev dktX14_value_0 : List UInt8 := dkwX14_value_0 ++ dktX14_value_1
theorem dksX14_value_0 : cX14_value.data.toList.drop 0 = dktX14_value_0 := by decide +kernel
theorem dksX14_value_1 : cX14_value.data.toList.drop 22 = dktX14_value_1 := dk_seg dksX14_value_0 22 rfl rfl
theorem dksX14_value_2 : cX14_value.data.toList.drop 140 = dktX14_value_2 := dk_seg dksX14_value_1 118 rfl rfl
theorem dksX14_value_3 : cX14_value.data.toList.drop 162 = dktX14_value_3 := dk_seg dksX14_value_2 22 rfl rfl
theorem dksX14_value_4 : cX14_value.data.toList.drop 184 = dktX14_value_4 := dk_seg dksX14_value_3 22 rfl rfl
theorem dksX14_value_5 : cX14_value.data.toList.drop 207 = dktX14_value_5 := dk_seg dksX14_value_4 23 rfl rfl
theorem dksX14_value_6 : cX14_value.data.toList.drop 229 = dktX14_value_6 := dk_seg dksX14_value_5 22 rfl rfl
theorem dksX14_value_7 : cX14_value.data.toList.drop 251 = dktX14_value_7 := dk_seg dksX14_value_6 22 rfl rfl
theorem dX14_value_0 : decode cX14_value 0 = .ok (.aload_n 0, 1) := dk_42 (dk_at dksX14_value_0 0 rfl rfl)
theorem dX14_value_1 : decode cX14_value 1 = .ok (.getfield 13, 3) := dk_180 0 13 (dk_at dksX14_value_0 1 rfl rfl)
theorem dX14_value_4 : decode cX14_value 4 = .ok (.aload_n 1, 1) := dk_43 (dk_at dksX14_value_0 4 rfl rfl)
theorem dX14_value_5 : decode cX14_value 5 = .ok (.invokevirtual 20, 3) := dk_182 0 20 (dk_at dksX14_value_0 5 rfl rfl)
theorem dX14_value_8 : decode cX14_value 8 = .ok (.istore_n 2, 1) := dk_61 (dk_at dksX14_value_0 8 rfl rfl)
theorem dX14_value_9 : decode cX14_value 9 = .ok (.aload_n 0, 1) := dk_42 (dk_at dksX14_value_0 9 rfl rfl)
theorem dX14_value_10 : decode cX14_value 10 = .ok (.getfield 17, 3) := dk_180 0 17 (dk_at dksX14_value_0 10 rfl rfl)
theorem dX14_value_13 : decode cX14_value 13 = .ok (.aload_n 1, 1) := dk_43 (dk_at dksX14_value_0 13 rfl rfl)
theorem dX14_value_14 : decode cX14_value 14 = .ok (.invokevirtual 20, 3) := dk_182 0 20 (dk_at dksX14_value_0 14 rfl rfl)
theorem dX14_value_17 : decode cX14_value 17 = .ok (.istore_n 3, 1) := dk_62 (dk_at dksX14_value_0 17 rfl rfl)
theorem dX14_value_18 : decode cX14_value 18 = .ok (.aload_n 0, 1) := dk_42 (dk_at dksX14_value_0 18 rfl rfl)
theorem dX14_value_19 : decode cX14_value 19 = .ok (.getfield 7, 3) := dk_180 0 7 (dk_at dksX14_value_0 19 rfl rfl)
theorem dX14_value_22 : decode cX14_value 22 = .ok (.tableswitch 228 37 62 #[152, 211, 228, 228, 228, 126, 118, 228, 122, 228, 130, 228, 228, 228, 228, 228, 228, 228, 228, 228, 228, 228, 228, 169, 183, 197], 118) := by decide +kernel
theorem dX14_value_140 : decode cX14_value 140 = .ok (.iload_n 2, 1) := dk_28 (dk_at dksX14_value_2 0 rfl rfl)
theorem dX14_value_141 : decode cX14_value 141 = .ok (.iload_n 3, 1) := dk_29 (dk_at dksX14_value_2 1 rfl rfl)
theorem dX14_value_142 : decode cX14_value 142 = .ok (.iadd, 1) := dk_96 (dk_at dksX14_value_2 2 rfl rfl)
theorem dX14_value_143 : decode cX14_value 143 = .ok (.ireturn, 1) := dk_172 (dk_at dksX14_value_2 3 rfl rfl)
theorem dX14_value_144 : decode cX14_value 144 = .ok (.iload_n 2, 1) := dk_28 (dk_at dksX14_value_2 4 rfl rfl)
theorem dX14_value_145 : decode cX14_value 145 = .ok (.iload_n 3, 1) := dk_29 (dk_at dksX14_value_2 5 rfl rfl)
theorem dX14_value_146 : decode cX14_value 146 = .ok (.isub, 1) := dk_100 (dk_at dksX14_value_2 6 rfl rfl)
theorem dX14_value_147 : decode cX14_value 147 = .ok (.ireturn, 1) := dk_172 (dk_at dksX14_value_2 7 rfl rfl)
theorem dX14_value_148 : decode cX14_value 148 = .ok (.iload_n 2, 1) := dk_28 (dk_at dksX14_value_2 8 rfl rfl)
theorem dX14_value_149 : decode cX14_value 149 = .ok (.iload_n 3, 1) := dk_29 (dk_at dksX14_value_2 9 rfl rfl)
theorem dX14_value_150 : decode cX14_value 150 = .ok (.imul, 1) := dk_104 (dk_at dksX14_value_2 10 rfl rfl)
theorem dX14_value_151 : decode cX14_value 151 = .ok (.ireturn, 1) := dk_172 (dk_at dksX14_value_2 11 rfl rfl)
theorem dX14_value_152 : decode cX14_value 152 = .ok (.iload_n 3, 1) := dk_29 (dk_at dksX14_value_2 12 rfl rfl)
theorem dX14_value_153 : decode cX14_value 153 = .ok (.ifCond .ne 7, 3) := dk_154 0 7 (dk_at dksX14_value_2 13 rfl rfl)
theorem dX14_value_156 : decode cX14_value 156 = .ok (.iconst 0, 1) := dk_3 (dk_at dksX14_value_2 16 rfl rfl)
theorem dX14_value_157 : decode cX14_value 157 = .ok (.goto 16, 3) := dk_167 0 16 (dk_at dksX14_value_2 17 rfl rfl)
theorem dX14_value_160 : decode cX14_value 160 = .ok (.iload_n 3, 1) := dk_29 (dk_at dksX14_value_2 20 rfl rfl)
theorem dX14_value_161 : decode cX14_value 161 = .ok (.iconst (-1), 1) := dk_2 (dk_at dksX14_value_2 21 rfl rfl)
theorem dX14_value_162 : decode cX14_value 162 = .ok (.if_icmp .ne 8, 3) := dk_160 0 8 (dk_at dksX14_value_3 0 rfl rfl)
theorem dX14_value_165 : decode cX14_value 165 = .ok (.iload_n 2, 1) := dk_28 (dk_at dksX14_value_3 3 rfl rfl)
theorem dX14_value_166 : decode cX14_value 166 = .ok (.ineg, 1) := dk_116 (dk_at dksX14_value_3 4 rfl rfl)
theorem dX14_value_167 : decode cX14_value 167 = .ok (.goto 6, 3) := dk_167 0 6 (dk_at dksX14_value_3 5 rfl rfl)
theorem dX14_value_170 : decode cX14_value 170 = .ok (.iload_n 2, 1) := dk_28 (dk_at dksX14_value_3 8 rfl rfl)
theorem dX14_value_171 : decode cX14_value 171 = .ok (.iload_n 3, 1) := dk_29 (dk_at dksX14_value_3 9 rfl rfl)
theorem dX14_value_172 : decode cX14_value 172 = .ok (.idiv, 1) := dk_108 (dk_at dksX14_value_3 10 rfl rfl)
theorem dX14_value_173 : decode cX14_value 173 = .ok (.ireturn, 1) := dk_172 (dk_at dksX14_value_3 11 rfl rfl)
theorem dX14_value_174 : decode cX14_value 174 = .ok (.iload_n 3, 1) := dk_29 (dk_at dksX14_value_3 12 rfl rfl)
theorem dX14_value_175 : decode cX14_value 175 = .ok (.ifCond .eq 8, 3) := dk_153 0 8 (dk_at dksX14_value_3 13 rfl rfl)
theorem dX14_value_178 : decode cX14_value 178 = .ok (.iload_n 3, 1) := dk_29 (dk_at dksX14_value_3 16 rfl rfl)
theorem dX14_value_179 : decode cX14_value 179 = .ok (.iconst (-1), 1) := dk_2 (dk_at dksX14_value_3 17 rfl rfl)
theorem dX14_value_180 : decode cX14_value 180 = .ok (.if_icmp .ne 7, 3) := dk_160 0 7 (dk_at dksX14_value_3 18 rfl rfl)
theorem dX14_value_183 : decode cX14_value 183 = .ok (.iconst 0, 1) := dk_3 (dk_at dksX14_value_3 21 rfl rfl)
theorem dX14_value_184 : decode cX14_value 184 = .ok (.goto 6, 3) := dk_167 0 6 (dk_at dksX14_value_4 0 rfl rfl)
theorem dX14_value_187 : decode cX14_value 187 = .ok (.iload_n 2, 1) := dk_28 (dk_at dksX14_value_4 3 rfl rfl)
theorem dX14_value_188 : decode cX14_value 188 = .ok (.iload_n 3, 1) := dk_29 (dk_at dksX14_value_4 4 rfl rfl)
theorem dX14_value_189 : decode cX14_value 189 = .ok (.irem, 1) := dk_112 (dk_at dksX14_value_4 5 rfl rfl)
theorem dX14_value_190 : decode cX14_value 190 = .ok (.ireturn, 1) := dk_172 (dk_at dksX14_value_4 6 rfl rfl)
theorem dX14_value_191 : decode cX14_value 191 = .ok (.iload_n 2, 1) := dk_28 (dk_at dksX14_value_4 7 rfl rfl)
theorem dX14_value_192 : decode cX14_value 192 = .ok (.iload_n 3, 1) := dk_29 (dk_at dksX14_value_4 8 rfl rfl)
theorem dX14_value_193 : decode cX14_value 193 = .ok (.if_icmp .ge 7, 3) := dk_162 0 7 (dk_at dksX14_value_4 9 rfl rfl)
theorem dX14_value_196 : decode cX14_value 196 = .ok (.iconst 1, 1) := dk_4 (dk_at dksX14_value_4 12 rfl rfl)
theorem dX14_value_197 : decode cX14_value 197 = .ok (.goto 4, 3) := dk_167 0 4 (dk_at dksX14_value_4 13 rfl rfl)
theorem dX14_value_200 : decode cX14_value 200 = .ok (.iconst 0, 1) := dk_3 (dk_at dksX14_value_4 16 rfl rfl)
theorem dX14_value_201 : decode cX14_value 201 = .ok (.invokestatic 24, 3) := dk_184 0 24 (dk_at dksX14_value_4 17 rfl rfl)
theorem dX14_value_204 : decode cX14_value 204 = .ok (.ireturn, 1) := dk_172 (dk_at dksX14_value_4 20 rfl rfl)
theorem dX14_value_205 : decode cX14_value 205 = .ok (.iload_n 2, 1) := dk_28 (dk_at dksX14_value_4 21 rfl rfl)
theorem dX14_value_206 : decode cX14_value 206 = .ok (.iload_n 3, 1) := dk_29 (dk_at dksX14_value_4 22 rfl rfl)
theorem dX14_value_207 : decode cX14_value 207 = .ok (.if_icmp .ne 7, 3) := dk_160 0 7 (dk_at dksX14_value_5 0 rfl rfl)
theorem dX14_value_210 : decode cX14_value 210 = .ok (.iconst 1, 1) := dk_4 (dk_at dksX14_value_5 3 rfl rfl)
theorem dX14_value_211 : decode cX14_value 211 = .ok (.goto 4, 3) := dk_167 0 4 (dk_at dksX14_value_5 4 rfl rfl)
theorem dX14_value_214 : decode cX14_value 214 = .ok (.iconst 0, 1) := dk_3 (dk_at dksX14_value_5 7 rfl rfl)
theorem dX14_value_215 : decode cX14_value 215 = .ok (.invokestatic 24, 3) := dk_184 0 24 (dk_at dksX14_value_5 8 rfl rfl)
theorem dX14_value_218 : decode cX14_value 218 = .ok (.ireturn, 1) := dk_172 (dk_at dksX14_value_5 11 rfl rfl)
theorem dX14_value_219 : decode cX14_value 219 = .ok (.iload_n 2, 1) := dk_28 (dk_at dksX14_value_5 12 rfl rfl)
theorem dX14_value_220 : decode cX14_value 220 = .ok (.iload_n 3, 1) := dk_29 (dk_at dksX14_value_5 13 rfl rfl)
theorem dX14_value_221 : decode cX14_value 221 = .ok (.if_icmp .le 7, 3) := dk_164 0 7 (dk_at dksX14_value_5 14 rfl rfl)
theorem dX14_value_224 : decode cX14_value 224 = .ok (.iconst 1, 1) := dk_4 (dk_at dksX14_value_5 17 rfl rfl)
theorem dX14_value_225 : decode cX14_value 225 = .ok (.goto 4, 3) := dk_167 0 4 (dk_at dksX14_value_5 18 rfl rfl)
theorem dX14_value_228 : decode cX14_value 228 = .ok (.iconst 0, 1) := dk_3 (dk_at dksX14_value_5 21 rfl rfl)
theorem dX14_value_229 : decode cX14_value 229 = .ok (.invokestatic 24, 3) := dk_184 0 24 (dk_at dksX14_value_6 0 rfl rfl)
theorem dX14_value_232 : decode cX14_value 232 = .ok (.ireturn, 1) := dk_172 (dk_at dksX14_value_6 3 rfl rfl)
theorem dX14_value_233 : decode cX14_value 233 = .ok (.iload_n 2, 1) := dk_28 (dk_at dksX14_value_6 4 rfl rfl)
theorem dX14_value_234 : decode cX14_value 234 = .ok (.ifCond .eq 11, 3) := dk_153 0 11 (dk_at dksX14_value_6 5 rfl rfl)
theorem dX14_value_237 : decode cX14_value 237 = .ok (.iload_n 3, 1) := dk_29 (dk_at dksX14_value_6 8 rfl rfl)
theorem dX14_value_238 : decode cX14_value 238 = .ok (.ifCond .eq 7, 3) := dk_153 0 7 (dk_at dksX14_value_6 9 rfl rfl)
theorem dX14_value_241 : decode cX14_value 241 = .ok (.iconst 1, 1) := dk_4 (dk_at dksX14_value_6 12 rfl rfl)
theorem dX14_value_242 : decode cX14_value 242 = .ok (.goto 4, 3) := dk_167 0 4 (dk_at dksX14_value_6 13 rfl rfl)
theorem dX14_value_245 : decode cX14_value 245 = .ok (.iconst 0, 1) := dk_3 (dk_at dksX14_value_6 16 rfl rfl)
theorem dX14_value_246 : decode cX14_value 246 = .ok (.invokestatic 24, 3) := dk_184 0 24 (dk_at dksX14_value_6 17 rfl rfl)
theorem dX14_value_249 : decode cX14_value 249 = .ok (.ireturn, 1) := dk_172 (dk_at dksX14_value_6 20 rfl rfl)
theorem dX14_value_250 : decode cX14_value 250 = .ok (.iload_n 2, 1) := dk_28 (dk_at dksX14_value_6 21 rfl rfl)
theorem dX14_value_251 : decode cX14_value 251 = .ok (.ifCond .ne 7, 3) := dk_154 0 7 (dk_at dksX14_value_7 0 rfl rfl)
theorem dX14_value_254 : decode cX14_value 254 = .ok (.iload_n 3, 1) := dk_29 (dk_at dksX14_value_7 3 rfl rfl)
theorem dX14_value_255 : decode cX14_value 255 = .ok (.ifCond .eq 7, 3) := dk_153 0 7 (dk_at dksX14_value_7 4 rfl rfl)
theorem dX14_value_258 : decode cX14_value 258 = .ok (.iconst 1, 1) := dk_4 (dk_at dksX14_value_7 7 rfl rfl)
theorem dX14_value_259 : decode cX14_value 259 = .ok (.goto 4, 3) := dk_167 0 4 (dk_at dksX14_value_7 8 rfl rfl)
theorem dX14_value_262 : decode cX14_value 262 = .ok (.iconst 0, 1) := dk_3 (dk_at dksX14_value_7 11 rfl rfl)
theorem dX14_value_263 : decode cX14_value 263 = .ok (.invokestatic 24, 3) := dk_184 0 24 (dk_at dksX14_value_7 12 rfl rfl)
theorem dX14_value_266 : decode cX14_value 266 = .ok (.ireturn, 1) := dk_172 (dk_at dksX14_value_7 15 rfl rfl)
abbrev cX14_is : ByteArray := prog_23_method_2_code
def yX14_is : MethodName := ⟨RX14, "is", "(Z)I"⟩
def dkwX14_is_0 : List UInt8 := [26, 153, 0, 7, 4, 167, 0, 4, 3, 172]
abbrev dktX14_is_0 : List UInt8 := dkwX14_is_0 ++ []
theorem dksX14_is_0 : cX14_is.data.toList.drop 0 = dktX14_is_0 := by decide +kernel
theorem dX14_is_0 : decode cX14_is 0 = .ok (.iload_n 0, 1) := dk_26 (dk_at dksX14_is_0 0 rfl rfl)
theorem dX14_is_1 : decode cX14_is 1 = .ok (.ifCond .eq 7, 3) := dk_153 0 7 (dk_at dksX14_is_0 1 rfl rfl)
theorem dX14_is_4 : decode cX14_is 4 = .ok (.iconst 1, 1) := dk_4 (dk_at dksX14_is_0 4 rfl rfl)
theorem dX14_is_5 : decode cX14_is 5 = .ok (.goto 4, 3) := dk_167 0 4 (dk_at dksX14_is_0 5 rfl rfl)
theorem dX14_is_8 : decode cX14_is 8 = .ok (.iconst 0, 1) := dk_3 (dk_at dksX14_is_0 8 rfl rfl)
theorem dX14_is_9 : decode cX14_is 9 = .ok (.ireturn, 1) := dk_172 (dk_at dksX14_is_0 9 rfl rfl)
theorem q112 : (Jvm.Cond.initialized "ChairOld$Pair") ∈ lw_all := lw_g (lw_at lw_m1 28 rfl) rfl
theorem q746 : (Jvm.Cond.instantiable "ChairOld$Pair" (3 : Nat)) ∈ lw_all := lw_g (lw_at lw_m3 182 rfl) rfl
theorem q748 : (Jvm.Cond.instanceMethod ({ cls := "ChairOld$Pair", name := "<init>", desc := "(ILChairOld$Node;LChairOld$Node;)V" } : Jvm.MethodName)) ∈ lw_all := lw_g (lw_at lw_m3 184 rfl) rfl
theorem q749 : (Jvm.Cond.code ({ cls := "ChairOld$Pair", name := "<init>", desc := "(ILChairOld$Node;LChairOld$Node;)V" } : Jvm.MethodName) prog_23_method_1_code (4 : Nat) (Option.none : Option Jvm.ClassFile.FieldType)) ∈ lw_all := lw_g (lw_at lw_m3 185 rfl) rfl
theorem q750 : (Jvm.Cond.methodLinkNest "ChairOld$Pair" (1 : Nat) ({ cls := "ChairOld$Node", name := "<init>", desc := "()V" } : Jvm.MethodName) "ChairOld") ∈ lw_tbl := lw_at lw_m3 186 rfl
theorem q751 : (Jvm.Cond.fieldLink "ChairOld$Pair" (7 : Nat) "ChairOld$Pair" "sign" "I") ∈ lw_all := lw_g (lw_at lw_m3 187 rfl) rfl
theorem q752 : (Jvm.Cond.fieldLink "ChairOld$Pair" (13 : Nat) "ChairOld$Pair" "left" "LChairOld$Node;") ∈ lw_all := lw_g (lw_at lw_m3 188 rfl) rfl
theorem q753 : (Jvm.Cond.fieldLink "ChairOld$Pair" (17 : Nat) "ChairOld$Pair" "right" "LChairOld$Node;") ∈ lw_all := lw_g (lw_at lw_m3 189 rfl) rfl
theorem q754 : (Jvm.Cond.laysFinal "ChairOld$Pair" "ChairOld$Pair" "sign" "I") ∈ lw_all := lw_g (lw_at lw_m3 190 rfl) rfl
theorem q755 : (Jvm.Cond.soleField "ChairOld$Pair" "sign") ∈ lw_all := lw_g (lw_at lw_m3 191 rfl) rfl
theorem q756 : (Jvm.Cond.laysFinal "ChairOld$Pair" "ChairOld$Pair" "left" "LChairOld$Node;") ∈ lw_all := lw_g (lw_at lw_m3 192 rfl) rfl
theorem q757 : (Jvm.Cond.soleField "ChairOld$Pair" "left") ∈ lw_all := lw_g (lw_at lw_m3 193 rfl) rfl
theorem q758 : (Jvm.Cond.laysFinal "ChairOld$Pair" "ChairOld$Pair" "right" "LChairOld$Node;") ∈ lw_all := lw_g (lw_at lw_m3 194 rfl) rfl
theorem q759 : (Jvm.Cond.soleField "ChairOld$Pair" "right") ∈ lw_all := lw_g (lw_at lw_m3 195 rfl) rfl
theorem q760 : (Jvm.Cond.superclass "ChairOld$Pair" "ChairOld$Node") ∈ lw_all := lw_g (lw_at lw_m3 196 rfl) rfl
theorem q792 : (Jvm.Cond.instanceMethod ({ cls := "ChairOld$Pair", name := "value", desc := "(LChairOld$Facts;)I" } : Jvm.MethodName)) ∈ lw_all := lw_g (lw_at lw_m3 228 rfl) rfl
theorem q793 : (Jvm.Cond.code ({ cls := "ChairOld$Pair", name := "value", desc := "(LChairOld$Facts;)I" } : Jvm.MethodName) prog_23_method_3_code (4 : Nat) (Option.some Jvm.ClassFile.FieldType.int)) ∈ lw_all := lw_g (lw_at lw_m3 229 rfl) rfl
theorem q794 : (Jvm.Cond.methodLink "ChairOld$Pair" (20 : Nat) ({ cls := "ChairOld$Node", name := "value", desc := "(LChairOld$Facts;)I" } : Jvm.MethodName)) ∈ lw_all := lw_g (lw_at lw_m3 230 rfl) rfl
theorem q798 : (Jvm.Cond.methodLink "ChairOld$Pair" (24 : Nat) ({ cls := "ChairOld$Pair", name := "is", desc := "(Z)I" } : Jvm.MethodName)) ∈ lw_all := lw_g (lw_at lw_m3 234 rfl) rfl
theorem q799 : (Jvm.Cond.static ({ cls := "ChairOld$Pair", name := "is", desc := "(Z)I" } : Jvm.MethodName)) ∈ lw_all := lw_g (lw_at lw_m3 235 rfl) rfl
theorem q800 : (Jvm.Cond.code ({ cls := "ChairOld$Pair", name := "is", desc := "(Z)I" } : Jvm.MethodName) prog_23_method_2_code (1 : Nat) (Option.some Jvm.ClassFile.FieldType.int)) ∈ lw_all := lw_g (lw_at lw_m3 236 rfl) rfl
theorem q803 : (Jvm.Cond.selects "ChairOld$Pair" ({ cls := "ChairOld$Node", name := "value", desc := "(LChairOld$Facts;)I" } : Jvm.MethodName) ({ cls := "ChairOld$Pair", name := "value", desc := "(LChairOld$Facts;)I" } : Jvm.MethodName)) ∈ lw_all := lw_g (lw_at lw_m3 239 rfl) rfl
theorem in_X14 : ∀ w ∈ wsX140, w ∈ lw_all := lw_in wsX140 [754, 756, 758] (by decide +kernel) (by decide +kernel)
/-! ChairOld$Paper -/
set_option maxRecDepth 100000
def RX15 : String := "ChairOld$Paper"
def TX15 : u_T := fun k => match k with
  | 0 => ("ChairOld$Paper", "from", "I", true)
  | 1 => ("ChairOld$Paper", "to", "I", true)
  | _ => ("ChairOld$Paper", "house", "I", true)
def tyX15 : Nat → FieldType := fun k => match k with
  | 0 => .int
  | 1 => .int
  | _ => .int
abbrev wsX150 : List Cond := u_ws RX15 TX15 3
theorem nmX15 : ∀ a, a < 3 → ∀ b, b < 3 → a ≠ b → (TX15 a).2.1 ≠ (TX15 b).2.1 := by decide +kernel
theorem tyX15_ok : ∀ k, k < 3 → parseFieldDescriptor (TX15 k).2.2.1 = some (tyX15 k) := by decide +kernel
abbrev cX15_init : ByteArray := prog_24_method_1_code
def yX15_init : MethodName := ⟨RX15, "<init>", "(III)V"⟩
def dkwX15_init_0 : List UInt8 := [42, 183, 0, 1, 42, 27, 181, 0, 7, 42, 28, 181, 0, 13, 42, 29, 181, 0, 16, 177]
abbrev dktX15_init_0 : List UInt8 := dkwX15_init_0 ++ []
theorem dksX15_init_0 : cX15_init.data.toList.drop 0 = dktX15_init_0 := by decide +kernel
theorem dX15_init_0 : decode cX15_init 0 = .ok (.aload_n 0, 1) := dk_42 (dk_at dksX15_init_0 0 rfl rfl)
theorem dX15_init_1 : decode cX15_init 1 = .ok (.invokespecial 1, 3) := dk_183 0 1 (dk_at dksX15_init_0 1 rfl rfl)
theorem dX15_init_4 : decode cX15_init 4 = .ok (.aload_n 0, 1) := dk_42 (dk_at dksX15_init_0 4 rfl rfl)
theorem dX15_init_5 : decode cX15_init 5 = .ok (.iload_n 1, 1) := dk_27 (dk_at dksX15_init_0 5 rfl rfl)
theorem dX15_init_6 : decode cX15_init 6 = .ok (.putfield 7, 3) := dk_181 0 7 (dk_at dksX15_init_0 6 rfl rfl)
theorem dX15_init_9 : decode cX15_init 9 = .ok (.aload_n 0, 1) := dk_42 (dk_at dksX15_init_0 9 rfl rfl)
theorem dX15_init_10 : decode cX15_init 10 = .ok (.iload_n 2, 1) := dk_28 (dk_at dksX15_init_0 10 rfl rfl)
theorem dX15_init_11 : decode cX15_init 11 = .ok (.putfield 13, 3) := dk_181 0 13 (dk_at dksX15_init_0 11 rfl rfl)
theorem dX15_init_14 : decode cX15_init 14 = .ok (.aload_n 0, 1) := dk_42 (dk_at dksX15_init_0 14 rfl rfl)
theorem dX15_init_15 : decode cX15_init 15 = .ok (.iload_n 3, 1) := dk_29 (dk_at dksX15_init_0 15 rfl rfl)
theorem dX15_init_16 : decode cX15_init 16 = .ok (.putfield 16, 3) := dk_181 0 16 (dk_at dksX15_init_0 16 rfl rfl)
theorem dX15_init_19 : decode cX15_init 19 = .ok (.return_, 1) := dk_177 (dk_at dksX15_init_0 19 rfl rfl)
abbrev cX15_meets : ByteArray := prog_24_method_3_code
def yX15_meets : MethodName := ⟨RX15, "meets", "(LChairOld$Paper;)Z"⟩
def dkwX15_meets_1 : List UInt8 := [167, 0, 4, 3, 172]
abbrev dktX15_meets_1 : List UInt8 := dkwX15_meets_1 ++ []
def dkwX15_meets_0 : List UInt8 := [42, 180, 0, 7, 43, 180, 0, 13, 163, 0, 18, 43, 180, 0, 7, 42, 180, 0, 13, 163, 0, 7, 4]
abbrev dktX15_meets_0 : List UInt8 := dkwX15_meets_0 ++ dktX15_meets_1
theorem dksX15_meets_0 : cX15_meets.data.toList.drop 0 = dktX15_meets_0 := by decide +kernel
theorem dksX15_meets_1 : cX15_meets.data.toList.drop 23 = dktX15_meets_1 := dk_seg dksX15_meets_0 23 rfl rfl
theorem dX15_meets_0 : decode cX15_meets 0 = .ok (.aload_n 0, 1) := dk_42 (dk_at dksX15_meets_0 0 rfl rfl)
theorem dX15_meets_1 : decode cX15_meets 1 = .ok (.getfield 7, 3) := dk_180 0 7 (dk_at dksX15_meets_0 1 rfl rfl)
theorem dX15_meets_4 : decode cX15_meets 4 = .ok (.aload_n 1, 1) := dk_43 (dk_at dksX15_meets_0 4 rfl rfl)
theorem dX15_meets_5 : decode cX15_meets 5 = .ok (.getfield 13, 3) := dk_180 0 13 (dk_at dksX15_meets_0 5 rfl rfl)
theorem dX15_meets_8 : decode cX15_meets 8 = .ok (.if_icmp .gt 18, 3) := dk_163 0 18 (dk_at dksX15_meets_0 8 rfl rfl)
theorem dX15_meets_11 : decode cX15_meets 11 = .ok (.aload_n 1, 1) := dk_43 (dk_at dksX15_meets_0 11 rfl rfl)
theorem dX15_meets_12 : decode cX15_meets 12 = .ok (.getfield 7, 3) := dk_180 0 7 (dk_at dksX15_meets_0 12 rfl rfl)
theorem dX15_meets_15 : decode cX15_meets 15 = .ok (.aload_n 0, 1) := dk_42 (dk_at dksX15_meets_0 15 rfl rfl)
theorem dX15_meets_16 : decode cX15_meets 16 = .ok (.getfield 13, 3) := dk_180 0 13 (dk_at dksX15_meets_0 16 rfl rfl)
theorem dX15_meets_19 : decode cX15_meets 19 = .ok (.if_icmp .gt 7, 3) := dk_163 0 7 (dk_at dksX15_meets_0 19 rfl rfl)
theorem dX15_meets_22 : decode cX15_meets 22 = .ok (.iconst 1, 1) := dk_4 (dk_at dksX15_meets_0 22 rfl rfl)
theorem dX15_meets_23 : decode cX15_meets 23 = .ok (.goto 4, 3) := dk_167 0 4 (dk_at dksX15_meets_1 0 rfl rfl)
theorem dX15_meets_26 : decode cX15_meets 26 = .ok (.iconst 0, 1) := dk_3 (dk_at dksX15_meets_1 3 rfl rfl)
theorem dX15_meets_27 : decode cX15_meets 27 = .ok (.ireturn, 1) := dk_172 (dk_at dksX15_meets_1 4 rfl rfl)
abbrev cX15_has : ByteArray := prog_24_method_2_code
def yX15_has : MethodName := ⟨RX15, "has", "(I)Z"⟩
def dkwX15_has_0 : List UInt8 := [42, 180, 0, 7, 27, 163, 0, 15, 27, 42, 180, 0, 13, 163, 0, 7, 4, 167, 0, 4, 3, 172]
abbrev dktX15_has_0 : List UInt8 := dkwX15_has_0 ++ []
theorem dksX15_has_0 : cX15_has.data.toList.drop 0 = dktX15_has_0 := by decide +kernel
theorem dX15_has_0 : decode cX15_has 0 = .ok (.aload_n 0, 1) := dk_42 (dk_at dksX15_has_0 0 rfl rfl)
theorem dX15_has_1 : decode cX15_has 1 = .ok (.getfield 7, 3) := dk_180 0 7 (dk_at dksX15_has_0 1 rfl rfl)
theorem dX15_has_4 : decode cX15_has 4 = .ok (.iload_n 1, 1) := dk_27 (dk_at dksX15_has_0 4 rfl rfl)
theorem dX15_has_5 : decode cX15_has 5 = .ok (.if_icmp .gt 15, 3) := dk_163 0 15 (dk_at dksX15_has_0 5 rfl rfl)
theorem dX15_has_8 : decode cX15_has 8 = .ok (.iload_n 1, 1) := dk_27 (dk_at dksX15_has_0 8 rfl rfl)
theorem dX15_has_9 : decode cX15_has 9 = .ok (.aload_n 0, 1) := dk_42 (dk_at dksX15_has_0 9 rfl rfl)
theorem dX15_has_10 : decode cX15_has 10 = .ok (.getfield 13, 3) := dk_180 0 13 (dk_at dksX15_has_0 10 rfl rfl)
theorem dX15_has_13 : decode cX15_has 13 = .ok (.if_icmp .gt 7, 3) := dk_163 0 7 (dk_at dksX15_has_0 13 rfl rfl)
theorem dX15_has_16 : decode cX15_has 16 = .ok (.iconst 1, 1) := dk_4 (dk_at dksX15_has_0 16 rfl rfl)
theorem dX15_has_17 : decode cX15_has 17 = .ok (.goto 4, 3) := dk_167 0 4 (dk_at dksX15_has_0 17 rfl rfl)
theorem dX15_has_20 : decode cX15_has 20 = .ok (.iconst 0, 1) := dk_3 (dk_at dksX15_has_0 20 rfl rfl)
theorem dX15_has_21 : decode cX15_has 21 = .ok (.ireturn, 1) := dk_172 (dk_at dksX15_has_0 21 rfl rfl)
theorem q114 : (Jvm.Cond.initialized "ChairOld$Paper") ∈ lw_all := lw_g (lw_at lw_m1 30 rfl) rfl
theorem q953 : (Jvm.Cond.instantiable "ChairOld$Paper" (3 : Nat)) ∈ lw_all := lw_g (lw_at lw_m4 149 rfl) rfl
theorem q955 : (Jvm.Cond.instanceMethod ({ cls := "ChairOld$Paper", name := "<init>", desc := "(III)V" } : Jvm.MethodName)) ∈ lw_all := lw_g (lw_at lw_m4 151 rfl) rfl
theorem q956 : (Jvm.Cond.code ({ cls := "ChairOld$Paper", name := "<init>", desc := "(III)V" } : Jvm.MethodName) prog_24_method_1_code (4 : Nat) (Option.none : Option Jvm.ClassFile.FieldType)) ∈ lw_all := lw_g (lw_at lw_m4 152 rfl) rfl
theorem q957 : (Jvm.Cond.methodLink "ChairOld$Paper" (1 : Nat) ({ cls := "java/lang/Object", name := "<init>", desc := "()V" } : Jvm.MethodName)) ∈ lw_all := lw_g (lw_at lw_m4 153 rfl) rfl
theorem q958 : (Jvm.Cond.fieldLink "ChairOld$Paper" (7 : Nat) "ChairOld$Paper" "from" "I") ∈ lw_all := lw_g (lw_at lw_m4 154 rfl) rfl
theorem q960 : (Jvm.Cond.fieldLink "ChairOld$Paper" (13 : Nat) "ChairOld$Paper" "to" "I") ∈ lw_all := lw_g (lw_at lw_m4 156 rfl) rfl
theorem q962 : (Jvm.Cond.fieldLink "ChairOld$Paper" (16 : Nat) "ChairOld$Paper" "house" "I") ∈ lw_all := lw_g (lw_at lw_m4 158 rfl) rfl
theorem q964 : (Jvm.Cond.laysFinal "ChairOld$Paper" "ChairOld$Paper" "from" "I") ∈ lw_all := lw_g (lw_at lw_m4 160 rfl) rfl
theorem q965 : (Jvm.Cond.soleField "ChairOld$Paper" "from") ∈ lw_all := lw_g (lw_at lw_m4 161 rfl) rfl
theorem q966 : (Jvm.Cond.laysFinal "ChairOld$Paper" "ChairOld$Paper" "to" "I") ∈ lw_all := lw_g (lw_at lw_m4 162 rfl) rfl
theorem q967 : (Jvm.Cond.soleField "ChairOld$Paper" "to") ∈ lw_all := lw_g (lw_at lw_m4 163 rfl) rfl
theorem q968 : (Jvm.Cond.laysFinal "ChairOld$Paper" "ChairOld$Paper" "house" "I") ∈ lw_all := lw_g (lw_at lw_m4 164 rfl) rfl
theorem q969 : (Jvm.Cond.soleField "ChairOld$Paper" "house") ∈ lw_all := lw_g (lw_at lw_m4 165 rfl) rfl
theorem q970 : (Jvm.Cond.superclass "ChairOld$Paper" "java/lang/Object") ∈ lw_all := lw_g (lw_at lw_m4 166 rfl) rfl
theorem q980 : (Jvm.Cond.instanceMethod ({ cls := "ChairOld$Paper", name := "meets", desc := "(LChairOld$Paper;)Z" } : Jvm.MethodName)) ∈ lw_all := lw_g (lw_at lw_m4 176 rfl) rfl
theorem q981 : (Jvm.Cond.selects "ChairOld$Paper" ({ cls := "ChairOld$Paper", name := "meets", desc := "(LChairOld$Paper;)Z" } : Jvm.MethodName) ({ cls := "ChairOld$Paper", name := "meets", desc := "(LChairOld$Paper;)Z" } : Jvm.MethodName)) ∈ lw_all := lw_g (lw_at lw_m4 177 rfl) rfl
theorem q982 : (Jvm.Cond.code ({ cls := "ChairOld$Paper", name := "meets", desc := "(LChairOld$Paper;)Z" } : Jvm.MethodName) prog_24_method_3_code (2 : Nat) (Option.some Jvm.ClassFile.FieldType.boolean)) ∈ lw_all := lw_g (lw_at lw_m4 178 rfl) rfl
theorem q992 : (Jvm.Cond.instanceMethod ({ cls := "ChairOld$Paper", name := "has", desc := "(I)Z" } : Jvm.MethodName)) ∈ lw_all := lw_g (lw_at lw_m4 188 rfl) rfl
theorem q993 : (Jvm.Cond.selects "ChairOld$Paper" ({ cls := "ChairOld$Paper", name := "has", desc := "(I)Z" } : Jvm.MethodName) ({ cls := "ChairOld$Paper", name := "has", desc := "(I)Z" } : Jvm.MethodName)) ∈ lw_all := lw_g (lw_at lw_m4 189 rfl) rfl
theorem q994 : (Jvm.Cond.code ({ cls := "ChairOld$Paper", name := "has", desc := "(I)Z" } : Jvm.MethodName) prog_24_method_2_code (2 : Nat) (Option.some Jvm.ClassFile.FieldType.boolean)) ∈ lw_all := lw_g (lw_at lw_m4 190 rfl) rfl
theorem in_X15 : ∀ w ∈ wsX150, w ∈ lw_all := lw_in wsX150 [964, 966, 968] (by decide +kernel) (by decide +kernel)
/-! ChairOld$Held -/
set_option maxRecDepth 100000
def RX16 : String := "ChairOld$Held"
abbrev cX16_init : ByteArray := prog_12_method_1_code
def yX16_init : MethodName := ⟨RX16, "<init>", "()V"⟩
theorem dX16_init_0 : decode cX16_init 0 = .ok (.aload_n 0, 1) := by decide +kernel
theorem dX16_init_1 : decode cX16_init 1 = .ok (.invokespecial 1, 3) := by decide +kernel
theorem dX16_init_4 : decode cX16_init 4 = .ok (.return_, 1) := by decide +kernel
theorem q115 : (Jvm.Cond.initialized "ChairOld$Held") ∈ lw_all := lw_g (lw_at lw_m1 31 rfl) rfl
theorem q1029 : (Jvm.Cond.instanceMethod ({ cls := "ChairOld$Held", name := "<init>", desc := "()V" } : Jvm.MethodName)) ∈ lw_all := lw_g (lw_at lw_m4 225 rfl) rfl
theorem q1030 : (Jvm.Cond.code ({ cls := "ChairOld$Held", name := "<init>", desc := "()V" } : Jvm.MethodName) prog_12_method_1_code (1 : Nat) (Option.none : Option Jvm.ClassFile.FieldType)) ∈ lw_all := lw_g (lw_at lw_m4 226 rfl) rfl
theorem q1031 : (Jvm.Cond.methodLink "ChairOld$Held" (1 : Nat) ({ cls := "java/lang/Object", name := "<init>", desc := "()V" } : Jvm.MethodName)) ∈ lw_all := lw_g (lw_at lw_m4 227 rfl) rfl
/-! ChairOld$Plain -/
set_option maxRecDepth 100000
def RX17 : String := "ChairOld$Plain"
def TX17 : u_T := fun k => match k with
  | 0 => ("ChairOld$Plain", "number", "I", true)
  | _ => ("ChairOld$Plain", "this$0", "LChairOld;", true)
def tyX17 : Nat → FieldType := fun k => match k with
  | 0 => .int
  | _ => .object "ChairOld"
abbrev wsX170 : List Cond := u_ws RX17 TX17 2
theorem nmX17 : ∀ a, a < 2 → ∀ b, b < 2 → a ≠ b → (TX17 a).2.1 ≠ (TX17 b).2.1 := by decide +kernel
theorem tyX17_ok : ∀ k, k < 2 → parseFieldDescriptor (TX17 k).2.2.1 = some (tyX17 k) := by decide +kernel
abbrev cX17_init : ByteArray := prog_26_method_1_code
def yX17_init : MethodName := ⟨RX17, "<init>", "(LChairOld;I)V"⟩
def dkwX17_init_0 : List UInt8 := [42, 43, 181, 0, 3, 42, 183, 0, 9, 42, 28, 181, 0, 15, 177]
abbrev dktX17_init_0 : List UInt8 := dkwX17_init_0 ++ []
theorem dksX17_init_0 : cX17_init.data.toList.drop 0 = dktX17_init_0 := by decide +kernel
theorem dX17_init_0 : decode cX17_init 0 = .ok (.aload_n 0, 1) := dk_42 (dk_at dksX17_init_0 0 rfl rfl)
theorem dX17_init_1 : decode cX17_init 1 = .ok (.aload_n 1, 1) := dk_43 (dk_at dksX17_init_0 1 rfl rfl)
theorem dX17_init_2 : decode cX17_init 2 = .ok (.putfield 3, 3) := dk_181 0 3 (dk_at dksX17_init_0 2 rfl rfl)
theorem dX17_init_5 : decode cX17_init 5 = .ok (.aload_n 0, 1) := dk_42 (dk_at dksX17_init_0 5 rfl rfl)
theorem dX17_init_6 : decode cX17_init 6 = .ok (.invokespecial 9, 3) := dk_183 0 9 (dk_at dksX17_init_0 6 rfl rfl)
theorem dX17_init_9 : decode cX17_init 9 = .ok (.aload_n 0, 1) := dk_42 (dk_at dksX17_init_0 9 rfl rfl)
theorem dX17_init_10 : decode cX17_init 10 = .ok (.iload_n 2, 1) := dk_28 (dk_at dksX17_init_0 10 rfl rfl)
theorem dX17_init_11 : decode cX17_init 11 = .ok (.putfield 15, 3) := dk_181 0 15 (dk_at dksX17_init_0 11 rfl rfl)
theorem dX17_init_14 : decode cX17_init 14 = .ok (.return_, 1) := dk_177 (dk_at dksX17_init_0 14 rfl rfl)
abbrev cX17_ages : ByteArray := prog_26_method_5_code
def yX17_ages : MethodName := ⟨RX17, "ages", "(I)I"⟩
def dkwX17_ages_0 : List UInt8 := [42, 180, 0, 3, 4, 182, 0, 23, 27, 42, 180, 0, 15, 96, 172]
abbrev dktX17_ages_0 : List UInt8 := dkwX17_ages_0 ++ []
theorem dksX17_ages_0 : cX17_ages.data.toList.drop 0 = dktX17_ages_0 := by decide +kernel
theorem dX17_ages_0 : decode cX17_ages 0 = .ok (.aload_n 0, 1) := dk_42 (dk_at dksX17_ages_0 0 rfl rfl)
theorem dX17_ages_1 : decode cX17_ages 1 = .ok (.getfield 3, 3) := dk_180 0 3 (dk_at dksX17_ages_0 1 rfl rfl)
theorem dX17_ages_4 : decode cX17_ages 4 = .ok (.iconst 1, 1) := dk_4 (dk_at dksX17_ages_0 4 rfl rfl)
theorem dX17_ages_5 : decode cX17_ages 5 = .ok (.invokevirtual 23, 3) := dk_182 0 23 (dk_at dksX17_ages_0 5 rfl rfl)
theorem dX17_ages_8 : decode cX17_ages 8 = .ok (.iload_n 1, 1) := dk_27 (dk_at dksX17_ages_0 8 rfl rfl)
theorem dX17_ages_9 : decode cX17_ages 9 = .ok (.aload_n 0, 1) := dk_42 (dk_at dksX17_ages_0 9 rfl rfl)
theorem dX17_ages_10 : decode cX17_ages 10 = .ok (.getfield 15, 3) := dk_180 0 15 (dk_at dksX17_ages_0 10 rfl rfl)
theorem dX17_ages_13 : decode cX17_ages 13 = .ok (.iadd, 1) := dk_96 (dk_at dksX17_ages_0 13 rfl rfl)
theorem dX17_ages_14 : decode cX17_ages 14 = .ok (.ireturn, 1) := dk_172 (dk_at dksX17_ages_0 14 rfl rfl)
abbrev cX17_tells : ByteArray := prog_26_method_8_code
def yX17_tells : MethodName := ⟨RX17, "tells", "(I)I"⟩
def dkwX17_tells_0 : List UInt8 := [42, 180, 0, 3, 5, 182, 0, 23, 42, 27, 182, 0, 31, 61, 28, 42, 4, 182, 0, 34, 100, 172]
abbrev dktX17_tells_0 : List UInt8 := dkwX17_tells_0 ++ []
theorem dksX17_tells_0 : cX17_tells.data.toList.drop 0 = dktX17_tells_0 := by decide +kernel
theorem dX17_tells_0 : decode cX17_tells 0 = .ok (.aload_n 0, 1) := dk_42 (dk_at dksX17_tells_0 0 rfl rfl)
theorem dX17_tells_1 : decode cX17_tells 1 = .ok (.getfield 3, 3) := dk_180 0 3 (dk_at dksX17_tells_0 1 rfl rfl)
theorem dX17_tells_4 : decode cX17_tells 4 = .ok (.iconst 2, 1) := dk_5 (dk_at dksX17_tells_0 4 rfl rfl)
theorem dX17_tells_5 : decode cX17_tells 5 = .ok (.invokevirtual 23, 3) := dk_182 0 23 (dk_at dksX17_tells_0 5 rfl rfl)
theorem dX17_tells_8 : decode cX17_tells 8 = .ok (.aload_n 0, 1) := dk_42 (dk_at dksX17_tells_0 8 rfl rfl)
theorem dX17_tells_9 : decode cX17_tells 9 = .ok (.iload_n 1, 1) := dk_27 (dk_at dksX17_tells_0 9 rfl rfl)
theorem dX17_tells_10 : decode cX17_tells 10 = .ok (.invokevirtual 31, 3) := dk_182 0 31 (dk_at dksX17_tells_0 10 rfl rfl)
theorem dX17_tells_13 : decode cX17_tells 13 = .ok (.istore_n 2, 1) := dk_61 (dk_at dksX17_tells_0 13 rfl rfl)
theorem dX17_tells_14 : decode cX17_tells 14 = .ok (.iload_n 2, 1) := dk_28 (dk_at dksX17_tells_0 14 rfl rfl)
theorem dX17_tells_15 : decode cX17_tells 15 = .ok (.aload_n 0, 1) := dk_42 (dk_at dksX17_tells_0 15 rfl rfl)
theorem dX17_tells_16 : decode cX17_tells 16 = .ok (.iconst 1, 1) := dk_4 (dk_at dksX17_tells_0 16 rfl rfl)
theorem dX17_tells_17 : decode cX17_tells 17 = .ok (.invokevirtual 34, 3) := dk_182 0 34 (dk_at dksX17_tells_0 17 rfl rfl)
theorem dX17_tells_20 : decode cX17_tells 20 = .ok (.isub, 1) := dk_100 (dk_at dksX17_tells_0 20 rfl rfl)
theorem dX17_tells_21 : decode cX17_tells 21 = .ok (.ireturn, 1) := dk_172 (dk_at dksX17_tells_0 21 rfl rfl)
abbrev cX17_shows : ByteArray := prog_26_method_7_code
def yX17_shows : MethodName := ⟨RX17, "shows", "(I)I"⟩
def dkwX17_shows_0 : List UInt8 := [42, 180, 0, 3, 16, 11, 182, 0, 23, 27, 42, 180, 0, 15, 130, 172]
abbrev dktX17_shows_0 : List UInt8 := dkwX17_shows_0 ++ []
theorem dksX17_shows_0 : cX17_shows.data.toList.drop 0 = dktX17_shows_0 := by decide +kernel
theorem dX17_shows_0 : decode cX17_shows 0 = .ok (.aload_n 0, 1) := dk_42 (dk_at dksX17_shows_0 0 rfl rfl)
theorem dX17_shows_1 : decode cX17_shows 1 = .ok (.getfield 3, 3) := dk_180 0 3 (dk_at dksX17_shows_0 1 rfl rfl)
theorem dX17_shows_4 : decode cX17_shows 4 = .ok (.bipush 11, 2) := dk_16 11 (dk_at dksX17_shows_0 4 rfl rfl)
theorem dX17_shows_6 : decode cX17_shows 6 = .ok (.invokevirtual 23, 3) := dk_182 0 23 (dk_at dksX17_shows_0 6 rfl rfl)
theorem dX17_shows_9 : decode cX17_shows 9 = .ok (.iload_n 1, 1) := dk_27 (dk_at dksX17_shows_0 9 rfl rfl)
theorem dX17_shows_10 : decode cX17_shows 10 = .ok (.aload_n 0, 1) := dk_42 (dk_at dksX17_shows_0 10 rfl rfl)
theorem dX17_shows_11 : decode cX17_shows 11 = .ok (.getfield 15, 3) := dk_180 0 15 (dk_at dksX17_shows_0 11 rfl rfl)
theorem dX17_shows_14 : decode cX17_shows 14 = .ok (.ixor, 1) := dk_130 (dk_at dksX17_shows_0 14 rfl rfl)
theorem dX17_shows_15 : decode cX17_shows 15 = .ok (.ireturn, 1) := dk_172 (dk_at dksX17_shows_0 15 rfl rfl)
abbrev cX17_joins : ByteArray := prog_26_method_6_code
def yX17_joins : MethodName := ⟨RX17, "joins", "(I)I"⟩
def dkwX17_joins_0 : List UInt8 := [42, 180, 0, 3, 16, 10, 182, 0, 23, 42, 27, 182, 0, 27, 5, 104, 172]
abbrev dktX17_joins_0 : List UInt8 := dkwX17_joins_0 ++ []
theorem dksX17_joins_0 : cX17_joins.data.toList.drop 0 = dktX17_joins_0 := by decide +kernel
theorem dX17_joins_0 : decode cX17_joins 0 = .ok (.aload_n 0, 1) := dk_42 (dk_at dksX17_joins_0 0 rfl rfl)
theorem dX17_joins_1 : decode cX17_joins 1 = .ok (.getfield 3, 3) := dk_180 0 3 (dk_at dksX17_joins_0 1 rfl rfl)
theorem dX17_joins_4 : decode cX17_joins 4 = .ok (.bipush 10, 2) := dk_16 10 (dk_at dksX17_joins_0 4 rfl rfl)
theorem dX17_joins_6 : decode cX17_joins 6 = .ok (.invokevirtual 23, 3) := dk_182 0 23 (dk_at dksX17_joins_0 6 rfl rfl)
theorem dX17_joins_9 : decode cX17_joins 9 = .ok (.aload_n 0, 1) := dk_42 (dk_at dksX17_joins_0 9 rfl rfl)
theorem dX17_joins_10 : decode cX17_joins 10 = .ok (.iload_n 1, 1) := dk_27 (dk_at dksX17_joins_0 10 rfl rfl)
theorem dX17_joins_11 : decode cX17_joins 11 = .ok (.invokevirtual 27, 3) := dk_182 0 27 (dk_at dksX17_joins_0 11 rfl rfl)
theorem dX17_joins_14 : decode cX17_joins 14 = .ok (.iconst 2, 1) := dk_5 (dk_at dksX17_joins_0 14 rfl rfl)
theorem dX17_joins_15 : decode cX17_joins 15 = .ok (.imul, 1) := dk_104 (dk_at dksX17_joins_0 15 rfl rfl)
theorem dX17_joins_16 : decode cX17_joins 16 = .ok (.ireturn, 1) := dk_172 (dk_at dksX17_joins_0 16 rfl rfl)
abbrev cX17_isUnder : ByteArray := prog_26_method_4_code
def yX17_isUnder : MethodName := ⟨RX17, "isUnder", "(I)Z"⟩
def dkwX17_isUnder_0 : List UInt8 := [27, 153, 0, 11, 27, 42, 182, 0, 19, 160, 0, 7, 4, 167, 0, 4, 3, 172]
abbrev dktX17_isUnder_0 : List UInt8 := dkwX17_isUnder_0 ++ []
theorem dksX17_isUnder_0 : cX17_isUnder.data.toList.drop 0 = dktX17_isUnder_0 := by decide +kernel
theorem dX17_isUnder_0 : decode cX17_isUnder 0 = .ok (.iload_n 1, 1) := dk_27 (dk_at dksX17_isUnder_0 0 rfl rfl)
theorem dX17_isUnder_1 : decode cX17_isUnder 1 = .ok (.ifCond .eq 11, 3) := dk_153 0 11 (dk_at dksX17_isUnder_0 1 rfl rfl)
theorem dX17_isUnder_4 : decode cX17_isUnder 4 = .ok (.iload_n 1, 1) := dk_27 (dk_at dksX17_isUnder_0 4 rfl rfl)
theorem dX17_isUnder_5 : decode cX17_isUnder 5 = .ok (.aload_n 0, 1) := dk_42 (dk_at dksX17_isUnder_0 5 rfl rfl)
theorem dX17_isUnder_6 : decode cX17_isUnder 6 = .ok (.invokevirtual 19, 3) := dk_182 0 19 (dk_at dksX17_isUnder_0 6 rfl rfl)
theorem dX17_isUnder_9 : decode cX17_isUnder 9 = .ok (.if_icmp .ne 7, 3) := dk_160 0 7 (dk_at dksX17_isUnder_0 9 rfl rfl)
theorem dX17_isUnder_12 : decode cX17_isUnder 12 = .ok (.iconst 1, 1) := dk_4 (dk_at dksX17_isUnder_0 12 rfl rfl)
theorem dX17_isUnder_13 : decode cX17_isUnder 13 = .ok (.goto 4, 3) := dk_167 0 4 (dk_at dksX17_isUnder_0 13 rfl rfl)
theorem dX17_isUnder_16 : decode cX17_isUnder 16 = .ok (.iconst 0, 1) := dk_3 (dk_at dksX17_isUnder_0 16 rfl rfl)
theorem dX17_isUnder_17 : decode cX17_isUnder 17 = .ok (.ireturn, 1) := dk_172 (dk_at dksX17_isUnder_0 17 rfl rfl)
abbrev cX17_kind : ByteArray := prog_26_method_3_code
def yX17_kind : MethodName := ⟨RX17, "kind", "()I"⟩
theorem dX17_kind_0 : decode cX17_kind 0 = .ok (.iconst 0, 1) := by decide +kernel
theorem dX17_kind_1 : decode cX17_kind 1 = .ok (.ireturn, 1) := by decide +kernel
theorem q116 : (Jvm.Cond.initialized "ChairOld$Plain") ∈ lw_all := lw_g (lw_at lw_m1 32 rfl) rfl
theorem q1026 : (Jvm.Cond.instanceMethod ({ cls := "ChairOld$Plain", name := "<init>", desc := "(LChairOld;I)V" } : Jvm.MethodName)) ∈ lw_all := lw_g (lw_at lw_m4 222 rfl) rfl
theorem q1027 : (Jvm.Cond.code ({ cls := "ChairOld$Plain", name := "<init>", desc := "(LChairOld;I)V" } : Jvm.MethodName) prog_26_method_1_code (3 : Nat) (Option.none : Option Jvm.ClassFile.FieldType)) ∈ lw_all := lw_g (lw_at lw_m4 223 rfl) rfl
theorem q1028 : (Jvm.Cond.methodLinkNest "ChairOld$Plain" (9 : Nat) ({ cls := "ChairOld$Held", name := "<init>", desc := "()V" } : Jvm.MethodName) "ChairOld") ∈ lw_tbl := lw_at lw_m4 224 rfl
theorem q1033 : (Jvm.Cond.fieldLink "ChairOld$Plain" (15 : Nat) "ChairOld$Plain" "number" "I") ∈ lw_all := lw_g (lw_at lw_m4 229 rfl) rfl
theorem q1034 : (Jvm.Cond.fieldLink "ChairOld$Plain" (3 : Nat) "ChairOld$Plain" "this$0" "LChairOld;") ∈ lw_all := lw_g (lw_at lw_m4 230 rfl) rfl
theorem q1038 : (Jvm.Cond.soleField "ChairOld$Plain" "number") ∈ lw_all := lw_g (lw_at lw_m4 234 rfl) rfl
theorem q1040 : (Jvm.Cond.soleField "ChairOld$Plain" "this$0") ∈ lw_all := lw_g (lw_at lw_m4 236 rfl) rfl
theorem q1120 : (Jvm.Cond.instantiable "ChairOld$Plain" (2 : Nat)) ∈ lw_all := lw_g (lw_at lw_m5 76 rfl) rfl
theorem q1122 : (Jvm.Cond.laysFinal "ChairOld$Plain" "ChairOld$Plain" "number" "I") ∈ lw_all := lw_g (lw_at lw_m5 78 rfl) rfl
theorem q1123 : (Jvm.Cond.laysFinal "ChairOld$Plain" "ChairOld$Plain" "this$0" "LChairOld;") ∈ lw_all := lw_g (lw_at lw_m5 79 rfl) rfl
theorem q1124 : (Jvm.Cond.superclass "ChairOld$Plain" "ChairOld$Held") ∈ lw_all := lw_g (lw_at lw_m5 80 rfl) rfl
theorem q1140 : (Jvm.Cond.instanceMethod ({ cls := "ChairOld$Plain", name := "ages", desc := "(I)I" } : Jvm.MethodName)) ∈ lw_all := lw_g (lw_at lw_m5 96 rfl) rfl
theorem q1141 : (Jvm.Cond.publicMethod ({ cls := "ChairOld$Plain", name := "ages", desc := "(I)I" } : Jvm.MethodName)) ∈ lw_tbl := lw_at lw_m5 97 rfl
theorem q1142 : (Jvm.Cond.code ({ cls := "ChairOld$Plain", name := "ages", desc := "(I)I" } : Jvm.MethodName) prog_26_method_5_code (2 : Nat) (Option.some Jvm.ClassFile.FieldType.int)) ∈ lw_all := lw_g (lw_at lw_m5 98 rfl) rfl
theorem q1143 : (Jvm.Cond.methodLinkNest "ChairOld$Plain" (23 : Nat) ({ cls := "ChairOld", name := "ran", desc := "(I)V" } : Jvm.MethodName) "ChairOld") ∈ lw_tbl := lw_at lw_m5 99 rfl
theorem q1172 : (Jvm.Cond.castable "ChairOld$Plain" "ChairOld$Ages") ∈ lw_tbl := lw_at lw_m5 128 rfl
theorem q1173 : (Jvm.Cond.selects "ChairOld$Plain" ({ cls := "ChairOld$Ages", name := "ages", desc := "(I)I" } : Jvm.MethodName) ({ cls := "ChairOld$Plain", name := "ages", desc := "(I)I" } : Jvm.MethodName)) ∈ lw_all := lw_g (lw_at lw_m5 129 rfl) rfl
theorem q1174 : (Jvm.Cond.unhidden "ChairOld$Plain" "ages" "(I)I") ∈ lw_tbl := lw_at lw_m5 130 rfl
theorem q1185 : (Jvm.Cond.instanceMethod ({ cls := "ChairOld$Plain", name := "tells", desc := "(I)I" } : Jvm.MethodName)) ∈ lw_all := lw_g (lw_at lw_m5 141 rfl) rfl
theorem q1186 : (Jvm.Cond.publicMethod ({ cls := "ChairOld$Plain", name := "tells", desc := "(I)I" } : Jvm.MethodName)) ∈ lw_tbl := lw_at lw_m5 142 rfl
theorem q1187 : (Jvm.Cond.code ({ cls := "ChairOld$Plain", name := "tells", desc := "(I)I" } : Jvm.MethodName) prog_26_method_8_code (3 : Nat) (Option.some Jvm.ClassFile.FieldType.int)) ∈ lw_all := lw_g (lw_at lw_m5 143 rfl) rfl
theorem q1188 : (Jvm.Cond.methodLink "ChairOld$Plain" (31 : Nat) ({ cls := "ChairOld$Plain", name := "joins", desc := "(I)I" } : Jvm.MethodName)) ∈ lw_all := lw_g (lw_at lw_m5 144 rfl) rfl
theorem q1189 : (Jvm.Cond.instanceMethod ({ cls := "ChairOld$Plain", name := "joins", desc := "(I)I" } : Jvm.MethodName)) ∈ lw_all := lw_g (lw_at lw_m5 145 rfl) rfl
theorem q1190 : (Jvm.Cond.selects "ChairOld$Plain" ({ cls := "ChairOld$Plain", name := "joins", desc := "(I)I" } : Jvm.MethodName) ({ cls := "ChairOld$Plain", name := "joins", desc := "(I)I" } : Jvm.MethodName)) ∈ lw_all := lw_g (lw_at lw_m5 146 rfl) rfl
theorem q1191 : (Jvm.Cond.sameMethod "ChairOld$Plain" "ChairOld$Plain" "joins" "(I)I") ∈ lw_all := lw_g (lw_at lw_m5 147 rfl) rfl
theorem q1208 : (Jvm.Cond.declares ({ cls := "ChairOld$Plain", name := "joins", desc := "(I)I" } : Jvm.MethodName)) ∈ lw_tbl := lw_at lw_m5 164 rfl
theorem q1218 : (Jvm.Cond.declares ({ cls := "ChairOld$Plain", name := "shows", desc := "(I)I" } : Jvm.MethodName)) ∈ lw_tbl := lw_at lw_m5 174 rfl
theorem q1219 : (Jvm.Cond.instanceMethod ({ cls := "ChairOld$Plain", name := "shows", desc := "(I)I" } : Jvm.MethodName)) ∈ lw_all := lw_g (lw_at lw_m5 175 rfl) rfl
theorem q1220 : (Jvm.Cond.code ({ cls := "ChairOld$Plain", name := "shows", desc := "(I)I" } : Jvm.MethodName) prog_26_method_7_code (2 : Nat) (Option.some Jvm.ClassFile.FieldType.int)) ∈ lw_all := lw_g (lw_at lw_m5 176 rfl) rfl
theorem q1230 : (Jvm.Cond.code ({ cls := "ChairOld$Plain", name := "joins", desc := "(I)I" } : Jvm.MethodName) prog_26_method_6_code (2 : Nat) (Option.some Jvm.ClassFile.FieldType.int)) ∈ lw_all := lw_g (lw_at lw_m5 186 rfl) rfl
theorem q1231 : (Jvm.Cond.methodLink "ChairOld$Plain" (27 : Nat) ({ cls := "ChairOld$Plain", name := "ages", desc := "(I)I" } : Jvm.MethodName)) ∈ lw_all := lw_g (lw_at lw_m5 187 rfl) rfl
theorem q1232 : (Jvm.Cond.methodLink "ChairOld$Plain" (34 : Nat) ({ cls := "ChairOld$Plain", name := "shows", desc := "(I)I" } : Jvm.MethodName)) ∈ lw_all := lw_g (lw_at lw_m5 188 rfl) rfl
theorem q1246 : (Jvm.Cond.declares ({ cls := "ChairOld$Plain", name := "tells", desc := "(I)I" } : Jvm.MethodName)) ∈ lw_tbl := lw_at lw_m5 202 rfl
theorem q1264 : (Jvm.Cond.castable "ChairOld$Plain" "ChairOld$Tells") ∈ lw_tbl := lw_at lw_m5 220 rfl
theorem q1265 : (Jvm.Cond.selects "ChairOld$Plain" ({ cls := "ChairOld$Tells", name := "tells", desc := "(I)I" } : Jvm.MethodName) ({ cls := "ChairOld$Plain", name := "tells", desc := "(I)I" } : Jvm.MethodName)) ∈ lw_all := lw_g (lw_at lw_m5 221 rfl) rfl
theorem q1266 : (Jvm.Cond.unhidden "ChairOld$Plain" "tells" "(I)I") ∈ lw_tbl := lw_at lw_m5 222 rfl
theorem q1437 : (Jvm.Cond.instanceMethod ({ cls := "ChairOld$Plain", name := "isUnder", desc := "(I)Z" } : Jvm.MethodName)) ∈ lw_all := lw_g (lw_at lw_m6 153 rfl) rfl
theorem q1438 : (Jvm.Cond.selects "ChairOld$Plain" ({ cls := "ChairOld$Plain", name := "isUnder", desc := "(I)Z" } : Jvm.MethodName) ({ cls := "ChairOld$Plain", name := "isUnder", desc := "(I)Z" } : Jvm.MethodName)) ∈ lw_all := lw_g (lw_at lw_m6 154 rfl) rfl
theorem q1439 : (Jvm.Cond.sameMethod "ChairOld$Plain" "ChairOld$Plain" "isUnder" "(I)Z") ∈ lw_all := lw_g (lw_at lw_m6 155 rfl) rfl
theorem q1459 : (Jvm.Cond.code ({ cls := "ChairOld$Plain", name := "isUnder", desc := "(I)Z" } : Jvm.MethodName) prog_26_method_4_code (2 : Nat) (Option.some Jvm.ClassFile.FieldType.boolean)) ∈ lw_all := lw_g (lw_at lw_m6 175 rfl) rfl
theorem q1460 : (Jvm.Cond.methodLink "ChairOld$Plain" (19 : Nat) ({ cls := "ChairOld$Plain", name := "kind", desc := "()I" } : Jvm.MethodName)) ∈ lw_all := lw_g (lw_at lw_m6 176 rfl) rfl
theorem q1461 : (Jvm.Cond.instanceMethod ({ cls := "ChairOld$Plain", name := "kind", desc := "()I" } : Jvm.MethodName)) ∈ lw_all := lw_g (lw_at lw_m6 177 rfl) rfl
theorem q1462 : (Jvm.Cond.selects "ChairOld$Plain" ({ cls := "ChairOld$Plain", name := "kind", desc := "()I" } : Jvm.MethodName) ({ cls := "ChairOld$Plain", name := "kind", desc := "()I" } : Jvm.MethodName)) ∈ lw_all := lw_g (lw_at lw_m6 178 rfl) rfl
theorem q1463 : (Jvm.Cond.sameMethod "ChairOld$Plain" "ChairOld$Plain" "kind" "()I") ∈ lw_all := lw_g (lw_at lw_m6 179 rfl) rfl
theorem q1485 : (Jvm.Cond.code ({ cls := "ChairOld$Plain", name := "kind", desc := "()I" } : Jvm.MethodName) prog_26_method_3_code (1 : Nat) (Option.some Jvm.ClassFile.FieldType.int)) ∈ lw_all := lw_g (lw_at lw_m6 201 rfl) rfl
theorem q2002 : (Jvm.Cond.sameMethod "ChairOld$Plain" "ChairOld$Plain" "ages" "(I)I") ∈ lw_all := lw_g (lw_at lw_m8 238 rfl) rfl
theorem q2010 : (Jvm.Cond.selects "ChairOld$Plain" ({ cls := "ChairOld$Plain", name := "ages", desc := "(I)I" } : Jvm.MethodName) ({ cls := "ChairOld$Plain", name := "ages", desc := "(I)I" } : Jvm.MethodName)) ∈ lw_all := lw_g (lw_at lw_m9 6 rfl) rfl
theorem q2012 : (Jvm.Cond.sameMethod "ChairOld$Plain" "ChairOld$Plain" "shows" "(I)I") ∈ lw_all := lw_g (lw_at lw_m9 8 rfl) rfl
theorem q2019 : (Jvm.Cond.selects "ChairOld$Plain" ({ cls := "ChairOld$Plain", name := "shows", desc := "(I)I" } : Jvm.MethodName) ({ cls := "ChairOld$Plain", name := "shows", desc := "(I)I" } : Jvm.MethodName)) ∈ lw_all := lw_g (lw_at lw_m9 15 rfl) rfl
theorem q2043 : (Jvm.Cond.castable "ChairOld$Plain" "ChairOld$Held") ∈ lw_tbl := lw_at lw_m9 39 rfl
theorem in_X17 : ∀ w ∈ wsX170, w ∈ lw_all := lw_in wsX170 [1122, 1123] (by decide +kernel) (by decide +kernel)
/-! ChairOld$Old -/
set_option maxRecDepth 100000
def RX18 : String := "ChairOld$Old"
def TX18 : u_T := fun k => match k with
  | 0 => ("ChairOld$Plain", "number", "I", true)
  | 1 => ("ChairOld$Plain", "this$0", "LChairOld;", true)
  | _ => ("ChairOld$Old", "this$0", "LChairOld;", true)
def tyX18 : Nat → FieldType := fun k => match k with
  | 0 => .int
  | 1 => .object "ChairOld"
  | _ => .object "ChairOld"
abbrev wsX180 : List Cond := u_ws RX18 TX18 3
-- two fields of one name: no nmX18
theorem tyX18_ok : ∀ k, k < 3 → parseFieldDescriptor (TX18 k).2.2.1 = some (tyX18 k) := by decide +kernel
abbrev cX18_init : ByteArray := prog_22_method_1_code
def yX18_init : MethodName := ⟨RX18, "<init>", "(LChairOld;I)V"⟩
def dkwX18_init_0 : List UInt8 := [42, 43, 181, 0, 1, 42, 43, 28, 183, 0, 7, 177]
abbrev dktX18_init_0 : List UInt8 := dkwX18_init_0 ++ []
theorem dksX18_init_0 : cX18_init.data.toList.drop 0 = dktX18_init_0 := by decide +kernel
theorem dX18_init_0 : decode cX18_init 0 = .ok (.aload_n 0, 1) := dk_42 (dk_at dksX18_init_0 0 rfl rfl)
theorem dX18_init_1 : decode cX18_init 1 = .ok (.aload_n 1, 1) := dk_43 (dk_at dksX18_init_0 1 rfl rfl)
theorem dX18_init_2 : decode cX18_init 2 = .ok (.putfield 1, 3) := dk_181 0 1 (dk_at dksX18_init_0 2 rfl rfl)
theorem dX18_init_5 : decode cX18_init 5 = .ok (.aload_n 0, 1) := dk_42 (dk_at dksX18_init_0 5 rfl rfl)
theorem dX18_init_6 : decode cX18_init 6 = .ok (.aload_n 1, 1) := dk_43 (dk_at dksX18_init_0 6 rfl rfl)
theorem dX18_init_7 : decode cX18_init 7 = .ok (.iload_n 2, 1) := dk_28 (dk_at dksX18_init_0 7 rfl rfl)
theorem dX18_init_8 : decode cX18_init 8 = .ok (.invokespecial 7, 3) := dk_183 0 7 (dk_at dksX18_init_0 8 rfl rfl)
theorem dX18_init_11 : decode cX18_init 11 = .ok (.return_, 1) := dk_177 (dk_at dksX18_init_0 11 rfl rfl)
abbrev cX18_ages : ByteArray := prog_22_method_4_code
def yX18_ages : MethodName := ⟨RX18, "ages", "(I)I"⟩
def dkwX18_ages_0 : List UInt8 := [42, 180, 0, 1, 16, 20, 182, 0, 17, 42, 27, 183, 0, 23, 6, 96, 172]
abbrev dktX18_ages_0 : List UInt8 := dkwX18_ages_0 ++ []
theorem dksX18_ages_0 : cX18_ages.data.toList.drop 0 = dktX18_ages_0 := by decide +kernel
theorem dX18_ages_0 : decode cX18_ages 0 = .ok (.aload_n 0, 1) := dk_42 (dk_at dksX18_ages_0 0 rfl rfl)
theorem dX18_ages_1 : decode cX18_ages 1 = .ok (.getfield 1, 3) := dk_180 0 1 (dk_at dksX18_ages_0 1 rfl rfl)
theorem dX18_ages_4 : decode cX18_ages 4 = .ok (.bipush 20, 2) := dk_16 20 (dk_at dksX18_ages_0 4 rfl rfl)
theorem dX18_ages_6 : decode cX18_ages 6 = .ok (.invokevirtual 17, 3) := dk_182 0 17 (dk_at dksX18_ages_0 6 rfl rfl)
theorem dX18_ages_9 : decode cX18_ages 9 = .ok (.aload_n 0, 1) := dk_42 (dk_at dksX18_ages_0 9 rfl rfl)
theorem dX18_ages_10 : decode cX18_ages 10 = .ok (.iload_n 1, 1) := dk_27 (dk_at dksX18_ages_0 10 rfl rfl)
theorem dX18_ages_11 : decode cX18_ages 11 = .ok (.invokespecial 23, 3) := dk_183 0 23 (dk_at dksX18_ages_0 11 rfl rfl)
theorem dX18_ages_14 : decode cX18_ages 14 = .ok (.iconst 3, 1) := dk_6 (dk_at dksX18_ages_0 14 rfl rfl)
theorem dX18_ages_15 : decode cX18_ages 15 = .ok (.iadd, 1) := dk_96 (dk_at dksX18_ages_0 15 rfl rfl)
theorem dX18_ages_16 : decode cX18_ages 16 = .ok (.ireturn, 1) := dk_172 (dk_at dksX18_ages_0 16 rfl rfl)
abbrev cX18_isUnder : ByteArray := prog_22_method_3_code
def yX18_isUnder : MethodName := ⟨RX18, "isUnder", "(I)Z"⟩
def dkwX18_isUnder_0 : List UInt8 := [27, 4, 159, 0, 11, 42, 27, 183, 0, 13, 153, 0, 7, 4, 167, 0, 4, 3, 172]
abbrev dktX18_isUnder_0 : List UInt8 := dkwX18_isUnder_0 ++ []
theorem dksX18_isUnder_0 : cX18_isUnder.data.toList.drop 0 = dktX18_isUnder_0 := by decide +kernel
theorem dX18_isUnder_0 : decode cX18_isUnder 0 = .ok (.iload_n 1, 1) := dk_27 (dk_at dksX18_isUnder_0 0 rfl rfl)
theorem dX18_isUnder_1 : decode cX18_isUnder 1 = .ok (.iconst 1, 1) := dk_4 (dk_at dksX18_isUnder_0 1 rfl rfl)
theorem dX18_isUnder_2 : decode cX18_isUnder 2 = .ok (.if_icmp .eq 11, 3) := dk_159 0 11 (dk_at dksX18_isUnder_0 2 rfl rfl)
theorem dX18_isUnder_5 : decode cX18_isUnder 5 = .ok (.aload_n 0, 1) := dk_42 (dk_at dksX18_isUnder_0 5 rfl rfl)
theorem dX18_isUnder_6 : decode cX18_isUnder 6 = .ok (.iload_n 1, 1) := dk_27 (dk_at dksX18_isUnder_0 6 rfl rfl)
theorem dX18_isUnder_7 : decode cX18_isUnder 7 = .ok (.invokespecial 13, 3) := dk_183 0 13 (dk_at dksX18_isUnder_0 7 rfl rfl)
theorem dX18_isUnder_10 : decode cX18_isUnder 10 = .ok (.ifCond .eq 7, 3) := dk_153 0 7 (dk_at dksX18_isUnder_0 10 rfl rfl)
theorem dX18_isUnder_13 : decode cX18_isUnder 13 = .ok (.iconst 1, 1) := dk_4 (dk_at dksX18_isUnder_0 13 rfl rfl)
theorem dX18_isUnder_14 : decode cX18_isUnder 14 = .ok (.goto 4, 3) := dk_167 0 4 (dk_at dksX18_isUnder_0 14 rfl rfl)
theorem dX18_isUnder_17 : decode cX18_isUnder 17 = .ok (.iconst 0, 1) := dk_3 (dk_at dksX18_isUnder_0 17 rfl rfl)
theorem dX18_isUnder_18 : decode cX18_isUnder 18 = .ok (.ireturn, 1) := dk_172 (dk_at dksX18_isUnder_0 18 rfl rfl)
abbrev cX18_kind : ByteArray := prog_22_method_2_code
def yX18_kind : MethodName := ⟨RX18, "kind", "()I"⟩
theorem dX18_kind_0 : decode cX18_kind 0 = .ok (.iconst 1, 1) := by decide +kernel
theorem dX18_kind_1 : decode cX18_kind 1 = .ok (.ireturn, 1) := by decide +kernel
theorem q117 : (Jvm.Cond.initialized "ChairOld$Old") ∈ lw_all := lw_g (lw_at lw_m1 33 rfl) rfl
theorem q1021 : (Jvm.Cond.instantiable "ChairOld$Old" (3 : Nat)) ∈ lw_all := lw_g (lw_at lw_m4 217 rfl) rfl
theorem q1023 : (Jvm.Cond.instanceMethod ({ cls := "ChairOld$Old", name := "<init>", desc := "(LChairOld;I)V" } : Jvm.MethodName)) ∈ lw_all := lw_g (lw_at lw_m4 219 rfl) rfl
theorem q1024 : (Jvm.Cond.code ({ cls := "ChairOld$Old", name := "<init>", desc := "(LChairOld;I)V" } : Jvm.MethodName) prog_22_method_1_code (3 : Nat) (Option.none : Option Jvm.ClassFile.FieldType)) ∈ lw_all := lw_g (lw_at lw_m4 220 rfl) rfl
theorem q1025 : (Jvm.Cond.methodLink "ChairOld$Old" (7 : Nat) ({ cls := "ChairOld$Plain", name := "<init>", desc := "(LChairOld;I)V" } : Jvm.MethodName)) ∈ lw_all := lw_g (lw_at lw_m4 221 rfl) rfl
theorem q1032 : (Jvm.Cond.fieldLink "ChairOld$Old" (1 : Nat) "ChairOld$Old" "this$0" "LChairOld;") ∈ lw_all := lw_g (lw_at lw_m4 228 rfl) rfl
theorem q1035 : (Jvm.Cond.laysFinal "ChairOld$Old" "ChairOld$Old" "this$0" "LChairOld;") ∈ lw_all := lw_g (lw_at lw_m4 231 rfl) rfl
theorem q1036 : (Jvm.Cond.soleField "ChairOld$Old" "this$0") ∈ lw_all := lw_g (lw_at lw_m4 232 rfl) rfl
theorem q1037 : (Jvm.Cond.laysFinal "ChairOld$Old" "ChairOld$Plain" "number" "I") ∈ lw_all := lw_g (lw_at lw_m4 233 rfl) rfl
theorem q1039 : (Jvm.Cond.laysFinal "ChairOld$Old" "ChairOld$Plain" "this$0" "LChairOld;") ∈ lw_all := lw_g (lw_at lw_m4 235 rfl) rfl
theorem q1041 : (Jvm.Cond.superclass "ChairOld$Old" "ChairOld$Plain") ∈ lw_all := lw_g (lw_at lw_m4 237 rfl) rfl
theorem q1153 : (Jvm.Cond.instanceMethod ({ cls := "ChairOld$Old", name := "ages", desc := "(I)I" } : Jvm.MethodName)) ∈ lw_all := lw_g (lw_at lw_m5 109 rfl) rfl
theorem q1154 : (Jvm.Cond.publicMethod ({ cls := "ChairOld$Old", name := "ages", desc := "(I)I" } : Jvm.MethodName)) ∈ lw_tbl := lw_at lw_m5 110 rfl
theorem q1155 : (Jvm.Cond.code ({ cls := "ChairOld$Old", name := "ages", desc := "(I)I" } : Jvm.MethodName) prog_22_method_4_code (2 : Nat) (Option.some Jvm.ClassFile.FieldType.int)) ∈ lw_all := lw_g (lw_at lw_m5 111 rfl) rfl
theorem q1156 : (Jvm.Cond.methodLinkNest "ChairOld$Old" (17 : Nat) ({ cls := "ChairOld", name := "ran", desc := "(I)V" } : Jvm.MethodName) "ChairOld") ∈ lw_tbl := lw_at lw_m5 112 rfl
theorem q1157 : (Jvm.Cond.methodLink "ChairOld$Old" (23 : Nat) ({ cls := "ChairOld$Plain", name := "ages", desc := "(I)I" } : Jvm.MethodName)) ∈ lw_all := lw_g (lw_at lw_m5 113 rfl) rfl
theorem q1169 : (Jvm.Cond.castable "ChairOld$Old" "ChairOld$Ages") ∈ lw_tbl := lw_at lw_m5 125 rfl
theorem q1170 : (Jvm.Cond.selects "ChairOld$Old" ({ cls := "ChairOld$Ages", name := "ages", desc := "(I)I" } : Jvm.MethodName) ({ cls := "ChairOld$Old", name := "ages", desc := "(I)I" } : Jvm.MethodName)) ∈ lw_all := lw_g (lw_at lw_m5 126 rfl) rfl
theorem q1171 : (Jvm.Cond.unhidden "ChairOld$Old" "ages" "(I)I") ∈ lw_tbl := lw_at lw_m5 127 rfl
theorem q1217 : (Jvm.Cond.sameMethod "ChairOld$Old" "ChairOld$Plain" "shows" "(I)I") ∈ lw_all := lw_g (lw_at lw_m5 173 rfl) rfl
theorem q1223 : (Jvm.Cond.declares ({ cls := "ChairOld$Old", name := "ages", desc := "(I)I" } : Jvm.MethodName)) ∈ lw_tbl := lw_at lw_m5 179 rfl
theorem q1228 : (Jvm.Cond.selects "ChairOld$Old" ({ cls := "ChairOld$Plain", name := "joins", desc := "(I)I" } : Jvm.MethodName) ({ cls := "ChairOld$Plain", name := "joins", desc := "(I)I" } : Jvm.MethodName)) ∈ lw_all := lw_g (lw_at lw_m5 184 rfl) rfl
theorem q1261 : (Jvm.Cond.castable "ChairOld$Old" "ChairOld$Tells") ∈ lw_tbl := lw_at lw_m5 217 rfl
theorem q1262 : (Jvm.Cond.selects "ChairOld$Old" ({ cls := "ChairOld$Tells", name := "tells", desc := "(I)I" } : Jvm.MethodName) ({ cls := "ChairOld$Plain", name := "tells", desc := "(I)I" } : Jvm.MethodName)) ∈ lw_all := lw_g (lw_at lw_m5 218 rfl) rfl
theorem q1263 : (Jvm.Cond.unhidden "ChairOld$Old" "tells" "(I)I") ∈ lw_tbl := lw_at lw_m5 219 rfl
theorem q1452 : (Jvm.Cond.instanceMethod ({ cls := "ChairOld$Old", name := "isUnder", desc := "(I)Z" } : Jvm.MethodName)) ∈ lw_all := lw_g (lw_at lw_m6 168 rfl) rfl
theorem q1453 : (Jvm.Cond.code ({ cls := "ChairOld$Old", name := "isUnder", desc := "(I)Z" } : Jvm.MethodName) prog_22_method_3_code (2 : Nat) (Option.some Jvm.ClassFile.FieldType.boolean)) ∈ lw_all := lw_g (lw_at lw_m6 169 rfl) rfl
theorem q1454 : (Jvm.Cond.methodLink "ChairOld$Old" (13 : Nat) ({ cls := "ChairOld$Plain", name := "isUnder", desc := "(I)Z" } : Jvm.MethodName)) ∈ lw_all := lw_g (lw_at lw_m6 170 rfl) rfl
theorem q1457 : (Jvm.Cond.selects "ChairOld$Old" ({ cls := "ChairOld$Plain", name := "isUnder", desc := "(I)Z" } : Jvm.MethodName) ({ cls := "ChairOld$Old", name := "isUnder", desc := "(I)Z" } : Jvm.MethodName)) ∈ lw_all := lw_g (lw_at lw_m6 173 rfl) rfl
theorem q1479 : (Jvm.Cond.selects "ChairOld$Old" ({ cls := "ChairOld$Plain", name := "kind", desc := "()I" } : Jvm.MethodName) ({ cls := "ChairOld$Old", name := "kind", desc := "()I" } : Jvm.MethodName)) ∈ lw_all := lw_g (lw_at lw_m6 195 rfl) rfl
theorem q1480 : (Jvm.Cond.instanceMethod ({ cls := "ChairOld$Old", name := "kind", desc := "()I" } : Jvm.MethodName)) ∈ lw_all := lw_g (lw_at lw_m6 196 rfl) rfl
theorem q1481 : (Jvm.Cond.code ({ cls := "ChairOld$Old", name := "kind", desc := "()I" } : Jvm.MethodName) prog_22_method_2_code (1 : Nat) (Option.some Jvm.ClassFile.FieldType.int)) ∈ lw_all := lw_g (lw_at lw_m6 197 rfl) rfl
theorem q2009 : (Jvm.Cond.selects "ChairOld$Old" ({ cls := "ChairOld$Plain", name := "ages", desc := "(I)I" } : Jvm.MethodName) ({ cls := "ChairOld$Old", name := "ages", desc := "(I)I" } : Jvm.MethodName)) ∈ lw_all := lw_g (lw_at lw_m9 5 rfl) rfl
theorem q2018 : (Jvm.Cond.selects "ChairOld$Old" ({ cls := "ChairOld$Plain", name := "shows", desc := "(I)I" } : Jvm.MethodName) ({ cls := "ChairOld$Plain", name := "shows", desc := "(I)I" } : Jvm.MethodName)) ∈ lw_all := lw_g (lw_at lw_m9 14 rfl) rfl
theorem q2022 : (Jvm.Cond.sameMethod "ChairOld$Old" "ChairOld$Old" "isUnder" "(I)Z") ∈ lw_all := lw_g (lw_at lw_m9 18 rfl) rfl
theorem q2034 : (Jvm.Cond.castable "ChairOld$Old" "ChairOld$Plain") ∈ lw_tbl := lw_at lw_m9 30 rfl
theorem q2036 : (Jvm.Cond.castable "ChairOld$Old" "ChairOld$Held") ∈ lw_tbl := lw_at lw_m9 32 rfl
theorem in_X18 : ∀ w ∈ wsX180, w ∈ lw_all := lw_in wsX180 [1037, 1039, 1035] (by decide +kernel) (by decide +kernel)
/-! ChairOld$Mended -/
set_option maxRecDepth 100000
def RX19 : String := "ChairOld$Mended"
def TX19 : u_T := fun k => match k with
  | 0 => ("ChairOld$Plain", "number", "I", true)
  | 1 => ("ChairOld$Plain", "this$0", "LChairOld;", true)
  | _ => ("ChairOld$Mended", "this$0", "LChairOld;", true)
def tyX19 : Nat → FieldType := fun k => match k with
  | 0 => .int
  | 1 => .object "ChairOld"
  | _ => .object "ChairOld"
abbrev wsX190 : List Cond := u_ws RX19 TX19 3
-- two fields of one name: no nmX19
theorem tyX19_ok : ∀ k, k < 3 → parseFieldDescriptor (TX19 k).2.2.1 = some (tyX19 k) := by decide +kernel
abbrev cX19_init : ByteArray := prog_19_method_1_code
def yX19_init : MethodName := ⟨RX19, "<init>", "(LChairOld;I)V"⟩
def dkwX19_init_0 : List UInt8 := [42, 43, 181, 0, 1, 42, 43, 28, 183, 0, 7, 177]
abbrev dktX19_init_0 : List UInt8 := dkwX19_init_0 ++ []
theorem dksX19_init_0 : cX19_init.data.toList.drop 0 = dktX19_init_0 := by decide +kernel
theorem dX19_init_0 : decode cX19_init 0 = .ok (.aload_n 0, 1) := dk_42 (dk_at dksX19_init_0 0 rfl rfl)
theorem dX19_init_1 : decode cX19_init 1 = .ok (.aload_n 1, 1) := dk_43 (dk_at dksX19_init_0 1 rfl rfl)
theorem dX19_init_2 : decode cX19_init 2 = .ok (.putfield 1, 3) := dk_181 0 1 (dk_at dksX19_init_0 2 rfl rfl)
theorem dX19_init_5 : decode cX19_init 5 = .ok (.aload_n 0, 1) := dk_42 (dk_at dksX19_init_0 5 rfl rfl)
theorem dX19_init_6 : decode cX19_init 6 = .ok (.aload_n 1, 1) := dk_43 (dk_at dksX19_init_0 6 rfl rfl)
theorem dX19_init_7 : decode cX19_init 7 = .ok (.iload_n 2, 1) := dk_28 (dk_at dksX19_init_0 7 rfl rfl)
theorem dX19_init_8 : decode cX19_init 8 = .ok (.invokespecial 7, 3) := dk_183 0 7 (dk_at dksX19_init_0 8 rfl rfl)
theorem dX19_init_11 : decode cX19_init 11 = .ok (.return_, 1) := dk_177 (dk_at dksX19_init_0 11 rfl rfl)
abbrev cX19_joins : ByteArray := prog_19_method_4_code
def yX19_joins : MethodName := ⟨RX19, "joins", "(I)I"⟩
def dkwX19_joins_0 : List UInt8 := [42, 180, 0, 1, 16, 30, 182, 0, 17, 42, 27, 183, 0, 23, 116, 172]
abbrev dktX19_joins_0 : List UInt8 := dkwX19_joins_0 ++ []
theorem dksX19_joins_0 : cX19_joins.data.toList.drop 0 = dktX19_joins_0 := by decide +kernel
theorem dX19_joins_0 : decode cX19_joins 0 = .ok (.aload_n 0, 1) := dk_42 (dk_at dksX19_joins_0 0 rfl rfl)
theorem dX19_joins_1 : decode cX19_joins 1 = .ok (.getfield 1, 3) := dk_180 0 1 (dk_at dksX19_joins_0 1 rfl rfl)
theorem dX19_joins_4 : decode cX19_joins 4 = .ok (.bipush 30, 2) := dk_16 30 (dk_at dksX19_joins_0 4 rfl rfl)
theorem dX19_joins_6 : decode cX19_joins 6 = .ok (.invokevirtual 17, 3) := dk_182 0 17 (dk_at dksX19_joins_0 6 rfl rfl)
theorem dX19_joins_9 : decode cX19_joins 9 = .ok (.aload_n 0, 1) := dk_42 (dk_at dksX19_joins_0 9 rfl rfl)
theorem dX19_joins_10 : decode cX19_joins 10 = .ok (.iload_n 1, 1) := dk_27 (dk_at dksX19_joins_0 10 rfl rfl)
theorem dX19_joins_11 : decode cX19_joins 11 = .ok (.invokespecial 23, 3) := dk_183 0 23 (dk_at dksX19_joins_0 11 rfl rfl)
theorem dX19_joins_14 : decode cX19_joins 14 = .ok (.ineg, 1) := dk_116 (dk_at dksX19_joins_0 14 rfl rfl)
theorem dX19_joins_15 : decode cX19_joins 15 = .ok (.ireturn, 1) := dk_172 (dk_at dksX19_joins_0 15 rfl rfl)
abbrev cX19_isUnder : ByteArray := prog_19_method_3_code
def yX19_isUnder : MethodName := ⟨RX19, "isUnder", "(I)Z"⟩
def dkwX19_isUnder_0 : List UInt8 := [27, 5, 159, 0, 11, 42, 27, 183, 0, 13, 153, 0, 7, 4, 167, 0, 4, 3, 172]
abbrev dktX19_isUnder_0 : List UInt8 := dkwX19_isUnder_0 ++ []
theorem dksX19_isUnder_0 : cX19_isUnder.data.toList.drop 0 = dktX19_isUnder_0 := by decide +kernel
theorem dX19_isUnder_0 : decode cX19_isUnder 0 = .ok (.iload_n 1, 1) := dk_27 (dk_at dksX19_isUnder_0 0 rfl rfl)
theorem dX19_isUnder_1 : decode cX19_isUnder 1 = .ok (.iconst 2, 1) := dk_5 (dk_at dksX19_isUnder_0 1 rfl rfl)
theorem dX19_isUnder_2 : decode cX19_isUnder 2 = .ok (.if_icmp .eq 11, 3) := dk_159 0 11 (dk_at dksX19_isUnder_0 2 rfl rfl)
theorem dX19_isUnder_5 : decode cX19_isUnder 5 = .ok (.aload_n 0, 1) := dk_42 (dk_at dksX19_isUnder_0 5 rfl rfl)
theorem dX19_isUnder_6 : decode cX19_isUnder 6 = .ok (.iload_n 1, 1) := dk_27 (dk_at dksX19_isUnder_0 6 rfl rfl)
theorem dX19_isUnder_7 : decode cX19_isUnder 7 = .ok (.invokespecial 13, 3) := dk_183 0 13 (dk_at dksX19_isUnder_0 7 rfl rfl)
theorem dX19_isUnder_10 : decode cX19_isUnder 10 = .ok (.ifCond .eq 7, 3) := dk_153 0 7 (dk_at dksX19_isUnder_0 10 rfl rfl)
theorem dX19_isUnder_13 : decode cX19_isUnder 13 = .ok (.iconst 1, 1) := dk_4 (dk_at dksX19_isUnder_0 13 rfl rfl)
theorem dX19_isUnder_14 : decode cX19_isUnder 14 = .ok (.goto 4, 3) := dk_167 0 4 (dk_at dksX19_isUnder_0 14 rfl rfl)
theorem dX19_isUnder_17 : decode cX19_isUnder 17 = .ok (.iconst 0, 1) := dk_3 (dk_at dksX19_isUnder_0 17 rfl rfl)
theorem dX19_isUnder_18 : decode cX19_isUnder 18 = .ok (.ireturn, 1) := dk_172 (dk_at dksX19_isUnder_0 18 rfl rfl)
abbrev cX19_kind : ByteArray := prog_19_method_2_code
def yX19_kind : MethodName := ⟨RX19, "kind", "()I"⟩
theorem dX19_kind_0 : decode cX19_kind 0 = .ok (.iconst 2, 1) := by decide +kernel
theorem dX19_kind_1 : decode cX19_kind 1 = .ok (.ireturn, 1) := by decide +kernel
theorem q118 : (Jvm.Cond.initialized "ChairOld$Mended") ∈ lw_all := lw_g (lw_at lw_m1 34 rfl) rfl
theorem q1043 : (Jvm.Cond.instantiable "ChairOld$Mended" (3 : Nat)) ∈ lw_all := lw_g (lw_at lw_m4 239 rfl) rfl
theorem q1045 : (Jvm.Cond.instanceMethod ({ cls := "ChairOld$Mended", name := "<init>", desc := "(LChairOld;I)V" } : Jvm.MethodName)) ∈ lw_all := lw_g (lw_at lw_m5 1 rfl) rfl
theorem q1046 : (Jvm.Cond.code ({ cls := "ChairOld$Mended", name := "<init>", desc := "(LChairOld;I)V" } : Jvm.MethodName) prog_19_method_1_code (3 : Nat) (Option.none : Option Jvm.ClassFile.FieldType)) ∈ lw_all := lw_g (lw_at lw_m5 2 rfl) rfl
theorem q1047 : (Jvm.Cond.methodLink "ChairOld$Mended" (7 : Nat) ({ cls := "ChairOld$Plain", name := "<init>", desc := "(LChairOld;I)V" } : Jvm.MethodName)) ∈ lw_all := lw_g (lw_at lw_m5 3 rfl) rfl
theorem q1048 : (Jvm.Cond.fieldLink "ChairOld$Mended" (1 : Nat) "ChairOld$Mended" "this$0" "LChairOld;") ∈ lw_all := lw_g (lw_at lw_m5 4 rfl) rfl
theorem q1049 : (Jvm.Cond.laysFinal "ChairOld$Mended" "ChairOld$Mended" "this$0" "LChairOld;") ∈ lw_all := lw_g (lw_at lw_m5 5 rfl) rfl
theorem q1050 : (Jvm.Cond.soleField "ChairOld$Mended" "this$0") ∈ lw_all := lw_g (lw_at lw_m5 6 rfl) rfl
theorem q1051 : (Jvm.Cond.laysFinal "ChairOld$Mended" "ChairOld$Plain" "number" "I") ∈ lw_all := lw_g (lw_at lw_m5 7 rfl) rfl
theorem q1052 : (Jvm.Cond.laysFinal "ChairOld$Mended" "ChairOld$Plain" "this$0" "LChairOld;") ∈ lw_all := lw_g (lw_at lw_m5 8 rfl) rfl
theorem q1053 : (Jvm.Cond.superclass "ChairOld$Mended" "ChairOld$Plain") ∈ lw_all := lw_g (lw_at lw_m5 9 rfl) rfl
theorem q1166 : (Jvm.Cond.castable "ChairOld$Mended" "ChairOld$Ages") ∈ lw_tbl := lw_at lw_m5 122 rfl
theorem q1167 : (Jvm.Cond.selects "ChairOld$Mended" ({ cls := "ChairOld$Ages", name := "ages", desc := "(I)I" } : Jvm.MethodName) ({ cls := "ChairOld$Plain", name := "ages", desc := "(I)I" } : Jvm.MethodName)) ∈ lw_all := lw_g (lw_at lw_m5 123 rfl) rfl
theorem q1168 : (Jvm.Cond.unhidden "ChairOld$Mended" "ages" "(I)I") ∈ lw_tbl := lw_at lw_m5 124 rfl
theorem q1197 : (Jvm.Cond.instanceMethod ({ cls := "ChairOld$Mended", name := "joins", desc := "(I)I" } : Jvm.MethodName)) ∈ lw_all := lw_g (lw_at lw_m5 153 rfl) rfl
theorem q1198 : (Jvm.Cond.code ({ cls := "ChairOld$Mended", name := "joins", desc := "(I)I" } : Jvm.MethodName) prog_19_method_4_code (2 : Nat) (Option.some Jvm.ClassFile.FieldType.int)) ∈ lw_all := lw_g (lw_at lw_m5 154 rfl) rfl
theorem q1199 : (Jvm.Cond.methodLinkNest "ChairOld$Mended" (17 : Nat) ({ cls := "ChairOld", name := "ran", desc := "(I)V" } : Jvm.MethodName) "ChairOld") ∈ lw_tbl := lw_at lw_m5 155 rfl
theorem q1200 : (Jvm.Cond.methodLink "ChairOld$Mended" (23 : Nat) ({ cls := "ChairOld$Plain", name := "joins", desc := "(I)I" } : Jvm.MethodName)) ∈ lw_all := lw_g (lw_at lw_m5 156 rfl) rfl
theorem q1227 : (Jvm.Cond.selects "ChairOld$Mended" ({ cls := "ChairOld$Plain", name := "joins", desc := "(I)I" } : Jvm.MethodName) ({ cls := "ChairOld$Mended", name := "joins", desc := "(I)I" } : Jvm.MethodName)) ∈ lw_all := lw_g (lw_at lw_m5 183 rfl) rfl
theorem q1236 : (Jvm.Cond.sameMethod "ChairOld$Mended" "ChairOld$Plain" "shows" "(I)I") ∈ lw_all := lw_g (lw_at lw_m5 192 rfl) rfl
theorem q1258 : (Jvm.Cond.castable "ChairOld$Mended" "ChairOld$Tells") ∈ lw_tbl := lw_at lw_m5 214 rfl
theorem q1259 : (Jvm.Cond.selects "ChairOld$Mended" ({ cls := "ChairOld$Tells", name := "tells", desc := "(I)I" } : Jvm.MethodName) ({ cls := "ChairOld$Plain", name := "tells", desc := "(I)I" } : Jvm.MethodName)) ∈ lw_all := lw_g (lw_at lw_m5 215 rfl) rfl
theorem q1260 : (Jvm.Cond.unhidden "ChairOld$Mended" "tells" "(I)I") ∈ lw_tbl := lw_at lw_m5 216 rfl
theorem q1444 : (Jvm.Cond.instanceMethod ({ cls := "ChairOld$Mended", name := "isUnder", desc := "(I)Z" } : Jvm.MethodName)) ∈ lw_all := lw_g (lw_at lw_m6 160 rfl) rfl
theorem q1445 : (Jvm.Cond.code ({ cls := "ChairOld$Mended", name := "isUnder", desc := "(I)Z" } : Jvm.MethodName) prog_19_method_3_code (2 : Nat) (Option.some Jvm.ClassFile.FieldType.boolean)) ∈ lw_all := lw_g (lw_at lw_m6 161 rfl) rfl
theorem q1446 : (Jvm.Cond.methodLink "ChairOld$Mended" (13 : Nat) ({ cls := "ChairOld$Plain", name := "isUnder", desc := "(I)Z" } : Jvm.MethodName)) ∈ lw_all := lw_g (lw_at lw_m6 162 rfl) rfl
theorem q1456 : (Jvm.Cond.selects "ChairOld$Mended" ({ cls := "ChairOld$Plain", name := "isUnder", desc := "(I)Z" } : Jvm.MethodName) ({ cls := "ChairOld$Mended", name := "isUnder", desc := "(I)Z" } : Jvm.MethodName)) ∈ lw_all := lw_g (lw_at lw_m6 172 rfl) rfl
theorem q1476 : (Jvm.Cond.selects "ChairOld$Mended" ({ cls := "ChairOld$Plain", name := "kind", desc := "()I" } : Jvm.MethodName) ({ cls := "ChairOld$Mended", name := "kind", desc := "()I" } : Jvm.MethodName)) ∈ lw_all := lw_g (lw_at lw_m6 192 rfl) rfl
theorem q1477 : (Jvm.Cond.instanceMethod ({ cls := "ChairOld$Mended", name := "kind", desc := "()I" } : Jvm.MethodName)) ∈ lw_all := lw_g (lw_at lw_m6 193 rfl) rfl
theorem q1478 : (Jvm.Cond.code ({ cls := "ChairOld$Mended", name := "kind", desc := "()I" } : Jvm.MethodName) prog_19_method_2_code (1 : Nat) (Option.some Jvm.ClassFile.FieldType.int)) ∈ lw_all := lw_g (lw_at lw_m6 194 rfl) rfl
theorem q2003 : (Jvm.Cond.sameMethod "ChairOld$Mended" "ChairOld$Mended" "joins" "(I)I") ∈ lw_all := lw_g (lw_at lw_m8 239 rfl) rfl
theorem q2008 : (Jvm.Cond.selects "ChairOld$Mended" ({ cls := "ChairOld$Plain", name := "ages", desc := "(I)I" } : Jvm.MethodName) ({ cls := "ChairOld$Plain", name := "ages", desc := "(I)I" } : Jvm.MethodName)) ∈ lw_all := lw_g (lw_at lw_m9 4 rfl) rfl
theorem q2017 : (Jvm.Cond.selects "ChairOld$Mended" ({ cls := "ChairOld$Plain", name := "shows", desc := "(I)I" } : Jvm.MethodName) ({ cls := "ChairOld$Plain", name := "shows", desc := "(I)I" } : Jvm.MethodName)) ∈ lw_all := lw_g (lw_at lw_m9 13 rfl) rfl
theorem q2021 : (Jvm.Cond.sameMethod "ChairOld$Mended" "ChairOld$Mended" "isUnder" "(I)Z") ∈ lw_all := lw_g (lw_at lw_m9 17 rfl) rfl
theorem q2033 : (Jvm.Cond.castable "ChairOld$Mended" "ChairOld$Plain") ∈ lw_tbl := lw_at lw_m9 29 rfl
theorem q2037 : (Jvm.Cond.castable "ChairOld$Mended" "ChairOld$Held") ∈ lw_tbl := lw_at lw_m9 33 rfl
theorem in_X19 : ∀ w ∈ wsX190, w ∈ lw_all := lw_in wsX190 [1051, 1052, 1049] (by decide +kernel) (by decide +kernel)
/-! ChairOld$Aged -/
set_option maxRecDepth 100000
def RX20 : String := "ChairOld$Aged"
def TX20 : u_T := fun k => match k with
  | 0 => ("ChairOld$Plain", "number", "I", true)
  | 1 => ("ChairOld$Plain", "this$0", "LChairOld;", true)
  | 2 => ("ChairOld$Mended", "this$0", "LChairOld;", true)
  | _ => ("ChairOld$Aged", "this$0", "LChairOld;", true)
def tyX20 : Nat → FieldType := fun k => match k with
  | 0 => .int
  | 1 => .object "ChairOld"
  | 2 => .object "ChairOld"
  | _ => .object "ChairOld"
abbrev wsX200 : List Cond := u_ws RX20 TX20 4
-- two fields of one name: no nmX20
theorem tyX20_ok : ∀ k, k < 4 → parseFieldDescriptor (TX20 k).2.2.1 = some (tyX20 k) := by decide +kernel
abbrev cX20_init : ByteArray := prog_2_method_1_code
def yX20_init : MethodName := ⟨RX20, "<init>", "(LChairOld;I)V"⟩
def dkwX20_init_0 : List UInt8 := [42, 43, 181, 0, 1, 42, 43, 28, 183, 0, 7, 177]
abbrev dktX20_init_0 : List UInt8 := dkwX20_init_0 ++ []
theorem dksX20_init_0 : cX20_init.data.toList.drop 0 = dktX20_init_0 := by decide +kernel
theorem dX20_init_0 : decode cX20_init 0 = .ok (.aload_n 0, 1) := dk_42 (dk_at dksX20_init_0 0 rfl rfl)
theorem dX20_init_1 : decode cX20_init 1 = .ok (.aload_n 1, 1) := dk_43 (dk_at dksX20_init_0 1 rfl rfl)
theorem dX20_init_2 : decode cX20_init 2 = .ok (.putfield 1, 3) := dk_181 0 1 (dk_at dksX20_init_0 2 rfl rfl)
theorem dX20_init_5 : decode cX20_init 5 = .ok (.aload_n 0, 1) := dk_42 (dk_at dksX20_init_0 5 rfl rfl)
theorem dX20_init_6 : decode cX20_init 6 = .ok (.aload_n 1, 1) := dk_43 (dk_at dksX20_init_0 6 rfl rfl)
theorem dX20_init_7 : decode cX20_init 7 = .ok (.iload_n 2, 1) := dk_28 (dk_at dksX20_init_0 7 rfl rfl)
theorem dX20_init_8 : decode cX20_init 8 = .ok (.invokespecial 7, 3) := dk_183 0 7 (dk_at dksX20_init_0 8 rfl rfl)
theorem dX20_init_11 : decode cX20_init 11 = .ok (.return_, 1) := dk_177 (dk_at dksX20_init_0 11 rfl rfl)
abbrev cX20_joins : ByteArray := prog_2_method_5_code
def yX20_joins : MethodName := ⟨RX20, "joins", "(I)I"⟩
def dkwX20_joins_0 : List UInt8 := [42, 180, 0, 1, 16, 41, 182, 0, 17, 42, 27, 4, 96, 183, 0, 27, 172]
abbrev dktX20_joins_0 : List UInt8 := dkwX20_joins_0 ++ []
theorem dksX20_joins_0 : cX20_joins.data.toList.drop 0 = dktX20_joins_0 := by decide +kernel
theorem dX20_joins_0 : decode cX20_joins 0 = .ok (.aload_n 0, 1) := dk_42 (dk_at dksX20_joins_0 0 rfl rfl)
theorem dX20_joins_1 : decode cX20_joins 1 = .ok (.getfield 1, 3) := dk_180 0 1 (dk_at dksX20_joins_0 1 rfl rfl)
theorem dX20_joins_4 : decode cX20_joins 4 = .ok (.bipush 41, 2) := dk_16 41 (dk_at dksX20_joins_0 4 rfl rfl)
theorem dX20_joins_6 : decode cX20_joins 6 = .ok (.invokevirtual 17, 3) := dk_182 0 17 (dk_at dksX20_joins_0 6 rfl rfl)
theorem dX20_joins_9 : decode cX20_joins 9 = .ok (.aload_n 0, 1) := dk_42 (dk_at dksX20_joins_0 9 rfl rfl)
theorem dX20_joins_10 : decode cX20_joins 10 = .ok (.iload_n 1, 1) := dk_27 (dk_at dksX20_joins_0 10 rfl rfl)
theorem dX20_joins_11 : decode cX20_joins 11 = .ok (.iconst 1, 1) := dk_4 (dk_at dksX20_joins_0 11 rfl rfl)
theorem dX20_joins_12 : decode cX20_joins 12 = .ok (.iadd, 1) := dk_96 (dk_at dksX20_joins_0 12 rfl rfl)
theorem dX20_joins_13 : decode cX20_joins 13 = .ok (.invokespecial 27, 3) := dk_183 0 27 (dk_at dksX20_joins_0 13 rfl rfl)
theorem dX20_joins_16 : decode cX20_joins 16 = .ok (.ireturn, 1) := dk_172 (dk_at dksX20_joins_0 16 rfl rfl)
abbrev cX20_shows : ByteArray := prog_2_method_4_code
def yX20_shows : MethodName := ⟨RX20, "shows", "(I)I"⟩
def dkwX20_shows_0 : List UInt8 := [42, 180, 0, 1, 16, 40, 182, 0, 17, 42, 27, 183, 0, 23, 6, 104, 172]
abbrev dktX20_shows_0 : List UInt8 := dkwX20_shows_0 ++ []
theorem dksX20_shows_0 : cX20_shows.data.toList.drop 0 = dktX20_shows_0 := by decide +kernel
theorem dX20_shows_0 : decode cX20_shows 0 = .ok (.aload_n 0, 1) := dk_42 (dk_at dksX20_shows_0 0 rfl rfl)
theorem dX20_shows_1 : decode cX20_shows 1 = .ok (.getfield 1, 3) := dk_180 0 1 (dk_at dksX20_shows_0 1 rfl rfl)
theorem dX20_shows_4 : decode cX20_shows 4 = .ok (.bipush 40, 2) := dk_16 40 (dk_at dksX20_shows_0 4 rfl rfl)
theorem dX20_shows_6 : decode cX20_shows 6 = .ok (.invokevirtual 17, 3) := dk_182 0 17 (dk_at dksX20_shows_0 6 rfl rfl)
theorem dX20_shows_9 : decode cX20_shows 9 = .ok (.aload_n 0, 1) := dk_42 (dk_at dksX20_shows_0 9 rfl rfl)
theorem dX20_shows_10 : decode cX20_shows 10 = .ok (.iload_n 1, 1) := dk_27 (dk_at dksX20_shows_0 10 rfl rfl)
theorem dX20_shows_11 : decode cX20_shows 11 = .ok (.invokespecial 23, 3) := dk_183 0 23 (dk_at dksX20_shows_0 11 rfl rfl)
theorem dX20_shows_14 : decode cX20_shows 14 = .ok (.iconst 3, 1) := dk_6 (dk_at dksX20_shows_0 14 rfl rfl)
theorem dX20_shows_15 : decode cX20_shows 15 = .ok (.imul, 1) := dk_104 (dk_at dksX20_shows_0 15 rfl rfl)
theorem dX20_shows_16 : decode cX20_shows 16 = .ok (.ireturn, 1) := dk_172 (dk_at dksX20_shows_0 16 rfl rfl)
abbrev cX20_isUnder : ByteArray := prog_2_method_3_code
def yX20_isUnder : MethodName := ⟨RX20, "isUnder", "(I)Z"⟩
def dkwX20_isUnder_0 : List UInt8 := [27, 6, 159, 0, 11, 42, 27, 183, 0, 13, 153, 0, 7, 4, 167, 0, 4, 3, 172]
abbrev dktX20_isUnder_0 : List UInt8 := dkwX20_isUnder_0 ++ []
theorem dksX20_isUnder_0 : cX20_isUnder.data.toList.drop 0 = dktX20_isUnder_0 := by decide +kernel
theorem dX20_isUnder_0 : decode cX20_isUnder 0 = .ok (.iload_n 1, 1) := dk_27 (dk_at dksX20_isUnder_0 0 rfl rfl)
theorem dX20_isUnder_1 : decode cX20_isUnder 1 = .ok (.iconst 3, 1) := dk_6 (dk_at dksX20_isUnder_0 1 rfl rfl)
theorem dX20_isUnder_2 : decode cX20_isUnder 2 = .ok (.if_icmp .eq 11, 3) := dk_159 0 11 (dk_at dksX20_isUnder_0 2 rfl rfl)
theorem dX20_isUnder_5 : decode cX20_isUnder 5 = .ok (.aload_n 0, 1) := dk_42 (dk_at dksX20_isUnder_0 5 rfl rfl)
theorem dX20_isUnder_6 : decode cX20_isUnder 6 = .ok (.iload_n 1, 1) := dk_27 (dk_at dksX20_isUnder_0 6 rfl rfl)
theorem dX20_isUnder_7 : decode cX20_isUnder 7 = .ok (.invokespecial 13, 3) := dk_183 0 13 (dk_at dksX20_isUnder_0 7 rfl rfl)
theorem dX20_isUnder_10 : decode cX20_isUnder 10 = .ok (.ifCond .eq 7, 3) := dk_153 0 7 (dk_at dksX20_isUnder_0 10 rfl rfl)
theorem dX20_isUnder_13 : decode cX20_isUnder 13 = .ok (.iconst 1, 1) := dk_4 (dk_at dksX20_isUnder_0 13 rfl rfl)
theorem dX20_isUnder_14 : decode cX20_isUnder 14 = .ok (.goto 4, 3) := dk_167 0 4 (dk_at dksX20_isUnder_0 14 rfl rfl)
theorem dX20_isUnder_17 : decode cX20_isUnder 17 = .ok (.iconst 0, 1) := dk_3 (dk_at dksX20_isUnder_0 17 rfl rfl)
theorem dX20_isUnder_18 : decode cX20_isUnder 18 = .ok (.ireturn, 1) := dk_172 (dk_at dksX20_isUnder_0 18 rfl rfl)
abbrev cX20_kind : ByteArray := prog_2_method_2_code
def yX20_kind : MethodName := ⟨RX20, "kind", "()I"⟩
theorem dX20_kind_0 : decode cX20_kind 0 = .ok (.iconst 3, 1) := by decide +kernel
theorem dX20_kind_1 : decode cX20_kind 1 = .ok (.ireturn, 1) := by decide +kernel
theorem q119 : (Jvm.Cond.initialized "ChairOld$Aged") ∈ lw_all := lw_g (lw_at lw_m1 35 rfl) rfl
theorem q1055 : (Jvm.Cond.instantiable "ChairOld$Aged" (4 : Nat)) ∈ lw_all := lw_g (lw_at lw_m5 11 rfl) rfl
theorem q1057 : (Jvm.Cond.instanceMethod ({ cls := "ChairOld$Aged", name := "<init>", desc := "(LChairOld;I)V" } : Jvm.MethodName)) ∈ lw_all := lw_g (lw_at lw_m5 13 rfl) rfl
theorem q1058 : (Jvm.Cond.code ({ cls := "ChairOld$Aged", name := "<init>", desc := "(LChairOld;I)V" } : Jvm.MethodName) prog_2_method_1_code (3 : Nat) (Option.none : Option Jvm.ClassFile.FieldType)) ∈ lw_all := lw_g (lw_at lw_m5 14 rfl) rfl
theorem q1059 : (Jvm.Cond.methodLink "ChairOld$Aged" (7 : Nat) ({ cls := "ChairOld$Mended", name := "<init>", desc := "(LChairOld;I)V" } : Jvm.MethodName)) ∈ lw_all := lw_g (lw_at lw_m5 15 rfl) rfl
theorem q1060 : (Jvm.Cond.fieldLink "ChairOld$Aged" (1 : Nat) "ChairOld$Aged" "this$0" "LChairOld;") ∈ lw_all := lw_g (lw_at lw_m5 16 rfl) rfl
theorem q1061 : (Jvm.Cond.laysFinal "ChairOld$Aged" "ChairOld$Aged" "this$0" "LChairOld;") ∈ lw_all := lw_g (lw_at lw_m5 17 rfl) rfl
theorem q1062 : (Jvm.Cond.soleField "ChairOld$Aged" "this$0") ∈ lw_all := lw_g (lw_at lw_m5 18 rfl) rfl
theorem q1063 : (Jvm.Cond.laysFinal "ChairOld$Aged" "ChairOld$Mended" "this$0" "LChairOld;") ∈ lw_all := lw_g (lw_at lw_m5 19 rfl) rfl
theorem q1064 : (Jvm.Cond.laysFinal "ChairOld$Aged" "ChairOld$Plain" "number" "I") ∈ lw_all := lw_g (lw_at lw_m5 20 rfl) rfl
theorem q1065 : (Jvm.Cond.laysFinal "ChairOld$Aged" "ChairOld$Plain" "this$0" "LChairOld;") ∈ lw_all := lw_g (lw_at lw_m5 21 rfl) rfl
theorem q1066 : (Jvm.Cond.superclass "ChairOld$Aged" "ChairOld$Mended") ∈ lw_all := lw_g (lw_at lw_m5 22 rfl) rfl
theorem q1137 : (Jvm.Cond.castable "ChairOld$Aged" "ChairOld$Ages") ∈ lw_tbl := lw_at lw_m5 93 rfl
theorem q1138 : (Jvm.Cond.selects "ChairOld$Aged" ({ cls := "ChairOld$Ages", name := "ages", desc := "(I)I" } : Jvm.MethodName) ({ cls := "ChairOld$Plain", name := "ages", desc := "(I)I" } : Jvm.MethodName)) ∈ lw_all := lw_g (lw_at lw_m5 94 rfl) rfl
theorem q1139 : (Jvm.Cond.unhidden "ChairOld$Aged" "ages" "(I)I") ∈ lw_tbl := lw_at lw_m5 95 rfl
theorem q1182 : (Jvm.Cond.castable "ChairOld$Aged" "ChairOld$Tells") ∈ lw_tbl := lw_at lw_m5 138 rfl
theorem q1183 : (Jvm.Cond.selects "ChairOld$Aged" ({ cls := "ChairOld$Tells", name := "tells", desc := "(I)I" } : Jvm.MethodName) ({ cls := "ChairOld$Plain", name := "tells", desc := "(I)I" } : Jvm.MethodName)) ∈ lw_all := lw_g (lw_at lw_m5 139 rfl) rfl
theorem q1184 : (Jvm.Cond.unhidden "ChairOld$Aged" "tells" "(I)I") ∈ lw_tbl := lw_at lw_m5 140 rfl
theorem q1192 : (Jvm.Cond.selects "ChairOld$Aged" ({ cls := "ChairOld$Plain", name := "joins", desc := "(I)I" } : Jvm.MethodName) ({ cls := "ChairOld$Aged", name := "joins", desc := "(I)I" } : Jvm.MethodName)) ∈ lw_all := lw_g (lw_at lw_m5 148 rfl) rfl
theorem q1193 : (Jvm.Cond.instanceMethod ({ cls := "ChairOld$Aged", name := "joins", desc := "(I)I" } : Jvm.MethodName)) ∈ lw_all := lw_g (lw_at lw_m5 149 rfl) rfl
theorem q1194 : (Jvm.Cond.code ({ cls := "ChairOld$Aged", name := "joins", desc := "(I)I" } : Jvm.MethodName) prog_2_method_5_code (2 : Nat) (Option.some Jvm.ClassFile.FieldType.int)) ∈ lw_all := lw_g (lw_at lw_m5 150 rfl) rfl
theorem q1195 : (Jvm.Cond.methodLinkNest "ChairOld$Aged" (17 : Nat) ({ cls := "ChairOld", name := "ran", desc := "(I)V" } : Jvm.MethodName) "ChairOld") ∈ lw_tbl := lw_at lw_m5 151 rfl
theorem q1196 : (Jvm.Cond.methodLink "ChairOld$Aged" (27 : Nat) ({ cls := "ChairOld$Mended", name := "joins", desc := "(I)I" } : Jvm.MethodName)) ∈ lw_all := lw_g (lw_at lw_m5 152 rfl) rfl
theorem q1233 : (Jvm.Cond.instanceMethod ({ cls := "ChairOld$Aged", name := "shows", desc := "(I)I" } : Jvm.MethodName)) ∈ lw_all := lw_g (lw_at lw_m5 189 rfl) rfl
theorem q1234 : (Jvm.Cond.code ({ cls := "ChairOld$Aged", name := "shows", desc := "(I)I" } : Jvm.MethodName) prog_2_method_4_code (2 : Nat) (Option.some Jvm.ClassFile.FieldType.int)) ∈ lw_all := lw_g (lw_at lw_m5 190 rfl) rfl
theorem q1235 : (Jvm.Cond.methodLink "ChairOld$Aged" (23 : Nat) ({ cls := "ChairOld$Mended", name := "shows", desc := "(I)I" } : Jvm.MethodName)) ∈ lw_all := lw_g (lw_at lw_m5 191 rfl) rfl
theorem q1245 : (Jvm.Cond.sameMethod "ChairOld$Aged" "ChairOld$Plain" "tells" "(I)I") ∈ lw_all := lw_g (lw_at lw_m5 201 rfl) rfl
theorem q1440 : (Jvm.Cond.selects "ChairOld$Aged" ({ cls := "ChairOld$Plain", name := "isUnder", desc := "(I)Z" } : Jvm.MethodName) ({ cls := "ChairOld$Aged", name := "isUnder", desc := "(I)Z" } : Jvm.MethodName)) ∈ lw_all := lw_g (lw_at lw_m6 156 rfl) rfl
theorem q1441 : (Jvm.Cond.instanceMethod ({ cls := "ChairOld$Aged", name := "isUnder", desc := "(I)Z" } : Jvm.MethodName)) ∈ lw_all := lw_g (lw_at lw_m6 157 rfl) rfl
theorem q1442 : (Jvm.Cond.code ({ cls := "ChairOld$Aged", name := "isUnder", desc := "(I)Z" } : Jvm.MethodName) prog_2_method_3_code (2 : Nat) (Option.some Jvm.ClassFile.FieldType.boolean)) ∈ lw_all := lw_g (lw_at lw_m6 158 rfl) rfl
theorem q1443 : (Jvm.Cond.methodLink "ChairOld$Aged" (13 : Nat) ({ cls := "ChairOld$Mended", name := "isUnder", desc := "(I)Z" } : Jvm.MethodName)) ∈ lw_all := lw_g (lw_at lw_m6 159 rfl) rfl
theorem q1464 : (Jvm.Cond.selects "ChairOld$Aged" ({ cls := "ChairOld$Plain", name := "kind", desc := "()I" } : Jvm.MethodName) ({ cls := "ChairOld$Aged", name := "kind", desc := "()I" } : Jvm.MethodName)) ∈ lw_all := lw_g (lw_at lw_m6 180 rfl) rfl
theorem q1465 : (Jvm.Cond.instanceMethod ({ cls := "ChairOld$Aged", name := "kind", desc := "()I" } : Jvm.MethodName)) ∈ lw_all := lw_g (lw_at lw_m6 181 rfl) rfl
theorem q1466 : (Jvm.Cond.code ({ cls := "ChairOld$Aged", name := "kind", desc := "()I" } : Jvm.MethodName) prog_2_method_2_code (1 : Nat) (Option.some Jvm.ClassFile.FieldType.int)) ∈ lw_all := lw_g (lw_at lw_m6 182 rfl) rfl
theorem q2004 : (Jvm.Cond.selects "ChairOld$Aged" ({ cls := "ChairOld$Plain", name := "ages", desc := "(I)I" } : Jvm.MethodName) ({ cls := "ChairOld$Plain", name := "ages", desc := "(I)I" } : Jvm.MethodName)) ∈ lw_all := lw_g (lw_at lw_m9 0 rfl) rfl
theorem q2013 : (Jvm.Cond.selects "ChairOld$Aged" ({ cls := "ChairOld$Plain", name := "shows", desc := "(I)I" } : Jvm.MethodName) ({ cls := "ChairOld$Aged", name := "shows", desc := "(I)I" } : Jvm.MethodName)) ∈ lw_all := lw_g (lw_at lw_m9 9 rfl) rfl
theorem q2029 : (Jvm.Cond.castable "ChairOld$Aged" "ChairOld$Plain") ∈ lw_tbl := lw_at lw_m9 25 rfl
theorem q2038 : (Jvm.Cond.castable "ChairOld$Aged" "ChairOld$Held") ∈ lw_tbl := lw_at lw_m9 34 rfl
theorem in_X20 : ∀ w ∈ wsX200, w ∈ lw_all := lw_in wsX200 [1064, 1065, 1063, 1061] (by decide +kernel) (by decide +kernel)
/-! ChairOld$Split -/
set_option maxRecDepth 100000
def RX21 : String := "ChairOld$Split"
def TX21 : u_T := fun k => match k with
  | 0 => ("ChairOld$Plain", "number", "I", true)
  | 1 => ("ChairOld$Plain", "this$0", "LChairOld;", true)
  | 2 => ("ChairOld$Old", "this$0", "LChairOld;", true)
  | _ => ("ChairOld$Split", "this$0", "LChairOld;", true)
def tyX21 : Nat → FieldType := fun k => match k with
  | 0 => .int
  | 1 => .object "ChairOld"
  | 2 => .object "ChairOld"
  | _ => .object "ChairOld"
abbrev wsX210 : List Cond := u_ws RX21 TX21 4
-- two fields of one name: no nmX21
theorem tyX21_ok : ∀ k, k < 4 → parseFieldDescriptor (TX21 k).2.2.1 = some (tyX21 k) := by decide +kernel
abbrev cX21_init : ByteArray := prog_30_method_1_code
def yX21_init : MethodName := ⟨RX21, "<init>", "(LChairOld;I)V"⟩
def dkwX21_init_0 : List UInt8 := [42, 43, 181, 0, 1, 42, 43, 28, 183, 0, 7, 177]
abbrev dktX21_init_0 : List UInt8 := dkwX21_init_0 ++ []
theorem dksX21_init_0 : cX21_init.data.toList.drop 0 = dktX21_init_0 := by decide +kernel
theorem dX21_init_0 : decode cX21_init 0 = .ok (.aload_n 0, 1) := dk_42 (dk_at dksX21_init_0 0 rfl rfl)
theorem dX21_init_1 : decode cX21_init 1 = .ok (.aload_n 1, 1) := dk_43 (dk_at dksX21_init_0 1 rfl rfl)
theorem dX21_init_2 : decode cX21_init 2 = .ok (.putfield 1, 3) := dk_181 0 1 (dk_at dksX21_init_0 2 rfl rfl)
theorem dX21_init_5 : decode cX21_init 5 = .ok (.aload_n 0, 1) := dk_42 (dk_at dksX21_init_0 5 rfl rfl)
theorem dX21_init_6 : decode cX21_init 6 = .ok (.aload_n 1, 1) := dk_43 (dk_at dksX21_init_0 6 rfl rfl)
theorem dX21_init_7 : decode cX21_init 7 = .ok (.iload_n 2, 1) := dk_28 (dk_at dksX21_init_0 7 rfl rfl)
theorem dX21_init_8 : decode cX21_init 8 = .ok (.invokespecial 7, 3) := dk_183 0 7 (dk_at dksX21_init_0 8 rfl rfl)
theorem dX21_init_11 : decode cX21_init 11 = .ok (.return_, 1) := dk_177 (dk_at dksX21_init_0 11 rfl rfl)
abbrev cX21_shows : ByteArray := prog_30_method_4_code
def yX21_shows : MethodName := ⟨RX21, "shows", "(I)I"⟩
def dkwX21_shows_0 : List UInt8 := [42, 180, 0, 1, 16, 50, 182, 0, 17, 42, 27, 183, 0, 23, 61, 28, 42, 5, 182, 0, 27, 100, 172]
abbrev dktX21_shows_0 : List UInt8 := dkwX21_shows_0 ++ []
theorem dksX21_shows_0 : cX21_shows.data.toList.drop 0 = dktX21_shows_0 := by decide +kernel
theorem dX21_shows_0 : decode cX21_shows 0 = .ok (.aload_n 0, 1) := dk_42 (dk_at dksX21_shows_0 0 rfl rfl)
theorem dX21_shows_1 : decode cX21_shows 1 = .ok (.getfield 1, 3) := dk_180 0 1 (dk_at dksX21_shows_0 1 rfl rfl)
theorem dX21_shows_4 : decode cX21_shows 4 = .ok (.bipush 50, 2) := dk_16 50 (dk_at dksX21_shows_0 4 rfl rfl)
theorem dX21_shows_6 : decode cX21_shows 6 = .ok (.invokevirtual 17, 3) := dk_182 0 17 (dk_at dksX21_shows_0 6 rfl rfl)
theorem dX21_shows_9 : decode cX21_shows 9 = .ok (.aload_n 0, 1) := dk_42 (dk_at dksX21_shows_0 9 rfl rfl)
theorem dX21_shows_10 : decode cX21_shows 10 = .ok (.iload_n 1, 1) := dk_27 (dk_at dksX21_shows_0 10 rfl rfl)
theorem dX21_shows_11 : decode cX21_shows 11 = .ok (.invokespecial 23, 3) := dk_183 0 23 (dk_at dksX21_shows_0 11 rfl rfl)
theorem dX21_shows_14 : decode cX21_shows 14 = .ok (.istore_n 2, 1) := dk_61 (dk_at dksX21_shows_0 14 rfl rfl)
theorem dX21_shows_15 : decode cX21_shows 15 = .ok (.iload_n 2, 1) := dk_28 (dk_at dksX21_shows_0 15 rfl rfl)
theorem dX21_shows_16 : decode cX21_shows 16 = .ok (.aload_n 0, 1) := dk_42 (dk_at dksX21_shows_0 16 rfl rfl)
theorem dX21_shows_17 : decode cX21_shows 17 = .ok (.iconst 2, 1) := dk_5 (dk_at dksX21_shows_0 17 rfl rfl)
theorem dX21_shows_18 : decode cX21_shows 18 = .ok (.invokevirtual 27, 3) := dk_182 0 27 (dk_at dksX21_shows_0 18 rfl rfl)
theorem dX21_shows_21 : decode cX21_shows 21 = .ok (.isub, 1) := dk_100 (dk_at dksX21_shows_0 21 rfl rfl)
theorem dX21_shows_22 : decode cX21_shows 22 = .ok (.ireturn, 1) := dk_172 (dk_at dksX21_shows_0 22 rfl rfl)
abbrev cX21_isUnder : ByteArray := prog_30_method_3_code
def yX21_isUnder : MethodName := ⟨RX21, "isUnder", "(I)Z"⟩
def dkwX21_isUnder_0 : List UInt8 := [27, 7, 159, 0, 11, 42, 27, 183, 0, 13, 153, 0, 7, 4, 167, 0, 4, 3, 172]
abbrev dktX21_isUnder_0 : List UInt8 := dkwX21_isUnder_0 ++ []
theorem dksX21_isUnder_0 : cX21_isUnder.data.toList.drop 0 = dktX21_isUnder_0 := by decide +kernel
theorem dX21_isUnder_0 : decode cX21_isUnder 0 = .ok (.iload_n 1, 1) := dk_27 (dk_at dksX21_isUnder_0 0 rfl rfl)
theorem dX21_isUnder_1 : decode cX21_isUnder 1 = .ok (.iconst 4, 1) := dk_7 (dk_at dksX21_isUnder_0 1 rfl rfl)
theorem dX21_isUnder_2 : decode cX21_isUnder 2 = .ok (.if_icmp .eq 11, 3) := dk_159 0 11 (dk_at dksX21_isUnder_0 2 rfl rfl)
theorem dX21_isUnder_5 : decode cX21_isUnder 5 = .ok (.aload_n 0, 1) := dk_42 (dk_at dksX21_isUnder_0 5 rfl rfl)
theorem dX21_isUnder_6 : decode cX21_isUnder 6 = .ok (.iload_n 1, 1) := dk_27 (dk_at dksX21_isUnder_0 6 rfl rfl)
theorem dX21_isUnder_7 : decode cX21_isUnder 7 = .ok (.invokespecial 13, 3) := dk_183 0 13 (dk_at dksX21_isUnder_0 7 rfl rfl)
theorem dX21_isUnder_10 : decode cX21_isUnder 10 = .ok (.ifCond .eq 7, 3) := dk_153 0 7 (dk_at dksX21_isUnder_0 10 rfl rfl)
theorem dX21_isUnder_13 : decode cX21_isUnder 13 = .ok (.iconst 1, 1) := dk_4 (dk_at dksX21_isUnder_0 13 rfl rfl)
theorem dX21_isUnder_14 : decode cX21_isUnder 14 = .ok (.goto 4, 3) := dk_167 0 4 (dk_at dksX21_isUnder_0 14 rfl rfl)
theorem dX21_isUnder_17 : decode cX21_isUnder 17 = .ok (.iconst 0, 1) := dk_3 (dk_at dksX21_isUnder_0 17 rfl rfl)
theorem dX21_isUnder_18 : decode cX21_isUnder 18 = .ok (.ireturn, 1) := dk_172 (dk_at dksX21_isUnder_0 18 rfl rfl)
abbrev cX21_kind : ByteArray := prog_30_method_2_code
def yX21_kind : MethodName := ⟨RX21, "kind", "()I"⟩
theorem dX21_kind_0 : decode cX21_kind 0 = .ok (.iconst 4, 1) := by decide +kernel
theorem dX21_kind_1 : decode cX21_kind 1 = .ok (.ireturn, 1) := by decide +kernel
theorem q120 : (Jvm.Cond.initialized "ChairOld$Split") ∈ lw_all := lw_g (lw_at lw_m1 36 rfl) rfl
theorem q1068 : (Jvm.Cond.instantiable "ChairOld$Split" (4 : Nat)) ∈ lw_all := lw_g (lw_at lw_m5 24 rfl) rfl
theorem q1070 : (Jvm.Cond.instanceMethod ({ cls := "ChairOld$Split", name := "<init>", desc := "(LChairOld;I)V" } : Jvm.MethodName)) ∈ lw_all := lw_g (lw_at lw_m5 26 rfl) rfl
theorem q1071 : (Jvm.Cond.code ({ cls := "ChairOld$Split", name := "<init>", desc := "(LChairOld;I)V" } : Jvm.MethodName) prog_30_method_1_code (3 : Nat) (Option.none : Option Jvm.ClassFile.FieldType)) ∈ lw_all := lw_g (lw_at lw_m5 27 rfl) rfl
theorem q1072 : (Jvm.Cond.methodLink "ChairOld$Split" (7 : Nat) ({ cls := "ChairOld$Old", name := "<init>", desc := "(LChairOld;I)V" } : Jvm.MethodName)) ∈ lw_all := lw_g (lw_at lw_m5 28 rfl) rfl
theorem q1073 : (Jvm.Cond.fieldLink "ChairOld$Split" (1 : Nat) "ChairOld$Split" "this$0" "LChairOld;") ∈ lw_all := lw_g (lw_at lw_m5 29 rfl) rfl
theorem q1074 : (Jvm.Cond.laysFinal "ChairOld$Split" "ChairOld$Split" "this$0" "LChairOld;") ∈ lw_all := lw_g (lw_at lw_m5 30 rfl) rfl
theorem q1075 : (Jvm.Cond.soleField "ChairOld$Split" "this$0") ∈ lw_all := lw_g (lw_at lw_m5 31 rfl) rfl
theorem q1076 : (Jvm.Cond.laysFinal "ChairOld$Split" "ChairOld$Old" "this$0" "LChairOld;") ∈ lw_all := lw_g (lw_at lw_m5 32 rfl) rfl
theorem q1077 : (Jvm.Cond.laysFinal "ChairOld$Split" "ChairOld$Plain" "number" "I") ∈ lw_all := lw_g (lw_at lw_m5 33 rfl) rfl
theorem q1078 : (Jvm.Cond.laysFinal "ChairOld$Split" "ChairOld$Plain" "this$0" "LChairOld;") ∈ lw_all := lw_g (lw_at lw_m5 34 rfl) rfl
theorem q1079 : (Jvm.Cond.superclass "ChairOld$Split" "ChairOld$Old") ∈ lw_all := lw_g (lw_at lw_m5 35 rfl) rfl
theorem q1175 : (Jvm.Cond.castable "ChairOld$Split" "ChairOld$Ages") ∈ lw_tbl := lw_at lw_m5 131 rfl
theorem q1176 : (Jvm.Cond.selects "ChairOld$Split" ({ cls := "ChairOld$Ages", name := "ages", desc := "(I)I" } : Jvm.MethodName) ({ cls := "ChairOld$Old", name := "ages", desc := "(I)I" } : Jvm.MethodName)) ∈ lw_all := lw_g (lw_at lw_m5 132 rfl) rfl
theorem q1177 : (Jvm.Cond.unhidden "ChairOld$Split" "ages" "(I)I") ∈ lw_tbl := lw_at lw_m5 133 rfl
theorem q1207 : (Jvm.Cond.sameMethod "ChairOld$Split" "ChairOld$Plain" "joins" "(I)I") ∈ lw_all := lw_g (lw_at lw_m5 163 rfl) rfl
theorem q1211 : (Jvm.Cond.declares ({ cls := "ChairOld$Split", name := "shows", desc := "(I)I" } : Jvm.MethodName)) ∈ lw_tbl := lw_at lw_m5 167 rfl
theorem q1213 : (Jvm.Cond.instanceMethod ({ cls := "ChairOld$Split", name := "shows", desc := "(I)I" } : Jvm.MethodName)) ∈ lw_all := lw_g (lw_at lw_m5 169 rfl) rfl
theorem q1214 : (Jvm.Cond.code ({ cls := "ChairOld$Split", name := "shows", desc := "(I)I" } : Jvm.MethodName) prog_30_method_4_code (3 : Nat) (Option.some Jvm.ClassFile.FieldType.int)) ∈ lw_all := lw_g (lw_at lw_m5 170 rfl) rfl
theorem q1215 : (Jvm.Cond.methodLinkNest "ChairOld$Split" (17 : Nat) ({ cls := "ChairOld", name := "ran", desc := "(I)V" } : Jvm.MethodName) "ChairOld") ∈ lw_tbl := lw_at lw_m5 171 rfl
theorem q1216 : (Jvm.Cond.methodLink "ChairOld$Split" (23 : Nat) ({ cls := "ChairOld$Old", name := "shows", desc := "(I)I" } : Jvm.MethodName)) ∈ lw_all := lw_g (lw_at lw_m5 172 rfl) rfl
theorem q1221 : (Jvm.Cond.methodLink "ChairOld$Split" (27 : Nat) ({ cls := "ChairOld$Split", name := "ages", desc := "(I)I" } : Jvm.MethodName)) ∈ lw_all := lw_g (lw_at lw_m5 177 rfl) rfl
theorem q1222 : (Jvm.Cond.sameMethod "ChairOld$Split" "ChairOld$Old" "ages" "(I)I") ∈ lw_all := lw_g (lw_at lw_m5 178 rfl) rfl
theorem q1225 : (Jvm.Cond.selects "ChairOld$Split" ({ cls := "ChairOld$Split", name := "ages", desc := "(I)I" } : Jvm.MethodName) ({ cls := "ChairOld$Old", name := "ages", desc := "(I)I" } : Jvm.MethodName)) ∈ lw_all := lw_g (lw_at lw_m5 181 rfl) rfl
theorem q1229 : (Jvm.Cond.selects "ChairOld$Split" ({ cls := "ChairOld$Plain", name := "joins", desc := "(I)I" } : Jvm.MethodName) ({ cls := "ChairOld$Plain", name := "joins", desc := "(I)I" } : Jvm.MethodName)) ∈ lw_all := lw_g (lw_at lw_m5 185 rfl) rfl
theorem q1254 : (Jvm.Cond.sameMethod "ChairOld$Split" "ChairOld$Plain" "tells" "(I)I") ∈ lw_all := lw_g (lw_at lw_m5 210 rfl) rfl
theorem q1267 : (Jvm.Cond.castable "ChairOld$Split" "ChairOld$Tells") ∈ lw_tbl := lw_at lw_m5 223 rfl
theorem q1268 : (Jvm.Cond.selects "ChairOld$Split" ({ cls := "ChairOld$Tells", name := "tells", desc := "(I)I" } : Jvm.MethodName) ({ cls := "ChairOld$Plain", name := "tells", desc := "(I)I" } : Jvm.MethodName)) ∈ lw_all := lw_g (lw_at lw_m5 224 rfl) rfl
theorem q1269 : (Jvm.Cond.unhidden "ChairOld$Split" "tells" "(I)I") ∈ lw_tbl := lw_at lw_m5 225 rfl
theorem q1449 : (Jvm.Cond.instanceMethod ({ cls := "ChairOld$Split", name := "isUnder", desc := "(I)Z" } : Jvm.MethodName)) ∈ lw_all := lw_g (lw_at lw_m6 165 rfl) rfl
theorem q1450 : (Jvm.Cond.code ({ cls := "ChairOld$Split", name := "isUnder", desc := "(I)Z" } : Jvm.MethodName) prog_30_method_3_code (2 : Nat) (Option.some Jvm.ClassFile.FieldType.boolean)) ∈ lw_all := lw_g (lw_at lw_m6 166 rfl) rfl
theorem q1451 : (Jvm.Cond.methodLink "ChairOld$Split" (13 : Nat) ({ cls := "ChairOld$Old", name := "isUnder", desc := "(I)Z" } : Jvm.MethodName)) ∈ lw_all := lw_g (lw_at lw_m6 167 rfl) rfl
theorem q1458 : (Jvm.Cond.selects "ChairOld$Split" ({ cls := "ChairOld$Plain", name := "isUnder", desc := "(I)Z" } : Jvm.MethodName) ({ cls := "ChairOld$Split", name := "isUnder", desc := "(I)Z" } : Jvm.MethodName)) ∈ lw_all := lw_g (lw_at lw_m6 174 rfl) rfl
theorem q1482 : (Jvm.Cond.selects "ChairOld$Split" ({ cls := "ChairOld$Plain", name := "kind", desc := "()I" } : Jvm.MethodName) ({ cls := "ChairOld$Split", name := "kind", desc := "()I" } : Jvm.MethodName)) ∈ lw_all := lw_g (lw_at lw_m6 198 rfl) rfl
theorem q1483 : (Jvm.Cond.instanceMethod ({ cls := "ChairOld$Split", name := "kind", desc := "()I" } : Jvm.MethodName)) ∈ lw_all := lw_g (lw_at lw_m6 199 rfl) rfl
theorem q1484 : (Jvm.Cond.code ({ cls := "ChairOld$Split", name := "kind", desc := "()I" } : Jvm.MethodName) prog_30_method_2_code (1 : Nat) (Option.some Jvm.ClassFile.FieldType.int)) ∈ lw_all := lw_g (lw_at lw_m6 200 rfl) rfl
theorem q2011 : (Jvm.Cond.selects "ChairOld$Split" ({ cls := "ChairOld$Plain", name := "ages", desc := "(I)I" } : Jvm.MethodName) ({ cls := "ChairOld$Old", name := "ages", desc := "(I)I" } : Jvm.MethodName)) ∈ lw_all := lw_g (lw_at lw_m9 7 rfl) rfl
theorem q2020 : (Jvm.Cond.selects "ChairOld$Split" ({ cls := "ChairOld$Plain", name := "shows", desc := "(I)I" } : Jvm.MethodName) ({ cls := "ChairOld$Split", name := "shows", desc := "(I)I" } : Jvm.MethodName)) ∈ lw_all := lw_g (lw_at lw_m9 16 rfl) rfl
theorem q2035 : (Jvm.Cond.castable "ChairOld$Split" "ChairOld$Plain") ∈ lw_tbl := lw_at lw_m9 31 rfl
theorem q2039 : (Jvm.Cond.castable "ChairOld$Split" "ChairOld$Held") ∈ lw_tbl := lw_at lw_m9 35 rfl
theorem in_X21 : ∀ w ∈ wsX210, w ∈ lw_all := lw_in wsX210 [1077, 1078, 1076, 1074] (by decide +kernel) (by decide +kernel)
/-! ChairOld$Cut -/
set_option maxRecDepth 100000
def RX22 : String := "ChairOld$Cut"
def TX22 : u_T := fun k => match k with
  | 0 => ("ChairOld$Plain", "number", "I", true)
  | 1 => ("ChairOld$Plain", "this$0", "LChairOld;", true)
  | 2 => ("ChairOld$Mended", "this$0", "LChairOld;", true)
  | 3 => ("ChairOld$Aged", "this$0", "LChairOld;", true)
  | _ => ("ChairOld$Cut", "this$0", "LChairOld;", true)
def tyX22 : Nat → FieldType := fun k => match k with
  | 0 => .int
  | 1 => .object "ChairOld"
  | 2 => .object "ChairOld"
  | 3 => .object "ChairOld"
  | _ => .object "ChairOld"
abbrev wsX220 : List Cond := u_ws RX22 TX22 5
-- two fields of one name: no nmX22
theorem tyX22_ok : ∀ k, k < 5 → parseFieldDescriptor (TX22 k).2.2.1 = some (tyX22 k) := by decide +kernel
abbrev cX22_init : ByteArray := prog_7_method_1_code
def yX22_init : MethodName := ⟨RX22, "<init>", "(LChairOld;I)V"⟩
def dkwX22_init_0 : List UInt8 := [42, 43, 181, 0, 1, 42, 43, 28, 183, 0, 7, 177]
abbrev dktX22_init_0 : List UInt8 := dkwX22_init_0 ++ []
theorem dksX22_init_0 : cX22_init.data.toList.drop 0 = dktX22_init_0 := by decide +kernel
theorem dX22_init_0 : decode cX22_init 0 = .ok (.aload_n 0, 1) := dk_42 (dk_at dksX22_init_0 0 rfl rfl)
theorem dX22_init_1 : decode cX22_init 1 = .ok (.aload_n 1, 1) := dk_43 (dk_at dksX22_init_0 1 rfl rfl)
theorem dX22_init_2 : decode cX22_init 2 = .ok (.putfield 1, 3) := dk_181 0 1 (dk_at dksX22_init_0 2 rfl rfl)
theorem dX22_init_5 : decode cX22_init 5 = .ok (.aload_n 0, 1) := dk_42 (dk_at dksX22_init_0 5 rfl rfl)
theorem dX22_init_6 : decode cX22_init 6 = .ok (.aload_n 1, 1) := dk_43 (dk_at dksX22_init_0 6 rfl rfl)
theorem dX22_init_7 : decode cX22_init 7 = .ok (.iload_n 2, 1) := dk_28 (dk_at dksX22_init_0 7 rfl rfl)
theorem dX22_init_8 : decode cX22_init 8 = .ok (.invokespecial 7, 3) := dk_183 0 7 (dk_at dksX22_init_0 8 rfl rfl)
theorem dX22_init_11 : decode cX22_init 11 = .ok (.return_, 1) := dk_177 (dk_at dksX22_init_0 11 rfl rfl)
abbrev cX22_tells : ByteArray := prog_7_method_3_code
def yX22_tells : MethodName := ⟨RX22, "tells", "(I)I"⟩
def dkwX22_tells_0 : List UInt8 := [42, 180, 0, 1, 16, 60, 182, 0, 13, 42, 27, 183, 0, 19, 8, 130, 172]
abbrev dktX22_tells_0 : List UInt8 := dkwX22_tells_0 ++ []
theorem dksX22_tells_0 : cX22_tells.data.toList.drop 0 = dktX22_tells_0 := by decide +kernel
theorem dX22_tells_0 : decode cX22_tells 0 = .ok (.aload_n 0, 1) := dk_42 (dk_at dksX22_tells_0 0 rfl rfl)
theorem dX22_tells_1 : decode cX22_tells 1 = .ok (.getfield 1, 3) := dk_180 0 1 (dk_at dksX22_tells_0 1 rfl rfl)
theorem dX22_tells_4 : decode cX22_tells 4 = .ok (.bipush 60, 2) := dk_16 60 (dk_at dksX22_tells_0 4 rfl rfl)
theorem dX22_tells_6 : decode cX22_tells 6 = .ok (.invokevirtual 13, 3) := dk_182 0 13 (dk_at dksX22_tells_0 6 rfl rfl)
theorem dX22_tells_9 : decode cX22_tells 9 = .ok (.aload_n 0, 1) := dk_42 (dk_at dksX22_tells_0 9 rfl rfl)
theorem dX22_tells_10 : decode cX22_tells 10 = .ok (.iload_n 1, 1) := dk_27 (dk_at dksX22_tells_0 10 rfl rfl)
theorem dX22_tells_11 : decode cX22_tells 11 = .ok (.invokespecial 19, 3) := dk_183 0 19 (dk_at dksX22_tells_0 11 rfl rfl)
theorem dX22_tells_14 : decode cX22_tells 14 = .ok (.iconst 5, 1) := dk_8 (dk_at dksX22_tells_0 14 rfl rfl)
theorem dX22_tells_15 : decode cX22_tells 15 = .ok (.ixor, 1) := dk_130 (dk_at dksX22_tells_0 15 rfl rfl)
theorem dX22_tells_16 : decode cX22_tells 16 = .ok (.ireturn, 1) := dk_172 (dk_at dksX22_tells_0 16 rfl rfl)
abbrev cX22_kind : ByteArray := prog_7_method_2_code
def yX22_kind : MethodName := ⟨RX22, "kind", "()I"⟩
theorem dX22_kind_0 : decode cX22_kind 0 = .ok (.iconst 5, 1) := by decide +kernel
theorem dX22_kind_1 : decode cX22_kind 1 = .ok (.ireturn, 1) := by decide +kernel
theorem q121 : (Jvm.Cond.initialized "ChairOld$Cut") ∈ lw_all := lw_g (lw_at lw_m1 37 rfl) rfl
theorem q1081 : (Jvm.Cond.instantiable "ChairOld$Cut" (5 : Nat)) ∈ lw_all := lw_g (lw_at lw_m5 37 rfl) rfl
theorem q1083 : (Jvm.Cond.instanceMethod ({ cls := "ChairOld$Cut", name := "<init>", desc := "(LChairOld;I)V" } : Jvm.MethodName)) ∈ lw_all := lw_g (lw_at lw_m5 39 rfl) rfl
theorem q1084 : (Jvm.Cond.code ({ cls := "ChairOld$Cut", name := "<init>", desc := "(LChairOld;I)V" } : Jvm.MethodName) prog_7_method_1_code (3 : Nat) (Option.none : Option Jvm.ClassFile.FieldType)) ∈ lw_all := lw_g (lw_at lw_m5 40 rfl) rfl
theorem q1085 : (Jvm.Cond.methodLink "ChairOld$Cut" (7 : Nat) ({ cls := "ChairOld$Aged", name := "<init>", desc := "(LChairOld;I)V" } : Jvm.MethodName)) ∈ lw_all := lw_g (lw_at lw_m5 41 rfl) rfl
theorem q1086 : (Jvm.Cond.fieldLink "ChairOld$Cut" (1 : Nat) "ChairOld$Cut" "this$0" "LChairOld;") ∈ lw_all := lw_g (lw_at lw_m5 42 rfl) rfl
theorem q1087 : (Jvm.Cond.laysFinal "ChairOld$Cut" "ChairOld$Cut" "this$0" "LChairOld;") ∈ lw_all := lw_g (lw_at lw_m5 43 rfl) rfl
theorem q1088 : (Jvm.Cond.soleField "ChairOld$Cut" "this$0") ∈ lw_all := lw_g (lw_at lw_m5 44 rfl) rfl
theorem q1089 : (Jvm.Cond.laysFinal "ChairOld$Cut" "ChairOld$Aged" "this$0" "LChairOld;") ∈ lw_all := lw_g (lw_at lw_m5 45 rfl) rfl
theorem q1090 : (Jvm.Cond.laysFinal "ChairOld$Cut" "ChairOld$Mended" "this$0" "LChairOld;") ∈ lw_all := lw_g (lw_at lw_m5 46 rfl) rfl
theorem q1091 : (Jvm.Cond.laysFinal "ChairOld$Cut" "ChairOld$Plain" "number" "I") ∈ lw_all := lw_g (lw_at lw_m5 47 rfl) rfl
theorem q1092 : (Jvm.Cond.laysFinal "ChairOld$Cut" "ChairOld$Plain" "this$0" "LChairOld;") ∈ lw_all := lw_g (lw_at lw_m5 48 rfl) rfl
theorem q1093 : (Jvm.Cond.superclass "ChairOld$Cut" "ChairOld$Aged") ∈ lw_all := lw_g (lw_at lw_m5 49 rfl) rfl
theorem q1147 : (Jvm.Cond.castable "ChairOld$Cut" "ChairOld$Ages") ∈ lw_tbl := lw_at lw_m5 103 rfl
theorem q1148 : (Jvm.Cond.selects "ChairOld$Cut" ({ cls := "ChairOld$Ages", name := "ages", desc := "(I)I" } : Jvm.MethodName) ({ cls := "ChairOld$Plain", name := "ages", desc := "(I)I" } : Jvm.MethodName)) ∈ lw_all := lw_g (lw_at lw_m5 104 rfl) rfl
theorem q1149 : (Jvm.Cond.unhidden "ChairOld$Cut" "ages" "(I)I") ∈ lw_tbl := lw_at lw_m5 105 rfl
theorem q1201 : (Jvm.Cond.selects "ChairOld$Cut" ({ cls := "ChairOld$Plain", name := "joins", desc := "(I)I" } : Jvm.MethodName) ({ cls := "ChairOld$Aged", name := "joins", desc := "(I)I" } : Jvm.MethodName)) ∈ lw_all := lw_g (lw_at lw_m5 157 rfl) rfl
theorem q1237 : (Jvm.Cond.castable "ChairOld$Cut" "ChairOld$Tells") ∈ lw_tbl := lw_at lw_m5 193 rfl
theorem q1238 : (Jvm.Cond.selects "ChairOld$Cut" ({ cls := "ChairOld$Tells", name := "tells", desc := "(I)I" } : Jvm.MethodName) ({ cls := "ChairOld$Cut", name := "tells", desc := "(I)I" } : Jvm.MethodName)) ∈ lw_all := lw_g (lw_at lw_m5 194 rfl) rfl
theorem q1239 : (Jvm.Cond.unhidden "ChairOld$Cut" "tells" "(I)I") ∈ lw_tbl := lw_at lw_m5 195 rfl
theorem q1240 : (Jvm.Cond.instanceMethod ({ cls := "ChairOld$Cut", name := "tells", desc := "(I)I" } : Jvm.MethodName)) ∈ lw_all := lw_g (lw_at lw_m5 196 rfl) rfl
theorem q1241 : (Jvm.Cond.publicMethod ({ cls := "ChairOld$Cut", name := "tells", desc := "(I)I" } : Jvm.MethodName)) ∈ lw_tbl := lw_at lw_m5 197 rfl
theorem q1242 : (Jvm.Cond.code ({ cls := "ChairOld$Cut", name := "tells", desc := "(I)I" } : Jvm.MethodName) prog_7_method_3_code (2 : Nat) (Option.some Jvm.ClassFile.FieldType.int)) ∈ lw_all := lw_g (lw_at lw_m5 198 rfl) rfl
theorem q1243 : (Jvm.Cond.methodLinkNest "ChairOld$Cut" (13 : Nat) ({ cls := "ChairOld", name := "ran", desc := "(I)V" } : Jvm.MethodName) "ChairOld") ∈ lw_tbl := lw_at lw_m5 199 rfl
theorem q1244 : (Jvm.Cond.methodLink "ChairOld$Cut" (19 : Nat) ({ cls := "ChairOld$Aged", name := "tells", desc := "(I)I" } : Jvm.MethodName)) ∈ lw_all := lw_g (lw_at lw_m5 200 rfl) rfl
theorem q1447 : (Jvm.Cond.selects "ChairOld$Cut" ({ cls := "ChairOld$Plain", name := "isUnder", desc := "(I)Z" } : Jvm.MethodName) ({ cls := "ChairOld$Aged", name := "isUnder", desc := "(I)Z" } : Jvm.MethodName)) ∈ lw_all := lw_g (lw_at lw_m6 163 rfl) rfl
theorem q1467 : (Jvm.Cond.selects "ChairOld$Cut" ({ cls := "ChairOld$Plain", name := "kind", desc := "()I" } : Jvm.MethodName) ({ cls := "ChairOld$Cut", name := "kind", desc := "()I" } : Jvm.MethodName)) ∈ lw_all := lw_g (lw_at lw_m6 183 rfl) rfl
theorem q1468 : (Jvm.Cond.instanceMethod ({ cls := "ChairOld$Cut", name := "kind", desc := "()I" } : Jvm.MethodName)) ∈ lw_all := lw_g (lw_at lw_m6 184 rfl) rfl
theorem q1469 : (Jvm.Cond.code ({ cls := "ChairOld$Cut", name := "kind", desc := "()I" } : Jvm.MethodName) prog_7_method_2_code (1 : Nat) (Option.some Jvm.ClassFile.FieldType.int)) ∈ lw_all := lw_g (lw_at lw_m6 185 rfl) rfl
theorem q2005 : (Jvm.Cond.selects "ChairOld$Cut" ({ cls := "ChairOld$Plain", name := "ages", desc := "(I)I" } : Jvm.MethodName) ({ cls := "ChairOld$Plain", name := "ages", desc := "(I)I" } : Jvm.MethodName)) ∈ lw_all := lw_g (lw_at lw_m9 1 rfl) rfl
theorem q2014 : (Jvm.Cond.selects "ChairOld$Cut" ({ cls := "ChairOld$Plain", name := "shows", desc := "(I)I" } : Jvm.MethodName) ({ cls := "ChairOld$Aged", name := "shows", desc := "(I)I" } : Jvm.MethodName)) ∈ lw_all := lw_g (lw_at lw_m9 10 rfl) rfl
theorem q2030 : (Jvm.Cond.castable "ChairOld$Cut" "ChairOld$Plain") ∈ lw_tbl := lw_at lw_m9 26 rfl
theorem q2040 : (Jvm.Cond.castable "ChairOld$Cut" "ChairOld$Held") ∈ lw_tbl := lw_at lw_m9 36 rfl
theorem in_X22 : ∀ w ∈ wsX220, w ∈ lw_all := lw_in wsX220 [1091, 1092, 1090, 1089, 1087] (by decide +kernel) (by decide +kernel)
/-! ChairOld$Fresh -/
set_option maxRecDepth 100000
def RX23 : String := "ChairOld$Fresh"
def TX23 : u_T := fun k => match k with
  | 0 => ("ChairOld$Plain", "number", "I", true)
  | 1 => ("ChairOld$Plain", "this$0", "LChairOld;", true)
  | _ => ("ChairOld$Fresh", "this$0", "LChairOld;", true)
def tyX23 : Nat → FieldType := fun k => match k with
  | 0 => .int
  | 1 => .object "ChairOld"
  | _ => .object "ChairOld"
abbrev wsX230 : List Cond := u_ws RX23 TX23 3
-- two fields of one name: no nmX23
theorem tyX23_ok : ∀ k, k < 3 → parseFieldDescriptor (TX23 k).2.2.1 = some (tyX23 k) := by decide +kernel
abbrev cX23_init : ByteArray := prog_11_method_1_code
def yX23_init : MethodName := ⟨RX23, "<init>", "(LChairOld;I)V"⟩
def dkwX23_init_0 : List UInt8 := [42, 43, 181, 0, 1, 42, 43, 28, 183, 0, 7, 177]
abbrev dktX23_init_0 : List UInt8 := dkwX23_init_0 ++ []
theorem dksX23_init_0 : cX23_init.data.toList.drop 0 = dktX23_init_0 := by decide +kernel
theorem dX23_init_0 : decode cX23_init 0 = .ok (.aload_n 0, 1) := dk_42 (dk_at dksX23_init_0 0 rfl rfl)
theorem dX23_init_1 : decode cX23_init 1 = .ok (.aload_n 1, 1) := dk_43 (dk_at dksX23_init_0 1 rfl rfl)
theorem dX23_init_2 : decode cX23_init 2 = .ok (.putfield 1, 3) := dk_181 0 1 (dk_at dksX23_init_0 2 rfl rfl)
theorem dX23_init_5 : decode cX23_init 5 = .ok (.aload_n 0, 1) := dk_42 (dk_at dksX23_init_0 5 rfl rfl)
theorem dX23_init_6 : decode cX23_init 6 = .ok (.aload_n 1, 1) := dk_43 (dk_at dksX23_init_0 6 rfl rfl)
theorem dX23_init_7 : decode cX23_init 7 = .ok (.iload_n 2, 1) := dk_28 (dk_at dksX23_init_0 7 rfl rfl)
theorem dX23_init_8 : decode cX23_init 8 = .ok (.invokespecial 7, 3) := dk_183 0 7 (dk_at dksX23_init_0 8 rfl rfl)
theorem dX23_init_11 : decode cX23_init 11 = .ok (.return_, 1) := dk_177 (dk_at dksX23_init_0 11 rfl rfl)
abbrev cX23_ages : ByteArray := prog_11_method_3_code
def yX23_ages : MethodName := ⟨RX23, "ages", "(I)I"⟩
def dkwX23_ages_0 : List UInt8 := [42, 180, 0, 1, 16, 70, 182, 0, 13, 42, 27, 183, 0, 19, 5, 104, 172]
abbrev dktX23_ages_0 : List UInt8 := dkwX23_ages_0 ++ []
theorem dksX23_ages_0 : cX23_ages.data.toList.drop 0 = dktX23_ages_0 := by decide +kernel
theorem dX23_ages_0 : decode cX23_ages 0 = .ok (.aload_n 0, 1) := dk_42 (dk_at dksX23_ages_0 0 rfl rfl)
theorem dX23_ages_1 : decode cX23_ages 1 = .ok (.getfield 1, 3) := dk_180 0 1 (dk_at dksX23_ages_0 1 rfl rfl)
theorem dX23_ages_4 : decode cX23_ages 4 = .ok (.bipush 70, 2) := dk_16 70 (dk_at dksX23_ages_0 4 rfl rfl)
theorem dX23_ages_6 : decode cX23_ages 6 = .ok (.invokevirtual 13, 3) := dk_182 0 13 (dk_at dksX23_ages_0 6 rfl rfl)
theorem dX23_ages_9 : decode cX23_ages 9 = .ok (.aload_n 0, 1) := dk_42 (dk_at dksX23_ages_0 9 rfl rfl)
theorem dX23_ages_10 : decode cX23_ages 10 = .ok (.iload_n 1, 1) := dk_27 (dk_at dksX23_ages_0 10 rfl rfl)
theorem dX23_ages_11 : decode cX23_ages 11 = .ok (.invokespecial 19, 3) := dk_183 0 19 (dk_at dksX23_ages_0 11 rfl rfl)
theorem dX23_ages_14 : decode cX23_ages 14 = .ok (.iconst 2, 1) := dk_5 (dk_at dksX23_ages_0 14 rfl rfl)
theorem dX23_ages_15 : decode cX23_ages 15 = .ok (.imul, 1) := dk_104 (dk_at dksX23_ages_0 15 rfl rfl)
theorem dX23_ages_16 : decode cX23_ages 16 = .ok (.ireturn, 1) := dk_172 (dk_at dksX23_ages_0 16 rfl rfl)
abbrev cX23_kind : ByteArray := prog_11_method_2_code
def yX23_kind : MethodName := ⟨RX23, "kind", "()I"⟩
theorem dX23_kind_0 : decode cX23_kind 0 = .ok (.bipush 6, 2) := by decide +kernel
theorem dX23_kind_2 : decode cX23_kind 2 = .ok (.ireturn, 1) := by decide +kernel
theorem q122 : (Jvm.Cond.initialized "ChairOld$Fresh") ∈ lw_all := lw_g (lw_at lw_m1 38 rfl) rfl
theorem q1095 : (Jvm.Cond.instantiable "ChairOld$Fresh" (3 : Nat)) ∈ lw_all := lw_g (lw_at lw_m5 51 rfl) rfl
theorem q1097 : (Jvm.Cond.instanceMethod ({ cls := "ChairOld$Fresh", name := "<init>", desc := "(LChairOld;I)V" } : Jvm.MethodName)) ∈ lw_all := lw_g (lw_at lw_m5 53 rfl) rfl
theorem q1098 : (Jvm.Cond.code ({ cls := "ChairOld$Fresh", name := "<init>", desc := "(LChairOld;I)V" } : Jvm.MethodName) prog_11_method_1_code (3 : Nat) (Option.none : Option Jvm.ClassFile.FieldType)) ∈ lw_all := lw_g (lw_at lw_m5 54 rfl) rfl
theorem q1099 : (Jvm.Cond.methodLink "ChairOld$Fresh" (7 : Nat) ({ cls := "ChairOld$Plain", name := "<init>", desc := "(LChairOld;I)V" } : Jvm.MethodName)) ∈ lw_all := lw_g (lw_at lw_m5 55 rfl) rfl
theorem q1100 : (Jvm.Cond.fieldLink "ChairOld$Fresh" (1 : Nat) "ChairOld$Fresh" "this$0" "LChairOld;") ∈ lw_all := lw_g (lw_at lw_m5 56 rfl) rfl
theorem q1101 : (Jvm.Cond.laysFinal "ChairOld$Fresh" "ChairOld$Fresh" "this$0" "LChairOld;") ∈ lw_all := lw_g (lw_at lw_m5 57 rfl) rfl
theorem q1102 : (Jvm.Cond.soleField "ChairOld$Fresh" "this$0") ∈ lw_all := lw_g (lw_at lw_m5 58 rfl) rfl
theorem q1103 : (Jvm.Cond.laysFinal "ChairOld$Fresh" "ChairOld$Plain" "number" "I") ∈ lw_all := lw_g (lw_at lw_m5 59 rfl) rfl
theorem q1104 : (Jvm.Cond.laysFinal "ChairOld$Fresh" "ChairOld$Plain" "this$0" "LChairOld;") ∈ lw_all := lw_g (lw_at lw_m5 60 rfl) rfl
theorem q1105 : (Jvm.Cond.superclass "ChairOld$Fresh" "ChairOld$Plain") ∈ lw_all := lw_g (lw_at lw_m5 61 rfl) rfl
theorem q1158 : (Jvm.Cond.castable "ChairOld$Fresh" "ChairOld$Ages") ∈ lw_tbl := lw_at lw_m5 114 rfl
theorem q1159 : (Jvm.Cond.selects "ChairOld$Fresh" ({ cls := "ChairOld$Ages", name := "ages", desc := "(I)I" } : Jvm.MethodName) ({ cls := "ChairOld$Fresh", name := "ages", desc := "(I)I" } : Jvm.MethodName)) ∈ lw_all := lw_g (lw_at lw_m5 115 rfl) rfl
theorem q1160 : (Jvm.Cond.unhidden "ChairOld$Fresh" "ages" "(I)I") ∈ lw_tbl := lw_at lw_m5 116 rfl
theorem q1161 : (Jvm.Cond.instanceMethod ({ cls := "ChairOld$Fresh", name := "ages", desc := "(I)I" } : Jvm.MethodName)) ∈ lw_all := lw_g (lw_at lw_m5 117 rfl) rfl
theorem q1162 : (Jvm.Cond.publicMethod ({ cls := "ChairOld$Fresh", name := "ages", desc := "(I)I" } : Jvm.MethodName)) ∈ lw_tbl := lw_at lw_m5 118 rfl
theorem q1163 : (Jvm.Cond.code ({ cls := "ChairOld$Fresh", name := "ages", desc := "(I)I" } : Jvm.MethodName) prog_11_method_3_code (2 : Nat) (Option.some Jvm.ClassFile.FieldType.int)) ∈ lw_all := lw_g (lw_at lw_m5 119 rfl) rfl
theorem q1164 : (Jvm.Cond.methodLinkNest "ChairOld$Fresh" (13 : Nat) ({ cls := "ChairOld", name := "ran", desc := "(I)V" } : Jvm.MethodName) "ChairOld") ∈ lw_tbl := lw_at lw_m5 120 rfl
theorem q1165 : (Jvm.Cond.methodLink "ChairOld$Fresh" (19 : Nat) ({ cls := "ChairOld$Plain", name := "ages", desc := "(I)I" } : Jvm.MethodName)) ∈ lw_all := lw_g (lw_at lw_m5 121 rfl) rfl
theorem q1226 : (Jvm.Cond.selects "ChairOld$Fresh" ({ cls := "ChairOld$Plain", name := "joins", desc := "(I)I" } : Jvm.MethodName) ({ cls := "ChairOld$Plain", name := "joins", desc := "(I)I" } : Jvm.MethodName)) ∈ lw_all := lw_g (lw_at lw_m5 182 rfl) rfl
theorem q1255 : (Jvm.Cond.castable "ChairOld$Fresh" "ChairOld$Tells") ∈ lw_tbl := lw_at lw_m5 211 rfl
theorem q1256 : (Jvm.Cond.selects "ChairOld$Fresh" ({ cls := "ChairOld$Tells", name := "tells", desc := "(I)I" } : Jvm.MethodName) ({ cls := "ChairOld$Plain", name := "tells", desc := "(I)I" } : Jvm.MethodName)) ∈ lw_all := lw_g (lw_at lw_m5 212 rfl) rfl
theorem q1257 : (Jvm.Cond.unhidden "ChairOld$Fresh" "tells" "(I)I") ∈ lw_tbl := lw_at lw_m5 213 rfl
theorem q1455 : (Jvm.Cond.selects "ChairOld$Fresh" ({ cls := "ChairOld$Plain", name := "isUnder", desc := "(I)Z" } : Jvm.MethodName) ({ cls := "ChairOld$Plain", name := "isUnder", desc := "(I)Z" } : Jvm.MethodName)) ∈ lw_all := lw_g (lw_at lw_m6 171 rfl) rfl
theorem q1473 : (Jvm.Cond.selects "ChairOld$Fresh" ({ cls := "ChairOld$Plain", name := "kind", desc := "()I" } : Jvm.MethodName) ({ cls := "ChairOld$Fresh", name := "kind", desc := "()I" } : Jvm.MethodName)) ∈ lw_all := lw_g (lw_at lw_m6 189 rfl) rfl
theorem q1474 : (Jvm.Cond.instanceMethod ({ cls := "ChairOld$Fresh", name := "kind", desc := "()I" } : Jvm.MethodName)) ∈ lw_all := lw_g (lw_at lw_m6 190 rfl) rfl
theorem q1475 : (Jvm.Cond.code ({ cls := "ChairOld$Fresh", name := "kind", desc := "()I" } : Jvm.MethodName) prog_11_method_2_code (1 : Nat) (Option.some Jvm.ClassFile.FieldType.int)) ∈ lw_all := lw_g (lw_at lw_m6 191 rfl) rfl
theorem q2007 : (Jvm.Cond.selects "ChairOld$Fresh" ({ cls := "ChairOld$Plain", name := "ages", desc := "(I)I" } : Jvm.MethodName) ({ cls := "ChairOld$Fresh", name := "ages", desc := "(I)I" } : Jvm.MethodName)) ∈ lw_all := lw_g (lw_at lw_m9 3 rfl) rfl
theorem q2016 : (Jvm.Cond.selects "ChairOld$Fresh" ({ cls := "ChairOld$Plain", name := "shows", desc := "(I)I" } : Jvm.MethodName) ({ cls := "ChairOld$Plain", name := "shows", desc := "(I)I" } : Jvm.MethodName)) ∈ lw_all := lw_g (lw_at lw_m9 12 rfl) rfl
theorem q2032 : (Jvm.Cond.castable "ChairOld$Fresh" "ChairOld$Plain") ∈ lw_tbl := lw_at lw_m9 28 rfl
theorem q2041 : (Jvm.Cond.castable "ChairOld$Fresh" "ChairOld$Held") ∈ lw_tbl := lw_at lw_m9 37 rfl
theorem in_X23 : ∀ w ∈ wsX230, w ∈ lw_all := lw_in wsX230 [1103, 1104, 1101] (by decide +kernel) (by decide +kernel)
/-! ChairOld$Foreign -/
set_option maxRecDepth 100000
def RX24 : String := "ChairOld$Foreign"
def TX24 : u_T := fun k => match k with
  | 0 => ("ChairOld$Plain", "number", "I", true)
  | 1 => ("ChairOld$Plain", "this$0", "LChairOld;", true)
  | 2 => ("ChairOld$Old", "this$0", "LChairOld;", true)
  | 3 => ("ChairOld$Split", "this$0", "LChairOld;", true)
  | _ => ("ChairOld$Foreign", "this$0", "LChairOld;", true)
def tyX24 : Nat → FieldType := fun k => match k with
  | 0 => .int
  | 1 => .object "ChairOld"
  | 2 => .object "ChairOld"
  | 3 => .object "ChairOld"
  | _ => .object "ChairOld"
abbrev wsX240 : List Cond := u_ws RX24 TX24 5
-- two fields of one name: no nmX24
theorem tyX24_ok : ∀ k, k < 5 → parseFieldDescriptor (TX24 k).2.2.1 = some (tyX24 k) := by decide +kernel
abbrev cX24_init : ByteArray := prog_10_method_1_code
def yX24_init : MethodName := ⟨RX24, "<init>", "(LChairOld;I)V"⟩
def dkwX24_init_0 : List UInt8 := [42, 43, 181, 0, 1, 42, 43, 28, 183, 0, 7, 177]
abbrev dktX24_init_0 : List UInt8 := dkwX24_init_0 ++ []
theorem dksX24_init_0 : cX24_init.data.toList.drop 0 = dktX24_init_0 := by decide +kernel
theorem dX24_init_0 : decode cX24_init 0 = .ok (.aload_n 0, 1) := dk_42 (dk_at dksX24_init_0 0 rfl rfl)
theorem dX24_init_1 : decode cX24_init 1 = .ok (.aload_n 1, 1) := dk_43 (dk_at dksX24_init_0 1 rfl rfl)
theorem dX24_init_2 : decode cX24_init 2 = .ok (.putfield 1, 3) := dk_181 0 1 (dk_at dksX24_init_0 2 rfl rfl)
theorem dX24_init_5 : decode cX24_init 5 = .ok (.aload_n 0, 1) := dk_42 (dk_at dksX24_init_0 5 rfl rfl)
theorem dX24_init_6 : decode cX24_init 6 = .ok (.aload_n 1, 1) := dk_43 (dk_at dksX24_init_0 6 rfl rfl)
theorem dX24_init_7 : decode cX24_init 7 = .ok (.iload_n 2, 1) := dk_28 (dk_at dksX24_init_0 7 rfl rfl)
theorem dX24_init_8 : decode cX24_init 8 = .ok (.invokespecial 7, 3) := dk_183 0 7 (dk_at dksX24_init_0 8 rfl rfl)
theorem dX24_init_11 : decode cX24_init 11 = .ok (.return_, 1) := dk_177 (dk_at dksX24_init_0 11 rfl rfl)
abbrev cX24_joins : ByteArray := prog_10_method_3_code
def yX24_joins : MethodName := ⟨RX24, "joins", "(I)I"⟩
def dkwX24_joins_0 : List UInt8 := [42, 180, 0, 1, 16, 80, 182, 0, 13, 42, 27, 183, 0, 19, 61, 28, 42, 5, 182, 0, 23, 96, 172]
abbrev dktX24_joins_0 : List UInt8 := dkwX24_joins_0 ++ []
theorem dksX24_joins_0 : cX24_joins.data.toList.drop 0 = dktX24_joins_0 := by decide +kernel
theorem dX24_joins_0 : decode cX24_joins 0 = .ok (.aload_n 0, 1) := dk_42 (dk_at dksX24_joins_0 0 rfl rfl)
theorem dX24_joins_1 : decode cX24_joins 1 = .ok (.getfield 1, 3) := dk_180 0 1 (dk_at dksX24_joins_0 1 rfl rfl)
theorem dX24_joins_4 : decode cX24_joins 4 = .ok (.bipush 80, 2) := dk_16 80 (dk_at dksX24_joins_0 4 rfl rfl)
theorem dX24_joins_6 : decode cX24_joins 6 = .ok (.invokevirtual 13, 3) := dk_182 0 13 (dk_at dksX24_joins_0 6 rfl rfl)
theorem dX24_joins_9 : decode cX24_joins 9 = .ok (.aload_n 0, 1) := dk_42 (dk_at dksX24_joins_0 9 rfl rfl)
theorem dX24_joins_10 : decode cX24_joins 10 = .ok (.iload_n 1, 1) := dk_27 (dk_at dksX24_joins_0 10 rfl rfl)
theorem dX24_joins_11 : decode cX24_joins 11 = .ok (.invokespecial 19, 3) := dk_183 0 19 (dk_at dksX24_joins_0 11 rfl rfl)
theorem dX24_joins_14 : decode cX24_joins 14 = .ok (.istore_n 2, 1) := dk_61 (dk_at dksX24_joins_0 14 rfl rfl)
theorem dX24_joins_15 : decode cX24_joins 15 = .ok (.iload_n 2, 1) := dk_28 (dk_at dksX24_joins_0 15 rfl rfl)
theorem dX24_joins_16 : decode cX24_joins 16 = .ok (.aload_n 0, 1) := dk_42 (dk_at dksX24_joins_0 16 rfl rfl)
theorem dX24_joins_17 : decode cX24_joins 17 = .ok (.iconst 2, 1) := dk_5 (dk_at dksX24_joins_0 17 rfl rfl)
theorem dX24_joins_18 : decode cX24_joins 18 = .ok (.invokevirtual 23, 3) := dk_182 0 23 (dk_at dksX24_joins_0 18 rfl rfl)
theorem dX24_joins_21 : decode cX24_joins 21 = .ok (.iadd, 1) := dk_96 (dk_at dksX24_joins_0 21 rfl rfl)
theorem dX24_joins_22 : decode cX24_joins 22 = .ok (.ireturn, 1) := dk_172 (dk_at dksX24_joins_0 22 rfl rfl)
abbrev cX24_tells : ByteArray := prog_10_method_4_code
def yX24_tells : MethodName := ⟨RX24, "tells", "(I)I"⟩
def dkwX24_tells_0 : List UInt8 := [42, 180, 0, 1, 16, 81, 182, 0, 13, 42, 27, 183, 0, 26, 4, 100, 172]
abbrev dktX24_tells_0 : List UInt8 := dkwX24_tells_0 ++ []
theorem dksX24_tells_0 : cX24_tells.data.toList.drop 0 = dktX24_tells_0 := by decide +kernel
theorem dX24_tells_0 : decode cX24_tells 0 = .ok (.aload_n 0, 1) := dk_42 (dk_at dksX24_tells_0 0 rfl rfl)
theorem dX24_tells_1 : decode cX24_tells 1 = .ok (.getfield 1, 3) := dk_180 0 1 (dk_at dksX24_tells_0 1 rfl rfl)
theorem dX24_tells_4 : decode cX24_tells 4 = .ok (.bipush 81, 2) := dk_16 81 (dk_at dksX24_tells_0 4 rfl rfl)
theorem dX24_tells_6 : decode cX24_tells 6 = .ok (.invokevirtual 13, 3) := dk_182 0 13 (dk_at dksX24_tells_0 6 rfl rfl)
theorem dX24_tells_9 : decode cX24_tells 9 = .ok (.aload_n 0, 1) := dk_42 (dk_at dksX24_tells_0 9 rfl rfl)
theorem dX24_tells_10 : decode cX24_tells 10 = .ok (.iload_n 1, 1) := dk_27 (dk_at dksX24_tells_0 10 rfl rfl)
theorem dX24_tells_11 : decode cX24_tells 11 = .ok (.invokespecial 26, 3) := dk_183 0 26 (dk_at dksX24_tells_0 11 rfl rfl)
theorem dX24_tells_14 : decode cX24_tells 14 = .ok (.iconst 1, 1) := dk_4 (dk_at dksX24_tells_0 14 rfl rfl)
theorem dX24_tells_15 : decode cX24_tells 15 = .ok (.isub, 1) := dk_100 (dk_at dksX24_tells_0 15 rfl rfl)
theorem dX24_tells_16 : decode cX24_tells 16 = .ok (.ireturn, 1) := dk_172 (dk_at dksX24_tells_0 16 rfl rfl)
abbrev cX24_kind : ByteArray := prog_10_method_2_code
def yX24_kind : MethodName := ⟨RX24, "kind", "()I"⟩
theorem dX24_kind_0 : decode cX24_kind 0 = .ok (.bipush 7, 2) := by decide +kernel
theorem dX24_kind_2 : decode cX24_kind 2 = .ok (.ireturn, 1) := by decide +kernel
theorem q123 : (Jvm.Cond.initialized "ChairOld$Foreign") ∈ lw_all := lw_g (lw_at lw_m1 39 rfl) rfl
theorem q1107 : (Jvm.Cond.instantiable "ChairOld$Foreign" (5 : Nat)) ∈ lw_all := lw_g (lw_at lw_m5 63 rfl) rfl
theorem q1109 : (Jvm.Cond.instanceMethod ({ cls := "ChairOld$Foreign", name := "<init>", desc := "(LChairOld;I)V" } : Jvm.MethodName)) ∈ lw_all := lw_g (lw_at lw_m5 65 rfl) rfl
theorem q1110 : (Jvm.Cond.code ({ cls := "ChairOld$Foreign", name := "<init>", desc := "(LChairOld;I)V" } : Jvm.MethodName) prog_10_method_1_code (3 : Nat) (Option.none : Option Jvm.ClassFile.FieldType)) ∈ lw_all := lw_g (lw_at lw_m5 66 rfl) rfl
theorem q1111 : (Jvm.Cond.methodLink "ChairOld$Foreign" (7 : Nat) ({ cls := "ChairOld$Split", name := "<init>", desc := "(LChairOld;I)V" } : Jvm.MethodName)) ∈ lw_all := lw_g (lw_at lw_m5 67 rfl) rfl
theorem q1112 : (Jvm.Cond.fieldLink "ChairOld$Foreign" (1 : Nat) "ChairOld$Foreign" "this$0" "LChairOld;") ∈ lw_all := lw_g (lw_at lw_m5 68 rfl) rfl
theorem q1113 : (Jvm.Cond.laysFinal "ChairOld$Foreign" "ChairOld$Foreign" "this$0" "LChairOld;") ∈ lw_all := lw_g (lw_at lw_m5 69 rfl) rfl
theorem q1114 : (Jvm.Cond.soleField "ChairOld$Foreign" "this$0") ∈ lw_all := lw_g (lw_at lw_m5 70 rfl) rfl
theorem q1115 : (Jvm.Cond.laysFinal "ChairOld$Foreign" "ChairOld$Split" "this$0" "LChairOld;") ∈ lw_all := lw_g (lw_at lw_m5 71 rfl) rfl
theorem q1116 : (Jvm.Cond.laysFinal "ChairOld$Foreign" "ChairOld$Old" "this$0" "LChairOld;") ∈ lw_all := lw_g (lw_at lw_m5 72 rfl) rfl
theorem q1117 : (Jvm.Cond.laysFinal "ChairOld$Foreign" "ChairOld$Plain" "number" "I") ∈ lw_all := lw_g (lw_at lw_m5 73 rfl) rfl
theorem q1118 : (Jvm.Cond.laysFinal "ChairOld$Foreign" "ChairOld$Plain" "this$0" "LChairOld;") ∈ lw_all := lw_g (lw_at lw_m5 74 rfl) rfl
theorem q1119 : (Jvm.Cond.superclass "ChairOld$Foreign" "ChairOld$Split") ∈ lw_all := lw_g (lw_at lw_m5 75 rfl) rfl
theorem q1150 : (Jvm.Cond.castable "ChairOld$Foreign" "ChairOld$Ages") ∈ lw_tbl := lw_at lw_m5 106 rfl
theorem q1151 : (Jvm.Cond.selects "ChairOld$Foreign" ({ cls := "ChairOld$Ages", name := "ages", desc := "(I)I" } : Jvm.MethodName) ({ cls := "ChairOld$Old", name := "ages", desc := "(I)I" } : Jvm.MethodName)) ∈ lw_all := lw_g (lw_at lw_m5 107 rfl) rfl
theorem q1152 : (Jvm.Cond.unhidden "ChairOld$Foreign" "ages" "(I)I") ∈ lw_tbl := lw_at lw_m5 108 rfl
theorem q1202 : (Jvm.Cond.selects "ChairOld$Foreign" ({ cls := "ChairOld$Plain", name := "joins", desc := "(I)I" } : Jvm.MethodName) ({ cls := "ChairOld$Foreign", name := "joins", desc := "(I)I" } : Jvm.MethodName)) ∈ lw_all := lw_g (lw_at lw_m5 158 rfl) rfl
theorem q1203 : (Jvm.Cond.instanceMethod ({ cls := "ChairOld$Foreign", name := "joins", desc := "(I)I" } : Jvm.MethodName)) ∈ lw_all := lw_g (lw_at lw_m5 159 rfl) rfl
theorem q1204 : (Jvm.Cond.code ({ cls := "ChairOld$Foreign", name := "joins", desc := "(I)I" } : Jvm.MethodName) prog_10_method_3_code (3 : Nat) (Option.some Jvm.ClassFile.FieldType.int)) ∈ lw_all := lw_g (lw_at lw_m5 160 rfl) rfl
theorem q1205 : (Jvm.Cond.methodLinkNest "ChairOld$Foreign" (13 : Nat) ({ cls := "ChairOld", name := "ran", desc := "(I)V" } : Jvm.MethodName) "ChairOld") ∈ lw_tbl := lw_at lw_m5 161 rfl
theorem q1206 : (Jvm.Cond.methodLink "ChairOld$Foreign" (19 : Nat) ({ cls := "ChairOld$Split", name := "joins", desc := "(I)I" } : Jvm.MethodName)) ∈ lw_all := lw_g (lw_at lw_m5 162 rfl) rfl
theorem q1209 : (Jvm.Cond.methodLink "ChairOld$Foreign" (23 : Nat) ({ cls := "ChairOld$Foreign", name := "shows", desc := "(I)I" } : Jvm.MethodName)) ∈ lw_all := lw_g (lw_at lw_m5 165 rfl) rfl
theorem q1210 : (Jvm.Cond.sameMethod "ChairOld$Foreign" "ChairOld$Split" "shows" "(I)I") ∈ lw_all := lw_g (lw_at lw_m5 166 rfl) rfl
theorem q1212 : (Jvm.Cond.selects "ChairOld$Foreign" ({ cls := "ChairOld$Foreign", name := "shows", desc := "(I)I" } : Jvm.MethodName) ({ cls := "ChairOld$Split", name := "shows", desc := "(I)I" } : Jvm.MethodName)) ∈ lw_all := lw_g (lw_at lw_m5 168 rfl) rfl
theorem q1224 : (Jvm.Cond.selects "ChairOld$Foreign" ({ cls := "ChairOld$Split", name := "ages", desc := "(I)I" } : Jvm.MethodName) ({ cls := "ChairOld$Old", name := "ages", desc := "(I)I" } : Jvm.MethodName)) ∈ lw_all := lw_g (lw_at lw_m5 180 rfl) rfl
theorem q1247 : (Jvm.Cond.castable "ChairOld$Foreign" "ChairOld$Tells") ∈ lw_tbl := lw_at lw_m5 203 rfl
theorem q1248 : (Jvm.Cond.selects "ChairOld$Foreign" ({ cls := "ChairOld$Tells", name := "tells", desc := "(I)I" } : Jvm.MethodName) ({ cls := "ChairOld$Foreign", name := "tells", desc := "(I)I" } : Jvm.MethodName)) ∈ lw_all := lw_g (lw_at lw_m5 204 rfl) rfl
theorem q1249 : (Jvm.Cond.unhidden "ChairOld$Foreign" "tells" "(I)I") ∈ lw_tbl := lw_at lw_m5 205 rfl
theorem q1250 : (Jvm.Cond.instanceMethod ({ cls := "ChairOld$Foreign", name := "tells", desc := "(I)I" } : Jvm.MethodName)) ∈ lw_all := lw_g (lw_at lw_m5 206 rfl) rfl
theorem q1251 : (Jvm.Cond.publicMethod ({ cls := "ChairOld$Foreign", name := "tells", desc := "(I)I" } : Jvm.MethodName)) ∈ lw_tbl := lw_at lw_m5 207 rfl
theorem q1252 : (Jvm.Cond.code ({ cls := "ChairOld$Foreign", name := "tells", desc := "(I)I" } : Jvm.MethodName) prog_10_method_4_code (2 : Nat) (Option.some Jvm.ClassFile.FieldType.int)) ∈ lw_all := lw_g (lw_at lw_m5 208 rfl) rfl
theorem q1253 : (Jvm.Cond.methodLink "ChairOld$Foreign" (26 : Nat) ({ cls := "ChairOld$Split", name := "tells", desc := "(I)I" } : Jvm.MethodName)) ∈ lw_all := lw_g (lw_at lw_m5 209 rfl) rfl
theorem q1448 : (Jvm.Cond.selects "ChairOld$Foreign" ({ cls := "ChairOld$Plain", name := "isUnder", desc := "(I)Z" } : Jvm.MethodName) ({ cls := "ChairOld$Split", name := "isUnder", desc := "(I)Z" } : Jvm.MethodName)) ∈ lw_all := lw_g (lw_at lw_m6 164 rfl) rfl
theorem q1470 : (Jvm.Cond.selects "ChairOld$Foreign" ({ cls := "ChairOld$Plain", name := "kind", desc := "()I" } : Jvm.MethodName) ({ cls := "ChairOld$Foreign", name := "kind", desc := "()I" } : Jvm.MethodName)) ∈ lw_all := lw_g (lw_at lw_m6 186 rfl) rfl
theorem q1471 : (Jvm.Cond.instanceMethod ({ cls := "ChairOld$Foreign", name := "kind", desc := "()I" } : Jvm.MethodName)) ∈ lw_all := lw_g (lw_at lw_m6 187 rfl) rfl
theorem q1472 : (Jvm.Cond.code ({ cls := "ChairOld$Foreign", name := "kind", desc := "()I" } : Jvm.MethodName) prog_10_method_2_code (1 : Nat) (Option.some Jvm.ClassFile.FieldType.int)) ∈ lw_all := lw_g (lw_at lw_m6 188 rfl) rfl
theorem q2006 : (Jvm.Cond.selects "ChairOld$Foreign" ({ cls := "ChairOld$Plain", name := "ages", desc := "(I)I" } : Jvm.MethodName) ({ cls := "ChairOld$Old", name := "ages", desc := "(I)I" } : Jvm.MethodName)) ∈ lw_all := lw_g (lw_at lw_m9 2 rfl) rfl
theorem q2015 : (Jvm.Cond.selects "ChairOld$Foreign" ({ cls := "ChairOld$Plain", name := "shows", desc := "(I)I" } : Jvm.MethodName) ({ cls := "ChairOld$Split", name := "shows", desc := "(I)I" } : Jvm.MethodName)) ∈ lw_all := lw_g (lw_at lw_m9 11 rfl) rfl
theorem q2031 : (Jvm.Cond.castable "ChairOld$Foreign" "ChairOld$Plain") ∈ lw_tbl := lw_at lw_m9 27 rfl
theorem q2042 : (Jvm.Cond.castable "ChairOld$Foreign" "ChairOld$Held") ∈ lw_tbl := lw_at lw_m9 38 rfl
theorem in_X24 : ∀ w ∈ wsX240, w ∈ lw_all := lw_in wsX240 [1117, 1118, 1116, 1115, 1113] (by decide +kernel) (by decide +kernel)
/-! ChairOld$Row -/
set_option maxRecDepth 100000
def RX25 : String := "ChairOld$Row"
abbrev cX25_init : ByteArray := prog_28_method_1_code
def yX25_init : MethodName := ⟨RX25, "<init>", "()V"⟩
theorem dX25_init_0 : decode cX25_init 0 = .ok (.aload_n 0, 1) := by decide +kernel
theorem dX25_init_1 : decode cX25_init 1 = .ok (.invokespecial 1, 3) := by decide +kernel
theorem dX25_init_4 : decode cX25_init 4 = .ok (.return_, 1) := by decide +kernel
theorem q125 : (Jvm.Cond.initialized "ChairOld$Row") ∈ lw_all := lw_g (lw_at lw_m1 41 rfl) rfl
theorem q1306 : (Jvm.Cond.instanceMethod ({ cls := "ChairOld$Row", name := "<init>", desc := "()V" } : Jvm.MethodName)) ∈ lw_all := lw_g (lw_at lw_m6 22 rfl) rfl
theorem q1307 : (Jvm.Cond.code ({ cls := "ChairOld$Row", name := "<init>", desc := "()V" } : Jvm.MethodName) prog_28_method_1_code (1 : Nat) (Option.none : Option Jvm.ClassFile.FieldType)) ∈ lw_all := lw_g (lw_at lw_m6 23 rfl) rfl
theorem q1308 : (Jvm.Cond.methodLinkNest "ChairOld$Row" (1 : Nat) ({ cls := "ChairOld$Held", name := "<init>", desc := "()V" } : Jvm.MethodName) "ChairOld") ∈ lw_tbl := lw_at lw_m6 24 rfl
theorem q1361 : (Jvm.Cond.declares ({ cls := "ChairOld$Row", name := "put", desc := "(IJ)Z" } : Jvm.MethodName)) ∈ lw_tbl := lw_at lw_m6 77 rfl
theorem q1362 : (Jvm.Cond.sameMethod "ChairOld$Row" "ChairOld$Row" "put" "(IJ)Z") ∈ lw_all := lw_g (lw_at lw_m6 78 rfl) rfl
theorem q1383 : (Jvm.Cond.declares ({ cls := "ChairOld$Row", name := "at", desc := "(I)J" } : Jvm.MethodName)) ∈ lw_tbl := lw_at lw_m6 99 rfl
theorem q1384 : (Jvm.Cond.sameMethod "ChairOld$Row" "ChairOld$Row" "at" "(I)J") ∈ lw_all := lw_g (lw_at lw_m6 100 rfl) rfl
theorem q1403 : (Jvm.Cond.declares ({ cls := "ChairOld$Row", name := "copy", desc := "(ILChairOld$Row;II)V" } : Jvm.MethodName)) ∈ lw_tbl := lw_at lw_m6 119 rfl
theorem q1404 : (Jvm.Cond.sameMethod "ChairOld$Row" "ChairOld$Row" "copy" "(ILChairOld$Row;II)V") ∈ lw_all := lw_g (lw_at lw_m6 120 rfl) rfl
/-! ChairOld$ByteRow -/
set_option maxRecDepth 100000
def RX26 : String := "ChairOld$ByteRow"
def TX26 : u_T := fun k => match k with
  | _ => ("ChairOld$ByteRow", "items", "[B", true)
def tyX26 : Nat → FieldType := fun k => match k with
  | _ => .array .byte
abbrev wsX260 : List Cond := u_ws RX26 TX26 1
theorem nmX26 : ∀ a, a < 1 → ∀ b, b < 1 → a ≠ b → (TX26 a).2.1 ≠ (TX26 b).2.1 := by decide +kernel
theorem tyX26_ok : ∀ k, k < 1 → parseFieldDescriptor (TX26 k).2.2.1 = some (tyX26 k) := by decide +kernel
abbrev cX26_at : ByteArray := prog_5_method_4_code
def yX26_at : MethodName := ⟨RX26, "at", "(I)J"⟩
def dkwX26_at_0 : List UInt8 := [42, 180, 0, 7, 27, 51, 133, 173]
abbrev dktX26_at_0 : List UInt8 := dkwX26_at_0 ++ []
theorem dksX26_at_0 : cX26_at.data.toList.drop 0 = dktX26_at_0 := by decide +kernel
theorem dX26_at_0 : decode cX26_at 0 = .ok (.aload_n 0, 1) := dk_42 (dk_at dksX26_at_0 0 rfl rfl)
theorem dX26_at_1 : decode cX26_at 1 = .ok (.getfield 7, 3) := dk_180 0 7 (dk_at dksX26_at_0 1 rfl rfl)
theorem dX26_at_4 : decode cX26_at 4 = .ok (.iload_n 1, 1) := dk_27 (dk_at dksX26_at_0 4 rfl rfl)
theorem dX26_at_5 : decode cX26_at 5 = .ok (.baload, 1) := dk_51 (dk_at dksX26_at_0 5 rfl rfl)
theorem dX26_at_6 : decode cX26_at 6 = .ok (.i2l, 1) := dk_133 (dk_at dksX26_at_0 6 rfl rfl)
theorem dX26_at_7 : decode cX26_at 7 = .ok (.lreturn, 1) := dk_173 (dk_at dksX26_at_0 7 rfl rfl)
abbrev cX26_init : ByteArray := prog_5_method_1_code
def yX26_init : MethodName := ⟨RX26, "<init>", "(I)V"⟩
def dkwX26_init_0 : List UInt8 := [42, 183, 0, 1, 42, 27, 188, 8, 181, 0, 7, 177]
abbrev dktX26_init_0 : List UInt8 := dkwX26_init_0 ++ []
theorem dksX26_init_0 : cX26_init.data.toList.drop 0 = dktX26_init_0 := by decide +kernel
theorem dX26_init_0 : decode cX26_init 0 = .ok (.aload_n 0, 1) := dk_42 (dk_at dksX26_init_0 0 rfl rfl)
theorem dX26_init_1 : decode cX26_init 1 = .ok (.invokespecial 1, 3) := dk_183 0 1 (dk_at dksX26_init_0 1 rfl rfl)
theorem dX26_init_4 : decode cX26_init 4 = .ok (.aload_n 0, 1) := dk_42 (dk_at dksX26_init_0 4 rfl rfl)
theorem dX26_init_5 : decode cX26_init 5 = .ok (.iload_n 1, 1) := dk_27 (dk_at dksX26_init_0 5 rfl rfl)
theorem dX26_init_6 : decode cX26_init 6 = .ok (.newarray .byte, 2) := dk_188_8 (dk_at dksX26_init_0 6 rfl rfl)
theorem dX26_init_8 : decode cX26_init 8 = .ok (.putfield 7, 3) := dk_181 0 7 (dk_at dksX26_init_0 8 rfl rfl)
theorem dX26_init_11 : decode cX26_init 11 = .ok (.return_, 1) := dk_177 (dk_at dksX26_init_0 11 rfl rfl)
abbrev cX26_put : ByteArray := prog_5_method_5_code
def yX26_put : MethodName := ⟨RX26, "put", "(IJ)Z"⟩
def dkwX26_put_0 : List UInt8 := [42, 180, 0, 7, 27, 32, 136, 145, 84, 4, 172]
abbrev dktX26_put_0 : List UInt8 := dkwX26_put_0 ++ []
theorem dksX26_put_0 : cX26_put.data.toList.drop 0 = dktX26_put_0 := by decide +kernel
theorem dX26_put_0 : decode cX26_put 0 = .ok (.aload_n 0, 1) := dk_42 (dk_at dksX26_put_0 0 rfl rfl)
theorem dX26_put_1 : decode cX26_put 1 = .ok (.getfield 7, 3) := dk_180 0 7 (dk_at dksX26_put_0 1 rfl rfl)
theorem dX26_put_4 : decode cX26_put 4 = .ok (.iload_n 1, 1) := dk_27 (dk_at dksX26_put_0 4 rfl rfl)
theorem dX26_put_5 : decode cX26_put 5 = .ok (.lload_n 2, 1) := dk_32 (dk_at dksX26_put_0 5 rfl rfl)
theorem dX26_put_6 : decode cX26_put 6 = .ok (.l2i, 1) := dk_136 (dk_at dksX26_put_0 6 rfl rfl)
theorem dX26_put_7 : decode cX26_put 7 = .ok (.i2b, 1) := dk_145 (dk_at dksX26_put_0 7 rfl rfl)
theorem dX26_put_8 : decode cX26_put 8 = .ok (.bastore, 1) := dk_84 (dk_at dksX26_put_0 8 rfl rfl)
theorem dX26_put_9 : decode cX26_put 9 = .ok (.iconst 1, 1) := dk_4 (dk_at dksX26_put_0 9 rfl rfl)
theorem dX26_put_10 : decode cX26_put 10 = .ok (.ireturn, 1) := dk_172 (dk_at dksX26_put_0 10 rfl rfl)
abbrev cX26_copy : ByteArray := prog_5_method_6_code
def yX26_copy : MethodName := ⟨RX26, "copy", "(ILChairOld$Row;II)V"⟩
def dkwX26_copy_0 : List UInt8 := [42, 180, 0, 7, 27, 44, 192, 0, 8, 180, 0, 7, 29, 21, 4, 184, 0, 13, 177]
abbrev dktX26_copy_0 : List UInt8 := dkwX26_copy_0 ++ []
theorem dksX26_copy_0 : cX26_copy.data.toList.drop 0 = dktX26_copy_0 := by decide +kernel
theorem dX26_copy_0 : decode cX26_copy 0 = .ok (.aload_n 0, 1) := dk_42 (dk_at dksX26_copy_0 0 rfl rfl)
theorem dX26_copy_1 : decode cX26_copy 1 = .ok (.getfield 7, 3) := dk_180 0 7 (dk_at dksX26_copy_0 1 rfl rfl)
theorem dX26_copy_4 : decode cX26_copy 4 = .ok (.iload_n 1, 1) := dk_27 (dk_at dksX26_copy_0 4 rfl rfl)
theorem dX26_copy_5 : decode cX26_copy 5 = .ok (.aload_n 2, 1) := dk_44 (dk_at dksX26_copy_0 5 rfl rfl)
theorem dX26_copy_6 : decode cX26_copy 6 = .ok (.checkcast 8, 3) := dk_192 0 8 (dk_at dksX26_copy_0 6 rfl rfl)
theorem dX26_copy_9 : decode cX26_copy 9 = .ok (.getfield 7, 3) := dk_180 0 7 (dk_at dksX26_copy_0 9 rfl rfl)
theorem dX26_copy_12 : decode cX26_copy 12 = .ok (.iload_n 3, 1) := dk_29 (dk_at dksX26_copy_0 12 rfl rfl)
theorem dX26_copy_13 : decode cX26_copy 13 = .ok (.iload 4, 2) := dk_21 4 (dk_at dksX26_copy_0 13 rfl rfl)
theorem dX26_copy_15 : decode cX26_copy 15 = .ok (.invokestatic 13, 3) := dk_184 0 13 (dk_at dksX26_copy_0 15 rfl rfl)
theorem dX26_copy_18 : decode cX26_copy 18 = .ok (.return_, 1) := dk_177 (dk_at dksX26_copy_0 18 rfl rfl)
theorem q126 : (Jvm.Cond.initialized "ChairOld$ByteRow") ∈ lw_all := lw_g (lw_at lw_m1 42 rfl) rfl
theorem q447 : (Jvm.Cond.instanceMethod ({ cls := "ChairOld$ByteRow", name := "at", desc := "(I)J" } : Jvm.MethodName)) ∈ lw_all := lw_g (lw_at lw_m2 123 rfl) rfl
theorem q448 : (Jvm.Cond.selects "ChairOld$ByteRow" ({ cls := "ChairOld$ByteRow", name := "at", desc := "(I)J" } : Jvm.MethodName) ({ cls := "ChairOld$ByteRow", name := "at", desc := "(I)J" } : Jvm.MethodName)) ∈ lw_all := lw_g (lw_at lw_m2 124 rfl) rfl
theorem q449 : (Jvm.Cond.code ({ cls := "ChairOld$ByteRow", name := "at", desc := "(I)J" } : Jvm.MethodName) prog_5_method_4_code (2 : Nat) (Option.some Jvm.ClassFile.FieldType.long)) ∈ lw_all := lw_g (lw_at lw_m2 125 rfl) rfl
theorem q1301 : (Jvm.Cond.instantiable "ChairOld$ByteRow" (1 : Nat)) ∈ lw_all := lw_g (lw_at lw_m6 17 rfl) rfl
theorem q1303 : (Jvm.Cond.instanceMethod ({ cls := "ChairOld$ByteRow", name := "<init>", desc := "(I)V" } : Jvm.MethodName)) ∈ lw_all := lw_g (lw_at lw_m6 19 rfl) rfl
theorem q1304 : (Jvm.Cond.code ({ cls := "ChairOld$ByteRow", name := "<init>", desc := "(I)V" } : Jvm.MethodName) prog_5_method_1_code (2 : Nat) (Option.none : Option Jvm.ClassFile.FieldType)) ∈ lw_all := lw_g (lw_at lw_m6 20 rfl) rfl
theorem q1305 : (Jvm.Cond.methodLinkNest "ChairOld$ByteRow" (1 : Nat) ({ cls := "ChairOld$Row", name := "<init>", desc := "()V" } : Jvm.MethodName) "ChairOld") ∈ lw_tbl := lw_at lw_m6 21 rfl
theorem q1309 : (Jvm.Cond.fieldLink "ChairOld$ByteRow" (7 : Nat) "ChairOld$ByteRow" "items" "[B") ∈ lw_all := lw_g (lw_at lw_m6 25 rfl) rfl
theorem q1310 : (Jvm.Cond.laysFinal "ChairOld$ByteRow" "ChairOld$ByteRow" "items" "[B") ∈ lw_all := lw_g (lw_at lw_m6 26 rfl) rfl
theorem q1311 : (Jvm.Cond.soleField "ChairOld$ByteRow" "items") ∈ lw_all := lw_g (lw_at lw_m6 27 rfl) rfl
theorem q1312 : (Jvm.Cond.superclass "ChairOld$ByteRow" "ChairOld$Row") ∈ lw_all := lw_g (lw_at lw_m6 28 rfl) rfl
theorem q1366 : (Jvm.Cond.selects "ChairOld$ByteRow" ({ cls := "ChairOld$Row", name := "put", desc := "(IJ)Z" } : Jvm.MethodName) ({ cls := "ChairOld$ByteRow", name := "put", desc := "(IJ)Z" } : Jvm.MethodName)) ∈ lw_all := lw_g (lw_at lw_m6 82 rfl) rfl
theorem q1367 : (Jvm.Cond.instanceMethod ({ cls := "ChairOld$ByteRow", name := "put", desc := "(IJ)Z" } : Jvm.MethodName)) ∈ lw_all := lw_g (lw_at lw_m6 83 rfl) rfl
theorem q1368 : (Jvm.Cond.code ({ cls := "ChairOld$ByteRow", name := "put", desc := "(IJ)Z" } : Jvm.MethodName) prog_5_method_5_code (4 : Nat) (Option.some Jvm.ClassFile.FieldType.boolean)) ∈ lw_all := lw_g (lw_at lw_m6 84 rfl) rfl
theorem q1388 : (Jvm.Cond.selects "ChairOld$ByteRow" ({ cls := "ChairOld$Row", name := "at", desc := "(I)J" } : Jvm.MethodName) ({ cls := "ChairOld$ByteRow", name := "at", desc := "(I)J" } : Jvm.MethodName)) ∈ lw_all := lw_g (lw_at lw_m6 104 rfl) rfl
theorem q1412 : (Jvm.Cond.selects "ChairOld$ByteRow" ({ cls := "ChairOld$Row", name := "copy", desc := "(ILChairOld$Row;II)V" } : Jvm.MethodName) ({ cls := "ChairOld$ByteRow", name := "copy", desc := "(ILChairOld$Row;II)V" } : Jvm.MethodName)) ∈ lw_all := lw_g (lw_at lw_m6 128 rfl) rfl
theorem q1413 : (Jvm.Cond.instanceMethod ({ cls := "ChairOld$ByteRow", name := "copy", desc := "(ILChairOld$Row;II)V" } : Jvm.MethodName)) ∈ lw_all := lw_g (lw_at lw_m6 129 rfl) rfl
theorem q1414 : (Jvm.Cond.code ({ cls := "ChairOld$ByteRow", name := "copy", desc := "(ILChairOld$Row;II)V" } : Jvm.MethodName) prog_5_method_6_code (5 : Nat) (Option.none : Option Jvm.ClassFile.FieldType)) ∈ lw_all := lw_g (lw_at lw_m6 130 rfl) rfl
theorem q1415 : (Jvm.Cond.classLink "ChairOld$ByteRow" (8 : Nat) "ChairOld$ByteRow") ∈ lw_all := lw_g (lw_at lw_m6 131 rfl) rfl
theorem q1416 : (Jvm.Cond.methodLink "ChairOld$ByteRow" (13 : Nat) ({ cls := "java/lang/System", name := "arraycopy", desc := "(Ljava/lang/Object;ILjava/lang/Object;II)V" } : Jvm.MethodName)) ∈ lw_all := lw_g (lw_at lw_m6 132 rfl) rfl
theorem q2025 : (Jvm.Cond.castable "ChairOld$ByteRow" "ChairOld$Row") ∈ lw_tbl := lw_at lw_m9 21 rfl
theorem q2044 : (Jvm.Cond.castable "ChairOld$ByteRow" "ChairOld$Held") ∈ lw_tbl := lw_at lw_m9 40 rfl
theorem in_X26 : ∀ w ∈ wsX260, w ∈ lw_all := lw_in wsX260 [1310] (by decide +kernel) (by decide +kernel)
/-! ChairOld$ShortRow -/
set_option maxRecDepth 100000
def RX27 : String := "ChairOld$ShortRow"
def TX27 : u_T := fun k => match k with
  | _ => ("ChairOld$ShortRow", "items", "[S", true)
def tyX27 : Nat → FieldType := fun k => match k with
  | _ => .array .short
abbrev wsX270 : List Cond := u_ws RX27 TX27 1
theorem nmX27 : ∀ a, a < 1 → ∀ b, b < 1 → a ≠ b → (TX27 a).2.1 ≠ (TX27 b).2.1 := by decide +kernel
theorem tyX27_ok : ∀ k, k < 1 → parseFieldDescriptor (TX27 k).2.2.1 = some (tyX27 k) := by decide +kernel
abbrev cX27_init : ByteArray := prog_29_method_1_code
def yX27_init : MethodName := ⟨RX27, "<init>", "(I)V"⟩
def dkwX27_init_0 : List UInt8 := [42, 183, 0, 1, 42, 27, 188, 9, 181, 0, 7, 177]
abbrev dktX27_init_0 : List UInt8 := dkwX27_init_0 ++ []
theorem dksX27_init_0 : cX27_init.data.toList.drop 0 = dktX27_init_0 := by decide +kernel
theorem dX27_init_0 : decode cX27_init 0 = .ok (.aload_n 0, 1) := dk_42 (dk_at dksX27_init_0 0 rfl rfl)
theorem dX27_init_1 : decode cX27_init 1 = .ok (.invokespecial 1, 3) := dk_183 0 1 (dk_at dksX27_init_0 1 rfl rfl)
theorem dX27_init_4 : decode cX27_init 4 = .ok (.aload_n 0, 1) := dk_42 (dk_at dksX27_init_0 4 rfl rfl)
theorem dX27_init_5 : decode cX27_init 5 = .ok (.iload_n 1, 1) := dk_27 (dk_at dksX27_init_0 5 rfl rfl)
theorem dX27_init_6 : decode cX27_init 6 = .ok (.newarray .short, 2) := dk_188_9 (dk_at dksX27_init_0 6 rfl rfl)
theorem dX27_init_8 : decode cX27_init 8 = .ok (.putfield 7, 3) := dk_181 0 7 (dk_at dksX27_init_0 8 rfl rfl)
theorem dX27_init_11 : decode cX27_init 11 = .ok (.return_, 1) := dk_177 (dk_at dksX27_init_0 11 rfl rfl)
abbrev cX27_put : ByteArray := prog_29_method_5_code
def yX27_put : MethodName := ⟨RX27, "put", "(IJ)Z"⟩
def dkwX27_put_0 : List UInt8 := [42, 180, 0, 7, 27, 32, 136, 147, 86, 4, 172]
abbrev dktX27_put_0 : List UInt8 := dkwX27_put_0 ++ []
theorem dksX27_put_0 : cX27_put.data.toList.drop 0 = dktX27_put_0 := by decide +kernel
theorem dX27_put_0 : decode cX27_put 0 = .ok (.aload_n 0, 1) := dk_42 (dk_at dksX27_put_0 0 rfl rfl)
theorem dX27_put_1 : decode cX27_put 1 = .ok (.getfield 7, 3) := dk_180 0 7 (dk_at dksX27_put_0 1 rfl rfl)
theorem dX27_put_4 : decode cX27_put 4 = .ok (.iload_n 1, 1) := dk_27 (dk_at dksX27_put_0 4 rfl rfl)
theorem dX27_put_5 : decode cX27_put 5 = .ok (.lload_n 2, 1) := dk_32 (dk_at dksX27_put_0 5 rfl rfl)
theorem dX27_put_6 : decode cX27_put 6 = .ok (.l2i, 1) := dk_136 (dk_at dksX27_put_0 6 rfl rfl)
theorem dX27_put_7 : decode cX27_put 7 = .ok (.i2s, 1) := dk_147 (dk_at dksX27_put_0 7 rfl rfl)
theorem dX27_put_8 : decode cX27_put 8 = .ok (.sastore, 1) := dk_86 (dk_at dksX27_put_0 8 rfl rfl)
theorem dX27_put_9 : decode cX27_put 9 = .ok (.iconst 1, 1) := dk_4 (dk_at dksX27_put_0 9 rfl rfl)
theorem dX27_put_10 : decode cX27_put 10 = .ok (.ireturn, 1) := dk_172 (dk_at dksX27_put_0 10 rfl rfl)
abbrev cX27_at : ByteArray := prog_29_method_4_code
def yX27_at : MethodName := ⟨RX27, "at", "(I)J"⟩
def dkwX27_at_0 : List UInt8 := [42, 180, 0, 7, 27, 53, 133, 173]
abbrev dktX27_at_0 : List UInt8 := dkwX27_at_0 ++ []
theorem dksX27_at_0 : cX27_at.data.toList.drop 0 = dktX27_at_0 := by decide +kernel
theorem dX27_at_0 : decode cX27_at 0 = .ok (.aload_n 0, 1) := dk_42 (dk_at dksX27_at_0 0 rfl rfl)
theorem dX27_at_1 : decode cX27_at 1 = .ok (.getfield 7, 3) := dk_180 0 7 (dk_at dksX27_at_0 1 rfl rfl)
theorem dX27_at_4 : decode cX27_at 4 = .ok (.iload_n 1, 1) := dk_27 (dk_at dksX27_at_0 4 rfl rfl)
theorem dX27_at_5 : decode cX27_at 5 = .ok (.saload, 1) := dk_53 (dk_at dksX27_at_0 5 rfl rfl)
theorem dX27_at_6 : decode cX27_at 6 = .ok (.i2l, 1) := dk_133 (dk_at dksX27_at_0 6 rfl rfl)
theorem dX27_at_7 : decode cX27_at 7 = .ok (.lreturn, 1) := dk_173 (dk_at dksX27_at_0 7 rfl rfl)
abbrev cX27_copy : ByteArray := prog_29_method_6_code
def yX27_copy : MethodName := ⟨RX27, "copy", "(ILChairOld$Row;II)V"⟩
def dkwX27_copy_0 : List UInt8 := [42, 180, 0, 7, 27, 44, 192, 0, 8, 180, 0, 7, 29, 21, 4, 184, 0, 13, 177]
abbrev dktX27_copy_0 : List UInt8 := dkwX27_copy_0 ++ []
theorem dksX27_copy_0 : cX27_copy.data.toList.drop 0 = dktX27_copy_0 := by decide +kernel
theorem dX27_copy_0 : decode cX27_copy 0 = .ok (.aload_n 0, 1) := dk_42 (dk_at dksX27_copy_0 0 rfl rfl)
theorem dX27_copy_1 : decode cX27_copy 1 = .ok (.getfield 7, 3) := dk_180 0 7 (dk_at dksX27_copy_0 1 rfl rfl)
theorem dX27_copy_4 : decode cX27_copy 4 = .ok (.iload_n 1, 1) := dk_27 (dk_at dksX27_copy_0 4 rfl rfl)
theorem dX27_copy_5 : decode cX27_copy 5 = .ok (.aload_n 2, 1) := dk_44 (dk_at dksX27_copy_0 5 rfl rfl)
theorem dX27_copy_6 : decode cX27_copy 6 = .ok (.checkcast 8, 3) := dk_192 0 8 (dk_at dksX27_copy_0 6 rfl rfl)
theorem dX27_copy_9 : decode cX27_copy 9 = .ok (.getfield 7, 3) := dk_180 0 7 (dk_at dksX27_copy_0 9 rfl rfl)
theorem dX27_copy_12 : decode cX27_copy 12 = .ok (.iload_n 3, 1) := dk_29 (dk_at dksX27_copy_0 12 rfl rfl)
theorem dX27_copy_13 : decode cX27_copy 13 = .ok (.iload 4, 2) := dk_21 4 (dk_at dksX27_copy_0 13 rfl rfl)
theorem dX27_copy_15 : decode cX27_copy 15 = .ok (.invokestatic 13, 3) := dk_184 0 13 (dk_at dksX27_copy_0 15 rfl rfl)
theorem dX27_copy_18 : decode cX27_copy 18 = .ok (.return_, 1) := dk_177 (dk_at dksX27_copy_0 18 rfl rfl)
theorem q127 : (Jvm.Cond.initialized "ChairOld$ShortRow") ∈ lw_all := lw_g (lw_at lw_m1 43 rfl) rfl
theorem q1314 : (Jvm.Cond.instantiable "ChairOld$ShortRow" (1 : Nat)) ∈ lw_all := lw_g (lw_at lw_m6 30 rfl) rfl
theorem q1316 : (Jvm.Cond.instanceMethod ({ cls := "ChairOld$ShortRow", name := "<init>", desc := "(I)V" } : Jvm.MethodName)) ∈ lw_all := lw_g (lw_at lw_m6 32 rfl) rfl
theorem q1317 : (Jvm.Cond.code ({ cls := "ChairOld$ShortRow", name := "<init>", desc := "(I)V" } : Jvm.MethodName) prog_29_method_1_code (2 : Nat) (Option.none : Option Jvm.ClassFile.FieldType)) ∈ lw_all := lw_g (lw_at lw_m6 33 rfl) rfl
theorem q1318 : (Jvm.Cond.methodLinkNest "ChairOld$ShortRow" (1 : Nat) ({ cls := "ChairOld$Row", name := "<init>", desc := "()V" } : Jvm.MethodName) "ChairOld") ∈ lw_tbl := lw_at lw_m6 34 rfl
theorem q1319 : (Jvm.Cond.fieldLink "ChairOld$ShortRow" (7 : Nat) "ChairOld$ShortRow" "items" "[S") ∈ lw_all := lw_g (lw_at lw_m6 35 rfl) rfl
theorem q1320 : (Jvm.Cond.laysFinal "ChairOld$ShortRow" "ChairOld$ShortRow" "items" "[S") ∈ lw_all := lw_g (lw_at lw_m6 36 rfl) rfl
theorem q1321 : (Jvm.Cond.soleField "ChairOld$ShortRow" "items") ∈ lw_all := lw_g (lw_at lw_m6 37 rfl) rfl
theorem q1322 : (Jvm.Cond.superclass "ChairOld$ShortRow" "ChairOld$Row") ∈ lw_all := lw_g (lw_at lw_m6 38 rfl) rfl
theorem q1375 : (Jvm.Cond.selects "ChairOld$ShortRow" ({ cls := "ChairOld$Row", name := "put", desc := "(IJ)Z" } : Jvm.MethodName) ({ cls := "ChairOld$ShortRow", name := "put", desc := "(IJ)Z" } : Jvm.MethodName)) ∈ lw_all := lw_g (lw_at lw_m6 91 rfl) rfl
theorem q1376 : (Jvm.Cond.instanceMethod ({ cls := "ChairOld$ShortRow", name := "put", desc := "(IJ)Z" } : Jvm.MethodName)) ∈ lw_all := lw_g (lw_at lw_m6 92 rfl) rfl
theorem q1377 : (Jvm.Cond.code ({ cls := "ChairOld$ShortRow", name := "put", desc := "(IJ)Z" } : Jvm.MethodName) prog_29_method_5_code (4 : Nat) (Option.some Jvm.ClassFile.FieldType.boolean)) ∈ lw_all := lw_g (lw_at lw_m6 93 rfl) rfl
theorem q1395 : (Jvm.Cond.selects "ChairOld$ShortRow" ({ cls := "ChairOld$Row", name := "at", desc := "(I)J" } : Jvm.MethodName) ({ cls := "ChairOld$ShortRow", name := "at", desc := "(I)J" } : Jvm.MethodName)) ∈ lw_all := lw_g (lw_at lw_m6 111 rfl) rfl
theorem q1396 : (Jvm.Cond.instanceMethod ({ cls := "ChairOld$ShortRow", name := "at", desc := "(I)J" } : Jvm.MethodName)) ∈ lw_all := lw_g (lw_at lw_m6 112 rfl) rfl
theorem q1397 : (Jvm.Cond.code ({ cls := "ChairOld$ShortRow", name := "at", desc := "(I)J" } : Jvm.MethodName) prog_29_method_4_code (2 : Nat) (Option.some Jvm.ClassFile.FieldType.long)) ∈ lw_all := lw_g (lw_at lw_m6 113 rfl) rfl
theorem q1427 : (Jvm.Cond.selects "ChairOld$ShortRow" ({ cls := "ChairOld$Row", name := "copy", desc := "(ILChairOld$Row;II)V" } : Jvm.MethodName) ({ cls := "ChairOld$ShortRow", name := "copy", desc := "(ILChairOld$Row;II)V" } : Jvm.MethodName)) ∈ lw_all := lw_g (lw_at lw_m6 143 rfl) rfl
theorem q1428 : (Jvm.Cond.instanceMethod ({ cls := "ChairOld$ShortRow", name := "copy", desc := "(ILChairOld$Row;II)V" } : Jvm.MethodName)) ∈ lw_all := lw_g (lw_at lw_m6 144 rfl) rfl
theorem q1429 : (Jvm.Cond.code ({ cls := "ChairOld$ShortRow", name := "copy", desc := "(ILChairOld$Row;II)V" } : Jvm.MethodName) prog_29_method_6_code (5 : Nat) (Option.none : Option Jvm.ClassFile.FieldType)) ∈ lw_all := lw_g (lw_at lw_m6 145 rfl) rfl
theorem q1430 : (Jvm.Cond.classLink "ChairOld$ShortRow" (8 : Nat) "ChairOld$ShortRow") ∈ lw_all := lw_g (lw_at lw_m6 146 rfl) rfl
theorem q1431 : (Jvm.Cond.methodLink "ChairOld$ShortRow" (13 : Nat) ({ cls := "java/lang/System", name := "arraycopy", desc := "(Ljava/lang/Object;ILjava/lang/Object;II)V" } : Jvm.MethodName)) ∈ lw_all := lw_g (lw_at lw_m6 147 rfl) rfl
theorem q2028 : (Jvm.Cond.castable "ChairOld$ShortRow" "ChairOld$Row") ∈ lw_tbl := lw_at lw_m9 24 rfl
theorem q2045 : (Jvm.Cond.castable "ChairOld$ShortRow" "ChairOld$Held") ∈ lw_tbl := lw_at lw_m9 41 rfl
theorem in_X27 : ∀ w ∈ wsX270, w ∈ lw_all := lw_in wsX270 [1320] (by decide +kernel) (by decide +kernel)
/-! ChairOld$IntRow -/
set_option maxRecDepth 100000
def RX28 : String := "ChairOld$IntRow"
def TX28 : u_T := fun k => match k with
  | _ => ("ChairOld$IntRow", "items", "[I", true)
def tyX28 : Nat → FieldType := fun k => match k with
  | _ => .array .int
abbrev wsX280 : List Cond := u_ws RX28 TX28 1
theorem nmX28 : ∀ a, a < 1 → ∀ b, b < 1 → a ≠ b → (TX28 a).2.1 ≠ (TX28 b).2.1 := by decide +kernel
theorem tyX28_ok : ∀ k, k < 1 → parseFieldDescriptor (TX28 k).2.2.1 = some (tyX28 k) := by decide +kernel
abbrev cX28_init : ByteArray := prog_13_method_1_code
def yX28_init : MethodName := ⟨RX28, "<init>", "(I)V"⟩
def dkwX28_init_0 : List UInt8 := [42, 183, 0, 1, 42, 27, 188, 10, 181, 0, 7, 177]
abbrev dktX28_init_0 : List UInt8 := dkwX28_init_0 ++ []
theorem dksX28_init_0 : cX28_init.data.toList.drop 0 = dktX28_init_0 := by decide +kernel
theorem dX28_init_0 : decode cX28_init 0 = .ok (.aload_n 0, 1) := dk_42 (dk_at dksX28_init_0 0 rfl rfl)
theorem dX28_init_1 : decode cX28_init 1 = .ok (.invokespecial 1, 3) := dk_183 0 1 (dk_at dksX28_init_0 1 rfl rfl)
theorem dX28_init_4 : decode cX28_init 4 = .ok (.aload_n 0, 1) := dk_42 (dk_at dksX28_init_0 4 rfl rfl)
theorem dX28_init_5 : decode cX28_init 5 = .ok (.iload_n 1, 1) := dk_27 (dk_at dksX28_init_0 5 rfl rfl)
theorem dX28_init_6 : decode cX28_init 6 = .ok (.newarray .int, 2) := dk_188_10 (dk_at dksX28_init_0 6 rfl rfl)
theorem dX28_init_8 : decode cX28_init 8 = .ok (.putfield 7, 3) := dk_181 0 7 (dk_at dksX28_init_0 8 rfl rfl)
theorem dX28_init_11 : decode cX28_init 11 = .ok (.return_, 1) := dk_177 (dk_at dksX28_init_0 11 rfl rfl)
abbrev cX28_put : ByteArray := prog_13_method_5_code
def yX28_put : MethodName := ⟨RX28, "put", "(IJ)Z"⟩
def dkwX28_put_0 : List UInt8 := [42, 180, 0, 7, 27, 32, 136, 79, 4, 172]
abbrev dktX28_put_0 : List UInt8 := dkwX28_put_0 ++ []
theorem dksX28_put_0 : cX28_put.data.toList.drop 0 = dktX28_put_0 := by decide +kernel
theorem dX28_put_0 : decode cX28_put 0 = .ok (.aload_n 0, 1) := dk_42 (dk_at dksX28_put_0 0 rfl rfl)
theorem dX28_put_1 : decode cX28_put 1 = .ok (.getfield 7, 3) := dk_180 0 7 (dk_at dksX28_put_0 1 rfl rfl)
theorem dX28_put_4 : decode cX28_put 4 = .ok (.iload_n 1, 1) := dk_27 (dk_at dksX28_put_0 4 rfl rfl)
theorem dX28_put_5 : decode cX28_put 5 = .ok (.lload_n 2, 1) := dk_32 (dk_at dksX28_put_0 5 rfl rfl)
theorem dX28_put_6 : decode cX28_put 6 = .ok (.l2i, 1) := dk_136 (dk_at dksX28_put_0 6 rfl rfl)
theorem dX28_put_7 : decode cX28_put 7 = .ok (.iastore, 1) := dk_79 (dk_at dksX28_put_0 7 rfl rfl)
theorem dX28_put_8 : decode cX28_put 8 = .ok (.iconst 1, 1) := dk_4 (dk_at dksX28_put_0 8 rfl rfl)
theorem dX28_put_9 : decode cX28_put 9 = .ok (.ireturn, 1) := dk_172 (dk_at dksX28_put_0 9 rfl rfl)
abbrev cX28_at : ByteArray := prog_13_method_4_code
def yX28_at : MethodName := ⟨RX28, "at", "(I)J"⟩
def dkwX28_at_0 : List UInt8 := [42, 180, 0, 7, 27, 46, 133, 173]
abbrev dktX28_at_0 : List UInt8 := dkwX28_at_0 ++ []
theorem dksX28_at_0 : cX28_at.data.toList.drop 0 = dktX28_at_0 := by decide +kernel
theorem dX28_at_0 : decode cX28_at 0 = .ok (.aload_n 0, 1) := dk_42 (dk_at dksX28_at_0 0 rfl rfl)
theorem dX28_at_1 : decode cX28_at 1 = .ok (.getfield 7, 3) := dk_180 0 7 (dk_at dksX28_at_0 1 rfl rfl)
theorem dX28_at_4 : decode cX28_at 4 = .ok (.iload_n 1, 1) := dk_27 (dk_at dksX28_at_0 4 rfl rfl)
theorem dX28_at_5 : decode cX28_at 5 = .ok (.iaload, 1) := dk_46 (dk_at dksX28_at_0 5 rfl rfl)
theorem dX28_at_6 : decode cX28_at 6 = .ok (.i2l, 1) := dk_133 (dk_at dksX28_at_0 6 rfl rfl)
theorem dX28_at_7 : decode cX28_at 7 = .ok (.lreturn, 1) := dk_173 (dk_at dksX28_at_0 7 rfl rfl)
abbrev cX28_copy : ByteArray := prog_13_method_6_code
def yX28_copy : MethodName := ⟨RX28, "copy", "(ILChairOld$Row;II)V"⟩
def dkwX28_copy_0 : List UInt8 := [42, 180, 0, 7, 27, 44, 192, 0, 8, 180, 0, 7, 29, 21, 4, 184, 0, 13, 177]
abbrev dktX28_copy_0 : List UInt8 := dkwX28_copy_0 ++ []
theorem dksX28_copy_0 : cX28_copy.data.toList.drop 0 = dktX28_copy_0 := by decide +kernel
theorem dX28_copy_0 : decode cX28_copy 0 = .ok (.aload_n 0, 1) := dk_42 (dk_at dksX28_copy_0 0 rfl rfl)
theorem dX28_copy_1 : decode cX28_copy 1 = .ok (.getfield 7, 3) := dk_180 0 7 (dk_at dksX28_copy_0 1 rfl rfl)
theorem dX28_copy_4 : decode cX28_copy 4 = .ok (.iload_n 1, 1) := dk_27 (dk_at dksX28_copy_0 4 rfl rfl)
theorem dX28_copy_5 : decode cX28_copy 5 = .ok (.aload_n 2, 1) := dk_44 (dk_at dksX28_copy_0 5 rfl rfl)
theorem dX28_copy_6 : decode cX28_copy 6 = .ok (.checkcast 8, 3) := dk_192 0 8 (dk_at dksX28_copy_0 6 rfl rfl)
theorem dX28_copy_9 : decode cX28_copy 9 = .ok (.getfield 7, 3) := dk_180 0 7 (dk_at dksX28_copy_0 9 rfl rfl)
theorem dX28_copy_12 : decode cX28_copy 12 = .ok (.iload_n 3, 1) := dk_29 (dk_at dksX28_copy_0 12 rfl rfl)
theorem dX28_copy_13 : decode cX28_copy 13 = .ok (.iload 4, 2) := dk_21 4 (dk_at dksX28_copy_0 13 rfl rfl)
theorem dX28_copy_15 : decode cX28_copy 15 = .ok (.invokestatic 13, 3) := dk_184 0 13 (dk_at dksX28_copy_0 15 rfl rfl)
theorem dX28_copy_18 : decode cX28_copy 18 = .ok (.return_, 1) := dk_177 (dk_at dksX28_copy_0 18 rfl rfl)
theorem q128 : (Jvm.Cond.initialized "ChairOld$IntRow") ∈ lw_all := lw_g (lw_at lw_m1 44 rfl) rfl
theorem q1325 : (Jvm.Cond.instantiable "ChairOld$IntRow" (1 : Nat)) ∈ lw_all := lw_g (lw_at lw_m6 41 rfl) rfl
theorem q1327 : (Jvm.Cond.instanceMethod ({ cls := "ChairOld$IntRow", name := "<init>", desc := "(I)V" } : Jvm.MethodName)) ∈ lw_all := lw_g (lw_at lw_m6 43 rfl) rfl
theorem q1328 : (Jvm.Cond.code ({ cls := "ChairOld$IntRow", name := "<init>", desc := "(I)V" } : Jvm.MethodName) prog_13_method_1_code (2 : Nat) (Option.none : Option Jvm.ClassFile.FieldType)) ∈ lw_all := lw_g (lw_at lw_m6 44 rfl) rfl
theorem q1329 : (Jvm.Cond.methodLinkNest "ChairOld$IntRow" (1 : Nat) ({ cls := "ChairOld$Row", name := "<init>", desc := "()V" } : Jvm.MethodName) "ChairOld") ∈ lw_tbl := lw_at lw_m6 45 rfl
theorem q1330 : (Jvm.Cond.fieldLink "ChairOld$IntRow" (7 : Nat) "ChairOld$IntRow" "items" "[I") ∈ lw_all := lw_g (lw_at lw_m6 46 rfl) rfl
theorem q1331 : (Jvm.Cond.laysFinal "ChairOld$IntRow" "ChairOld$IntRow" "items" "[I") ∈ lw_all := lw_g (lw_at lw_m6 47 rfl) rfl
theorem q1332 : (Jvm.Cond.soleField "ChairOld$IntRow" "items") ∈ lw_all := lw_g (lw_at lw_m6 48 rfl) rfl
theorem q1333 : (Jvm.Cond.superclass "ChairOld$IntRow" "ChairOld$Row") ∈ lw_all := lw_g (lw_at lw_m6 49 rfl) rfl
theorem q1369 : (Jvm.Cond.selects "ChairOld$IntRow" ({ cls := "ChairOld$Row", name := "put", desc := "(IJ)Z" } : Jvm.MethodName) ({ cls := "ChairOld$IntRow", name := "put", desc := "(IJ)Z" } : Jvm.MethodName)) ∈ lw_all := lw_g (lw_at lw_m6 85 rfl) rfl
theorem q1370 : (Jvm.Cond.instanceMethod ({ cls := "ChairOld$IntRow", name := "put", desc := "(IJ)Z" } : Jvm.MethodName)) ∈ lw_all := lw_g (lw_at lw_m6 86 rfl) rfl
theorem q1371 : (Jvm.Cond.code ({ cls := "ChairOld$IntRow", name := "put", desc := "(IJ)Z" } : Jvm.MethodName) prog_13_method_5_code (4 : Nat) (Option.some Jvm.ClassFile.FieldType.boolean)) ∈ lw_all := lw_g (lw_at lw_m6 87 rfl) rfl
theorem q1389 : (Jvm.Cond.selects "ChairOld$IntRow" ({ cls := "ChairOld$Row", name := "at", desc := "(I)J" } : Jvm.MethodName) ({ cls := "ChairOld$IntRow", name := "at", desc := "(I)J" } : Jvm.MethodName)) ∈ lw_all := lw_g (lw_at lw_m6 105 rfl) rfl
theorem q1390 : (Jvm.Cond.instanceMethod ({ cls := "ChairOld$IntRow", name := "at", desc := "(I)J" } : Jvm.MethodName)) ∈ lw_all := lw_g (lw_at lw_m6 106 rfl) rfl
theorem q1391 : (Jvm.Cond.code ({ cls := "ChairOld$IntRow", name := "at", desc := "(I)J" } : Jvm.MethodName) prog_13_method_4_code (2 : Nat) (Option.some Jvm.ClassFile.FieldType.long)) ∈ lw_all := lw_g (lw_at lw_m6 107 rfl) rfl
theorem q1417 : (Jvm.Cond.selects "ChairOld$IntRow" ({ cls := "ChairOld$Row", name := "copy", desc := "(ILChairOld$Row;II)V" } : Jvm.MethodName) ({ cls := "ChairOld$IntRow", name := "copy", desc := "(ILChairOld$Row;II)V" } : Jvm.MethodName)) ∈ lw_all := lw_g (lw_at lw_m6 133 rfl) rfl
theorem q1418 : (Jvm.Cond.instanceMethod ({ cls := "ChairOld$IntRow", name := "copy", desc := "(ILChairOld$Row;II)V" } : Jvm.MethodName)) ∈ lw_all := lw_g (lw_at lw_m6 134 rfl) rfl
theorem q1419 : (Jvm.Cond.code ({ cls := "ChairOld$IntRow", name := "copy", desc := "(ILChairOld$Row;II)V" } : Jvm.MethodName) prog_13_method_6_code (5 : Nat) (Option.none : Option Jvm.ClassFile.FieldType)) ∈ lw_all := lw_g (lw_at lw_m6 135 rfl) rfl
theorem q1420 : (Jvm.Cond.classLink "ChairOld$IntRow" (8 : Nat) "ChairOld$IntRow") ∈ lw_all := lw_g (lw_at lw_m6 136 rfl) rfl
theorem q1421 : (Jvm.Cond.methodLink "ChairOld$IntRow" (13 : Nat) ({ cls := "java/lang/System", name := "arraycopy", desc := "(Ljava/lang/Object;ILjava/lang/Object;II)V" } : Jvm.MethodName)) ∈ lw_all := lw_g (lw_at lw_m6 137 rfl) rfl
theorem q2026 : (Jvm.Cond.castable "ChairOld$IntRow" "ChairOld$Row") ∈ lw_tbl := lw_at lw_m9 22 rfl
theorem q2046 : (Jvm.Cond.castable "ChairOld$IntRow" "ChairOld$Held") ∈ lw_tbl := lw_at lw_m9 42 rfl
theorem in_X28 : ∀ w ∈ wsX280, w ∈ lw_all := lw_in wsX280 [1331] (by decide +kernel) (by decide +kernel)
/-! ChairOld$LongRow -/
set_option maxRecDepth 100000
def RX29 : String := "ChairOld$LongRow"
def TX29 : u_T := fun k => match k with
  | _ => ("ChairOld$LongRow", "items", "[J", true)
def tyX29 : Nat → FieldType := fun k => match k with
  | _ => .array .long
abbrev wsX290 : List Cond := u_ws RX29 TX29 1
theorem nmX29 : ∀ a, a < 1 → ∀ b, b < 1 → a ≠ b → (TX29 a).2.1 ≠ (TX29 b).2.1 := by decide +kernel
theorem tyX29_ok : ∀ k, k < 1 → parseFieldDescriptor (TX29 k).2.2.1 = some (tyX29 k) := by decide +kernel
abbrev cX29_init : ByteArray := prog_17_method_1_code
def yX29_init : MethodName := ⟨RX29, "<init>", "(I)V"⟩
def dkwX29_init_0 : List UInt8 := [42, 183, 0, 1, 42, 27, 188, 11, 181, 0, 7, 177]
abbrev dktX29_init_0 : List UInt8 := dkwX29_init_0 ++ []
theorem dksX29_init_0 : cX29_init.data.toList.drop 0 = dktX29_init_0 := by decide +kernel
theorem dX29_init_0 : decode cX29_init 0 = .ok (.aload_n 0, 1) := dk_42 (dk_at dksX29_init_0 0 rfl rfl)
theorem dX29_init_1 : decode cX29_init 1 = .ok (.invokespecial 1, 3) := dk_183 0 1 (dk_at dksX29_init_0 1 rfl rfl)
theorem dX29_init_4 : decode cX29_init 4 = .ok (.aload_n 0, 1) := dk_42 (dk_at dksX29_init_0 4 rfl rfl)
theorem dX29_init_5 : decode cX29_init 5 = .ok (.iload_n 1, 1) := dk_27 (dk_at dksX29_init_0 5 rfl rfl)
theorem dX29_init_6 : decode cX29_init 6 = .ok (.newarray .long, 2) := dk_188_11 (dk_at dksX29_init_0 6 rfl rfl)
theorem dX29_init_8 : decode cX29_init 8 = .ok (.putfield 7, 3) := dk_181 0 7 (dk_at dksX29_init_0 8 rfl rfl)
theorem dX29_init_11 : decode cX29_init 11 = .ok (.return_, 1) := dk_177 (dk_at dksX29_init_0 11 rfl rfl)
abbrev cX29_put : ByteArray := prog_17_method_5_code
def yX29_put : MethodName := ⟨RX29, "put", "(IJ)Z"⟩
def dkwX29_put_0 : List UInt8 := [42, 180, 0, 7, 27, 32, 80, 4, 172]
abbrev dktX29_put_0 : List UInt8 := dkwX29_put_0 ++ []
theorem dksX29_put_0 : cX29_put.data.toList.drop 0 = dktX29_put_0 := by decide +kernel
theorem dX29_put_0 : decode cX29_put 0 = .ok (.aload_n 0, 1) := dk_42 (dk_at dksX29_put_0 0 rfl rfl)
theorem dX29_put_1 : decode cX29_put 1 = .ok (.getfield 7, 3) := dk_180 0 7 (dk_at dksX29_put_0 1 rfl rfl)
theorem dX29_put_4 : decode cX29_put 4 = .ok (.iload_n 1, 1) := dk_27 (dk_at dksX29_put_0 4 rfl rfl)
theorem dX29_put_5 : decode cX29_put 5 = .ok (.lload_n 2, 1) := dk_32 (dk_at dksX29_put_0 5 rfl rfl)
theorem dX29_put_6 : decode cX29_put 6 = .ok (.lastore, 1) := dk_80 (dk_at dksX29_put_0 6 rfl rfl)
theorem dX29_put_7 : decode cX29_put 7 = .ok (.iconst 1, 1) := dk_4 (dk_at dksX29_put_0 7 rfl rfl)
theorem dX29_put_8 : decode cX29_put 8 = .ok (.ireturn, 1) := dk_172 (dk_at dksX29_put_0 8 rfl rfl)
abbrev cX29_at : ByteArray := prog_17_method_4_code
def yX29_at : MethodName := ⟨RX29, "at", "(I)J"⟩
def dkwX29_at_0 : List UInt8 := [42, 180, 0, 7, 27, 47, 173]
abbrev dktX29_at_0 : List UInt8 := dkwX29_at_0 ++ []
theorem dksX29_at_0 : cX29_at.data.toList.drop 0 = dktX29_at_0 := by decide +kernel
theorem dX29_at_0 : decode cX29_at 0 = .ok (.aload_n 0, 1) := dk_42 (dk_at dksX29_at_0 0 rfl rfl)
theorem dX29_at_1 : decode cX29_at 1 = .ok (.getfield 7, 3) := dk_180 0 7 (dk_at dksX29_at_0 1 rfl rfl)
theorem dX29_at_4 : decode cX29_at 4 = .ok (.iload_n 1, 1) := dk_27 (dk_at dksX29_at_0 4 rfl rfl)
theorem dX29_at_5 : decode cX29_at 5 = .ok (.laload, 1) := dk_47 (dk_at dksX29_at_0 5 rfl rfl)
theorem dX29_at_6 : decode cX29_at 6 = .ok (.lreturn, 1) := dk_173 (dk_at dksX29_at_0 6 rfl rfl)
abbrev cX29_copy : ByteArray := prog_17_method_6_code
def yX29_copy : MethodName := ⟨RX29, "copy", "(ILChairOld$Row;II)V"⟩
def dkwX29_copy_0 : List UInt8 := [42, 180, 0, 7, 27, 44, 192, 0, 8, 180, 0, 7, 29, 21, 4, 184, 0, 13, 177]
abbrev dktX29_copy_0 : List UInt8 := dkwX29_copy_0 ++ []
theorem dksX29_copy_0 : cX29_copy.data.toList.drop 0 = dktX29_copy_0 := by decide +kernel
theorem dX29_copy_0 : decode cX29_copy 0 = .ok (.aload_n 0, 1) := dk_42 (dk_at dksX29_copy_0 0 rfl rfl)
theorem dX29_copy_1 : decode cX29_copy 1 = .ok (.getfield 7, 3) := dk_180 0 7 (dk_at dksX29_copy_0 1 rfl rfl)
theorem dX29_copy_4 : decode cX29_copy 4 = .ok (.iload_n 1, 1) := dk_27 (dk_at dksX29_copy_0 4 rfl rfl)
theorem dX29_copy_5 : decode cX29_copy 5 = .ok (.aload_n 2, 1) := dk_44 (dk_at dksX29_copy_0 5 rfl rfl)
theorem dX29_copy_6 : decode cX29_copy 6 = .ok (.checkcast 8, 3) := dk_192 0 8 (dk_at dksX29_copy_0 6 rfl rfl)
theorem dX29_copy_9 : decode cX29_copy 9 = .ok (.getfield 7, 3) := dk_180 0 7 (dk_at dksX29_copy_0 9 rfl rfl)
theorem dX29_copy_12 : decode cX29_copy 12 = .ok (.iload_n 3, 1) := dk_29 (dk_at dksX29_copy_0 12 rfl rfl)
theorem dX29_copy_13 : decode cX29_copy 13 = .ok (.iload 4, 2) := dk_21 4 (dk_at dksX29_copy_0 13 rfl rfl)
theorem dX29_copy_15 : decode cX29_copy 15 = .ok (.invokestatic 13, 3) := dk_184 0 13 (dk_at dksX29_copy_0 15 rfl rfl)
theorem dX29_copy_18 : decode cX29_copy 18 = .ok (.return_, 1) := dk_177 (dk_at dksX29_copy_0 18 rfl rfl)
theorem q129 : (Jvm.Cond.initialized "ChairOld$LongRow") ∈ lw_all := lw_g (lw_at lw_m1 45 rfl) rfl
theorem q1335 : (Jvm.Cond.instantiable "ChairOld$LongRow" (1 : Nat)) ∈ lw_all := lw_g (lw_at lw_m6 51 rfl) rfl
theorem q1337 : (Jvm.Cond.instanceMethod ({ cls := "ChairOld$LongRow", name := "<init>", desc := "(I)V" } : Jvm.MethodName)) ∈ lw_all := lw_g (lw_at lw_m6 53 rfl) rfl
theorem q1338 : (Jvm.Cond.code ({ cls := "ChairOld$LongRow", name := "<init>", desc := "(I)V" } : Jvm.MethodName) prog_17_method_1_code (2 : Nat) (Option.none : Option Jvm.ClassFile.FieldType)) ∈ lw_all := lw_g (lw_at lw_m6 54 rfl) rfl
theorem q1339 : (Jvm.Cond.methodLinkNest "ChairOld$LongRow" (1 : Nat) ({ cls := "ChairOld$Row", name := "<init>", desc := "()V" } : Jvm.MethodName) "ChairOld") ∈ lw_tbl := lw_at lw_m6 55 rfl
theorem q1340 : (Jvm.Cond.fieldLink "ChairOld$LongRow" (7 : Nat) "ChairOld$LongRow" "items" "[J") ∈ lw_all := lw_g (lw_at lw_m6 56 rfl) rfl
theorem q1341 : (Jvm.Cond.laysFinal "ChairOld$LongRow" "ChairOld$LongRow" "items" "[J") ∈ lw_all := lw_g (lw_at lw_m6 57 rfl) rfl
theorem q1342 : (Jvm.Cond.soleField "ChairOld$LongRow" "items") ∈ lw_all := lw_g (lw_at lw_m6 58 rfl) rfl
theorem q1343 : (Jvm.Cond.superclass "ChairOld$LongRow" "ChairOld$Row") ∈ lw_all := lw_g (lw_at lw_m6 59 rfl) rfl
theorem q1372 : (Jvm.Cond.selects "ChairOld$LongRow" ({ cls := "ChairOld$Row", name := "put", desc := "(IJ)Z" } : Jvm.MethodName) ({ cls := "ChairOld$LongRow", name := "put", desc := "(IJ)Z" } : Jvm.MethodName)) ∈ lw_all := lw_g (lw_at lw_m6 88 rfl) rfl
theorem q1373 : (Jvm.Cond.instanceMethod ({ cls := "ChairOld$LongRow", name := "put", desc := "(IJ)Z" } : Jvm.MethodName)) ∈ lw_all := lw_g (lw_at lw_m6 89 rfl) rfl
theorem q1374 : (Jvm.Cond.code ({ cls := "ChairOld$LongRow", name := "put", desc := "(IJ)Z" } : Jvm.MethodName) prog_17_method_5_code (4 : Nat) (Option.some Jvm.ClassFile.FieldType.boolean)) ∈ lw_all := lw_g (lw_at lw_m6 90 rfl) rfl
theorem q1392 : (Jvm.Cond.selects "ChairOld$LongRow" ({ cls := "ChairOld$Row", name := "at", desc := "(I)J" } : Jvm.MethodName) ({ cls := "ChairOld$LongRow", name := "at", desc := "(I)J" } : Jvm.MethodName)) ∈ lw_all := lw_g (lw_at lw_m6 108 rfl) rfl
theorem q1393 : (Jvm.Cond.instanceMethod ({ cls := "ChairOld$LongRow", name := "at", desc := "(I)J" } : Jvm.MethodName)) ∈ lw_all := lw_g (lw_at lw_m6 109 rfl) rfl
theorem q1394 : (Jvm.Cond.code ({ cls := "ChairOld$LongRow", name := "at", desc := "(I)J" } : Jvm.MethodName) prog_17_method_4_code (2 : Nat) (Option.some Jvm.ClassFile.FieldType.long)) ∈ lw_all := lw_g (lw_at lw_m6 110 rfl) rfl
theorem q1422 : (Jvm.Cond.selects "ChairOld$LongRow" ({ cls := "ChairOld$Row", name := "copy", desc := "(ILChairOld$Row;II)V" } : Jvm.MethodName) ({ cls := "ChairOld$LongRow", name := "copy", desc := "(ILChairOld$Row;II)V" } : Jvm.MethodName)) ∈ lw_all := lw_g (lw_at lw_m6 138 rfl) rfl
theorem q1423 : (Jvm.Cond.instanceMethod ({ cls := "ChairOld$LongRow", name := "copy", desc := "(ILChairOld$Row;II)V" } : Jvm.MethodName)) ∈ lw_all := lw_g (lw_at lw_m6 139 rfl) rfl
theorem q1424 : (Jvm.Cond.code ({ cls := "ChairOld$LongRow", name := "copy", desc := "(ILChairOld$Row;II)V" } : Jvm.MethodName) prog_17_method_6_code (5 : Nat) (Option.none : Option Jvm.ClassFile.FieldType)) ∈ lw_all := lw_g (lw_at lw_m6 140 rfl) rfl
theorem q1425 : (Jvm.Cond.classLink "ChairOld$LongRow" (8 : Nat) "ChairOld$LongRow") ∈ lw_all := lw_g (lw_at lw_m6 141 rfl) rfl
theorem q1426 : (Jvm.Cond.methodLink "ChairOld$LongRow" (13 : Nat) ({ cls := "java/lang/System", name := "arraycopy", desc := "(Ljava/lang/Object;ILjava/lang/Object;II)V" } : Jvm.MethodName)) ∈ lw_all := lw_g (lw_at lw_m6 142 rfl) rfl
theorem q2027 : (Jvm.Cond.castable "ChairOld$LongRow" "ChairOld$Row") ∈ lw_tbl := lw_at lw_m9 23 rfl
theorem q2047 : (Jvm.Cond.castable "ChairOld$LongRow" "ChairOld$Held") ∈ lw_tbl := lw_at lw_m9 43 rfl
theorem in_X29 : ∀ w ∈ wsX290, w ∈ lw_all := lw_in wsX290 [1341] (by decide +kernel) (by decide +kernel)
/-! ChairOld$BooleanRow -/
set_option maxRecDepth 100000
def RX30 : String := "ChairOld$BooleanRow"
def TX30 : u_T := fun k => match k with
  | _ => ("ChairOld$BooleanRow", "items", "[Z", true)
def tyX30 : Nat → FieldType := fun k => match k with
  | _ => .array .boolean
abbrev wsX300 : List Cond := u_ws RX30 TX30 1
theorem nmX30 : ∀ a, a < 1 → ∀ b, b < 1 → a ≠ b → (TX30 a).2.1 ≠ (TX30 b).2.1 := by decide +kernel
theorem tyX30_ok : ∀ k, k < 1 → parseFieldDescriptor (TX30 k).2.2.1 = some (tyX30 k) := by decide +kernel
abbrev cX30_init : ByteArray := prog_4_method_1_code
def yX30_init : MethodName := ⟨RX30, "<init>", "(I)V"⟩
def dkwX30_init_0 : List UInt8 := [42, 183, 0, 1, 42, 27, 188, 4, 181, 0, 7, 177]
abbrev dktX30_init_0 : List UInt8 := dkwX30_init_0 ++ []
theorem dksX30_init_0 : cX30_init.data.toList.drop 0 = dktX30_init_0 := by decide +kernel
theorem dX30_init_0 : decode cX30_init 0 = .ok (.aload_n 0, 1) := dk_42 (dk_at dksX30_init_0 0 rfl rfl)
theorem dX30_init_1 : decode cX30_init 1 = .ok (.invokespecial 1, 3) := dk_183 0 1 (dk_at dksX30_init_0 1 rfl rfl)
theorem dX30_init_4 : decode cX30_init 4 = .ok (.aload_n 0, 1) := dk_42 (dk_at dksX30_init_0 4 rfl rfl)
theorem dX30_init_5 : decode cX30_init 5 = .ok (.iload_n 1, 1) := dk_27 (dk_at dksX30_init_0 5 rfl rfl)
theorem dX30_init_6 : decode cX30_init 6 = .ok (.newarray .boolean, 2) := dk_188_4 (dk_at dksX30_init_0 6 rfl rfl)
theorem dX30_init_8 : decode cX30_init 8 = .ok (.putfield 7, 3) := dk_181 0 7 (dk_at dksX30_init_0 8 rfl rfl)
theorem dX30_init_11 : decode cX30_init 11 = .ok (.return_, 1) := dk_177 (dk_at dksX30_init_0 11 rfl rfl)
abbrev cX30_put : ByteArray := prog_4_method_5_code
def yX30_put : MethodName := ⟨RX30, "put", "(IJ)Z"⟩
def dkwX30_put_0 : List UInt8 := [42, 180, 0, 7, 27, 32, 9, 148, 153, 0, 7, 4, 167, 0, 4, 3, 84, 4, 172]
abbrev dktX30_put_0 : List UInt8 := dkwX30_put_0 ++ []
theorem dksX30_put_0 : cX30_put.data.toList.drop 0 = dktX30_put_0 := by decide +kernel
theorem dX30_put_0 : decode cX30_put 0 = .ok (.aload_n 0, 1) := dk_42 (dk_at dksX30_put_0 0 rfl rfl)
theorem dX30_put_1 : decode cX30_put 1 = .ok (.getfield 7, 3) := dk_180 0 7 (dk_at dksX30_put_0 1 rfl rfl)
theorem dX30_put_4 : decode cX30_put 4 = .ok (.iload_n 1, 1) := dk_27 (dk_at dksX30_put_0 4 rfl rfl)
theorem dX30_put_5 : decode cX30_put 5 = .ok (.lload_n 2, 1) := dk_32 (dk_at dksX30_put_0 5 rfl rfl)
theorem dX30_put_6 : decode cX30_put 6 = .ok (.lconst 0, 1) := dk_9 (dk_at dksX30_put_0 6 rfl rfl)
theorem dX30_put_7 : decode cX30_put 7 = .ok (.lcmp, 1) := dk_148 (dk_at dksX30_put_0 7 rfl rfl)
theorem dX30_put_8 : decode cX30_put 8 = .ok (.ifCond .eq 7, 3) := dk_153 0 7 (dk_at dksX30_put_0 8 rfl rfl)
theorem dX30_put_11 : decode cX30_put 11 = .ok (.iconst 1, 1) := dk_4 (dk_at dksX30_put_0 11 rfl rfl)
theorem dX30_put_12 : decode cX30_put 12 = .ok (.goto 4, 3) := dk_167 0 4 (dk_at dksX30_put_0 12 rfl rfl)
theorem dX30_put_15 : decode cX30_put 15 = .ok (.iconst 0, 1) := dk_3 (dk_at dksX30_put_0 15 rfl rfl)
theorem dX30_put_16 : decode cX30_put 16 = .ok (.bastore, 1) := dk_84 (dk_at dksX30_put_0 16 rfl rfl)
theorem dX30_put_17 : decode cX30_put 17 = .ok (.iconst 1, 1) := dk_4 (dk_at dksX30_put_0 17 rfl rfl)
theorem dX30_put_18 : decode cX30_put 18 = .ok (.ireturn, 1) := dk_172 (dk_at dksX30_put_0 18 rfl rfl)
abbrev cX30_at : ByteArray := prog_4_method_4_code
def yX30_at : MethodName := ⟨RX30, "at", "(I)J"⟩
def dkwX30_at_0 : List UInt8 := [42, 180, 0, 7, 27, 51, 153, 0, 7, 10, 167, 0, 4, 9, 173]
abbrev dktX30_at_0 : List UInt8 := dkwX30_at_0 ++ []
theorem dksX30_at_0 : cX30_at.data.toList.drop 0 = dktX30_at_0 := by decide +kernel
theorem dX30_at_0 : decode cX30_at 0 = .ok (.aload_n 0, 1) := dk_42 (dk_at dksX30_at_0 0 rfl rfl)
theorem dX30_at_1 : decode cX30_at 1 = .ok (.getfield 7, 3) := dk_180 0 7 (dk_at dksX30_at_0 1 rfl rfl)
theorem dX30_at_4 : decode cX30_at 4 = .ok (.iload_n 1, 1) := dk_27 (dk_at dksX30_at_0 4 rfl rfl)
theorem dX30_at_5 : decode cX30_at 5 = .ok (.baload, 1) := dk_51 (dk_at dksX30_at_0 5 rfl rfl)
theorem dX30_at_6 : decode cX30_at 6 = .ok (.ifCond .eq 7, 3) := dk_153 0 7 (dk_at dksX30_at_0 6 rfl rfl)
theorem dX30_at_9 : decode cX30_at 9 = .ok (.lconst 1, 1) := dk_10 (dk_at dksX30_at_0 9 rfl rfl)
theorem dX30_at_10 : decode cX30_at 10 = .ok (.goto 4, 3) := dk_167 0 4 (dk_at dksX30_at_0 10 rfl rfl)
theorem dX30_at_13 : decode cX30_at 13 = .ok (.lconst 0, 1) := dk_9 (dk_at dksX30_at_0 13 rfl rfl)
theorem dX30_at_14 : decode cX30_at 14 = .ok (.lreturn, 1) := dk_173 (dk_at dksX30_at_0 14 rfl rfl)
abbrev cX30_copy : ByteArray := prog_4_method_6_code
def yX30_copy : MethodName := ⟨RX30, "copy", "(ILChairOld$Row;II)V"⟩
def dkwX30_copy_0 : List UInt8 := [42, 180, 0, 7, 27, 44, 192, 0, 8, 180, 0, 7, 29, 21, 4, 184, 0, 13, 177]
abbrev dktX30_copy_0 : List UInt8 := dkwX30_copy_0 ++ []
theorem dksX30_copy_0 : cX30_copy.data.toList.drop 0 = dktX30_copy_0 := by decide +kernel
theorem dX30_copy_0 : decode cX30_copy 0 = .ok (.aload_n 0, 1) := dk_42 (dk_at dksX30_copy_0 0 rfl rfl)
theorem dX30_copy_1 : decode cX30_copy 1 = .ok (.getfield 7, 3) := dk_180 0 7 (dk_at dksX30_copy_0 1 rfl rfl)
theorem dX30_copy_4 : decode cX30_copy 4 = .ok (.iload_n 1, 1) := dk_27 (dk_at dksX30_copy_0 4 rfl rfl)
theorem dX30_copy_5 : decode cX30_copy 5 = .ok (.aload_n 2, 1) := dk_44 (dk_at dksX30_copy_0 5 rfl rfl)
theorem dX30_copy_6 : decode cX30_copy 6 = .ok (.checkcast 8, 3) := dk_192 0 8 (dk_at dksX30_copy_0 6 rfl rfl)
theorem dX30_copy_9 : decode cX30_copy 9 = .ok (.getfield 7, 3) := dk_180 0 7 (dk_at dksX30_copy_0 9 rfl rfl)
theorem dX30_copy_12 : decode cX30_copy 12 = .ok (.iload_n 3, 1) := dk_29 (dk_at dksX30_copy_0 12 rfl rfl)
theorem dX30_copy_13 : decode cX30_copy 13 = .ok (.iload 4, 2) := dk_21 4 (dk_at dksX30_copy_0 13 rfl rfl)
theorem dX30_copy_15 : decode cX30_copy 15 = .ok (.invokestatic 13, 3) := dk_184 0 13 (dk_at dksX30_copy_0 15 rfl rfl)
theorem dX30_copy_18 : decode cX30_copy 18 = .ok (.return_, 1) := dk_177 (dk_at dksX30_copy_0 18 rfl rfl)
theorem q130 : (Jvm.Cond.initialized "ChairOld$BooleanRow") ∈ lw_all := lw_g (lw_at lw_m1 46 rfl) rfl
theorem q1345 : (Jvm.Cond.instantiable "ChairOld$BooleanRow" (1 : Nat)) ∈ lw_all := lw_g (lw_at lw_m6 61 rfl) rfl
theorem q1347 : (Jvm.Cond.instanceMethod ({ cls := "ChairOld$BooleanRow", name := "<init>", desc := "(I)V" } : Jvm.MethodName)) ∈ lw_all := lw_g (lw_at lw_m6 63 rfl) rfl
theorem q1348 : (Jvm.Cond.code ({ cls := "ChairOld$BooleanRow", name := "<init>", desc := "(I)V" } : Jvm.MethodName) prog_4_method_1_code (2 : Nat) (Option.none : Option Jvm.ClassFile.FieldType)) ∈ lw_all := lw_g (lw_at lw_m6 64 rfl) rfl
theorem q1349 : (Jvm.Cond.methodLinkNest "ChairOld$BooleanRow" (1 : Nat) ({ cls := "ChairOld$Row", name := "<init>", desc := "()V" } : Jvm.MethodName) "ChairOld") ∈ lw_tbl := lw_at lw_m6 65 rfl
theorem q1350 : (Jvm.Cond.fieldLink "ChairOld$BooleanRow" (7 : Nat) "ChairOld$BooleanRow" "items" "[Z") ∈ lw_all := lw_g (lw_at lw_m6 66 rfl) rfl
theorem q1351 : (Jvm.Cond.laysFinal "ChairOld$BooleanRow" "ChairOld$BooleanRow" "items" "[Z") ∈ lw_all := lw_g (lw_at lw_m6 67 rfl) rfl
theorem q1352 : (Jvm.Cond.soleField "ChairOld$BooleanRow" "items") ∈ lw_all := lw_g (lw_at lw_m6 68 rfl) rfl
theorem q1353 : (Jvm.Cond.superclass "ChairOld$BooleanRow" "ChairOld$Row") ∈ lw_all := lw_g (lw_at lw_m6 69 rfl) rfl
theorem q1363 : (Jvm.Cond.selects "ChairOld$BooleanRow" ({ cls := "ChairOld$Row", name := "put", desc := "(IJ)Z" } : Jvm.MethodName) ({ cls := "ChairOld$BooleanRow", name := "put", desc := "(IJ)Z" } : Jvm.MethodName)) ∈ lw_all := lw_g (lw_at lw_m6 79 rfl) rfl
theorem q1364 : (Jvm.Cond.instanceMethod ({ cls := "ChairOld$BooleanRow", name := "put", desc := "(IJ)Z" } : Jvm.MethodName)) ∈ lw_all := lw_g (lw_at lw_m6 80 rfl) rfl
theorem q1365 : (Jvm.Cond.code ({ cls := "ChairOld$BooleanRow", name := "put", desc := "(IJ)Z" } : Jvm.MethodName) prog_4_method_5_code (4 : Nat) (Option.some Jvm.ClassFile.FieldType.boolean)) ∈ lw_all := lw_g (lw_at lw_m6 81 rfl) rfl
theorem q1385 : (Jvm.Cond.selects "ChairOld$BooleanRow" ({ cls := "ChairOld$Row", name := "at", desc := "(I)J" } : Jvm.MethodName) ({ cls := "ChairOld$BooleanRow", name := "at", desc := "(I)J" } : Jvm.MethodName)) ∈ lw_all := lw_g (lw_at lw_m6 101 rfl) rfl
theorem q1386 : (Jvm.Cond.instanceMethod ({ cls := "ChairOld$BooleanRow", name := "at", desc := "(I)J" } : Jvm.MethodName)) ∈ lw_all := lw_g (lw_at lw_m6 102 rfl) rfl
theorem q1387 : (Jvm.Cond.code ({ cls := "ChairOld$BooleanRow", name := "at", desc := "(I)J" } : Jvm.MethodName) prog_4_method_4_code (2 : Nat) (Option.some Jvm.ClassFile.FieldType.long)) ∈ lw_all := lw_g (lw_at lw_m6 103 rfl) rfl
theorem q1405 : (Jvm.Cond.selects "ChairOld$BooleanRow" ({ cls := "ChairOld$Row", name := "copy", desc := "(ILChairOld$Row;II)V" } : Jvm.MethodName) ({ cls := "ChairOld$BooleanRow", name := "copy", desc := "(ILChairOld$Row;II)V" } : Jvm.MethodName)) ∈ lw_all := lw_g (lw_at lw_m6 121 rfl) rfl
theorem q1406 : (Jvm.Cond.instanceMethod ({ cls := "ChairOld$BooleanRow", name := "copy", desc := "(ILChairOld$Row;II)V" } : Jvm.MethodName)) ∈ lw_all := lw_g (lw_at lw_m6 122 rfl) rfl
theorem q1407 : (Jvm.Cond.code ({ cls := "ChairOld$BooleanRow", name := "copy", desc := "(ILChairOld$Row;II)V" } : Jvm.MethodName) prog_4_method_6_code (5 : Nat) (Option.none : Option Jvm.ClassFile.FieldType)) ∈ lw_all := lw_g (lw_at lw_m6 123 rfl) rfl
theorem q1408 : (Jvm.Cond.classLink "ChairOld$BooleanRow" (8 : Nat) "ChairOld$BooleanRow") ∈ lw_all := lw_g (lw_at lw_m6 124 rfl) rfl
theorem q1409 : (Jvm.Cond.methodLink "ChairOld$BooleanRow" (13 : Nat) ({ cls := "java/lang/System", name := "arraycopy", desc := "(Ljava/lang/Object;ILjava/lang/Object;II)V" } : Jvm.MethodName)) ∈ lw_all := lw_g (lw_at lw_m6 125 rfl) rfl
theorem q2024 : (Jvm.Cond.castable "ChairOld$BooleanRow" "ChairOld$Row") ∈ lw_tbl := lw_at lw_m9 20 rfl
theorem q2048 : (Jvm.Cond.castable "ChairOld$BooleanRow" "ChairOld$Held") ∈ lw_tbl := lw_at lw_m9 44 rfl
theorem in_X30 : ∀ w ∈ wsX300, w ∈ lw_all := lw_in wsX300 [1351] (by decide +kernel) (by decide +kernel)
/-! java/lang/String -/
set_option maxRecDepth 100000
def RJ4 : String := "java/lang/String"
def TJ4 : u_T := fun k => match k with
  | 0 => ("java/lang/String", "value", "[B", true)
  | _ => ("java/lang/String", "coder", "B", true)
def tyJ4 : Nat → FieldType := fun k => match k with
  | 0 => .array .byte
  | _ => .byte
abbrev wsJ40 : List Cond := u_ws RJ4 TJ4 2
theorem nmJ4 : ∀ a, a < 2 → ∀ b, b < 2 → a ≠ b → (TJ4 a).2.1 ≠ (TJ4 b).2.1 := by decide +kernel
theorem tyJ4_ok : ∀ k, k < 2 → parseFieldDescriptor (TJ4 k).2.2.1 = some (tyJ4 k) := by decide +kernel
abbrev cJ4_indexOf : ByteArray := prog_45_method_79_code
def yJ4_indexOf : MethodName := ⟨RJ4, "indexOf", "(I)I"⟩
def dkwJ4_indexOf_0 : List UInt8 := [42, 27, 3, 182, 2, 121, 172]
abbrev dktJ4_indexOf_0 : List UInt8 := dkwJ4_indexOf_0 ++ []
theorem dksJ4_indexOf_0 : cJ4_indexOf.data.toList.drop 0 = dktJ4_indexOf_0 := by decide +kernel
theorem dJ4_indexOf_0 : decode cJ4_indexOf 0 = .ok (.aload_n 0, 1) := dk_42 (dk_at dksJ4_indexOf_0 0 rfl rfl)
theorem dJ4_indexOf_1 : decode cJ4_indexOf 1 = .ok (.iload_n 1, 1) := dk_27 (dk_at dksJ4_indexOf_0 1 rfl rfl)
theorem dJ4_indexOf_2 : decode cJ4_indexOf 2 = .ok (.iconst 0, 1) := dk_3 (dk_at dksJ4_indexOf_0 2 rfl rfl)
theorem dJ4_indexOf_3 : decode cJ4_indexOf 3 = .ok (.invokevirtual 633, 3) := dk_182 2 121 (dk_at dksJ4_indexOf_0 3 rfl rfl)
theorem dJ4_indexOf_6 : decode cJ4_indexOf 6 = .ok (.ireturn, 1) := dk_172 (dk_at dksJ4_indexOf_0 6 rfl rfl)
abbrev cJ4_indexOf_2 : ByteArray := prog_45_method_80_code
def yJ4_indexOf_2 : MethodName := ⟨RJ4, "indexOf", "(II)I"⟩
def dkwJ4_indexOf_2_1 : List UInt8 := [180, 0, 9, 27, 28, 42, 182, 1, 249, 184, 2, 128, 172]
abbrev dktJ4_indexOf_2_1 : List UInt8 := dkwJ4_indexOf_2_1 ++ []
def dkwJ4_indexOf_2_0 : List UInt8 := [42, 182, 1, 236, 153, 0, 19, 42, 180, 0, 9, 27, 28, 42, 182, 1, 249, 184, 2, 125, 167, 0, 16, 42]
abbrev dktJ4_indexOf_2_0 : List UInt8 := dkwJ4_indexOf_2_0 ++ dktJ4_indexOf_2_1
theorem dksJ4_indexOf_2_0 : cJ4_indexOf_2.data.toList.drop 0 = dktJ4_indexOf_2_0 := by decide +kernel
theorem dksJ4_indexOf_2_1 : cJ4_indexOf_2.data.toList.drop 24 = dktJ4_indexOf_2_1 := dk_seg dksJ4_indexOf_2_0 24 rfl rfl
theorem dJ4_indexOf_2_0 : decode cJ4_indexOf_2 0 = .ok (.aload_n 0, 1) := dk_42 (dk_at dksJ4_indexOf_2_0 0 rfl rfl)
theorem dJ4_indexOf_2_1 : decode cJ4_indexOf_2 1 = .ok (.invokevirtual 492, 3) := dk_182 1 236 (dk_at dksJ4_indexOf_2_0 1 rfl rfl)
theorem dJ4_indexOf_2_4 : decode cJ4_indexOf_2 4 = .ok (.ifCond .eq 19, 3) := dk_153 0 19 (dk_at dksJ4_indexOf_2_0 4 rfl rfl)
theorem dJ4_indexOf_2_7 : decode cJ4_indexOf_2 7 = .ok (.aload_n 0, 1) := dk_42 (dk_at dksJ4_indexOf_2_0 7 rfl rfl)
theorem dJ4_indexOf_2_8 : decode cJ4_indexOf_2 8 = .ok (.getfield 9, 3) := dk_180 0 9 (dk_at dksJ4_indexOf_2_0 8 rfl rfl)
theorem dJ4_indexOf_2_11 : decode cJ4_indexOf_2 11 = .ok (.iload_n 1, 1) := dk_27 (dk_at dksJ4_indexOf_2_0 11 rfl rfl)
theorem dJ4_indexOf_2_12 : decode cJ4_indexOf_2 12 = .ok (.iload_n 2, 1) := dk_28 (dk_at dksJ4_indexOf_2_0 12 rfl rfl)
theorem dJ4_indexOf_2_13 : decode cJ4_indexOf_2 13 = .ok (.aload_n 0, 1) := dk_42 (dk_at dksJ4_indexOf_2_0 13 rfl rfl)
theorem dJ4_indexOf_2_14 : decode cJ4_indexOf_2 14 = .ok (.invokevirtual 505, 3) := dk_182 1 249 (dk_at dksJ4_indexOf_2_0 14 rfl rfl)
theorem dJ4_indexOf_2_17 : decode cJ4_indexOf_2 17 = .ok (.invokestatic 637, 3) := dk_184 2 125 (dk_at dksJ4_indexOf_2_0 17 rfl rfl)
theorem dJ4_indexOf_2_20 : decode cJ4_indexOf_2 20 = .ok (.goto 16, 3) := dk_167 0 16 (dk_at dksJ4_indexOf_2_0 20 rfl rfl)
theorem dJ4_indexOf_2_23 : decode cJ4_indexOf_2 23 = .ok (.aload_n 0, 1) := dk_42 (dk_at dksJ4_indexOf_2_0 23 rfl rfl)
theorem dJ4_indexOf_2_24 : decode cJ4_indexOf_2 24 = .ok (.getfield 9, 3) := dk_180 0 9 (dk_at dksJ4_indexOf_2_1 0 rfl rfl)
theorem dJ4_indexOf_2_27 : decode cJ4_indexOf_2 27 = .ok (.iload_n 1, 1) := dk_27 (dk_at dksJ4_indexOf_2_1 3 rfl rfl)
theorem dJ4_indexOf_2_28 : decode cJ4_indexOf_2 28 = .ok (.iload_n 2, 1) := dk_28 (dk_at dksJ4_indexOf_2_1 4 rfl rfl)
theorem dJ4_indexOf_2_29 : decode cJ4_indexOf_2 29 = .ok (.aload_n 0, 1) := dk_42 (dk_at dksJ4_indexOf_2_1 5 rfl rfl)
theorem dJ4_indexOf_2_30 : decode cJ4_indexOf_2 30 = .ok (.invokevirtual 505, 3) := dk_182 1 249 (dk_at dksJ4_indexOf_2_1 6 rfl rfl)
theorem dJ4_indexOf_2_33 : decode cJ4_indexOf_2 33 = .ok (.invokestatic 640, 3) := dk_184 2 128 (dk_at dksJ4_indexOf_2_1 9 rfl rfl)
theorem dJ4_indexOf_2_36 : decode cJ4_indexOf_2 36 = .ok (.ireturn, 1) := dk_172 (dk_at dksJ4_indexOf_2_1 12 rfl rfl)
abbrev cJ4_isLatin1 : ByteArray := prog_45_method_154_code
def yJ4_isLatin1 : MethodName := ⟨RJ4, "isLatin1", "()Z"⟩
def dkwJ4_isLatin1_0 : List UInt8 := [178, 0, 38, 153, 0, 14, 42, 180, 0, 15, 154, 0, 7, 4, 167, 0, 4, 3, 172]
abbrev dktJ4_isLatin1_0 : List UInt8 := dkwJ4_isLatin1_0 ++ []
theorem dksJ4_isLatin1_0 : cJ4_isLatin1.data.toList.drop 0 = dktJ4_isLatin1_0 := by decide +kernel
theorem dJ4_isLatin1_0 : decode cJ4_isLatin1 0 = .ok (.getstatic 38, 3) := dk_178 0 38 (dk_at dksJ4_isLatin1_0 0 rfl rfl)
theorem dJ4_isLatin1_3 : decode cJ4_isLatin1 3 = .ok (.ifCond .eq 14, 3) := dk_153 0 14 (dk_at dksJ4_isLatin1_0 3 rfl rfl)
theorem dJ4_isLatin1_6 : decode cJ4_isLatin1 6 = .ok (.aload_n 0, 1) := dk_42 (dk_at dksJ4_isLatin1_0 6 rfl rfl)
theorem dJ4_isLatin1_7 : decode cJ4_isLatin1 7 = .ok (.getfield 15, 3) := dk_180 0 15 (dk_at dksJ4_isLatin1_0 7 rfl rfl)
theorem dJ4_isLatin1_10 : decode cJ4_isLatin1 10 = .ok (.ifCond .ne 7, 3) := dk_154 0 7 (dk_at dksJ4_isLatin1_0 10 rfl rfl)
theorem dJ4_isLatin1_13 : decode cJ4_isLatin1 13 = .ok (.iconst 1, 1) := dk_4 (dk_at dksJ4_isLatin1_0 13 rfl rfl)
theorem dJ4_isLatin1_14 : decode cJ4_isLatin1 14 = .ok (.goto 4, 3) := dk_167 0 4 (dk_at dksJ4_isLatin1_0 14 rfl rfl)
theorem dJ4_isLatin1_17 : decode cJ4_isLatin1 17 = .ok (.iconst 0, 1) := dk_3 (dk_at dksJ4_isLatin1_0 17 rfl rfl)
theorem dJ4_isLatin1_18 : decode cJ4_isLatin1 18 = .ok (.ireturn, 1) := dk_172 (dk_at dksJ4_isLatin1_0 18 rfl rfl)
abbrev cJ4_length : ByteArray := prog_45_method_54_code
def yJ4_length : MethodName := ⟨RJ4, "length", "()I"⟩
def dkwJ4_length_0 : List UInt8 := [42, 180, 0, 9, 190, 42, 182, 1, 79, 122, 172]
abbrev dktJ4_length_0 : List UInt8 := dkwJ4_length_0 ++ []
theorem dksJ4_length_0 : cJ4_length.data.toList.drop 0 = dktJ4_length_0 := by decide +kernel
theorem dJ4_length_0 : decode cJ4_length 0 = .ok (.aload_n 0, 1) := dk_42 (dk_at dksJ4_length_0 0 rfl rfl)
theorem dJ4_length_1 : decode cJ4_length 1 = .ok (.getfield 9, 3) := dk_180 0 9 (dk_at dksJ4_length_0 1 rfl rfl)
theorem dJ4_length_4 : decode cJ4_length 4 = .ok (.arraylength, 1) := dk_190 (dk_at dksJ4_length_0 4 rfl rfl)
theorem dJ4_length_5 : decode cJ4_length 5 = .ok (.aload_n 0, 1) := dk_42 (dk_at dksJ4_length_0 5 rfl rfl)
theorem dJ4_length_6 : decode cJ4_length 6 = .ok (.invokevirtual 335, 3) := dk_182 1 79 (dk_at dksJ4_length_0 6 rfl rfl)
theorem dJ4_length_9 : decode cJ4_length 9 = .ok (.ishr, 1) := dk_122 (dk_at dksJ4_length_0 9 rfl rfl)
theorem dJ4_length_10 : decode cJ4_length 10 = .ok (.ireturn, 1) := dk_172 (dk_at dksJ4_length_0 10 rfl rfl)
abbrev cJ4_coder : ByteArray := prog_45_method_152_code
def yJ4_coder : MethodName := ⟨RJ4, "coder", "()B"⟩
def dkwJ4_coder_0 : List UInt8 := [178, 0, 38, 153, 0, 10, 42, 180, 0, 15, 167, 0, 4, 4, 172]
abbrev dktJ4_coder_0 : List UInt8 := dkwJ4_coder_0 ++ []
theorem dksJ4_coder_0 : cJ4_coder.data.toList.drop 0 = dktJ4_coder_0 := by decide +kernel
theorem dJ4_coder_0 : decode cJ4_coder 0 = .ok (.getstatic 38, 3) := dk_178 0 38 (dk_at dksJ4_coder_0 0 rfl rfl)
theorem dJ4_coder_3 : decode cJ4_coder 3 = .ok (.ifCond .eq 10, 3) := dk_153 0 10 (dk_at dksJ4_coder_0 3 rfl rfl)
theorem dJ4_coder_6 : decode cJ4_coder 6 = .ok (.aload_n 0, 1) := dk_42 (dk_at dksJ4_coder_0 6 rfl rfl)
theorem dJ4_coder_7 : decode cJ4_coder 7 = .ok (.getfield 15, 3) := dk_180 0 15 (dk_at dksJ4_coder_0 7 rfl rfl)
theorem dJ4_coder_10 : decode cJ4_coder 10 = .ok (.goto 4, 3) := dk_167 0 4 (dk_at dksJ4_coder_0 10 rfl rfl)
theorem dJ4_coder_13 : decode cJ4_coder 13 = .ok (.iconst 1, 1) := dk_4 (dk_at dksJ4_coder_0 13 rfl rfl)
theorem dJ4_coder_14 : decode cJ4_coder 14 = .ok (.ireturn, 1) := dk_172 (dk_at dksJ4_coder_0 14 rfl rfl)
abbrev cJ4_checkBoundsBeginEnd : ByteArray := prog_45_method_158_code
def yJ4_checkBoundsBeginEnd : MethodName := ⟨RJ4, "checkBoundsBeginEnd", "(III)V"⟩
def dkwJ4_checkBoundsBeginEnd_0 : List UInt8 := [26, 27, 28, 178, 4, 29, 184, 4, 38, 87, 177]
abbrev dktJ4_checkBoundsBeginEnd_0 : List UInt8 := dkwJ4_checkBoundsBeginEnd_0 ++ []
theorem dksJ4_checkBoundsBeginEnd_0 : cJ4_checkBoundsBeginEnd.data.toList.drop 0 = dktJ4_checkBoundsBeginEnd_0 := by decide +kernel
theorem dJ4_checkBoundsBeginEnd_0 : decode cJ4_checkBoundsBeginEnd 0 = .ok (.iload_n 0, 1) := dk_26 (dk_at dksJ4_checkBoundsBeginEnd_0 0 rfl rfl)
theorem dJ4_checkBoundsBeginEnd_1 : decode cJ4_checkBoundsBeginEnd 1 = .ok (.iload_n 1, 1) := dk_27 (dk_at dksJ4_checkBoundsBeginEnd_0 1 rfl rfl)
theorem dJ4_checkBoundsBeginEnd_2 : decode cJ4_checkBoundsBeginEnd 2 = .ok (.iload_n 2, 1) := dk_28 (dk_at dksJ4_checkBoundsBeginEnd_0 2 rfl rfl)
theorem dJ4_checkBoundsBeginEnd_3 : decode cJ4_checkBoundsBeginEnd 3 = .ok (.getstatic 1053, 3) := dk_178 4 29 (dk_at dksJ4_checkBoundsBeginEnd_0 3 rfl rfl)
theorem dJ4_checkBoundsBeginEnd_6 : decode cJ4_checkBoundsBeginEnd 6 = .ok (.invokestatic 1062, 3) := dk_184 4 38 (dk_at dksJ4_checkBoundsBeginEnd_0 6 rfl rfl)
theorem dJ4_checkBoundsBeginEnd_9 : decode cJ4_checkBoundsBeginEnd 9 = .ok (.pop, 1) := dk_87 (dk_at dksJ4_checkBoundsBeginEnd_0 9 rfl rfl)
theorem dJ4_checkBoundsBeginEnd_10 : decode cJ4_checkBoundsBeginEnd 10 = .ok (.return_, 1) := dk_177 (dk_at dksJ4_checkBoundsBeginEnd_0 10 rfl rfl)
theorem q95 : (Jvm.Cond.initialized "java/lang/String") ∈ lw_all := lw_g (lw_at lw_m1 11 rfl) rfl
theorem q393 : (Jvm.Cond.instantiable "java/lang/String" (4 : Nat)) ∈ lw_all := lw_g (lw_at lw_m2 69 rfl) rfl
theorem q394 : (Jvm.Cond.laysFinal "java/lang/String" "java/lang/String" "value" "[B") ∈ lw_all := lw_g (lw_at lw_m2 70 rfl) rfl
theorem q395 : (Jvm.Cond.soleField "java/lang/String" "value") ∈ lw_all := lw_g (lw_at lw_m2 71 rfl) rfl
theorem q396 : (Jvm.Cond.laysFinal "java/lang/String" "java/lang/String" "coder" "B") ∈ lw_all := lw_g (lw_at lw_m2 72 rfl) rfl
theorem q397 : (Jvm.Cond.soleField "java/lang/String" "coder") ∈ lw_all := lw_g (lw_at lw_m2 73 rfl) rfl
theorem q603 : (Jvm.Cond.instanceMethod ({ cls := "java/lang/String", name := "indexOf", desc := "(I)I" } : Jvm.MethodName)) ∈ lw_all := lw_g (lw_at lw_m3 39 rfl) rfl
theorem q604 : (Jvm.Cond.selects "java/lang/String" ({ cls := "java/lang/String", name := "indexOf", desc := "(I)I" } : Jvm.MethodName) ({ cls := "java/lang/String", name := "indexOf", desc := "(I)I" } : Jvm.MethodName)) ∈ lw_all := lw_g (lw_at lw_m3 40 rfl) rfl
theorem q605 : (Jvm.Cond.code ({ cls := "java/lang/String", name := "indexOf", desc := "(I)I" } : Jvm.MethodName) prog_45_method_79_code (2 : Nat) (Option.some Jvm.ClassFile.FieldType.int)) ∈ lw_all := lw_g (lw_at lw_m3 41 rfl) rfl
theorem q606 : (Jvm.Cond.methodLink "java/lang/String" (633 : Nat) ({ cls := "java/lang/String", name := "indexOf", desc := "(II)I" } : Jvm.MethodName)) ∈ lw_all := lw_g (lw_at lw_m3 42 rfl) rfl
theorem q607 : (Jvm.Cond.instanceMethod ({ cls := "java/lang/String", name := "indexOf", desc := "(II)I" } : Jvm.MethodName)) ∈ lw_all := lw_g (lw_at lw_m3 43 rfl) rfl
theorem q608 : (Jvm.Cond.selects "java/lang/String" ({ cls := "java/lang/String", name := "indexOf", desc := "(II)I" } : Jvm.MethodName) ({ cls := "java/lang/String", name := "indexOf", desc := "(II)I" } : Jvm.MethodName)) ∈ lw_all := lw_g (lw_at lw_m3 44 rfl) rfl
theorem q609 : (Jvm.Cond.code ({ cls := "java/lang/String", name := "indexOf", desc := "(II)I" } : Jvm.MethodName) prog_45_method_80_code (3 : Nat) (Option.some Jvm.ClassFile.FieldType.int)) ∈ lw_all := lw_g (lw_at lw_m3 45 rfl) rfl
theorem q610 : (Jvm.Cond.methodLink "java/lang/String" (492 : Nat) ({ cls := "java/lang/String", name := "isLatin1", desc := "()Z" } : Jvm.MethodName)) ∈ lw_all := lw_g (lw_at lw_m3 46 rfl) rfl
theorem q611 : (Jvm.Cond.instanceMethod ({ cls := "java/lang/String", name := "isLatin1", desc := "()Z" } : Jvm.MethodName)) ∈ lw_all := lw_g (lw_at lw_m3 47 rfl) rfl
theorem q612 : (Jvm.Cond.selects "java/lang/String" ({ cls := "java/lang/String", name := "isLatin1", desc := "()Z" } : Jvm.MethodName) ({ cls := "java/lang/String", name := "isLatin1", desc := "()Z" } : Jvm.MethodName)) ∈ lw_all := lw_g (lw_at lw_m3 48 rfl) rfl
theorem q613 : (Jvm.Cond.code ({ cls := "java/lang/String", name := "isLatin1", desc := "()Z" } : Jvm.MethodName) prog_45_method_154_code (1 : Nat) (Option.some Jvm.ClassFile.FieldType.boolean)) ∈ lw_all := lw_g (lw_at lw_m3 49 rfl) rfl
theorem q614 : (Jvm.Cond.fieldLink "java/lang/String" (38 : Nat) "java/lang/String" "COMPACT_STRINGS" "Z") ∈ lw_all := lw_g (lw_at lw_m3 50 rfl) rfl
theorem q615 : (Jvm.Cond.laysStatic "java/lang/String" "COMPACT_STRINGS" "Z") ∈ lw_tbl := lw_at lw_m3 51 rfl
theorem q616 : (Jvm.Cond.methodLink "java/lang/String" (505 : Nat) ({ cls := "java/lang/String", name := "length", desc := "()I" } : Jvm.MethodName)) ∈ lw_all := lw_g (lw_at lw_m3 52 rfl) rfl
theorem q617 : (Jvm.Cond.instanceMethod ({ cls := "java/lang/String", name := "length", desc := "()I" } : Jvm.MethodName)) ∈ lw_all := lw_g (lw_at lw_m3 53 rfl) rfl
theorem q618 : (Jvm.Cond.selects "java/lang/String" ({ cls := "java/lang/String", name := "length", desc := "()I" } : Jvm.MethodName) ({ cls := "java/lang/String", name := "length", desc := "()I" } : Jvm.MethodName)) ∈ lw_all := lw_g (lw_at lw_m3 54 rfl) rfl
theorem q619 : (Jvm.Cond.code ({ cls := "java/lang/String", name := "length", desc := "()I" } : Jvm.MethodName) prog_45_method_54_code (1 : Nat) (Option.some Jvm.ClassFile.FieldType.int)) ∈ lw_all := lw_g (lw_at lw_m3 55 rfl) rfl
theorem q620 : (Jvm.Cond.methodLink "java/lang/String" (335 : Nat) ({ cls := "java/lang/String", name := "coder", desc := "()B" } : Jvm.MethodName)) ∈ lw_all := lw_g (lw_at lw_m3 56 rfl) rfl
theorem q621 : (Jvm.Cond.instanceMethod ({ cls := "java/lang/String", name := "coder", desc := "()B" } : Jvm.MethodName)) ∈ lw_all := lw_g (lw_at lw_m3 57 rfl) rfl
theorem q622 : (Jvm.Cond.selects "java/lang/String" ({ cls := "java/lang/String", name := "coder", desc := "()B" } : Jvm.MethodName) ({ cls := "java/lang/String", name := "coder", desc := "()B" } : Jvm.MethodName)) ∈ lw_all := lw_g (lw_at lw_m3 58 rfl) rfl
theorem q623 : (Jvm.Cond.code ({ cls := "java/lang/String", name := "coder", desc := "()B" } : Jvm.MethodName) prog_45_method_152_code (1 : Nat) (Option.some Jvm.ClassFile.FieldType.byte)) ∈ lw_all := lw_g (lw_at lw_m3 59 rfl) rfl
theorem q624 : (Jvm.Cond.methodLink "java/lang/String" (637 : Nat) ({ cls := "java/lang/StringLatin1", name := "indexOf", desc := "([BIII)I" } : Jvm.MethodName)) ∈ lw_all := lw_g (lw_at lw_m3 60 rfl) rfl
theorem q639 : (Jvm.Cond.methodLink "java/lang/String" (640 : Nat) ({ cls := "java/lang/StringUTF16", name := "indexOf", desc := "([BIII)I" } : Jvm.MethodName)) ∈ lw_all := lw_g (lw_at lw_m3 75 rfl) rfl
theorem q655 : (Jvm.Cond.static ({ cls := "java/lang/String", name := "checkBoundsBeginEnd", desc := "(III)V" } : Jvm.MethodName)) ∈ lw_all := lw_g (lw_at lw_m3 91 rfl) rfl
theorem q656 : (Jvm.Cond.code ({ cls := "java/lang/String", name := "checkBoundsBeginEnd", desc := "(III)V" } : Jvm.MethodName) prog_45_method_158_code (3 : Nat) (Option.none : Option Jvm.ClassFile.FieldType)) ∈ lw_all := lw_g (lw_at lw_m3 92 rfl) rfl
theorem q657 : (Jvm.Cond.fieldLink "java/lang/String" (1053 : Nat) "jdk/internal/util/Preconditions" "SIOOBE_FORMATTER" "Ljava/util/function/BiFunction;") ∈ lw_all := lw_g (lw_at lw_m3 93 rfl) rfl
theorem q659 : (Jvm.Cond.methodLink "java/lang/String" (1062 : Nat) ({ cls := "jdk/internal/util/Preconditions", name := "checkFromToIndex", desc := "(IIILjava/util/function/BiFunction;)I" } : Jvm.MethodName)) ∈ lw_all := lw_g (lw_at lw_m3 95 rfl) rfl
theorem q2049 : (Jvm.Cond.fieldLink "java/lang/String" (15 : Nat) "java/lang/String" "coder" "B") ∈ lw_all := lw_g (lw_at lw_m9 45 rfl) rfl
theorem q2050 : (Jvm.Cond.fieldLink "java/lang/String" (9 : Nat) "java/lang/String" "value" "[B") ∈ lw_all := lw_g (lw_at lw_m9 46 rfl) rfl
theorem in_J4 : ∀ w ∈ wsJ40, w ∈ lw_all := lw_in wsJ40 [394, 396] (by decide +kernel) (by decide +kernel)
/-! java/lang/StringLatin1 -/
set_option maxRecDepth 100000
def RJ8 : String := "java/lang/StringLatin1"
abbrev cJ8_indexOf : ByteArray := prog_46_method_22_code
def yJ8_indexOf : MethodName := ⟨RJ8, "indexOf", "([BIII)I"⟩
def dkwJ8_indexOf_1 : List UInt8 := [161, 0, 5, 2, 172, 42, 27, 28, 29, 184, 0, 95, 172]
abbrev dktJ8_indexOf_1 : List UInt8 := dkwJ8_indexOf_1 ++ []
def dkwJ8_indexOf_0 : List UInt8 := [27, 184, 0, 88, 154, 0, 5, 2, 172, 28, 3, 184, 0, 92, 61, 29, 42, 190, 184, 0, 38, 62, 28, 29]
abbrev dktJ8_indexOf_0 : List UInt8 := dkwJ8_indexOf_0 ++ dktJ8_indexOf_1
theorem dksJ8_indexOf_0 : cJ8_indexOf.data.toList.drop 0 = dktJ8_indexOf_0 := by decide +kernel
theorem dksJ8_indexOf_1 : cJ8_indexOf.data.toList.drop 24 = dktJ8_indexOf_1 := dk_seg dksJ8_indexOf_0 24 rfl rfl
theorem dJ8_indexOf_0 : decode cJ8_indexOf 0 = .ok (.iload_n 1, 1) := dk_27 (dk_at dksJ8_indexOf_0 0 rfl rfl)
theorem dJ8_indexOf_1 : decode cJ8_indexOf 1 = .ok (.invokestatic 88, 3) := dk_184 0 88 (dk_at dksJ8_indexOf_0 1 rfl rfl)
theorem dJ8_indexOf_4 : decode cJ8_indexOf 4 = .ok (.ifCond .ne 5, 3) := dk_154 0 5 (dk_at dksJ8_indexOf_0 4 rfl rfl)
theorem dJ8_indexOf_7 : decode cJ8_indexOf 7 = .ok (.iconst (-1), 1) := dk_2 (dk_at dksJ8_indexOf_0 7 rfl rfl)
theorem dJ8_indexOf_8 : decode cJ8_indexOf 8 = .ok (.ireturn, 1) := dk_172 (dk_at dksJ8_indexOf_0 8 rfl rfl)
theorem dJ8_indexOf_9 : decode cJ8_indexOf 9 = .ok (.iload_n 2, 1) := dk_28 (dk_at dksJ8_indexOf_0 9 rfl rfl)
theorem dJ8_indexOf_10 : decode cJ8_indexOf 10 = .ok (.iconst 0, 1) := dk_3 (dk_at dksJ8_indexOf_0 10 rfl rfl)
theorem dJ8_indexOf_11 : decode cJ8_indexOf 11 = .ok (.invokestatic 92, 3) := dk_184 0 92 (dk_at dksJ8_indexOf_0 11 rfl rfl)
theorem dJ8_indexOf_14 : decode cJ8_indexOf 14 = .ok (.istore_n 2, 1) := dk_61 (dk_at dksJ8_indexOf_0 14 rfl rfl)
theorem dJ8_indexOf_15 : decode cJ8_indexOf 15 = .ok (.iload_n 3, 1) := dk_29 (dk_at dksJ8_indexOf_0 15 rfl rfl)
theorem dJ8_indexOf_16 : decode cJ8_indexOf 16 = .ok (.aload_n 0, 1) := dk_42 (dk_at dksJ8_indexOf_0 16 rfl rfl)
theorem dJ8_indexOf_17 : decode cJ8_indexOf 17 = .ok (.arraylength, 1) := dk_190 (dk_at dksJ8_indexOf_0 17 rfl rfl)
theorem dJ8_indexOf_18 : decode cJ8_indexOf 18 = .ok (.invokestatic 38, 3) := dk_184 0 38 (dk_at dksJ8_indexOf_0 18 rfl rfl)
theorem dJ8_indexOf_21 : decode cJ8_indexOf 21 = .ok (.istore_n 3, 1) := dk_62 (dk_at dksJ8_indexOf_0 21 rfl rfl)
theorem dJ8_indexOf_22 : decode cJ8_indexOf 22 = .ok (.iload_n 2, 1) := dk_28 (dk_at dksJ8_indexOf_0 22 rfl rfl)
theorem dJ8_indexOf_23 : decode cJ8_indexOf 23 = .ok (.iload_n 3, 1) := dk_29 (dk_at dksJ8_indexOf_0 23 rfl rfl)
theorem dJ8_indexOf_24 : decode cJ8_indexOf 24 = .ok (.if_icmp .lt 5, 3) := dk_161 0 5 (dk_at dksJ8_indexOf_1 0 rfl rfl)
theorem dJ8_indexOf_27 : decode cJ8_indexOf 27 = .ok (.iconst (-1), 1) := dk_2 (dk_at dksJ8_indexOf_1 3 rfl rfl)
theorem dJ8_indexOf_28 : decode cJ8_indexOf 28 = .ok (.ireturn, 1) := dk_172 (dk_at dksJ8_indexOf_1 4 rfl rfl)
theorem dJ8_indexOf_29 : decode cJ8_indexOf 29 = .ok (.aload_n 0, 1) := dk_42 (dk_at dksJ8_indexOf_1 5 rfl rfl)
theorem dJ8_indexOf_30 : decode cJ8_indexOf 30 = .ok (.iload_n 1, 1) := dk_27 (dk_at dksJ8_indexOf_1 6 rfl rfl)
theorem dJ8_indexOf_31 : decode cJ8_indexOf 31 = .ok (.iload_n 2, 1) := dk_28 (dk_at dksJ8_indexOf_1 7 rfl rfl)
theorem dJ8_indexOf_32 : decode cJ8_indexOf 32 = .ok (.iload_n 3, 1) := dk_29 (dk_at dksJ8_indexOf_1 8 rfl rfl)
theorem dJ8_indexOf_33 : decode cJ8_indexOf 33 = .ok (.invokestatic 95, 3) := dk_184 0 95 (dk_at dksJ8_indexOf_1 9 rfl rfl)
theorem dJ8_indexOf_36 : decode cJ8_indexOf 36 = .ok (.ireturn, 1) := dk_172 (dk_at dksJ8_indexOf_1 12 rfl rfl)
abbrev cJ8_canEncode : ByteArray := prog_46_method_4_code
def yJ8_canEncode : MethodName := ⟨RJ8, "canEncode", "(I)Z"⟩
def dkwJ8_canEncode_0 : List UInt8 := [26, 155, 0, 14, 26, 17, 0, 255, 163, 0, 7, 4, 167, 0, 4, 3, 172]
abbrev dktJ8_canEncode_0 : List UInt8 := dkwJ8_canEncode_0 ++ []
theorem dksJ8_canEncode_0 : cJ8_canEncode.data.toList.drop 0 = dktJ8_canEncode_0 := by decide +kernel
theorem dJ8_canEncode_0 : decode cJ8_canEncode 0 = .ok (.iload_n 0, 1) := dk_26 (dk_at dksJ8_canEncode_0 0 rfl rfl)
theorem dJ8_canEncode_1 : decode cJ8_canEncode 1 = .ok (.ifCond .lt 14, 3) := dk_155 0 14 (dk_at dksJ8_canEncode_0 1 rfl rfl)
theorem dJ8_canEncode_4 : decode cJ8_canEncode 4 = .ok (.iload_n 0, 1) := dk_26 (dk_at dksJ8_canEncode_0 4 rfl rfl)
theorem dJ8_canEncode_5 : decode cJ8_canEncode 5 = .ok (.sipush 255, 3) := dk_17 0 255 (dk_at dksJ8_canEncode_0 5 rfl rfl)
theorem dJ8_canEncode_8 : decode cJ8_canEncode 8 = .ok (.if_icmp .gt 7, 3) := dk_163 0 7 (dk_at dksJ8_canEncode_0 8 rfl rfl)
theorem dJ8_canEncode_11 : decode cJ8_canEncode 11 = .ok (.iconst 1, 1) := dk_4 (dk_at dksJ8_canEncode_0 11 rfl rfl)
theorem dJ8_canEncode_12 : decode cJ8_canEncode 12 = .ok (.goto 4, 3) := dk_167 0 4 (dk_at dksJ8_canEncode_0 12 rfl rfl)
theorem dJ8_canEncode_15 : decode cJ8_canEncode 15 = .ok (.iconst 0, 1) := dk_3 (dk_at dksJ8_canEncode_0 15 rfl rfl)
theorem dJ8_canEncode_16 : decode cJ8_canEncode 16 = .ok (.ireturn, 1) := dk_172 (dk_at dksJ8_canEncode_0 16 rfl rfl)
abbrev cJ8_indexOfChar : ByteArray := prog_46_method_23_code
def yJ8_indexOfChar : MethodName := ⟨RJ8, "indexOfChar", "([BIII)I"⟩
def dkwJ8_indexOfChar_1 : List UInt8 := [172, 132, 5, 1, 167, 255, 235, 2, 172]
abbrev dktJ8_indexOfChar_1 : List UInt8 := dkwJ8_indexOfChar_1 ++ []
def dkwJ8_indexOfChar_0 : List UInt8 := [27, 145, 54, 4, 28, 54, 5, 21, 5, 29, 162, 0, 21, 42, 21, 5, 51, 21, 4, 160, 0, 6, 21, 5]
abbrev dktJ8_indexOfChar_0 : List UInt8 := dkwJ8_indexOfChar_0 ++ dktJ8_indexOfChar_1
theorem dksJ8_indexOfChar_0 : cJ8_indexOfChar.data.toList.drop 0 = dktJ8_indexOfChar_0 := by decide +kernel
theorem dksJ8_indexOfChar_1 : cJ8_indexOfChar.data.toList.drop 24 = dktJ8_indexOfChar_1 := dk_seg dksJ8_indexOfChar_0 24 rfl rfl
theorem dJ8_indexOfChar_0 : decode cJ8_indexOfChar 0 = .ok (.iload_n 1, 1) := dk_27 (dk_at dksJ8_indexOfChar_0 0 rfl rfl)
theorem dJ8_indexOfChar_1 : decode cJ8_indexOfChar 1 = .ok (.i2b, 1) := dk_145 (dk_at dksJ8_indexOfChar_0 1 rfl rfl)
theorem dJ8_indexOfChar_2 : decode cJ8_indexOfChar 2 = .ok (.istore 4, 2) := dk_54 4 (dk_at dksJ8_indexOfChar_0 2 rfl rfl)
theorem dJ8_indexOfChar_4 : decode cJ8_indexOfChar 4 = .ok (.iload_n 2, 1) := dk_28 (dk_at dksJ8_indexOfChar_0 4 rfl rfl)
theorem dJ8_indexOfChar_5 : decode cJ8_indexOfChar 5 = .ok (.istore 5, 2) := dk_54 5 (dk_at dksJ8_indexOfChar_0 5 rfl rfl)
theorem dJ8_indexOfChar_7 : decode cJ8_indexOfChar 7 = .ok (.iload 5, 2) := dk_21 5 (dk_at dksJ8_indexOfChar_0 7 rfl rfl)
theorem dJ8_indexOfChar_9 : decode cJ8_indexOfChar 9 = .ok (.iload_n 3, 1) := dk_29 (dk_at dksJ8_indexOfChar_0 9 rfl rfl)
theorem dJ8_indexOfChar_10 : decode cJ8_indexOfChar 10 = .ok (.if_icmp .ge 21, 3) := dk_162 0 21 (dk_at dksJ8_indexOfChar_0 10 rfl rfl)
theorem dJ8_indexOfChar_13 : decode cJ8_indexOfChar 13 = .ok (.aload_n 0, 1) := dk_42 (dk_at dksJ8_indexOfChar_0 13 rfl rfl)
theorem dJ8_indexOfChar_14 : decode cJ8_indexOfChar 14 = .ok (.iload 5, 2) := dk_21 5 (dk_at dksJ8_indexOfChar_0 14 rfl rfl)
theorem dJ8_indexOfChar_16 : decode cJ8_indexOfChar 16 = .ok (.baload, 1) := dk_51 (dk_at dksJ8_indexOfChar_0 16 rfl rfl)
theorem dJ8_indexOfChar_17 : decode cJ8_indexOfChar 17 = .ok (.iload 4, 2) := dk_21 4 (dk_at dksJ8_indexOfChar_0 17 rfl rfl)
theorem dJ8_indexOfChar_19 : decode cJ8_indexOfChar 19 = .ok (.if_icmp .ne 6, 3) := dk_160 0 6 (dk_at dksJ8_indexOfChar_0 19 rfl rfl)
theorem dJ8_indexOfChar_22 : decode cJ8_indexOfChar 22 = .ok (.iload 5, 2) := dk_21 5 (dk_at dksJ8_indexOfChar_0 22 rfl rfl)
theorem dJ8_indexOfChar_24 : decode cJ8_indexOfChar 24 = .ok (.ireturn, 1) := dk_172 (dk_at dksJ8_indexOfChar_1 0 rfl rfl)
theorem dJ8_indexOfChar_25 : decode cJ8_indexOfChar 25 = .ok (.iinc 5 1, 3) := dk_132 5 1 (dk_at dksJ8_indexOfChar_1 1 rfl rfl)
theorem dJ8_indexOfChar_28 : decode cJ8_indexOfChar 28 = .ok (.goto (-21), 3) := dk_167 255 235 (dk_at dksJ8_indexOfChar_1 4 rfl rfl)
theorem dJ8_indexOfChar_31 : decode cJ8_indexOfChar 31 = .ok (.iconst (-1), 1) := dk_2 (dk_at dksJ8_indexOfChar_1 7 rfl rfl)
theorem dJ8_indexOfChar_32 : decode cJ8_indexOfChar 32 = .ok (.ireturn, 1) := dk_172 (dk_at dksJ8_indexOfChar_1 8 rfl rfl)
theorem q102 : (Jvm.Cond.initialized "java/lang/StringLatin1") ∈ lw_all := lw_g (lw_at lw_m1 18 rfl) rfl
theorem q625 : (Jvm.Cond.static ({ cls := "java/lang/StringLatin1", name := "indexOf", desc := "([BIII)I" } : Jvm.MethodName)) ∈ lw_all := lw_g (lw_at lw_m3 61 rfl) rfl
theorem q626 : (Jvm.Cond.code ({ cls := "java/lang/StringLatin1", name := "indexOf", desc := "([BIII)I" } : Jvm.MethodName) prog_46_method_22_code (4 : Nat) (Option.some Jvm.ClassFile.FieldType.int)) ∈ lw_all := lw_g (lw_at lw_m3 62 rfl) rfl
theorem q627 : (Jvm.Cond.methodLink "java/lang/StringLatin1" (88 : Nat) ({ cls := "java/lang/StringLatin1", name := "canEncode", desc := "(I)Z" } : Jvm.MethodName)) ∈ lw_all := lw_g (lw_at lw_m3 63 rfl) rfl
theorem q628 : (Jvm.Cond.static ({ cls := "java/lang/StringLatin1", name := "canEncode", desc := "(I)Z" } : Jvm.MethodName)) ∈ lw_all := lw_g (lw_at lw_m3 64 rfl) rfl
theorem q629 : (Jvm.Cond.code ({ cls := "java/lang/StringLatin1", name := "canEncode", desc := "(I)Z" } : Jvm.MethodName) prog_46_method_4_code (1 : Nat) (Option.some Jvm.ClassFile.FieldType.boolean)) ∈ lw_all := lw_g (lw_at lw_m3 65 rfl) rfl
theorem q630 : (Jvm.Cond.methodLink "java/lang/StringLatin1" (92 : Nat) ({ cls := "java/lang/Math", name := "max", desc := "(II)I" } : Jvm.MethodName)) ∈ lw_all := lw_g (lw_at lw_m3 66 rfl) rfl
theorem q633 : (Jvm.Cond.methodLink "java/lang/StringLatin1" (38 : Nat) ({ cls := "java/lang/Math", name := "min", desc := "(II)I" } : Jvm.MethodName)) ∈ lw_all := lw_g (lw_at lw_m3 69 rfl) rfl
theorem q636 : (Jvm.Cond.methodLink "java/lang/StringLatin1" (95 : Nat) ({ cls := "java/lang/StringLatin1", name := "indexOfChar", desc := "([BIII)I" } : Jvm.MethodName)) ∈ lw_all := lw_g (lw_at lw_m3 72 rfl) rfl
theorem q637 : (Jvm.Cond.static ({ cls := "java/lang/StringLatin1", name := "indexOfChar", desc := "([BIII)I" } : Jvm.MethodName)) ∈ lw_all := lw_g (lw_at lw_m3 73 rfl) rfl
theorem q638 : (Jvm.Cond.code ({ cls := "java/lang/StringLatin1", name := "indexOfChar", desc := "([BIII)I" } : Jvm.MethodName) prog_46_method_23_code (6 : Nat) (Option.some Jvm.ClassFile.FieldType.int)) ∈ lw_all := lw_g (lw_at lw_m3 74 rfl) rfl
/-! java/lang/Math -/
set_option maxRecDepth 100000
def RJ9 : String := "java/lang/Math"
abbrev cJ9_max : ByteArray := prog_41_method_65_code
def yJ9_max : MethodName := ⟨RJ9, "max", "(II)I"⟩
def dkwJ9_max_0 : List UInt8 := [26, 27, 161, 0, 7, 26, 167, 0, 4, 27, 172]
abbrev dktJ9_max_0 : List UInt8 := dkwJ9_max_0 ++ []
theorem dksJ9_max_0 : cJ9_max.data.toList.drop 0 = dktJ9_max_0 := by decide +kernel
theorem dJ9_max_0 : decode cJ9_max 0 = .ok (.iload_n 0, 1) := dk_26 (dk_at dksJ9_max_0 0 rfl rfl)
theorem dJ9_max_1 : decode cJ9_max 1 = .ok (.iload_n 1, 1) := dk_27 (dk_at dksJ9_max_0 1 rfl rfl)
theorem dJ9_max_2 : decode cJ9_max 2 = .ok (.if_icmp .lt 7, 3) := dk_161 0 7 (dk_at dksJ9_max_0 2 rfl rfl)
theorem dJ9_max_5 : decode cJ9_max 5 = .ok (.iload_n 0, 1) := dk_26 (dk_at dksJ9_max_0 5 rfl rfl)
theorem dJ9_max_6 : decode cJ9_max 6 = .ok (.goto 4, 3) := dk_167 0 4 (dk_at dksJ9_max_0 6 rfl rfl)
theorem dJ9_max_9 : decode cJ9_max 9 = .ok (.iload_n 1, 1) := dk_27 (dk_at dksJ9_max_0 9 rfl rfl)
theorem dJ9_max_10 : decode cJ9_max 10 = .ok (.ireturn, 1) := dk_172 (dk_at dksJ9_max_0 10 rfl rfl)
abbrev cJ9_min : ByteArray := prog_41_method_69_code
def yJ9_min : MethodName := ⟨RJ9, "min", "(II)I"⟩
def dkwJ9_min_0 : List UInt8 := [26, 27, 163, 0, 7, 26, 167, 0, 4, 27, 172]
abbrev dktJ9_min_0 : List UInt8 := dkwJ9_min_0 ++ []
theorem dksJ9_min_0 : cJ9_min.data.toList.drop 0 = dktJ9_min_0 := by decide +kernel
theorem dJ9_min_0 : decode cJ9_min 0 = .ok (.iload_n 0, 1) := dk_26 (dk_at dksJ9_min_0 0 rfl rfl)
theorem dJ9_min_1 : decode cJ9_min 1 = .ok (.iload_n 1, 1) := dk_27 (dk_at dksJ9_min_0 1 rfl rfl)
theorem dJ9_min_2 : decode cJ9_min 2 = .ok (.if_icmp .gt 7, 3) := dk_163 0 7 (dk_at dksJ9_min_0 2 rfl rfl)
theorem dJ9_min_5 : decode cJ9_min 5 = .ok (.iload_n 0, 1) := dk_26 (dk_at dksJ9_min_0 5 rfl rfl)
theorem dJ9_min_6 : decode cJ9_min 6 = .ok (.goto 4, 3) := dk_167 0 4 (dk_at dksJ9_min_0 6 rfl rfl)
theorem dJ9_min_9 : decode cJ9_min 9 = .ok (.iload_n 1, 1) := dk_27 (dk_at dksJ9_min_0 9 rfl rfl)
theorem dJ9_min_10 : decode cJ9_min 10 = .ok (.ireturn, 1) := dk_172 (dk_at dksJ9_min_0 10 rfl rfl)
abbrev cJ9_abs : ByteArray := prog_41_method_59_code
def yJ9_abs : MethodName := ⟨RJ9, "abs", "(I)I"⟩
def dkwJ9_abs_0 : List UInt8 := [26, 156, 0, 8, 26, 116, 167, 0, 4, 26, 172]
abbrev dktJ9_abs_0 : List UInt8 := dkwJ9_abs_0 ++ []
theorem dksJ9_abs_0 : cJ9_abs.data.toList.drop 0 = dktJ9_abs_0 := by decide +kernel
theorem dJ9_abs_0 : decode cJ9_abs 0 = .ok (.iload_n 0, 1) := dk_26 (dk_at dksJ9_abs_0 0 rfl rfl)
theorem dJ9_abs_1 : decode cJ9_abs 1 = .ok (.ifCond .ge 8, 3) := dk_156 0 8 (dk_at dksJ9_abs_0 1 rfl rfl)
theorem dJ9_abs_4 : decode cJ9_abs 4 = .ok (.iload_n 0, 1) := dk_26 (dk_at dksJ9_abs_0 4 rfl rfl)
theorem dJ9_abs_5 : decode cJ9_abs 5 = .ok (.ineg, 1) := dk_116 (dk_at dksJ9_abs_0 5 rfl rfl)
theorem dJ9_abs_6 : decode cJ9_abs 6 = .ok (.goto 4, 3) := dk_167 0 4 (dk_at dksJ9_abs_0 6 rfl rfl)
theorem dJ9_abs_9 : decode cJ9_abs 9 = .ok (.iload_n 0, 1) := dk_26 (dk_at dksJ9_abs_0 9 rfl rfl)
theorem dJ9_abs_10 : decode cJ9_abs 10 = .ok (.ireturn, 1) := dk_172 (dk_at dksJ9_abs_0 10 rfl rfl)
abbrev cJ9_max_2 : ByteArray := prog_41_method_66_code
def yJ9_max_2 : MethodName := ⟨RJ9, "max", "(JJ)J"⟩
def dkwJ9_max_2_0 : List UInt8 := [30, 32, 148, 155, 0, 7, 30, 167, 0, 4, 32, 173]
abbrev dktJ9_max_2_0 : List UInt8 := dkwJ9_max_2_0 ++ []
theorem dksJ9_max_2_0 : cJ9_max_2.data.toList.drop 0 = dktJ9_max_2_0 := by decide +kernel
theorem dJ9_max_2_0 : decode cJ9_max_2 0 = .ok (.lload_n 0, 1) := dk_30 (dk_at dksJ9_max_2_0 0 rfl rfl)
theorem dJ9_max_2_1 : decode cJ9_max_2 1 = .ok (.lload_n 2, 1) := dk_32 (dk_at dksJ9_max_2_0 1 rfl rfl)
theorem dJ9_max_2_2 : decode cJ9_max_2 2 = .ok (.lcmp, 1) := dk_148 (dk_at dksJ9_max_2_0 2 rfl rfl)
theorem dJ9_max_2_3 : decode cJ9_max_2 3 = .ok (.ifCond .lt 7, 3) := dk_155 0 7 (dk_at dksJ9_max_2_0 3 rfl rfl)
theorem dJ9_max_2_6 : decode cJ9_max_2 6 = .ok (.lload_n 0, 1) := dk_30 (dk_at dksJ9_max_2_0 6 rfl rfl)
theorem dJ9_max_2_7 : decode cJ9_max_2 7 = .ok (.goto 4, 3) := dk_167 0 4 (dk_at dksJ9_max_2_0 7 rfl rfl)
theorem dJ9_max_2_10 : decode cJ9_max_2 10 = .ok (.lload_n 2, 1) := dk_32 (dk_at dksJ9_max_2_0 10 rfl rfl)
theorem dJ9_max_2_11 : decode cJ9_max_2 11 = .ok (.lreturn, 1) := dk_173 (dk_at dksJ9_max_2_0 11 rfl rfl)
theorem q103 : (Jvm.Cond.initialized "java/lang/Math") ∈ lw_all := lw_g (lw_at lw_m1 19 rfl) rfl
theorem q631 : (Jvm.Cond.static ({ cls := "java/lang/Math", name := "max", desc := "(II)I" } : Jvm.MethodName)) ∈ lw_all := lw_g (lw_at lw_m3 67 rfl) rfl
theorem q632 : (Jvm.Cond.code ({ cls := "java/lang/Math", name := "max", desc := "(II)I" } : Jvm.MethodName) prog_41_method_65_code (2 : Nat) (Option.some Jvm.ClassFile.FieldType.int)) ∈ lw_all := lw_g (lw_at lw_m3 68 rfl) rfl
theorem q634 : (Jvm.Cond.static ({ cls := "java/lang/Math", name := "min", desc := "(II)I" } : Jvm.MethodName)) ∈ lw_all := lw_g (lw_at lw_m3 70 rfl) rfl
theorem q635 : (Jvm.Cond.code ({ cls := "java/lang/Math", name := "min", desc := "(II)I" } : Jvm.MethodName) prog_41_method_69_code (2 : Nat) (Option.some Jvm.ClassFile.FieldType.int)) ∈ lw_all := lw_g (lw_at lw_m3 71 rfl) rfl
theorem q874 : (Jvm.Cond.static ({ cls := "java/lang/Math", name := "abs", desc := "(I)I" } : Jvm.MethodName)) ∈ lw_all := lw_g (lw_at lw_m4 70 rfl) rfl
theorem q875 : (Jvm.Cond.code ({ cls := "java/lang/Math", name := "abs", desc := "(I)I" } : Jvm.MethodName) prog_41_method_59_code (1 : Nat) (Option.some Jvm.ClassFile.FieldType.int)) ∈ lw_all := lw_g (lw_at lw_m4 71 rfl) rfl
theorem q881 : (Jvm.Cond.static ({ cls := "java/lang/Math", name := "max", desc := "(JJ)J" } : Jvm.MethodName)) ∈ lw_all := lw_g (lw_at lw_m4 77 rfl) rfl
theorem q882 : (Jvm.Cond.code ({ cls := "java/lang/Math", name := "max", desc := "(JJ)J" } : Jvm.MethodName) prog_41_method_66_code (4 : Nat) (Option.some Jvm.ClassFile.FieldType.long)) ∈ lw_all := lw_g (lw_at lw_m4 78 rfl) rfl
/-! java/lang/Integer -/
set_option maxRecDepth 100000
def RJ13 : String := "java/lang/Integer"
abbrev cJ13_bitCount : ByteArray := prog_40_method_49_code
def yJ13_bitCount : MethodName := ⟨RJ13, "bitCount", "(I)I"⟩
def dkwJ13_bitCount_2 : List UInt8 := [26, 16, 63, 126, 172]
abbrev dktJ13_bitCount_2 : List UInt8 := dkwJ13_bitCount_2 ++ []
def dkwJ13_bitCount_1 : List UInt8 := [26, 26, 7, 124, 96, 19, 1, 11, 126, 59, 26, 26, 16, 8, 124, 96, 59, 26, 26, 16, 16, 124, 96, 59]
abbrev dktJ13_bitCount_1 : List UInt8 := dkwJ13_bitCount_1 ++ dktJ13_bitCount_2
def dkwJ13_bitCount_0 : List UInt8 := [26, 26, 4, 124, 19, 1, 9, 126, 100, 59, 26, 19, 1, 10, 126, 26, 5, 124, 19, 1, 10, 126, 96, 59]
abbrev dktJ13_bitCount_0 : List UInt8 := dkwJ13_bitCount_0 ++ dktJ13_bitCount_1
theorem dksJ13_bitCount_0 : cJ13_bitCount.data.toList.drop 0 = dktJ13_bitCount_0 := by decide +kernel
theorem dksJ13_bitCount_1 : cJ13_bitCount.data.toList.drop 24 = dktJ13_bitCount_1 := dk_seg dksJ13_bitCount_0 24 rfl rfl
theorem dksJ13_bitCount_2 : cJ13_bitCount.data.toList.drop 48 = dktJ13_bitCount_2 := dk_seg dksJ13_bitCount_1 24 rfl rfl
theorem dJ13_bitCount_0 : decode cJ13_bitCount 0 = .ok (.iload_n 0, 1) := dk_26 (dk_at dksJ13_bitCount_0 0 rfl rfl)
theorem dJ13_bitCount_1 : decode cJ13_bitCount 1 = .ok (.iload_n 0, 1) := dk_26 (dk_at dksJ13_bitCount_0 1 rfl rfl)
theorem dJ13_bitCount_2 : decode cJ13_bitCount 2 = .ok (.iconst 1, 1) := dk_4 (dk_at dksJ13_bitCount_0 2 rfl rfl)
theorem dJ13_bitCount_3 : decode cJ13_bitCount 3 = .ok (.iushr, 1) := dk_124 (dk_at dksJ13_bitCount_0 3 rfl rfl)
theorem dJ13_bitCount_4 : decode cJ13_bitCount 4 = .ok (.ldc_w 265, 3) := dk_19 1 9 (dk_at dksJ13_bitCount_0 4 rfl rfl)
theorem dJ13_bitCount_7 : decode cJ13_bitCount 7 = .ok (.iand, 1) := dk_126 (dk_at dksJ13_bitCount_0 7 rfl rfl)
theorem dJ13_bitCount_8 : decode cJ13_bitCount 8 = .ok (.isub, 1) := dk_100 (dk_at dksJ13_bitCount_0 8 rfl rfl)
theorem dJ13_bitCount_9 : decode cJ13_bitCount 9 = .ok (.istore_n 0, 1) := dk_59 (dk_at dksJ13_bitCount_0 9 rfl rfl)
theorem dJ13_bitCount_10 : decode cJ13_bitCount 10 = .ok (.iload_n 0, 1) := dk_26 (dk_at dksJ13_bitCount_0 10 rfl rfl)
theorem dJ13_bitCount_11 : decode cJ13_bitCount 11 = .ok (.ldc_w 266, 3) := dk_19 1 10 (dk_at dksJ13_bitCount_0 11 rfl rfl)
theorem dJ13_bitCount_14 : decode cJ13_bitCount 14 = .ok (.iand, 1) := dk_126 (dk_at dksJ13_bitCount_0 14 rfl rfl)
theorem dJ13_bitCount_15 : decode cJ13_bitCount 15 = .ok (.iload_n 0, 1) := dk_26 (dk_at dksJ13_bitCount_0 15 rfl rfl)
theorem dJ13_bitCount_16 : decode cJ13_bitCount 16 = .ok (.iconst 2, 1) := dk_5 (dk_at dksJ13_bitCount_0 16 rfl rfl)
theorem dJ13_bitCount_17 : decode cJ13_bitCount 17 = .ok (.iushr, 1) := dk_124 (dk_at dksJ13_bitCount_0 17 rfl rfl)
theorem dJ13_bitCount_18 : decode cJ13_bitCount 18 = .ok (.ldc_w 266, 3) := dk_19 1 10 (dk_at dksJ13_bitCount_0 18 rfl rfl)
theorem dJ13_bitCount_21 : decode cJ13_bitCount 21 = .ok (.iand, 1) := dk_126 (dk_at dksJ13_bitCount_0 21 rfl rfl)
theorem dJ13_bitCount_22 : decode cJ13_bitCount 22 = .ok (.iadd, 1) := dk_96 (dk_at dksJ13_bitCount_0 22 rfl rfl)
theorem dJ13_bitCount_23 : decode cJ13_bitCount 23 = .ok (.istore_n 0, 1) := dk_59 (dk_at dksJ13_bitCount_0 23 rfl rfl)
theorem dJ13_bitCount_24 : decode cJ13_bitCount 24 = .ok (.iload_n 0, 1) := dk_26 (dk_at dksJ13_bitCount_1 0 rfl rfl)
theorem dJ13_bitCount_25 : decode cJ13_bitCount 25 = .ok (.iload_n 0, 1) := dk_26 (dk_at dksJ13_bitCount_1 1 rfl rfl)
theorem dJ13_bitCount_26 : decode cJ13_bitCount 26 = .ok (.iconst 4, 1) := dk_7 (dk_at dksJ13_bitCount_1 2 rfl rfl)
theorem dJ13_bitCount_27 : decode cJ13_bitCount 27 = .ok (.iushr, 1) := dk_124 (dk_at dksJ13_bitCount_1 3 rfl rfl)
theorem dJ13_bitCount_28 : decode cJ13_bitCount 28 = .ok (.iadd, 1) := dk_96 (dk_at dksJ13_bitCount_1 4 rfl rfl)
theorem dJ13_bitCount_29 : decode cJ13_bitCount 29 = .ok (.ldc_w 267, 3) := dk_19 1 11 (dk_at dksJ13_bitCount_1 5 rfl rfl)
theorem dJ13_bitCount_32 : decode cJ13_bitCount 32 = .ok (.iand, 1) := dk_126 (dk_at dksJ13_bitCount_1 8 rfl rfl)
theorem dJ13_bitCount_33 : decode cJ13_bitCount 33 = .ok (.istore_n 0, 1) := dk_59 (dk_at dksJ13_bitCount_1 9 rfl rfl)
theorem dJ13_bitCount_34 : decode cJ13_bitCount 34 = .ok (.iload_n 0, 1) := dk_26 (dk_at dksJ13_bitCount_1 10 rfl rfl)
theorem dJ13_bitCount_35 : decode cJ13_bitCount 35 = .ok (.iload_n 0, 1) := dk_26 (dk_at dksJ13_bitCount_1 11 rfl rfl)
theorem dJ13_bitCount_36 : decode cJ13_bitCount 36 = .ok (.bipush 8, 2) := dk_16 8 (dk_at dksJ13_bitCount_1 12 rfl rfl)
theorem dJ13_bitCount_38 : decode cJ13_bitCount 38 = .ok (.iushr, 1) := dk_124 (dk_at dksJ13_bitCount_1 14 rfl rfl)
theorem dJ13_bitCount_39 : decode cJ13_bitCount 39 = .ok (.iadd, 1) := dk_96 (dk_at dksJ13_bitCount_1 15 rfl rfl)
theorem dJ13_bitCount_40 : decode cJ13_bitCount 40 = .ok (.istore_n 0, 1) := dk_59 (dk_at dksJ13_bitCount_1 16 rfl rfl)
theorem dJ13_bitCount_41 : decode cJ13_bitCount 41 = .ok (.iload_n 0, 1) := dk_26 (dk_at dksJ13_bitCount_1 17 rfl rfl)
theorem dJ13_bitCount_42 : decode cJ13_bitCount 42 = .ok (.iload_n 0, 1) := dk_26 (dk_at dksJ13_bitCount_1 18 rfl rfl)
theorem dJ13_bitCount_43 : decode cJ13_bitCount 43 = .ok (.bipush 16, 2) := dk_16 16 (dk_at dksJ13_bitCount_1 19 rfl rfl)
theorem dJ13_bitCount_45 : decode cJ13_bitCount 45 = .ok (.iushr, 1) := dk_124 (dk_at dksJ13_bitCount_1 21 rfl rfl)
theorem dJ13_bitCount_46 : decode cJ13_bitCount 46 = .ok (.iadd, 1) := dk_96 (dk_at dksJ13_bitCount_1 22 rfl rfl)
theorem dJ13_bitCount_47 : decode cJ13_bitCount 47 = .ok (.istore_n 0, 1) := dk_59 (dk_at dksJ13_bitCount_1 23 rfl rfl)
theorem dJ13_bitCount_48 : decode cJ13_bitCount 48 = .ok (.iload_n 0, 1) := dk_26 (dk_at dksJ13_bitCount_2 0 rfl rfl)
theorem dJ13_bitCount_49 : decode cJ13_bitCount 49 = .ok (.bipush 63, 2) := dk_16 63 (dk_at dksJ13_bitCount_2 1 rfl rfl)
theorem dJ13_bitCount_51 : decode cJ13_bitCount 51 = .ok (.iand, 1) := dk_126 (dk_at dksJ13_bitCount_2 3 rfl rfl)
theorem dJ13_bitCount_52 : decode cJ13_bitCount 52 = .ok (.ireturn, 1) := dk_172 (dk_at dksJ13_bitCount_2 4 rfl rfl)
theorem q113 : (Jvm.Cond.initialized "java/lang/Integer") ∈ lw_all := lw_g (lw_at lw_m1 29 rfl) rfl
theorem q899 : (Jvm.Cond.static ({ cls := "java/lang/Integer", name := "bitCount", desc := "(I)I" } : Jvm.MethodName)) ∈ lw_all := lw_g (lw_at lw_m4 95 rfl) rfl
theorem q900 : (Jvm.Cond.code ({ cls := "java/lang/Integer", name := "bitCount", desc := "(I)I" } : Jvm.MethodName) prog_40_method_49_code (1 : Nat) (Option.some Jvm.ClassFile.FieldType.int)) ∈ lw_all := lw_g (lw_at lw_m4 96 rfl) rfl
theorem q901 : (Jvm.Cond.constant "java/lang/Integer" (265 : Nat) (1431655765 : Int32)) ∈ lw_all := lw_g (lw_at lw_m4 97 rfl) rfl
theorem q902 : (Jvm.Cond.constant "java/lang/Integer" (266 : Nat) (858993459 : Int32)) ∈ lw_all := lw_g (lw_at lw_m4 98 rfl) rfl
theorem q903 : (Jvm.Cond.constant "java/lang/Integer" (267 : Nat) (252645135 : Int32)) ∈ lw_all := lw_g (lw_at lw_m4 99 rfl) rfl
/-! java/lang/Object -/
set_option maxRecDepth 100000
def RJ15 : String := "java/lang/Object"
abbrev cJ15_init : ByteArray := object_method_1_code
def yJ15_init : MethodName := ⟨RJ15, "<init>", "()V"⟩
theorem dJ15_init_0 : decode cJ15_init 0 = .ok (.return_, 1) := by decide +kernel
theorem q138 : (Jvm.Cond.instanceMethod ({ cls := "java/lang/Object", name := "<init>", desc := "()V" } : Jvm.MethodName)) ∈ lw_all := lw_g (lw_at lw_m1 54 rfl) rfl
theorem q139 : (Jvm.Cond.code ({ cls := "java/lang/Object", name := "<init>", desc := "()V" } : Jvm.MethodName) object_method_1_code (1 : Nat) (Option.none : Option Jvm.ClassFile.FieldType)) ∈ lw_all := lw_g (lw_at lw_m1 55 rfl) rfl
theorem q84 : (Jvm.Cond.initialized "ChairOldLaw") ∈ lw_all := lw_g (lw_at lw_m1 0 rfl) rfl
set_option maxRecDepth 100000
theorem q132 : (Jvm.Cond.classLink "ChairOldLaw" (7 : Nat) "ChairOld") ∈ lw_all := lw_g (lw_at lw_m1 48 rfl) rfl
theorem q134 : (Jvm.Cond.methodLink "ChairOldLaw" (9 : Nat) ({ cls := "ChairOld", name := "<init>", desc := "()V" } : Jvm.MethodName)) ∈ lw_all := lw_g (lw_at lw_m1 50 rfl) rfl
theorem q277 : (Jvm.Cond.methodLink "ChairOldLaw" (13 : Nat) ({ cls := "ChairOld", name := "part", desc := "(I)I" } : Jvm.MethodName)) ∈ lw_all := lw_g (lw_at lw_m1 193 rfl) rfl
theorem q310 : (Jvm.Cond.methodLink "ChairOldLaw" (18 : Nat) ({ cls := "ChairOld", name := "parts", desc := "(III)I" } : Jvm.MethodName)) ∈ lw_all := lw_g (lw_at lw_m1 226 rfl) rfl
theorem q450 : (Jvm.Cond.methodLink "ChairOldLaw" (27 : Nat) ({ cls := "ChairOld", name := "find", desc := "(II)I" } : Jvm.MethodName)) ∈ lw_all := lw_g (lw_at lw_m2 126 rfl) rfl
theorem q465 : (Jvm.Cond.methodLink "ChairOldLaw" (32 : Nat) ({ cls := "ChairOld", name := "of", desc := "(II)I" } : Jvm.MethodName)) ∈ lw_all := lw_g (lw_at lw_m2 141 rfl) rfl
theorem q472 : (Jvm.Cond.methodLink "ChairOldLaw" (126 : Nat) ({ cls := "ChairOld", name := "undo", desc := "()I" } : Jvm.MethodName)) ∈ lw_all := lw_g (lw_at lw_m2 148 rfl) rfl
theorem q480 : (Jvm.Cond.methodLink "ChairOldLaw" (130 : Nat) ({ cls := "ChairOld", name := "redo", desc := "()I" } : Jvm.MethodName)) ∈ lw_all := lw_g (lw_at lw_m2 156 rfl) rfl
theorem q484 : (Jvm.Cond.methodLink "ChairOldLaw" (23 : Nat) ({ cls := "ChairOld", name := "mend", desc := "(III)I" } : Jvm.MethodName)) ∈ lw_all := lw_g (lw_at lw_m2 160 rfl) rfl
theorem q514 : (Jvm.Cond.methodLink "ChairOldLaw" (36 : Nat) ({ cls := "ChairOld", name := "feed", desc := "(I)I" } : Jvm.MethodName)) ∈ lw_all := lw_g (lw_at lw_m2 190 rfl) rfl
theorem q518 : (Jvm.Cond.methodLink "ChairOldLaw" (40 : Nat) ({ cls := "ChairOld", name := "law", desc := "(I)I" } : Jvm.MethodName)) ∈ lw_all := lw_g (lw_at lw_m2 194 rfl) rfl
theorem q763 : (Jvm.Cond.methodLink "ChairOldLaw" (44 : Nat) ({ cls := "ChairOld", name := "number", desc := "(II)I" } : Jvm.MethodName)) ∈ lw_all := lw_g (lw_at lw_m3 199 rfl) rfl
theorem q807 : (Jvm.Cond.methodLink "ChairOldLaw" (48 : Nat) ({ cls := "ChairOld", name := "likely", desc := "(II)J" } : Jvm.MethodName)) ∈ lw_all := lw_g (lw_at lw_m4 3 rfl) rfl
theorem q835 : (Jvm.Cond.methodLink "ChairOldLaw" (53 : Nat) ({ cls := "ChairOld", name := "percent", desc := "(I)I" } : Jvm.MethodName)) ∈ lw_all := lw_g (lw_at lw_m4 31 rfl) rfl
theorem q844 : (Jvm.Cond.methodLink "ChairOldLaw" (57 : Nat) ({ cls := "ChairOld", name := "likeliest", desc := "(I)I" } : Jvm.MethodName)) ∈ lw_all := lw_g (lw_at lw_m4 40 rfl) rfl
theorem q852 : (Jvm.Cond.methodLink "ChairOldLaw" (61 : Nat) ({ cls := "ChairOld", name := "when", desc := "(II)I" } : Jvm.MethodName)) ∈ lw_all := lw_g (lw_at lw_m4 48 rfl) rfl
theorem q860 : (Jvm.Cond.methodLink "ChairOldLaw" (65 : Nat) ({ cls := "ChairOld", name := "whole", desc := "(I)I" } : Jvm.MethodName)) ∈ lw_all := lw_g (lw_at lw_m4 56 rfl) rfl
theorem q869 : (Jvm.Cond.methodLink "ChairOldLaw" (69 : Nat) ({ cls := "ChairOld", name := "odd", desc := "()I" } : Jvm.MethodName)) ∈ lw_all := lw_g (lw_at lw_m4 65 rfl) rfl
theorem q876 : (Jvm.Cond.methodLink "ChairOldLaw" (74 : Nat) ({ cls := "ChairOld", name := "next", desc := "(I)I" } : Jvm.MethodName)) ∈ lw_all := lw_g (lw_at lw_m4 72 rfl) rfl
theorem q883 : (Jvm.Cond.methodLink "ChairOldLaw" (78 : Nat) ({ cls := "ChairOld", name := "named", desc := "(II)I" } : Jvm.MethodName)) ∈ lw_all := lw_g (lw_at lw_m4 79 rfl) rfl
theorem q909 : (Jvm.Cond.methodLink "ChairOldLaw" (82 : Nat) ({ cls := "ChairOld", name := "plan", desc := "(II)I" } : Jvm.MethodName)) ∈ lw_all := lw_g (lw_at lw_m4 105 rfl) rfl
theorem q917 : (Jvm.Cond.methodLink "ChairOldLaw" (86 : Nat) ({ cls := "ChairOld", name := "believed", desc := "(II)I" } : Jvm.MethodName)) ∈ lw_all := lw_g (lw_at lw_m4 113 rfl) rfl
theorem q929 : (Jvm.Cond.methodLink "ChairOldLaw" (90 : Nat) ({ cls := "ChairOld", name := "cheapest", desc := "(III)I" } : Jvm.MethodName)) ∈ lw_all := lw_g (lw_at lw_m4 125 rfl) rfl
theorem q937 : (Jvm.Cond.methodLink "ChairOldLaw" (94 : Nat) ({ cls := "ChairOld", name := "spoils", desc := "(II)I" } : Jvm.MethodName)) ∈ lw_all := lw_g (lw_at lw_m4 133 rfl) rfl
theorem q941 : (Jvm.Cond.methodLink "ChairOldLaw" (98 : Nat) ({ cls := "ChairOld", name := "price", desc := "(I)I" } : Jvm.MethodName)) ∈ lw_all := lw_g (lw_at lw_m4 137 rfl) rfl
theorem q949 : (Jvm.Cond.methodLink "ChairOldLaw" (102 : Nat) ({ cls := "ChairOld", name := "paper", desc := "(II)I" } : Jvm.MethodName)) ∈ lw_all := lw_g (lw_at lw_m4 145 rfl) rfl
theorem q971 : (Jvm.Cond.methodLink "ChairOldLaw" (106 : Nat) ({ cls := "ChairOld", name := "papers", desc := "(I)I" } : Jvm.MethodName)) ∈ lw_all := lw_g (lw_at lw_m4 167 rfl) rfl
theorem q995 : (Jvm.Cond.methodLink "ChairOldLaw" (110 : Nat) ({ cls := "ChairOld", name := "house", desc := "(I)I" } : Jvm.MethodName)) ∈ lw_all := lw_g (lw_at lw_m4 191 rfl) rfl
theorem q999 : (Jvm.Cond.methodLink "ChairOldLaw" (114 : Nat) ({ cls := "ChairOld", name := "drawn", desc := "(III)I" } : Jvm.MethodName)) ∈ lw_all := lw_g (lw_at lw_m4 195 rfl) rfl
theorem q1004 : (Jvm.Cond.methodLink "ChairOldLaw" (118 : Nat) ({ cls := "ChairOld", name := "image", desc := "()I" } : Jvm.MethodName)) ∈ lw_all := lw_g (lw_at lw_m4 200 rfl) rfl
theorem q1008 : (Jvm.Cond.methodLink "ChairOldLaw" (122 : Nat) ({ cls := "ChairOld", name := "back", desc := "()I" } : Jvm.MethodName)) ∈ lw_all := lw_g (lw_at lw_m4 204 rfl) rfl
theorem q1012 : (Jvm.Cond.methodLink "ChairOldLaw" (134 : Nat) ({ cls := "ChairOld", name := "body", desc := "(I)I" } : Jvm.MethodName)) ∈ lw_all := lw_g (lw_at lw_m4 208 rfl) rfl
theorem q1125 : (Jvm.Cond.methodLink "ChairOldLaw" (138 : Nat) ({ cls := "ChairOld", name := "act", desc := "(III)I" } : Jvm.MethodName)) ∈ lw_all := lw_g (lw_at lw_m5 81 rfl) rfl
theorem q1272 : (Jvm.Cond.methodLink "ChairOldLaw" (142 : Nat) ({ cls := "ChairOld", name := "trace", desc := "(I)I" } : Jvm.MethodName)) ∈ lw_all := lw_g (lw_at lw_m5 228 rfl) rfl
theorem q1276 : (Jvm.Cond.methodLink "ChairOldLaw" (146 : Nat) ({ cls := "ChairOld", name := "keep", desc := "(II)I" } : Jvm.MethodName)) ∈ lw_all := lw_g (lw_at lw_m5 232 rfl) rfl
theorem q1280 : (Jvm.Cond.methodLink "ChairOldLaw" (150 : Nat) ({ cls := "ChairOld", name := "row", desc := "(III)I" } : Jvm.MethodName)) ∈ lw_all := lw_g (lw_at lw_m5 236 rfl) rfl
theorem q1355 : (Jvm.Cond.methodLink "ChairOldLaw" (156 : Nat) ({ cls := "ChairOld", name := "put", desc := "(IIJ)I" } : Jvm.MethodName)) ∈ lw_all := lw_g (lw_at lw_m6 71 rfl) rfl
theorem q1378 : (Jvm.Cond.methodLink "ChairOldLaw" (161 : Nat) ({ cls := "ChairOld", name := "element", desc := "(II)J" } : Jvm.MethodName)) ∈ lw_all := lw_g (lw_at lw_m6 94 rfl) rfl
theorem q1398 : (Jvm.Cond.methodLink "ChairOldLaw" (165 : Nat) ({ cls := "ChairOld", name := "shift", desc := "(IIIII)I" } : Jvm.MethodName)) ∈ lw_all := lw_g (lw_at lw_m6 114 rfl) rfl
theorem q1432 : (Jvm.Cond.methodLink "ChairOldLaw" (170 : Nat) ({ cls := "ChairOld", name := "taken", desc := "(II)I" } : Jvm.MethodName)) ∈ lw_all := lw_g (lw_at lw_m6 148 rfl) rfl
theorem q1487 : (Jvm.Cond.methodLink "ChairOldLaw" (174 : Nat) ({ cls := "ChairOld", name := "count", desc := "(I)I" } : Jvm.MethodName)) ∈ lw_all := lw_g (lw_at lw_m6 203 rfl) rfl
theorem q1499 : (Jvm.Cond.classLink "ChairOldLaw" (10 : Nat) "ChairOldModel") ∈ lw_all := lw_g (lw_at lw_m6 215 rfl) rfl
theorem q1501 : (Jvm.Cond.methodLink "ChairOldLaw" (12 : Nat) ({ cls := "ChairOldModel", name := "<init>", desc := "()V" } : Jvm.MethodName)) ∈ lw_all := lw_g (lw_at lw_m6 217 rfl) rfl
theorem q1638 : (Jvm.Cond.methodLink "ChairOldLaw" (129 : Nat) ({ cls := "ChairOldModel", name := "undo", desc := "()I" } : Jvm.MethodName)) ∈ lw_all := lw_g (lw_at lw_m7 114 rfl) rfl
theorem q1642 : (Jvm.Cond.methodLink "ChairOldLaw" (133 : Nat) ({ cls := "ChairOldModel", name := "redo", desc := "()I" } : Jvm.MethodName)) ∈ lw_all := lw_g (lw_at lw_m7 118 rfl) rfl
theorem q1646 : (Jvm.Cond.methodLink "ChairOldLaw" (17 : Nat) ({ cls := "ChairOldModel", name := "part", desc := "(I)I" } : Jvm.MethodName)) ∈ lw_all := lw_g (lw_at lw_m7 122 rfl) rfl
theorem q1658 : (Jvm.Cond.methodLink "ChairOldLaw" (22 : Nat) ({ cls := "ChairOldModel", name := "parts", desc := "(III)I" } : Jvm.MethodName)) ∈ lw_all := lw_g (lw_at lw_m7 134 rfl) rfl
theorem q1668 : (Jvm.Cond.methodLink "ChairOldLaw" (26 : Nat) ({ cls := "ChairOldModel", name := "mend", desc := "(III)I" } : Jvm.MethodName)) ∈ lw_all := lw_g (lw_at lw_m7 144 rfl) rfl
theorem q1682 : (Jvm.Cond.methodLink "ChairOldLaw" (31 : Nat) ({ cls := "ChairOldModel", name := "find", desc := "(II)I" } : Jvm.MethodName)) ∈ lw_all := lw_g (lw_at lw_m7 158 rfl) rfl
theorem q1695 : (Jvm.Cond.methodLink "ChairOldLaw" (35 : Nat) ({ cls := "ChairOldModel", name := "of", desc := "(II)I" } : Jvm.MethodName)) ∈ lw_all := lw_g (lw_at lw_m7 171 rfl) rfl
theorem q1705 : (Jvm.Cond.methodLink "ChairOldLaw" (39 : Nat) ({ cls := "ChairOldModel", name := "feed", desc := "(I)I" } : Jvm.MethodName)) ∈ lw_all := lw_g (lw_at lw_m7 181 rfl) rfl
theorem q1710 : (Jvm.Cond.methodLink "ChairOldLaw" (43 : Nat) ({ cls := "ChairOldModel", name := "law", desc := "(I)I" } : Jvm.MethodName)) ∈ lw_all := lw_g (lw_at lw_m7 186 rfl) rfl
theorem q1757 : (Jvm.Cond.methodLink "ChairOldLaw" (47 : Nat) ({ cls := "ChairOldModel", name := "number", desc := "(II)I" } : Jvm.MethodName)) ∈ lw_all := lw_g (lw_at lw_m7 233 rfl) rfl
theorem q1765 : (Jvm.Cond.methodLink "ChairOldLaw" (52 : Nat) ({ cls := "ChairOldModel", name := "likely", desc := "(II)J" } : Jvm.MethodName)) ∈ lw_all := lw_g (lw_at lw_m8 1 rfl) rfl
theorem q1790 : (Jvm.Cond.methodLink "ChairOldLaw" (56 : Nat) ({ cls := "ChairOldModel", name := "percent", desc := "(I)I" } : Jvm.MethodName)) ∈ lw_all := lw_g (lw_at lw_m8 26 rfl) rfl
theorem q1798 : (Jvm.Cond.methodLink "ChairOldLaw" (60 : Nat) ({ cls := "ChairOldModel", name := "likeliest", desc := "(I)I" } : Jvm.MethodName)) ∈ lw_all := lw_g (lw_at lw_m8 34 rfl) rfl
theorem q1806 : (Jvm.Cond.methodLink "ChairOldLaw" (64 : Nat) ({ cls := "ChairOldModel", name := "when", desc := "(II)I" } : Jvm.MethodName)) ∈ lw_all := lw_g (lw_at lw_m8 42 rfl) rfl
theorem q1814 : (Jvm.Cond.methodLink "ChairOldLaw" (68 : Nat) ({ cls := "ChairOldModel", name := "whole", desc := "(I)I" } : Jvm.MethodName)) ∈ lw_all := lw_g (lw_at lw_m8 50 rfl) rfl
theorem q1819 : (Jvm.Cond.methodLink "ChairOldLaw" (73 : Nat) ({ cls := "ChairOldModel", name := "odd", desc := "()I" } : Jvm.MethodName)) ∈ lw_all := lw_g (lw_at lw_m8 55 rfl) rfl
theorem q1823 : (Jvm.Cond.methodLink "ChairOldLaw" (77 : Nat) ({ cls := "ChairOldModel", name := "next", desc := "(I)I" } : Jvm.MethodName)) ∈ lw_all := lw_g (lw_at lw_m8 59 rfl) rfl
theorem q1827 : (Jvm.Cond.methodLink "ChairOldLaw" (81 : Nat) ({ cls := "ChairOldModel", name := "named", desc := "(II)I" } : Jvm.MethodName)) ∈ lw_all := lw_g (lw_at lw_m8 63 rfl) rfl
theorem q1841 : (Jvm.Cond.methodLink "ChairOldLaw" (85 : Nat) ({ cls := "ChairOldModel", name := "plan", desc := "(II)I" } : Jvm.MethodName)) ∈ lw_all := lw_g (lw_at lw_m8 77 rfl) rfl
theorem q1850 : (Jvm.Cond.methodLink "ChairOldLaw" (89 : Nat) ({ cls := "ChairOldModel", name := "believed", desc := "(II)I" } : Jvm.MethodName)) ∈ lw_all := lw_g (lw_at lw_m8 86 rfl) rfl
theorem q1858 : (Jvm.Cond.methodLink "ChairOldLaw" (93 : Nat) ({ cls := "ChairOldModel", name := "cheapest", desc := "(III)I" } : Jvm.MethodName)) ∈ lw_all := lw_g (lw_at lw_m8 94 rfl) rfl
theorem q1866 : (Jvm.Cond.methodLink "ChairOldLaw" (97 : Nat) ({ cls := "ChairOldModel", name := "spoils", desc := "(II)I" } : Jvm.MethodName)) ∈ lw_all := lw_g (lw_at lw_m8 102 rfl) rfl
theorem q1870 : (Jvm.Cond.methodLink "ChairOldLaw" (101 : Nat) ({ cls := "ChairOldModel", name := "price", desc := "(I)I" } : Jvm.MethodName)) ∈ lw_all := lw_g (lw_at lw_m8 106 rfl) rfl
theorem q1878 : (Jvm.Cond.methodLink "ChairOldLaw" (105 : Nat) ({ cls := "ChairOldModel", name := "paper", desc := "(II)I" } : Jvm.MethodName)) ∈ lw_all := lw_g (lw_at lw_m8 114 rfl) rfl
theorem q1882 : (Jvm.Cond.methodLink "ChairOldLaw" (109 : Nat) ({ cls := "ChairOldModel", name := "papers", desc := "(I)I" } : Jvm.MethodName)) ∈ lw_all := lw_g (lw_at lw_m8 118 rfl) rfl
theorem q1898 : (Jvm.Cond.methodLink "ChairOldLaw" (113 : Nat) ({ cls := "ChairOldModel", name := "house", desc := "(I)I" } : Jvm.MethodName)) ∈ lw_all := lw_g (lw_at lw_m8 134 rfl) rfl
theorem q1903 : (Jvm.Cond.methodLink "ChairOldLaw" (117 : Nat) ({ cls := "ChairOldModel", name := "drawn", desc := "(III)I" } : Jvm.MethodName)) ∈ lw_all := lw_g (lw_at lw_m8 139 rfl) rfl
theorem q1908 : (Jvm.Cond.methodLink "ChairOldLaw" (121 : Nat) ({ cls := "ChairOldModel", name := "image", desc := "()I" } : Jvm.MethodName)) ∈ lw_all := lw_g (lw_at lw_m8 144 rfl) rfl
theorem q1912 : (Jvm.Cond.methodLink "ChairOldLaw" (125 : Nat) ({ cls := "ChairOldModel", name := "back", desc := "()I" } : Jvm.MethodName)) ∈ lw_all := lw_g (lw_at lw_m8 148 rfl) rfl
theorem q1916 : (Jvm.Cond.methodLink "ChairOldLaw" (137 : Nat) ({ cls := "ChairOldModel", name := "body", desc := "(I)I" } : Jvm.MethodName)) ∈ lw_all := lw_g (lw_at lw_m8 152 rfl) rfl
theorem q1921 : (Jvm.Cond.methodLink "ChairOldLaw" (141 : Nat) ({ cls := "ChairOldModel", name := "act", desc := "(III)I" } : Jvm.MethodName)) ∈ lw_all := lw_g (lw_at lw_m8 157 rfl) rfl
theorem q1949 : (Jvm.Cond.methodLink "ChairOldLaw" (145 : Nat) ({ cls := "ChairOldModel", name := "trace", desc := "(I)I" } : Jvm.MethodName)) ∈ lw_all := lw_g (lw_at lw_m8 185 rfl) rfl
theorem q1953 : (Jvm.Cond.methodLink "ChairOldLaw" (149 : Nat) ({ cls := "ChairOldModel", name := "keep", desc := "(II)I" } : Jvm.MethodName)) ∈ lw_all := lw_g (lw_at lw_m8 189 rfl) rfl
theorem q1957 : (Jvm.Cond.methodLink "ChairOldLaw" (153 : Nat) ({ cls := "ChairOldModel", name := "row", desc := "(III)I" } : Jvm.MethodName)) ∈ lw_all := lw_g (lw_at lw_m8 193 rfl) rfl
theorem q1962 : (Jvm.Cond.methodLink "ChairOldLaw" (160 : Nat) ({ cls := "ChairOldModel", name := "put", desc := "(IIJ)I" } : Jvm.MethodName)) ∈ lw_all := lw_g (lw_at lw_m8 198 rfl) rfl
theorem q1973 : (Jvm.Cond.methodLink "ChairOldLaw" (164 : Nat) ({ cls := "ChairOldModel", name := "element", desc := "(II)J" } : Jvm.MethodName)) ∈ lw_all := lw_g (lw_at lw_m8 209 rfl) rfl
theorem q1977 : (Jvm.Cond.methodLink "ChairOldLaw" (169 : Nat) ({ cls := "ChairOldModel", name := "shift", desc := "(IIIII)I" } : Jvm.MethodName)) ∈ lw_all := lw_g (lw_at lw_m8 213 rfl) rfl
theorem q1981 : (Jvm.Cond.methodLink "ChairOldLaw" (173 : Nat) ({ cls := "ChairOldModel", name := "taken", desc := "(II)I" } : Jvm.MethodName)) ∈ lw_all := lw_g (lw_at lw_m8 217 rfl) rfl
theorem q1992 : (Jvm.Cond.methodLink "ChairOldLaw" (177 : Nat) ({ cls := "ChairOldModel", name := "count", desc := "(I)I" } : Jvm.MethodName)) ∈ lw_all := lw_g (lw_at lw_m8 228 rfl) rfl
theorem q2000 : (Jvm.Cond.constantLong "ChairOldLaw" (154 : Nat) (4294967295 : Int64)) ∈ lw_all := lw_g (lw_at lw_m8 236 rfl) rfl
theorem q1135 : (Jvm.Cond.interfaceMethod "ChairOld$Ages" "ChairOld$Ages" "ages" "(I)I") ∈ lw_tbl := lw_at lw_m5 91 rfl
set_option maxRecDepth 100000
theorem q1136 : (Jvm.Cond.declares ({ cls := "ChairOld$Ages", name := "ages", desc := "(I)I" } : Jvm.MethodName)) ∈ lw_tbl := lw_at lw_m5 92 rfl
theorem q1180 : (Jvm.Cond.interfaceMethod "ChairOld$Tells" "ChairOld$Tells" "tells" "(I)I") ∈ lw_tbl := lw_at lw_m5 136 rfl
set_option maxRecDepth 100000
theorem q1181 : (Jvm.Cond.declares ({ cls := "ChairOld$Tells", name := "tells", desc := "(I)I" } : Jvm.MethodName)) ∈ lw_tbl := lw_at lw_m5 137 rfl
theorem q131 : (Jvm.Cond.initialized "java/lang/System") ∈ lw_all := lw_g (lw_at lw_m1 47 rfl) rfl
set_option maxRecDepth 100000
theorem q1410 : (Jvm.Cond.static ({ cls := "java/lang/System", name := "arraycopy", desc := "(Ljava/lang/Object;ILjava/lang/Object;II)V" } : Jvm.MethodName)) ∈ lw_all := lw_g (lw_at lw_m6 126 rfl) rfl
theorem q1411 : (Jvm.Cond.native ({ cls := "java/lang/System", name := "arraycopy", desc := "(Ljava/lang/Object;ILjava/lang/Object;II)V" } : Jvm.MethodName)) ∈ lw_all := lw_g (lw_at lw_m6 127 rfl) rfl
theorem q141 : (Jvm.Cond.arrayOver (Jvm.ClassFile.FieldType.object "ChairOld$Part")) ∈ lw_tbl := lw_at lw_m1 57 rfl
set_option maxRecDepth 100000
theorem q143 : (Jvm.Cond.arrayOver (Jvm.ClassFile.FieldType.object "ChairOld$Kind")) ∈ lw_tbl := lw_at lw_m1 59 rfl
theorem q158 : (Jvm.Cond.arrayOver (Jvm.ClassFile.FieldType.object "ChairOld$Mark")) ∈ lw_tbl := lw_at lw_m1 74 rfl
theorem q177 : (Jvm.Cond.arrayOver (Jvm.ClassFile.FieldType.object "ChairOld$Change")) ∈ lw_tbl := lw_at lw_m1 93 rfl
theorem q190 : (Jvm.Cond.arrayClass Jvm.ClassFile.FieldType.byte) ∈ lw_all := lw_g (lw_at lw_m1 106 rfl) rfl
theorem q191 : (Jvm.Cond.arrayClass Jvm.ClassFile.FieldType.int) ∈ lw_all := lw_g (lw_at lw_m1 107 rfl) rfl
theorem q193 : (Jvm.Cond.arrayOver (Jvm.ClassFile.FieldType.object "ChairOld$Paper")) ∈ lw_tbl := lw_at lw_m1 109 rfl
theorem q195 : (Jvm.Cond.arrayOver (Jvm.ClassFile.FieldType.object "ChairOld$Plain")) ∈ lw_tbl := lw_at lw_m1 111 rfl
theorem q197 : (Jvm.Cond.arrayOver (Jvm.ClassFile.FieldType.object "ChairOld$Held")) ∈ lw_tbl := lw_at lw_m1 113 rfl
theorem q276 : (Jvm.Cond.arrayClass Jvm.ClassFile.FieldType.long) ∈ lw_all := lw_g (lw_at lw_m1 192 rfl) rfl
theorem q1323 : (Jvm.Cond.arrayClass Jvm.ClassFile.FieldType.short) ∈ lw_all := lw_g (lw_at lw_m6 39 rfl) rfl
theorem q1354 : (Jvm.Cond.arrayClass Jvm.ClassFile.FieldType.boolean) ∈ lw_all := lw_g (lw_at lw_m6 70 rfl) rfl
