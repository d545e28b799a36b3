/-! java/lang/Math -/
set_option maxRecDepth 100000
def RJ0 : String := "java/lang/Math"
abbrev cJ0_min : ByteArray := prog_25_method_70_code
def yJ0_min : MethodName := ⟨RJ0, "min", "(JJ)J"⟩
def dkwJ0_min_0 : List UInt8 := [30, 32, 148, 157, 0, 7, 30, 167, 0, 4, 32, 173]
abbrev dktJ0_min_0 : List UInt8 := dkwJ0_min_0 ++ []
theorem dksJ0_min_0 : cJ0_min.data.toList.drop 0 = dktJ0_min_0 := by decide +kernel
theorem dJ0_min_0 : decode cJ0_min 0 = .ok (.lload_n 0, 1) := dk_30 (dk_at dksJ0_min_0 0 rfl rfl)
theorem dJ0_min_1 : decode cJ0_min 1 = .ok (.lload_n 2, 1) := dk_32 (dk_at dksJ0_min_0 1 rfl rfl)
theorem dJ0_min_2 : decode cJ0_min 2 = .ok (.lcmp, 1) := dk_148 (dk_at dksJ0_min_0 2 rfl rfl)
theorem dJ0_min_3 : decode cJ0_min 3 = .ok (.ifCond .gt 7, 3) := dk_157 0 7 (dk_at dksJ0_min_0 3 rfl rfl)
theorem dJ0_min_6 : decode cJ0_min 6 = .ok (.lload_n 0, 1) := dk_30 (dk_at dksJ0_min_0 6 rfl rfl)
theorem dJ0_min_7 : decode cJ0_min 7 = .ok (.goto 4, 3) := dk_167 0 4 (dk_at dksJ0_min_0 7 rfl rfl)
theorem dJ0_min_10 : decode cJ0_min 10 = .ok (.lload_n 2, 1) := dk_32 (dk_at dksJ0_min_0 10 rfl rfl)
theorem dJ0_min_11 : decode cJ0_min 11 = .ok (.lreturn, 1) := dk_173 (dk_at dksJ0_min_0 11 rfl rfl)
abbrev cJ0_max : ByteArray := prog_25_method_65_code
def yJ0_max : MethodName := ⟨RJ0, "max", "(II)I"⟩
def dkwJ0_max_0 : List UInt8 := [26, 27, 161, 0, 7, 26, 167, 0, 4, 27, 172]
abbrev dktJ0_max_0 : List UInt8 := dkwJ0_max_0 ++ []
theorem dksJ0_max_0 : cJ0_max.data.toList.drop 0 = dktJ0_max_0 := by decide +kernel
theorem dJ0_max_0 : decode cJ0_max 0 = .ok (.iload_n 0, 1) := dk_26 (dk_at dksJ0_max_0 0 rfl rfl)
theorem dJ0_max_1 : decode cJ0_max 1 = .ok (.iload_n 1, 1) := dk_27 (dk_at dksJ0_max_0 1 rfl rfl)
theorem dJ0_max_2 : decode cJ0_max 2 = .ok (.if_icmp .lt 7, 3) := dk_161 0 7 (dk_at dksJ0_max_0 2 rfl rfl)
theorem dJ0_max_5 : decode cJ0_max 5 = .ok (.iload_n 0, 1) := dk_26 (dk_at dksJ0_max_0 5 rfl rfl)
theorem dJ0_max_6 : decode cJ0_max 6 = .ok (.goto 4, 3) := dk_167 0 4 (dk_at dksJ0_max_0 6 rfl rfl)
theorem dJ0_max_9 : decode cJ0_max 9 = .ok (.iload_n 1, 1) := dk_27 (dk_at dksJ0_max_0 9 rfl rfl)
theorem dJ0_max_10 : decode cJ0_max 10 = .ok (.ireturn, 1) := dk_172 (dk_at dksJ0_max_0 10 rfl rfl)
abbrev cJ0_min_2 : ByteArray := prog_25_method_69_code
def yJ0_min_2 : MethodName := ⟨RJ0, "min", "(II)I"⟩
def dkwJ0_min_2_0 : List UInt8 := [26, 27, 163, 0, 7, 26, 167, 0, 4, 27, 172]
abbrev dktJ0_min_2_0 : List UInt8 := dkwJ0_min_2_0 ++ []
theorem dksJ0_min_2_0 : cJ0_min_2.data.toList.drop 0 = dktJ0_min_2_0 := by decide +kernel
theorem dJ0_min_2_0 : decode cJ0_min_2 0 = .ok (.iload_n 0, 1) := dk_26 (dk_at dksJ0_min_2_0 0 rfl rfl)
theorem dJ0_min_2_1 : decode cJ0_min_2 1 = .ok (.iload_n 1, 1) := dk_27 (dk_at dksJ0_min_2_0 1 rfl rfl)
theorem dJ0_min_2_2 : decode cJ0_min_2 2 = .ok (.if_icmp .gt 7, 3) := dk_163 0 7 (dk_at dksJ0_min_2_0 2 rfl rfl)
theorem dJ0_min_2_5 : decode cJ0_min_2 5 = .ok (.iload_n 0, 1) := dk_26 (dk_at dksJ0_min_2_0 5 rfl rfl)
theorem dJ0_min_2_6 : decode cJ0_min_2 6 = .ok (.goto 4, 3) := dk_167 0 4 (dk_at dksJ0_min_2_0 6 rfl rfl)
theorem dJ0_min_2_9 : decode cJ0_min_2 9 = .ok (.iload_n 1, 1) := dk_27 (dk_at dksJ0_min_2_0 9 rfl rfl)
theorem dJ0_min_2_10 : decode cJ0_min_2 10 = .ok (.ireturn, 1) := dk_172 (dk_at dksJ0_min_2_0 10 rfl rfl)
theorem q101 : (Jvm.Cond.initialized "java/lang/Math") ∈ lw_all := lw_g (lw_at lw_m1 7 rfl) rfl
theorem q330 : (Jvm.Cond.static ({ cls := "java/lang/Math", name := "min", desc := "(JJ)J" } : Jvm.MethodName)) ∈ lw_all := lw_g (lw_at lw_m1 236 rfl) rfl
theorem q331 : (Jvm.Cond.code ({ cls := "java/lang/Math", name := "min", desc := "(JJ)J" } : Jvm.MethodName) prog_25_method_70_code (4 : Nat) (Option.some Jvm.ClassFile.FieldType.long)) ∈ lw_all := lw_g (lw_at lw_m1 237 rfl) rfl
theorem q419 : (Jvm.Cond.static ({ cls := "java/lang/Math", name := "max", desc := "(II)I" } : Jvm.MethodName)) ∈ lw_all := lw_g (lw_at lw_m2 85 rfl) rfl
theorem q420 : (Jvm.Cond.code ({ cls := "java/lang/Math", name := "max", desc := "(II)I" } : Jvm.MethodName) prog_25_method_65_code (2 : Nat) (Option.some Jvm.ClassFile.FieldType.int)) ∈ lw_all := lw_g (lw_at lw_m2 86 rfl) rfl
theorem q687 : (Jvm.Cond.static ({ cls := "java/lang/Math", name := "min", desc := "(II)I" } : Jvm.MethodName)) ∈ lw_all := lw_g (lw_at lw_m3 113 rfl) rfl
theorem q688 : (Jvm.Cond.code ({ cls := "java/lang/Math", name := "min", desc := "(II)I" } : Jvm.MethodName) prog_25_method_69_code (2 : Nat) (Option.some Jvm.ClassFile.FieldType.int)) ∈ lw_all := lw_g (lw_at lw_m3 114 rfl) rfl
/-! java/lang/Integer -/
set_option maxRecDepth 100000
def RJ1 : String := "java/lang/Integer"
abbrev cJ1_bitCount : ByteArray := prog_24_method_49_code
def yJ1_bitCount : MethodName := ⟨RJ1, "bitCount", "(I)I"⟩
def dkwJ1_bitCount_2 : List UInt8 := [26, 16, 63, 126, 172]
abbrev dktJ1_bitCount_2 : List UInt8 := dkwJ1_bitCount_2 ++ []
def dkwJ1_bitCount_1 : List UInt8 := [26, 26, 7, 124, 96, 19, 1, 11, 126, 59, 26, 26, 16, 8, 124, 96, 59, 26, 26, 16, 16, 124, 96, 59]
abbrev dktJ1_bitCount_1 : List UInt8 := dkwJ1_bitCount_1 ++ dktJ1_bitCount_2
def dkwJ1_bitCount_0 : List UInt8 := [26, 26, 4, 124, 19, 1, 9, 126, 100, 59, 26, 19, 1, 10, 126, 26, 5, 124, 19, 1, 10, 126, 96, 59]
abbrev dktJ1_bitCount_0 : List UInt8 := dkwJ1_bitCount_0 ++ dktJ1_bitCount_1
theorem dksJ1_bitCount_0 : cJ1_bitCount.data.toList.drop 0 = dktJ1_bitCount_0 := by decide +kernel
theorem dksJ1_bitCount_1 : cJ1_bitCount.data.toList.drop 24 = dktJ1_bitCount_1 := dk_seg dksJ1_bitCount_0 24 rfl rfl
theorem dksJ1_bitCount_2 : cJ1_bitCount.data.toList.drop 48 = dktJ1_bitCount_2 := dk_seg dksJ1_bitCount_1 24 rfl rfl
theorem dJ1_bitCount_0 : decode cJ1_bitCount 0 = .ok (.iload_n 0, 1) := dk_26 (dk_at dksJ1_bitCount_0 0 rfl rfl)
theorem dJ1_bitCount_1 : decode cJ1_bitCount 1 = .ok (.iload_n 0, 1) := dk_26 (dk_at dksJ1_bitCount_0 1 rfl rfl)
theorem dJ1_bitCount_2 : decode cJ1_bitCount 2 = .ok (.iconst 1, 1) := dk_4 (dk_at dksJ1_bitCount_0 2 rfl rfl)
theorem dJ1_bitCount_3 : decode cJ1_bitCount 3 = .ok (.iushr, 1) := dk_124 (dk_at dksJ1_bitCount_0 3 rfl rfl)
theorem dJ1_bitCount_4 : decode cJ1_bitCount 4 = .ok (.ldc_w 265, 3) := dk_19 1 9 (dk_at dksJ1_bitCount_0 4 rfl rfl)
theorem dJ1_bitCount_7 : decode cJ1_bitCount 7 = .ok (.iand, 1) := dk_126 (dk_at dksJ1_bitCount_0 7 rfl rfl)
theorem dJ1_bitCount_8 : decode cJ1_bitCount 8 = .ok (.isub, 1) := dk_100 (dk_at dksJ1_bitCount_0 8 rfl rfl)
theorem dJ1_bitCount_9 : decode cJ1_bitCount 9 = .ok (.istore_n 0, 1) := dk_59 (dk_at dksJ1_bitCount_0 9 rfl rfl)
theorem dJ1_bitCount_10 : decode cJ1_bitCount 10 = .ok (.iload_n 0, 1) := dk_26 (dk_at dksJ1_bitCount_0 10 rfl rfl)
theorem dJ1_bitCount_11 : decode cJ1_bitCount 11 = .ok (.ldc_w 266, 3) := dk_19 1 10 (dk_at dksJ1_bitCount_0 11 rfl rfl)
theorem dJ1_bitCount_14 : decode cJ1_bitCount 14 = .ok (.iand, 1) := dk_126 (dk_at dksJ1_bitCount_0 14 rfl rfl)
theorem dJ1_bitCount_15 : decode cJ1_bitCount 15 = .ok (.iload_n 0, 1) := dk_26 (dk_at dksJ1_bitCount_0 15 rfl rfl)
theorem dJ1_bitCount_16 : decode cJ1_bitCount 16 = .ok (.iconst 2, 1) := dk_5 (dk_at dksJ1_bitCount_0 16 rfl rfl)
theorem dJ1_bitCount_17 : decode cJ1_bitCount 17 = .ok (.iushr, 1) := dk_124 (dk_at dksJ1_bitCount_0 17 rfl rfl)
theorem dJ1_bitCount_18 : decode cJ1_bitCount 18 = .ok (.ldc_w 266, 3) := dk_19 1 10 (dk_at dksJ1_bitCount_0 18 rfl rfl)
theorem dJ1_bitCount_21 : decode cJ1_bitCount 21 = .ok (.iand, 1) := dk_126 (dk_at dksJ1_bitCount_0 21 rfl rfl)
theorem dJ1_bitCount_22 : decode cJ1_bitCount 22 = .ok (.iadd, 1) := dk_96 (dk_at dksJ1_bitCount_0 22 rfl rfl)
theorem dJ1_bitCount_23 : decode cJ1_bitCount 23 = .ok (.istore_n 0, 1) := dk_59 (dk_at dksJ1_bitCount_0 23 rfl rfl)
theorem dJ1_bitCount_24 : decode cJ1_bitCount 24 = .ok (.iload_n 0, 1) := dk_26 (dk_at dksJ1_bitCount_1 0 rfl rfl)
theorem dJ1_bitCount_25 : decode cJ1_bitCount 25 = .ok (.iload_n 0, 1) := dk_26 (dk_at dksJ1_bitCount_1 1 rfl rfl)
theorem dJ1_bitCount_26 : decode cJ1_bitCount 26 = .ok (.iconst 4, 1) := dk_7 (dk_at dksJ1_bitCount_1 2 rfl rfl)
theorem dJ1_bitCount_27 : decode cJ1_bitCount 27 = .ok (.iushr, 1) := dk_124 (dk_at dksJ1_bitCount_1 3 rfl rfl)
theorem dJ1_bitCount_28 : decode cJ1_bitCount 28 = .ok (.iadd, 1) := dk_96 (dk_at dksJ1_bitCount_1 4 rfl rfl)
theorem dJ1_bitCount_29 : decode cJ1_bitCount 29 = .ok (.ldc_w 267, 3) := dk_19 1 11 (dk_at dksJ1_bitCount_1 5 rfl rfl)
theorem dJ1_bitCount_32 : decode cJ1_bitCount 32 = .ok (.iand, 1) := dk_126 (dk_at dksJ1_bitCount_1 8 rfl rfl)
theorem dJ1_bitCount_33 : decode cJ1_bitCount 33 = .ok (.istore_n 0, 1) := dk_59 (dk_at dksJ1_bitCount_1 9 rfl rfl)
theorem dJ1_bitCount_34 : decode cJ1_bitCount 34 = .ok (.iload_n 0, 1) := dk_26 (dk_at dksJ1_bitCount_1 10 rfl rfl)
theorem dJ1_bitCount_35 : decode cJ1_bitCount 35 = .ok (.iload_n 0, 1) := dk_26 (dk_at dksJ1_bitCount_1 11 rfl rfl)
theorem dJ1_bitCount_36 : decode cJ1_bitCount 36 = .ok (.bipush 8, 2) := dk_16 8 (dk_at dksJ1_bitCount_1 12 rfl rfl)
theorem dJ1_bitCount_38 : decode cJ1_bitCount 38 = .ok (.iushr, 1) := dk_124 (dk_at dksJ1_bitCount_1 14 rfl rfl)
theorem dJ1_bitCount_39 : decode cJ1_bitCount 39 = .ok (.iadd, 1) := dk_96 (dk_at dksJ1_bitCount_1 15 rfl rfl)
theorem dJ1_bitCount_40 : decode cJ1_bitCount 40 = .ok (.istore_n 0, 1) := dk_59 (dk_at dksJ1_bitCount_1 16 rfl rfl)
theorem dJ1_bitCount_41 : decode cJ1_bitCount 41 = .ok (.iload_n 0, 1) := dk_26 (dk_at dksJ1_bitCount_1 17 rfl rfl)
theorem dJ1_bitCount_42 : decode cJ1_bitCount 42 = .ok (.iload_n 0, 1) := dk_26 (dk_at dksJ1_bitCount_1 18 rfl rfl)
theorem dJ1_bitCount_43 : decode cJ1_bitCount 43 = .ok (.bipush 16, 2) := dk_16 16 (dk_at dksJ1_bitCount_1 19 rfl rfl)
theorem dJ1_bitCount_45 : decode cJ1_bitCount 45 = .ok (.iushr, 1) := dk_124 (dk_at dksJ1_bitCount_1 21 rfl rfl)
theorem dJ1_bitCount_46 : decode cJ1_bitCount 46 = .ok (.iadd, 1) := dk_96 (dk_at dksJ1_bitCount_1 22 rfl rfl)
theorem dJ1_bitCount_47 : decode cJ1_bitCount 47 = .ok (.istore_n 0, 1) := dk_59 (dk_at dksJ1_bitCount_1 23 rfl rfl)
theorem dJ1_bitCount_48 : decode cJ1_bitCount 48 = .ok (.iload_n 0, 1) := dk_26 (dk_at dksJ1_bitCount_2 0 rfl rfl)
theorem dJ1_bitCount_49 : decode cJ1_bitCount 49 = .ok (.bipush 63, 2) := dk_16 63 (dk_at dksJ1_bitCount_2 1 rfl rfl)
theorem dJ1_bitCount_51 : decode cJ1_bitCount 51 = .ok (.iand, 1) := dk_126 (dk_at dksJ1_bitCount_2 3 rfl rfl)
theorem dJ1_bitCount_52 : decode cJ1_bitCount 52 = .ok (.ireturn, 1) := dk_172 (dk_at dksJ1_bitCount_2 4 rfl rfl)
theorem q117 : (Jvm.Cond.initialized "java/lang/Integer") ∈ lw_all := lw_g (lw_at lw_m1 23 rfl) rfl
theorem q1282 : (Jvm.Cond.static ({ cls := "java/lang/Integer", name := "bitCount", desc := "(I)I" } : Jvm.MethodName)) ∈ lw_all := lw_g (lw_at lw_m5 228 rfl) rfl
theorem q1283 : (Jvm.Cond.code ({ cls := "java/lang/Integer", name := "bitCount", desc := "(I)I" } : Jvm.MethodName) prog_24_method_49_code (1 : Nat) (Option.some Jvm.ClassFile.FieldType.int)) ∈ lw_all := lw_g (lw_at lw_m5 229 rfl) rfl
theorem q1284 : (Jvm.Cond.constant "java/lang/Integer" (265 : Nat) (1431655765 : Int32)) ∈ lw_all := lw_g (lw_at lw_m5 230 rfl) rfl
theorem q1285 : (Jvm.Cond.constant "java/lang/Integer" (266 : Nat) (858993459 : Int32)) ∈ lw_all := lw_g (lw_at lw_m5 231 rfl) rfl
theorem q1286 : (Jvm.Cond.constant "java/lang/Integer" (267 : Nat) (252645135 : Int32)) ∈ lw_all := lw_g (lw_at lw_m5 232 rfl) rfl
/-! java/lang/Object -/
set_option maxRecDepth 100000
def RJ2 : String := "java/lang/Object"
abbrev cJ2_init : ByteArray := object_method_1_code
def yJ2_init : MethodName := ⟨RJ2, "<init>", "()V"⟩
theorem dJ2_init_0 : decode cJ2_init 0 = .ok (.return_, 1) := by decide +kernel
theorem q126 : (Jvm.Cond.instanceMethod ({ cls := "java/lang/Object", name := "<init>", desc := "()V" } : Jvm.MethodName)) ∈ lw_all := lw_g (lw_at lw_m1 32 rfl) rfl
theorem q127 : (Jvm.Cond.code ({ cls := "java/lang/Object", name := "<init>", desc := "()V" } : Jvm.MethodName) object_method_1_code (1 : Nat) (Option.none : Option Jvm.ClassFile.FieldType)) ∈ lw_all := lw_g (lw_at lw_m1 33 rfl) rfl
/-! CrossingWords$Case -/
set_option maxRecDepth 100000
def RX5 : String := "CrossingWords$Case"
def TX5 : u_T := fun k => match k with
  | 0 => ("CrossingWords$Case", "sayings", "[LCrossingWords$Saying;", true)
  | 1 => ("CrossingWords$Case", "askedOf", "[I", true)
  | 2 => ("CrossingWords$Case", "askedWhat", "[I", true)
  | 3 => ("CrossingWords$Case", "askedMany", "[I", true)
  | 4 => ("CrossingWords$Case", "many", "I", false)
  | 5 => ("CrossingWords$Case", "asked", "I", false)
  | _ => ("CrossingWords$Case", "combos", "J", false)
def tyX5 : Nat → FieldType := fun k => match k with
  | 0 => .array (.object "CrossingWords$Saying")
  | 1 => .array .int
  | 2 => .array .int
  | 3 => .array .int
  | 4 => .int
  | 5 => .int
  | _ => .long
abbrev wsX50 : List Cond := u_ws RX5 TX5 7
theorem nmX5 : ∀ a, a < 7 → ∀ b, b < 7 → a ≠ b → (TX5 a).2.1 ≠ (TX5 b).2.1 := by decide +kernel
theorem tyX5_ok : ∀ k, k < 7 → parseFieldDescriptor (TX5 k).2.2.1 = some (tyX5 k) := by decide +kernel
abbrev cX5_init : ByteArray := prog_6_method_1_code
def yX5_init : MethodName := ⟨RX5, "<init>", "()V"⟩
def dkwX5_init_1 : List UInt8 := [188, 10, 181, 0, 21, 42, 16, 48, 188, 10, 181, 0, 24, 42, 10, 181, 0, 27, 177]
abbrev dktX5_init_1 : List UInt8 := dkwX5_init_1 ++ []
def dkwX5_init_0 : List UInt8 := [42, 183, 0, 3, 42, 16, 12, 189, 0, 9, 181, 0, 11, 42, 16, 48, 188, 10, 181, 0, 17, 42, 16, 48]
abbrev dktX5_init_0 : List UInt8 := dkwX5_init_0 ++ dktX5_init_1
theorem dksX5_init_0 : cX5_init.data.toList.drop 0 = dktX5_init_0 := by decide +kernel
theorem dksX5_init_1 : cX5_init.data.toList.drop 24 = dktX5_init_1 := dk_seg dksX5_init_0 24 rfl rfl
theorem dX5_init_0 : decode cX5_init 0 = .ok (.aload_n 0, 1) := dk_42 (dk_at dksX5_init_0 0 rfl rfl)
theorem dX5_init_1 : decode cX5_init 1 = .ok (.invokespecial 3, 3) := dk_183 0 3 (dk_at dksX5_init_0 1 rfl rfl)
theorem dX5_init_4 : decode cX5_init 4 = .ok (.aload_n 0, 1) := dk_42 (dk_at dksX5_init_0 4 rfl rfl)
theorem dX5_init_5 : decode cX5_init 5 = .ok (.bipush 12, 2) := dk_16 12 (dk_at dksX5_init_0 5 rfl rfl)
theorem dX5_init_7 : decode cX5_init 7 = .ok (.anewarray 9, 3) := dk_189 0 9 (dk_at dksX5_init_0 7 rfl rfl)
theorem dX5_init_10 : decode cX5_init 10 = .ok (.putfield 11, 3) := dk_181 0 11 (dk_at dksX5_init_0 10 rfl rfl)
theorem dX5_init_13 : decode cX5_init 13 = .ok (.aload_n 0, 1) := dk_42 (dk_at dksX5_init_0 13 rfl rfl)
theorem dX5_init_14 : decode cX5_init 14 = .ok (.bipush 48, 2) := dk_16 48 (dk_at dksX5_init_0 14 rfl rfl)
theorem dX5_init_16 : decode cX5_init 16 = .ok (.newarray .int, 2) := dk_188_10 (dk_at dksX5_init_0 16 rfl rfl)
theorem dX5_init_18 : decode cX5_init 18 = .ok (.putfield 17, 3) := dk_181 0 17 (dk_at dksX5_init_0 18 rfl rfl)
theorem dX5_init_21 : decode cX5_init 21 = .ok (.aload_n 0, 1) := dk_42 (dk_at dksX5_init_0 21 rfl rfl)
theorem dX5_init_22 : decode cX5_init 22 = .ok (.bipush 48, 2) := dk_16 48 (dk_at dksX5_init_0 22 rfl rfl)
theorem dX5_init_24 : decode cX5_init 24 = .ok (.newarray .int, 2) := dk_188_10 (dk_at dksX5_init_1 0 rfl rfl)
theorem dX5_init_26 : decode cX5_init 26 = .ok (.putfield 21, 3) := dk_181 0 21 (dk_at dksX5_init_1 2 rfl rfl)
theorem dX5_init_29 : decode cX5_init 29 = .ok (.aload_n 0, 1) := dk_42 (dk_at dksX5_init_1 5 rfl rfl)
theorem dX5_init_30 : decode cX5_init 30 = .ok (.bipush 48, 2) := dk_16 48 (dk_at dksX5_init_1 6 rfl rfl)
theorem dX5_init_32 : decode cX5_init 32 = .ok (.newarray .int, 2) := dk_188_10 (dk_at dksX5_init_1 8 rfl rfl)
theorem dX5_init_34 : decode cX5_init 34 = .ok (.putfield 24, 3) := dk_181 0 24 (dk_at dksX5_init_1 10 rfl rfl)
theorem dX5_init_37 : decode cX5_init 37 = .ok (.aload_n 0, 1) := dk_42 (dk_at dksX5_init_1 13 rfl rfl)
theorem dX5_init_38 : decode cX5_init 38 = .ok (.lconst 1, 1) := dk_10 (dk_at dksX5_init_1 14 rfl rfl)
theorem dX5_init_39 : decode cX5_init 39 = .ok (.putfield 27, 3) := dk_181 0 27 (dk_at dksX5_init_1 15 rfl rfl)
theorem dX5_init_42 : decode cX5_init 42 = .ok (.return_, 1) := dk_177 (dk_at dksX5_init_1 18 rfl rfl)
abbrev cX5_is : ByteArray := prog_6_method_2_code
def yX5_is : MethodName := ⟨RX5, "is", "(LCrossingWords$Case;)V"⟩
def dkwX5_is_1 : List UInt8 := [162, 0, 19, 42, 43, 180, 0, 11, 28, 50, 182, 0, 38, 132, 2, 1, 167, 255, 235, 177]
abbrev dktX5_is_1 : List UInt8 := dkwX5_is_1 ++ []
def dkwX5_is_0 : List UInt8 := [42, 3, 181, 0, 31, 42, 3, 181, 0, 35, 42, 10, 181, 0, 27, 3, 61, 28, 43, 180, 0, 31]
abbrev dktX5_is_0 : List UInt8 := dkwX5_is_0 ++ dktX5_is_1
theorem dksX5_is_0 : cX5_is.data.toList.drop 0 = dktX5_is_0 := by decide +kernel
theorem dksX5_is_1 : cX5_is.data.toList.drop 22 = dktX5_is_1 := dk_seg dksX5_is_0 22 rfl rfl
theorem dX5_is_0 : decode cX5_is 0 = .ok (.aload_n 0, 1) := dk_42 (dk_at dksX5_is_0 0 rfl rfl)
theorem dX5_is_1 : decode cX5_is 1 = .ok (.iconst 0, 1) := dk_3 (dk_at dksX5_is_0 1 rfl rfl)
theorem dX5_is_2 : decode cX5_is 2 = .ok (.putfield 31, 3) := dk_181 0 31 (dk_at dksX5_is_0 2 rfl rfl)
theorem dX5_is_5 : decode cX5_is 5 = .ok (.aload_n 0, 1) := dk_42 (dk_at dksX5_is_0 5 rfl rfl)
theorem dX5_is_6 : decode cX5_is 6 = .ok (.iconst 0, 1) := dk_3 (dk_at dksX5_is_0 6 rfl rfl)
theorem dX5_is_7 : decode cX5_is 7 = .ok (.putfield 35, 3) := dk_181 0 35 (dk_at dksX5_is_0 7 rfl rfl)
theorem dX5_is_10 : decode cX5_is 10 = .ok (.aload_n 0, 1) := dk_42 (dk_at dksX5_is_0 10 rfl rfl)
theorem dX5_is_11 : decode cX5_is 11 = .ok (.lconst 1, 1) := dk_10 (dk_at dksX5_is_0 11 rfl rfl)
theorem dX5_is_12 : decode cX5_is 12 = .ok (.putfield 27, 3) := dk_181 0 27 (dk_at dksX5_is_0 12 rfl rfl)
theorem dX5_is_15 : decode cX5_is 15 = .ok (.iconst 0, 1) := dk_3 (dk_at dksX5_is_0 15 rfl rfl)
theorem dX5_is_16 : decode cX5_is 16 = .ok (.istore_n 2, 1) := dk_61 (dk_at dksX5_is_0 16 rfl rfl)
theorem dX5_is_17 : decode cX5_is 17 = .ok (.iload_n 2, 1) := dk_28 (dk_at dksX5_is_0 17 rfl rfl)
theorem dX5_is_18 : decode cX5_is 18 = .ok (.aload_n 1, 1) := dk_43 (dk_at dksX5_is_0 18 rfl rfl)
theorem dX5_is_19 : decode cX5_is 19 = .ok (.getfield 31, 3) := dk_180 0 31 (dk_at dksX5_is_0 19 rfl rfl)
theorem dX5_is_22 : decode cX5_is 22 = .ok (.if_icmp .ge 19, 3) := dk_162 0 19 (dk_at dksX5_is_1 0 rfl rfl)
theorem dX5_is_25 : decode cX5_is 25 = .ok (.aload_n 0, 1) := dk_42 (dk_at dksX5_is_1 3 rfl rfl)
theorem dX5_is_26 : decode cX5_is 26 = .ok (.aload_n 1, 1) := dk_43 (dk_at dksX5_is_1 4 rfl rfl)
theorem dX5_is_27 : decode cX5_is 27 = .ok (.getfield 11, 3) := dk_180 0 11 (dk_at dksX5_is_1 5 rfl rfl)
theorem dX5_is_30 : decode cX5_is 30 = .ok (.iload_n 2, 1) := dk_28 (dk_at dksX5_is_1 8 rfl rfl)
theorem dX5_is_31 : decode cX5_is 31 = .ok (.aaload, 1) := dk_50 (dk_at dksX5_is_1 9 rfl rfl)
theorem dX5_is_32 : decode cX5_is 32 = .ok (.invokevirtual 38, 3) := dk_182 0 38 (dk_at dksX5_is_1 10 rfl rfl)
theorem dX5_is_35 : decode cX5_is 35 = .ok (.iinc 2 1, 3) := dk_132 2 1 (dk_at dksX5_is_1 13 rfl rfl)
theorem dX5_is_38 : decode cX5_is 38 = .ok (.goto (-21), 3) := dk_167 255 235 (dk_at dksX5_is_1 16 rfl rfl)
theorem dX5_is_41 : decode cX5_is 41 = .ok (.return_, 1) := dk_177 (dk_at dksX5_is_1 19 rfl rfl)
abbrev cX5_adds : ByteArray := prog_6_method_3_code
def yX5_adds : MethodName := ⟨RX5, "adds", "(LCrossingWords$Saying;)V"⟩
def dkwX5_adds_4 : List UInt8 := [153, 0, 7, 5, 167, 0, 4, 4, 182, 0, 60, 177]
abbrev dktX5_adds_4 : List UInt8 := dkwX5_adds_4 ++ []
def dkwX5_adds_3 : List UInt8 := [180, 0, 67, 182, 0, 55, 182, 0, 60, 42, 43, 180, 0, 42, 6, 43, 180, 0, 45, 180, 0, 70]
abbrev dktX5_adds_3 : List UInt8 := dkwX5_adds_3 ++ dktX5_adds_4
def dkwX5_adds_2 : List UInt8 := [180, 0, 45, 180, 0, 64, 182, 0, 55, 182, 0, 60, 42, 43, 180, 0, 42, 5, 43, 180, 0, 45]
abbrev dktX5_adds_2 : List UInt8 := dkwX5_adds_2 ++ dktX5_adds_3
def dkwX5_adds_1 : List UInt8 := [180, 0, 42, 3, 43, 180, 0, 45, 180, 0, 49, 182, 0, 55, 182, 0, 60, 42, 43, 180, 0, 42, 4, 43]
abbrev dktX5_adds_1 : List UInt8 := dkwX5_adds_1 ++ dktX5_adds_2
def dkwX5_adds_0 : List UInt8 := [42, 180, 0, 11, 42, 180, 0, 31, 43, 83, 42, 89, 180, 0, 31, 4, 96, 181, 0, 31, 42, 43]
abbrev dktX5_adds_0 : List UInt8 := dkwX5_adds_0 ++ dktX5_adds_1
theorem dksX5_adds_0 : cX5_adds.data.toList.drop 0 = dktX5_adds_0 := by decide +kernel
theorem dksX5_adds_1 : cX5_adds.data.toList.drop 22 = dktX5_adds_1 := dk_seg dksX5_adds_0 22 rfl rfl
theorem dksX5_adds_2 : cX5_adds.data.toList.drop 46 = dktX5_adds_2 := dk_seg dksX5_adds_1 24 rfl rfl
theorem dksX5_adds_3 : cX5_adds.data.toList.drop 68 = dktX5_adds_3 := dk_seg dksX5_adds_2 22 rfl rfl
theorem dksX5_adds_4 : cX5_adds.data.toList.drop 90 = dktX5_adds_4 := dk_seg dksX5_adds_3 22 rfl rfl
theorem dX5_adds_0 : decode cX5_adds 0 = .ok (.aload_n 0, 1) := dk_42 (dk_at dksX5_adds_0 0 rfl rfl)
theorem dX5_adds_1 : decode cX5_adds 1 = .ok (.getfield 11, 3) := dk_180 0 11 (dk_at dksX5_adds_0 1 rfl rfl)
theorem dX5_adds_4 : decode cX5_adds 4 = .ok (.aload_n 0, 1) := dk_42 (dk_at dksX5_adds_0 4 rfl rfl)
theorem dX5_adds_5 : decode cX5_adds 5 = .ok (.getfield 31, 3) := dk_180 0 31 (dk_at dksX5_adds_0 5 rfl rfl)
theorem dX5_adds_8 : decode cX5_adds 8 = .ok (.aload_n 1, 1) := dk_43 (dk_at dksX5_adds_0 8 rfl rfl)
theorem dX5_adds_9 : decode cX5_adds 9 = .ok (.aastore, 1) := dk_83 (dk_at dksX5_adds_0 9 rfl rfl)
theorem dX5_adds_10 : decode cX5_adds 10 = .ok (.aload_n 0, 1) := dk_42 (dk_at dksX5_adds_0 10 rfl rfl)
theorem dX5_adds_11 : decode cX5_adds 11 = .ok (.dup, 1) := dk_89 (dk_at dksX5_adds_0 11 rfl rfl)
theorem dX5_adds_12 : decode cX5_adds 12 = .ok (.getfield 31, 3) := dk_180 0 31 (dk_at dksX5_adds_0 12 rfl rfl)
theorem dX5_adds_15 : decode cX5_adds 15 = .ok (.iconst 1, 1) := dk_4 (dk_at dksX5_adds_0 15 rfl rfl)
theorem dX5_adds_16 : decode cX5_adds 16 = .ok (.iadd, 1) := dk_96 (dk_at dksX5_adds_0 16 rfl rfl)
theorem dX5_adds_17 : decode cX5_adds 17 = .ok (.putfield 31, 3) := dk_181 0 31 (dk_at dksX5_adds_0 17 rfl rfl)
theorem dX5_adds_20 : decode cX5_adds 20 = .ok (.aload_n 0, 1) := dk_42 (dk_at dksX5_adds_0 20 rfl rfl)
theorem dX5_adds_21 : decode cX5_adds 21 = .ok (.aload_n 1, 1) := dk_43 (dk_at dksX5_adds_0 21 rfl rfl)
theorem dX5_adds_22 : decode cX5_adds 22 = .ok (.getfield 42, 3) := dk_180 0 42 (dk_at dksX5_adds_1 0 rfl rfl)
theorem dX5_adds_25 : decode cX5_adds 25 = .ok (.iconst 0, 1) := dk_3 (dk_at dksX5_adds_1 3 rfl rfl)
theorem dX5_adds_26 : decode cX5_adds 26 = .ok (.aload_n 1, 1) := dk_43 (dk_at dksX5_adds_1 4 rfl rfl)
theorem dX5_adds_27 : decode cX5_adds 27 = .ok (.getfield 45, 3) := dk_180 0 45 (dk_at dksX5_adds_1 5 rfl rfl)
theorem dX5_adds_30 : decode cX5_adds 30 = .ok (.getfield 49, 3) := dk_180 0 49 (dk_at dksX5_adds_1 8 rfl rfl)
theorem dX5_adds_33 : decode cX5_adds 33 = .ok (.invokevirtual 55, 3) := dk_182 0 55 (dk_at dksX5_adds_1 11 rfl rfl)
theorem dX5_adds_36 : decode cX5_adds 36 = .ok (.invokevirtual 60, 3) := dk_182 0 60 (dk_at dksX5_adds_1 14 rfl rfl)
theorem dX5_adds_39 : decode cX5_adds 39 = .ok (.aload_n 0, 1) := dk_42 (dk_at dksX5_adds_1 17 rfl rfl)
theorem dX5_adds_40 : decode cX5_adds 40 = .ok (.aload_n 1, 1) := dk_43 (dk_at dksX5_adds_1 18 rfl rfl)
theorem dX5_adds_41 : decode cX5_adds 41 = .ok (.getfield 42, 3) := dk_180 0 42 (dk_at dksX5_adds_1 19 rfl rfl)
theorem dX5_adds_44 : decode cX5_adds 44 = .ok (.iconst 1, 1) := dk_4 (dk_at dksX5_adds_1 22 rfl rfl)
theorem dX5_adds_45 : decode cX5_adds 45 = .ok (.aload_n 1, 1) := dk_43 (dk_at dksX5_adds_1 23 rfl rfl)
theorem dX5_adds_46 : decode cX5_adds 46 = .ok (.getfield 45, 3) := dk_180 0 45 (dk_at dksX5_adds_2 0 rfl rfl)
theorem dX5_adds_49 : decode cX5_adds 49 = .ok (.getfield 64, 3) := dk_180 0 64 (dk_at dksX5_adds_2 3 rfl rfl)
theorem dX5_adds_52 : decode cX5_adds 52 = .ok (.invokevirtual 55, 3) := dk_182 0 55 (dk_at dksX5_adds_2 6 rfl rfl)
theorem dX5_adds_55 : decode cX5_adds 55 = .ok (.invokevirtual 60, 3) := dk_182 0 60 (dk_at dksX5_adds_2 9 rfl rfl)
theorem dX5_adds_58 : decode cX5_adds 58 = .ok (.aload_n 0, 1) := dk_42 (dk_at dksX5_adds_2 12 rfl rfl)
theorem dX5_adds_59 : decode cX5_adds 59 = .ok (.aload_n 1, 1) := dk_43 (dk_at dksX5_adds_2 13 rfl rfl)
theorem dX5_adds_60 : decode cX5_adds 60 = .ok (.getfield 42, 3) := dk_180 0 42 (dk_at dksX5_adds_2 14 rfl rfl)
theorem dX5_adds_63 : decode cX5_adds 63 = .ok (.iconst 2, 1) := dk_5 (dk_at dksX5_adds_2 17 rfl rfl)
theorem dX5_adds_64 : decode cX5_adds 64 = .ok (.aload_n 1, 1) := dk_43 (dk_at dksX5_adds_2 18 rfl rfl)
theorem dX5_adds_65 : decode cX5_adds 65 = .ok (.getfield 45, 3) := dk_180 0 45 (dk_at dksX5_adds_2 19 rfl rfl)
theorem dX5_adds_68 : decode cX5_adds 68 = .ok (.getfield 67, 3) := dk_180 0 67 (dk_at dksX5_adds_3 0 rfl rfl)
theorem dX5_adds_71 : decode cX5_adds 71 = .ok (.invokevirtual 55, 3) := dk_182 0 55 (dk_at dksX5_adds_3 3 rfl rfl)
theorem dX5_adds_74 : decode cX5_adds 74 = .ok (.invokevirtual 60, 3) := dk_182 0 60 (dk_at dksX5_adds_3 6 rfl rfl)
theorem dX5_adds_77 : decode cX5_adds 77 = .ok (.aload_n 0, 1) := dk_42 (dk_at dksX5_adds_3 9 rfl rfl)
theorem dX5_adds_78 : decode cX5_adds 78 = .ok (.aload_n 1, 1) := dk_43 (dk_at dksX5_adds_3 10 rfl rfl)
theorem dX5_adds_79 : decode cX5_adds 79 = .ok (.getfield 42, 3) := dk_180 0 42 (dk_at dksX5_adds_3 11 rfl rfl)
theorem dX5_adds_82 : decode cX5_adds 82 = .ok (.iconst 3, 1) := dk_6 (dk_at dksX5_adds_3 14 rfl rfl)
theorem dX5_adds_83 : decode cX5_adds 83 = .ok (.aload_n 1, 1) := dk_43 (dk_at dksX5_adds_3 15 rfl rfl)
theorem dX5_adds_84 : decode cX5_adds 84 = .ok (.getfield 45, 3) := dk_180 0 45 (dk_at dksX5_adds_3 16 rfl rfl)
theorem dX5_adds_87 : decode cX5_adds 87 = .ok (.getfield 70, 3) := dk_180 0 70 (dk_at dksX5_adds_3 19 rfl rfl)
theorem dX5_adds_90 : decode cX5_adds 90 = .ok (.ifCond .eq 7, 3) := dk_153 0 7 (dk_at dksX5_adds_4 0 rfl rfl)
theorem dX5_adds_93 : decode cX5_adds 93 = .ok (.iconst 2, 1) := dk_5 (dk_at dksX5_adds_4 3 rfl rfl)
theorem dX5_adds_94 : decode cX5_adds 94 = .ok (.goto 4, 3) := dk_167 0 4 (dk_at dksX5_adds_4 4 rfl rfl)
theorem dX5_adds_97 : decode cX5_adds 97 = .ok (.iconst 1, 1) := dk_4 (dk_at dksX5_adds_4 7 rfl rfl)
theorem dX5_adds_98 : decode cX5_adds 98 = .ok (.invokevirtual 60, 3) := dk_182 0 60 (dk_at dksX5_adds_4 8 rfl rfl)
theorem dX5_adds_101 : decode cX5_adds 101 = .ok (.return_, 1) := dk_177 (dk_at dksX5_adds_4 11 rfl rfl)
abbrev cX5_asks : ByteArray := prog_6_method_4_code
def yX5_asks : MethodName := ⟨RX5, "asks", "(III)V"⟩
def dkwX5_asks_2 : List UInt8 := [20, 0, 74, 42, 180, 0, 27, 29, 133, 105, 184, 0, 76, 181, 0, 27, 177]
abbrev dktX5_asks_2 : List UInt8 := dkwX5_asks_2 ++ []
def dkwX5_asks_1 : List UInt8 := [28, 79, 42, 180, 0, 24, 42, 180, 0, 35, 29, 79, 42, 89, 180, 0, 35, 4, 96, 181, 0, 35, 42]
abbrev dktX5_asks_1 : List UInt8 := dkwX5_asks_1 ++ dktX5_asks_2
def dkwX5_asks_0 : List UInt8 := [29, 4, 160, 0, 4, 177, 42, 180, 0, 17, 42, 180, 0, 35, 27, 79, 42, 180, 0, 21, 42, 180, 0, 35]
abbrev dktX5_asks_0 : List UInt8 := dkwX5_asks_0 ++ dktX5_asks_1
theorem dksX5_asks_0 : cX5_asks.data.toList.drop 0 = dktX5_asks_0 := by decide +kernel
theorem dksX5_asks_1 : cX5_asks.data.toList.drop 24 = dktX5_asks_1 := dk_seg dksX5_asks_0 24 rfl rfl
theorem dksX5_asks_2 : cX5_asks.data.toList.drop 47 = dktX5_asks_2 := dk_seg dksX5_asks_1 23 rfl rfl
theorem dX5_asks_0 : decode cX5_asks 0 = .ok (.iload_n 3, 1) := dk_29 (dk_at dksX5_asks_0 0 rfl rfl)
theorem dX5_asks_1 : decode cX5_asks 1 = .ok (.iconst 1, 1) := dk_4 (dk_at dksX5_asks_0 1 rfl rfl)
theorem dX5_asks_2 : decode cX5_asks 2 = .ok (.if_icmp .ne 4, 3) := dk_160 0 4 (dk_at dksX5_asks_0 2 rfl rfl)
theorem dX5_asks_5 : decode cX5_asks 5 = .ok (.return_, 1) := dk_177 (dk_at dksX5_asks_0 5 rfl rfl)
theorem dX5_asks_6 : decode cX5_asks 6 = .ok (.aload_n 0, 1) := dk_42 (dk_at dksX5_asks_0 6 rfl rfl)
theorem dX5_asks_7 : decode cX5_asks 7 = .ok (.getfield 17, 3) := dk_180 0 17 (dk_at dksX5_asks_0 7 rfl rfl)
theorem dX5_asks_10 : decode cX5_asks 10 = .ok (.aload_n 0, 1) := dk_42 (dk_at dksX5_asks_0 10 rfl rfl)
theorem dX5_asks_11 : decode cX5_asks 11 = .ok (.getfield 35, 3) := dk_180 0 35 (dk_at dksX5_asks_0 11 rfl rfl)
theorem dX5_asks_14 : decode cX5_asks 14 = .ok (.iload_n 1, 1) := dk_27 (dk_at dksX5_asks_0 14 rfl rfl)
theorem dX5_asks_15 : decode cX5_asks 15 = .ok (.iastore, 1) := dk_79 (dk_at dksX5_asks_0 15 rfl rfl)
theorem dX5_asks_16 : decode cX5_asks 16 = .ok (.aload_n 0, 1) := dk_42 (dk_at dksX5_asks_0 16 rfl rfl)
theorem dX5_asks_17 : decode cX5_asks 17 = .ok (.getfield 21, 3) := dk_180 0 21 (dk_at dksX5_asks_0 17 rfl rfl)
theorem dX5_asks_20 : decode cX5_asks 20 = .ok (.aload_n 0, 1) := dk_42 (dk_at dksX5_asks_0 20 rfl rfl)
theorem dX5_asks_21 : decode cX5_asks 21 = .ok (.getfield 35, 3) := dk_180 0 35 (dk_at dksX5_asks_0 21 rfl rfl)
theorem dX5_asks_24 : decode cX5_asks 24 = .ok (.iload_n 2, 1) := dk_28 (dk_at dksX5_asks_1 0 rfl rfl)
theorem dX5_asks_25 : decode cX5_asks 25 = .ok (.iastore, 1) := dk_79 (dk_at dksX5_asks_1 1 rfl rfl)
theorem dX5_asks_26 : decode cX5_asks 26 = .ok (.aload_n 0, 1) := dk_42 (dk_at dksX5_asks_1 2 rfl rfl)
theorem dX5_asks_27 : decode cX5_asks 27 = .ok (.getfield 24, 3) := dk_180 0 24 (dk_at dksX5_asks_1 3 rfl rfl)
theorem dX5_asks_30 : decode cX5_asks 30 = .ok (.aload_n 0, 1) := dk_42 (dk_at dksX5_asks_1 6 rfl rfl)
theorem dX5_asks_31 : decode cX5_asks 31 = .ok (.getfield 35, 3) := dk_180 0 35 (dk_at dksX5_asks_1 7 rfl rfl)
theorem dX5_asks_34 : decode cX5_asks 34 = .ok (.iload_n 3, 1) := dk_29 (dk_at dksX5_asks_1 10 rfl rfl)
theorem dX5_asks_35 : decode cX5_asks 35 = .ok (.iastore, 1) := dk_79 (dk_at dksX5_asks_1 11 rfl rfl)
theorem dX5_asks_36 : decode cX5_asks 36 = .ok (.aload_n 0, 1) := dk_42 (dk_at dksX5_asks_1 12 rfl rfl)
theorem dX5_asks_37 : decode cX5_asks 37 = .ok (.dup, 1) := dk_89 (dk_at dksX5_asks_1 13 rfl rfl)
theorem dX5_asks_38 : decode cX5_asks 38 = .ok (.getfield 35, 3) := dk_180 0 35 (dk_at dksX5_asks_1 14 rfl rfl)
theorem dX5_asks_41 : decode cX5_asks 41 = .ok (.iconst 1, 1) := dk_4 (dk_at dksX5_asks_1 17 rfl rfl)
theorem dX5_asks_42 : decode cX5_asks 42 = .ok (.iadd, 1) := dk_96 (dk_at dksX5_asks_1 18 rfl rfl)
theorem dX5_asks_43 : decode cX5_asks 43 = .ok (.putfield 35, 3) := dk_181 0 35 (dk_at dksX5_asks_1 19 rfl rfl)
theorem dX5_asks_46 : decode cX5_asks 46 = .ok (.aload_n 0, 1) := dk_42 (dk_at dksX5_asks_1 22 rfl rfl)
theorem dX5_asks_47 : decode cX5_asks 47 = .ok (.ldc2_w 74, 3) := dk_20 0 74 (dk_at dksX5_asks_2 0 rfl rfl)
theorem dX5_asks_50 : decode cX5_asks 50 = .ok (.aload_n 0, 1) := dk_42 (dk_at dksX5_asks_2 3 rfl rfl)
theorem dX5_asks_51 : decode cX5_asks 51 = .ok (.getfield 27, 3) := dk_180 0 27 (dk_at dksX5_asks_2 4 rfl rfl)
theorem dX5_asks_54 : decode cX5_asks 54 = .ok (.iload_n 3, 1) := dk_29 (dk_at dksX5_asks_2 7 rfl rfl)
theorem dX5_asks_55 : decode cX5_asks 55 = .ok (.i2l, 1) := dk_133 (dk_at dksX5_asks_2 8 rfl rfl)
theorem dX5_asks_56 : decode cX5_asks 56 = .ok (.lmul, 1) := dk_105 (dk_at dksX5_asks_2 9 rfl rfl)
theorem dX5_asks_57 : decode cX5_asks 57 = .ok (.invokestatic 76, 3) := dk_184 0 76 (dk_at dksX5_asks_2 10 rfl rfl)
theorem dX5_asks_60 : decode cX5_asks 60 = .ok (.putfield 27, 3) := dk_181 0 27 (dk_at dksX5_asks_2 13 rfl rfl)
theorem dX5_asks_63 : decode cX5_asks 63 = .ok (.return_, 1) := dk_177 (dk_at dksX5_asks_2 16 rfl rfl)
abbrev cX5_isLooked : ByteArray := prog_6_method_5_code
def yX5_isLooked : MethodName := ⟨RX5, "isLooked", "()Z"⟩
def dkwX5_isLooked_0 : List UInt8 := [42, 180, 0, 27, 20, 0, 82, 148, 157, 0, 7, 4, 167, 0, 4, 3, 172]
abbrev dktX5_isLooked_0 : List UInt8 := dkwX5_isLooked_0 ++ []
theorem dksX5_isLooked_0 : cX5_isLooked.data.toList.drop 0 = dktX5_isLooked_0 := by decide +kernel
theorem dX5_isLooked_0 : decode cX5_isLooked 0 = .ok (.aload_n 0, 1) := dk_42 (dk_at dksX5_isLooked_0 0 rfl rfl)
theorem dX5_isLooked_1 : decode cX5_isLooked 1 = .ok (.getfield 27, 3) := dk_180 0 27 (dk_at dksX5_isLooked_0 1 rfl rfl)
theorem dX5_isLooked_4 : decode cX5_isLooked 4 = .ok (.ldc2_w 82, 3) := dk_20 0 82 (dk_at dksX5_isLooked_0 4 rfl rfl)
theorem dX5_isLooked_7 : decode cX5_isLooked 7 = .ok (.lcmp, 1) := dk_148 (dk_at dksX5_isLooked_0 7 rfl rfl)
theorem dX5_isLooked_8 : decode cX5_isLooked 8 = .ok (.ifCond .gt 7, 3) := dk_157 0 7 (dk_at dksX5_isLooked_0 8 rfl rfl)
theorem dX5_isLooked_11 : decode cX5_isLooked 11 = .ok (.iconst 1, 1) := dk_4 (dk_at dksX5_isLooked_0 11 rfl rfl)
theorem dX5_isLooked_12 : decode cX5_isLooked 12 = .ok (.goto 4, 3) := dk_167 0 4 (dk_at dksX5_isLooked_0 12 rfl rfl)
theorem dX5_isLooked_15 : decode cX5_isLooked 15 = .ok (.iconst 0, 1) := dk_3 (dk_at dksX5_isLooked_0 15 rfl rfl)
theorem dX5_isLooked_16 : decode cX5_isLooked 16 = .ok (.ireturn, 1) := dk_172 (dk_at dksX5_isLooked_0 16 rfl rfl)
abbrev cX5_combos : ByteArray := prog_6_method_6_code
def yX5_combos : MethodName := ⟨RX5, "combos", "()I"⟩
def dkwX5_combos_0 : List UInt8 := [42, 180, 0, 27, 136, 172]
abbrev dktX5_combos_0 : List UInt8 := dkwX5_combos_0 ++ []
theorem dksX5_combos_0 : cX5_combos.data.toList.drop 0 = dktX5_combos_0 := by decide +kernel
theorem dX5_combos_0 : decode cX5_combos 0 = .ok (.aload_n 0, 1) := dk_42 (dk_at dksX5_combos_0 0 rfl rfl)
theorem dX5_combos_1 : decode cX5_combos 1 = .ok (.getfield 27, 3) := dk_180 0 27 (dk_at dksX5_combos_0 1 rfl rfl)
theorem dX5_combos_4 : decode cX5_combos 4 = .ok (.l2i, 1) := dk_136 (dk_at dksX5_combos_0 4 rfl rfl)
theorem dX5_combos_5 : decode cX5_combos 5 = .ok (.ireturn, 1) := dk_172 (dk_at dksX5_combos_0 5 rfl rfl)
abbrev cX5_digit : ByteArray := prog_6_method_7_code
def yX5_digit : MethodName := ⟨RX5, "digit", "(II)I"⟩
def dkwX5_digit_1 : List UInt8 := [167, 255, 237, 29, 42, 180, 0, 24, 28, 46, 112, 172]
abbrev dktX5_digit_1 : List UInt8 := dkwX5_digit_1 ++ []
def dkwX5_digit_0 : List UInt8 := [27, 62, 3, 54, 4, 21, 4, 28, 162, 0, 19, 29, 42, 180, 0, 24, 21, 4, 46, 108, 62, 132, 4, 1]
abbrev dktX5_digit_0 : List UInt8 := dkwX5_digit_0 ++ dktX5_digit_1
theorem dksX5_digit_0 : cX5_digit.data.toList.drop 0 = dktX5_digit_0 := by decide +kernel
theorem dksX5_digit_1 : cX5_digit.data.toList.drop 24 = dktX5_digit_1 := dk_seg dksX5_digit_0 24 rfl rfl
theorem dX5_digit_0 : decode cX5_digit 0 = .ok (.iload_n 1, 1) := dk_27 (dk_at dksX5_digit_0 0 rfl rfl)
theorem dX5_digit_1 : decode cX5_digit 1 = .ok (.istore_n 3, 1) := dk_62 (dk_at dksX5_digit_0 1 rfl rfl)
theorem dX5_digit_2 : decode cX5_digit 2 = .ok (.iconst 0, 1) := dk_3 (dk_at dksX5_digit_0 2 rfl rfl)
theorem dX5_digit_3 : decode cX5_digit 3 = .ok (.istore 4, 2) := dk_54 4 (dk_at dksX5_digit_0 3 rfl rfl)
theorem dX5_digit_5 : decode cX5_digit 5 = .ok (.iload 4, 2) := dk_21 4 (dk_at dksX5_digit_0 5 rfl rfl)
theorem dX5_digit_7 : decode cX5_digit 7 = .ok (.iload_n 2, 1) := dk_28 (dk_at dksX5_digit_0 7 rfl rfl)
theorem dX5_digit_8 : decode cX5_digit 8 = .ok (.if_icmp .ge 19, 3) := dk_162 0 19 (dk_at dksX5_digit_0 8 rfl rfl)
theorem dX5_digit_11 : decode cX5_digit 11 = .ok (.iload_n 3, 1) := dk_29 (dk_at dksX5_digit_0 11 rfl rfl)
theorem dX5_digit_12 : decode cX5_digit 12 = .ok (.aload_n 0, 1) := dk_42 (dk_at dksX5_digit_0 12 rfl rfl)
theorem dX5_digit_13 : decode cX5_digit 13 = .ok (.getfield 24, 3) := dk_180 0 24 (dk_at dksX5_digit_0 13 rfl rfl)
theorem dX5_digit_16 : decode cX5_digit 16 = .ok (.iload 4, 2) := dk_21 4 (dk_at dksX5_digit_0 16 rfl rfl)
theorem dX5_digit_18 : decode cX5_digit 18 = .ok (.iaload, 1) := dk_46 (dk_at dksX5_digit_0 18 rfl rfl)
theorem dX5_digit_19 : decode cX5_digit 19 = .ok (.idiv, 1) := dk_108 (dk_at dksX5_digit_0 19 rfl rfl)
theorem dX5_digit_20 : decode cX5_digit 20 = .ok (.istore_n 3, 1) := dk_62 (dk_at dksX5_digit_0 20 rfl rfl)
theorem dX5_digit_21 : decode cX5_digit 21 = .ok (.iinc 4 1, 3) := dk_132 4 1 (dk_at dksX5_digit_0 21 rfl rfl)
theorem dX5_digit_24 : decode cX5_digit 24 = .ok (.goto (-19), 3) := dk_167 255 237 (dk_at dksX5_digit_1 0 rfl rfl)
theorem dX5_digit_27 : decode cX5_digit 27 = .ok (.iload_n 3, 1) := dk_29 (dk_at dksX5_digit_1 3 rfl rfl)
theorem dX5_digit_28 : decode cX5_digit 28 = .ok (.aload_n 0, 1) := dk_42 (dk_at dksX5_digit_1 4 rfl rfl)
theorem dX5_digit_29 : decode cX5_digit 29 = .ok (.getfield 24, 3) := dk_180 0 24 (dk_at dksX5_digit_1 5 rfl rfl)
theorem dX5_digit_32 : decode cX5_digit 32 = .ok (.iload_n 2, 1) := dk_28 (dk_at dksX5_digit_1 8 rfl rfl)
theorem dX5_digit_33 : decode cX5_digit 33 = .ok (.iaload, 1) := dk_46 (dk_at dksX5_digit_1 9 rfl rfl)
theorem dX5_digit_34 : decode cX5_digit 34 = .ok (.irem, 1) := dk_112 (dk_at dksX5_digit_1 10 rfl rfl)
theorem dX5_digit_35 : decode cX5_digit 35 = .ok (.ireturn, 1) := dk_172 (dk_at dksX5_digit_1 11 rfl rfl)
theorem q100 : (Jvm.Cond.initialized "CrossingWords$Case") ∈ lw_all := lw_g (lw_at lw_m1 6 rfl) rfl
theorem q272 : (Jvm.Cond.instantiable "CrossingWords$Case" (7 : Nat)) ∈ lw_all := lw_g (lw_at lw_m1 178 rfl) rfl
theorem q274 : (Jvm.Cond.instanceMethod ({ cls := "CrossingWords$Case", name := "<init>", desc := "()V" } : Jvm.MethodName)) ∈ lw_all := lw_g (lw_at lw_m1 180 rfl) rfl
theorem q275 : (Jvm.Cond.code ({ cls := "CrossingWords$Case", name := "<init>", desc := "()V" } : Jvm.MethodName) prog_6_method_1_code (1 : Nat) (Option.none : Option Jvm.ClassFile.FieldType)) ∈ lw_all := lw_g (lw_at lw_m1 181 rfl) rfl
theorem q276 : (Jvm.Cond.methodLink "CrossingWords$Case" (3 : Nat) ({ cls := "java/lang/Object", name := "<init>", desc := "()V" } : Jvm.MethodName)) ∈ lw_all := lw_g (lw_at lw_m1 182 rfl) rfl
theorem q277 : (Jvm.Cond.classLink "CrossingWords$Case" (9 : Nat) "CrossingWords$Saying") ∈ lw_all := lw_g (lw_at lw_m1 183 rfl) rfl
theorem q279 : (Jvm.Cond.fieldLink "CrossingWords$Case" (11 : Nat) "CrossingWords$Case" "sayings" "[LCrossingWords$Saying;") ∈ lw_all := lw_g (lw_at lw_m1 185 rfl) rfl
theorem q283 : (Jvm.Cond.fieldLink "CrossingWords$Case" (17 : Nat) "CrossingWords$Case" "askedOf" "[I") ∈ lw_all := lw_g (lw_at lw_m1 189 rfl) rfl
theorem q285 : (Jvm.Cond.fieldLink "CrossingWords$Case" (21 : Nat) "CrossingWords$Case" "askedWhat" "[I") ∈ lw_all := lw_g (lw_at lw_m1 191 rfl) rfl
theorem q287 : (Jvm.Cond.fieldLink "CrossingWords$Case" (24 : Nat) "CrossingWords$Case" "askedMany" "[I") ∈ lw_all := lw_g (lw_at lw_m1 193 rfl) rfl
theorem q290 : (Jvm.Cond.fieldLink "CrossingWords$Case" (31 : Nat) "CrossingWords$Case" "many" "I") ∈ lw_all := lw_g (lw_at lw_m1 196 rfl) rfl
theorem q293 : (Jvm.Cond.fieldLink "CrossingWords$Case" (35 : Nat) "CrossingWords$Case" "asked" "I") ∈ lw_all := lw_g (lw_at lw_m1 199 rfl) rfl
theorem q296 : (Jvm.Cond.fieldLink "CrossingWords$Case" (27 : Nat) "CrossingWords$Case" "combos" "J") ∈ lw_all := lw_g (lw_at lw_m1 202 rfl) rfl
theorem q297 : (Jvm.Cond.laysFinal "CrossingWords$Case" "CrossingWords$Case" "sayings" "[LCrossingWords$Saying;") ∈ lw_all := lw_g (lw_at lw_m1 203 rfl) rfl
theorem q298 : (Jvm.Cond.soleField "CrossingWords$Case" "sayings") ∈ lw_all := lw_g (lw_at lw_m1 204 rfl) rfl
theorem q299 : (Jvm.Cond.laysFinal "CrossingWords$Case" "CrossingWords$Case" "askedOf" "[I") ∈ lw_all := lw_g (lw_at lw_m1 205 rfl) rfl
theorem q300 : (Jvm.Cond.soleField "CrossingWords$Case" "askedOf") ∈ lw_all := lw_g (lw_at lw_m1 206 rfl) rfl
theorem q301 : (Jvm.Cond.laysFinal "CrossingWords$Case" "CrossingWords$Case" "askedWhat" "[I") ∈ lw_all := lw_g (lw_at lw_m1 207 rfl) rfl
theorem q302 : (Jvm.Cond.soleField "CrossingWords$Case" "askedWhat") ∈ lw_all := lw_g (lw_at lw_m1 208 rfl) rfl
theorem q303 : (Jvm.Cond.laysFinal "CrossingWords$Case" "CrossingWords$Case" "askedMany" "[I") ∈ lw_all := lw_g (lw_at lw_m1 209 rfl) rfl
theorem q304 : (Jvm.Cond.soleField "CrossingWords$Case" "askedMany") ∈ lw_all := lw_g (lw_at lw_m1 210 rfl) rfl
theorem q305 : (Jvm.Cond.lays "CrossingWords$Case" "CrossingWords$Case" "many" "I") ∈ lw_all := lw_g (lw_at lw_m1 211 rfl) rfl
theorem q306 : (Jvm.Cond.soleField "CrossingWords$Case" "many") ∈ lw_all := lw_g (lw_at lw_m1 212 rfl) rfl
theorem q307 : (Jvm.Cond.lays "CrossingWords$Case" "CrossingWords$Case" "asked" "I") ∈ lw_all := lw_g (lw_at lw_m1 213 rfl) rfl
theorem q308 : (Jvm.Cond.soleField "CrossingWords$Case" "asked") ∈ lw_all := lw_g (lw_at lw_m1 214 rfl) rfl
theorem q309 : (Jvm.Cond.lays "CrossingWords$Case" "CrossingWords$Case" "combos" "J") ∈ lw_all := lw_g (lw_at lw_m1 215 rfl) rfl
theorem q310 : (Jvm.Cond.soleField "CrossingWords$Case" "combos") ∈ lw_all := lw_g (lw_at lw_m1 216 rfl) rfl
theorem q311 : (Jvm.Cond.superclass "CrossingWords$Case" "java/lang/Object") ∈ lw_all := lw_g (lw_at lw_m1 217 rfl) rfl
theorem q313 : (Jvm.Cond.instanceMethod ({ cls := "CrossingWords$Case", name := "is", desc := "(LCrossingWords$Case;)V" } : Jvm.MethodName)) ∈ lw_all := lw_g (lw_at lw_m1 219 rfl) rfl
theorem q314 : (Jvm.Cond.selects "CrossingWords$Case" ({ cls := "CrossingWords$Case", name := "is", desc := "(LCrossingWords$Case;)V" } : Jvm.MethodName) ({ cls := "CrossingWords$Case", name := "is", desc := "(LCrossingWords$Case;)V" } : Jvm.MethodName)) ∈ lw_all := lw_g (lw_at lw_m1 220 rfl) rfl
theorem q315 : (Jvm.Cond.code ({ cls := "CrossingWords$Case", name := "is", desc := "(LCrossingWords$Case;)V" } : Jvm.MethodName) prog_6_method_2_code (3 : Nat) (Option.none : Option Jvm.ClassFile.FieldType)) ∈ lw_all := lw_g (lw_at lw_m1 221 rfl) rfl
theorem q316 : (Jvm.Cond.methodLink "CrossingWords$Case" (38 : Nat) ({ cls := "CrossingWords$Case", name := "adds", desc := "(LCrossingWords$Saying;)V" } : Jvm.MethodName)) ∈ lw_all := lw_g (lw_at lw_m1 222 rfl) rfl
theorem q317 : (Jvm.Cond.instanceMethod ({ cls := "CrossingWords$Case", name := "adds", desc := "(LCrossingWords$Saying;)V" } : Jvm.MethodName)) ∈ lw_all := lw_g (lw_at lw_m1 223 rfl) rfl
theorem q318 : (Jvm.Cond.selects "CrossingWords$Case" ({ cls := "CrossingWords$Case", name := "adds", desc := "(LCrossingWords$Saying;)V" } : Jvm.MethodName) ({ cls := "CrossingWords$Case", name := "adds", desc := "(LCrossingWords$Saying;)V" } : Jvm.MethodName)) ∈ lw_all := lw_g (lw_at lw_m1 224 rfl) rfl
theorem q319 : (Jvm.Cond.code ({ cls := "CrossingWords$Case", name := "adds", desc := "(LCrossingWords$Saying;)V" } : Jvm.MethodName) prog_6_method_3_code (2 : Nat) (Option.none : Option Jvm.ClassFile.FieldType)) ∈ lw_all := lw_g (lw_at lw_m1 225 rfl) rfl
theorem q320 : (Jvm.Cond.methodLink "CrossingWords$Case" (55 : Nat) ({ cls := "CrossingWords$Span", name := "many", desc := "()I" } : Jvm.MethodName)) ∈ lw_all := lw_g (lw_at lw_m1 226 rfl) rfl
theorem q324 : (Jvm.Cond.methodLink "CrossingWords$Case" (60 : Nat) ({ cls := "CrossingWords$Case", name := "asks", desc := "(III)V" } : Jvm.MethodName)) ∈ lw_all := lw_g (lw_at lw_m1 230 rfl) rfl
theorem q325 : (Jvm.Cond.privateMethod ({ cls := "CrossingWords$Case", name := "asks", desc := "(III)V" } : Jvm.MethodName)) ∈ lw_tbl := lw_at lw_m1 231 rfl
theorem q326 : (Jvm.Cond.instanceMethod ({ cls := "CrossingWords$Case", name := "asks", desc := "(III)V" } : Jvm.MethodName)) ∈ lw_all := lw_g (lw_at lw_m1 232 rfl) rfl
theorem q327 : (Jvm.Cond.code ({ cls := "CrossingWords$Case", name := "asks", desc := "(III)V" } : Jvm.MethodName) prog_6_method_4_code (4 : Nat) (Option.none : Option Jvm.ClassFile.FieldType)) ∈ lw_all := lw_g (lw_at lw_m1 233 rfl) rfl
theorem q328 : (Jvm.Cond.constantLong "CrossingWords$Case" (74 : Nat) (1025 : Int64)) ∈ lw_all := lw_g (lw_at lw_m1 234 rfl) rfl
theorem q329 : (Jvm.Cond.methodLink "CrossingWords$Case" (76 : Nat) ({ cls := "java/lang/Math", name := "min", desc := "(JJ)J" } : Jvm.MethodName)) ∈ lw_all := lw_g (lw_at lw_m1 235 rfl) rfl
theorem q448 : (Jvm.Cond.fieldLink "CrossingWords$Case" (42 : Nat) "CrossingWords$Saying" "index" "I") ∈ lw_all := lw_g (lw_at lw_m2 114 rfl) rfl
theorem q456 : (Jvm.Cond.fieldLink "CrossingWords$Case" (45 : Nat) "CrossingWords$Saying" "times" "LCrossingWords$Times;") ∈ lw_all := lw_g (lw_at lw_m2 122 rfl) rfl
theorem q714 : (Jvm.Cond.fieldLink "CrossingWords$Case" (49 : Nat) "CrossingWords$Times" "at" "LCrossingWords$Span;") ∈ lw_all := lw_g (lw_at lw_m3 140 rfl) rfl
theorem q717 : (Jvm.Cond.fieldLink "CrossingWords$Case" (64 : Nat) "CrossingWords$Times" "after" "LCrossingWords$Span;") ∈ lw_all := lw_g (lw_at lw_m3 143 rfl) rfl
theorem q720 : (Jvm.Cond.fieldLink "CrossingWords$Case" (67 : Nat) "CrossingWords$Times" "read" "LCrossingWords$Span;") ∈ lw_all := lw_g (lw_at lw_m3 146 rfl) rfl
theorem q722 : (Jvm.Cond.fieldLink "CrossingWords$Case" (70 : Nat) "CrossingWords$Times" "mayBeLost" "Z") ∈ lw_all := lw_g (lw_at lw_m3 148 rfl) rfl
theorem q929 : (Jvm.Cond.instanceMethod ({ cls := "CrossingWords$Case", name := "isLooked", desc := "()Z" } : Jvm.MethodName)) ∈ lw_all := lw_g (lw_at lw_m4 115 rfl) rfl
theorem q930 : (Jvm.Cond.selects "CrossingWords$Case" ({ cls := "CrossingWords$Case", name := "isLooked", desc := "()Z" } : Jvm.MethodName) ({ cls := "CrossingWords$Case", name := "isLooked", desc := "()Z" } : Jvm.MethodName)) ∈ lw_all := lw_g (lw_at lw_m4 116 rfl) rfl
theorem q931 : (Jvm.Cond.code ({ cls := "CrossingWords$Case", name := "isLooked", desc := "()Z" } : Jvm.MethodName) prog_6_method_5_code (1 : Nat) (Option.some Jvm.ClassFile.FieldType.boolean)) ∈ lw_all := lw_g (lw_at lw_m4 117 rfl) rfl
theorem q932 : (Jvm.Cond.constantLong "CrossingWords$Case" (82 : Nat) (1024 : Int64)) ∈ lw_all := lw_g (lw_at lw_m4 118 rfl) rfl
theorem q934 : (Jvm.Cond.instanceMethod ({ cls := "CrossingWords$Case", name := "combos", desc := "()I" } : Jvm.MethodName)) ∈ lw_all := lw_g (lw_at lw_m4 120 rfl) rfl
theorem q935 : (Jvm.Cond.selects "CrossingWords$Case" ({ cls := "CrossingWords$Case", name := "combos", desc := "()I" } : Jvm.MethodName) ({ cls := "CrossingWords$Case", name := "combos", desc := "()I" } : Jvm.MethodName)) ∈ lw_all := lw_g (lw_at lw_m4 121 rfl) rfl
theorem q936 : (Jvm.Cond.code ({ cls := "CrossingWords$Case", name := "combos", desc := "()I" } : Jvm.MethodName) prog_6_method_6_code (1 : Nat) (Option.some Jvm.ClassFile.FieldType.int)) ∈ lw_all := lw_g (lw_at lw_m4 122 rfl) rfl
theorem q950 : (Jvm.Cond.instanceMethod ({ cls := "CrossingWords$Case", name := "digit", desc := "(II)I" } : Jvm.MethodName)) ∈ lw_all := lw_g (lw_at lw_m4 136 rfl) rfl
theorem q951 : (Jvm.Cond.selects "CrossingWords$Case" ({ cls := "CrossingWords$Case", name := "digit", desc := "(II)I" } : Jvm.MethodName) ({ cls := "CrossingWords$Case", name := "digit", desc := "(II)I" } : Jvm.MethodName)) ∈ lw_all := lw_g (lw_at lw_m4 137 rfl) rfl
theorem q952 : (Jvm.Cond.code ({ cls := "CrossingWords$Case", name := "digit", desc := "(II)I" } : Jvm.MethodName) prog_6_method_7_code (5 : Nat) (Option.some Jvm.ClassFile.FieldType.int)) ∈ lw_all := lw_g (lw_at lw_m4 138 rfl) rfl
theorem in_X5 : ∀ w ∈ wsX50, w ∈ lw_all := lw_in wsX50 [297, 299, 301, 303, 305, 307, 309] (by decide +kernel) (by decide +kernel)
/-! CrossingWords$Saying -/
set_option maxRecDepth 100000
def RX6 : String := "CrossingWords$Saying"
abbrev cX6_init : ByteArray := prog_16_method_1_code
def yX6_init : MethodName := ⟨RX6, "<init>", "(II)V"⟩
def dkwX6_init_0 : List UInt8 := [42, 183, 0, 3, 42, 27, 181, 0, 9, 42, 28, 181, 0, 15, 177]
abbrev dktX6_init_0 : List UInt8 := dkwX6_init_0 ++ []
theorem dksX6_init_0 : cX6_init.data.toList.drop 0 = dktX6_init_0 := by decide +kernel
theorem dX6_init_0 : decode cX6_init 0 = .ok (.aload_n 0, 1) := dk_42 (dk_at dksX6_init_0 0 rfl rfl)
theorem dX6_init_1 : decode cX6_init 1 = .ok (.invokespecial 3, 3) := dk_183 0 3 (dk_at dksX6_init_0 1 rfl rfl)
theorem dX6_init_4 : decode cX6_init 4 = .ok (.aload_n 0, 1) := dk_42 (dk_at dksX6_init_0 4 rfl rfl)
theorem dX6_init_5 : decode cX6_init 5 = .ok (.iload_n 1, 1) := dk_27 (dk_at dksX6_init_0 5 rfl rfl)
theorem dX6_init_6 : decode cX6_init 6 = .ok (.putfield 9, 3) := dk_181 0 9 (dk_at dksX6_init_0 6 rfl rfl)
theorem dX6_init_9 : decode cX6_init 9 = .ok (.aload_n 0, 1) := dk_42 (dk_at dksX6_init_0 9 rfl rfl)
theorem dX6_init_10 : decode cX6_init 10 = .ok (.iload_n 2, 1) := dk_28 (dk_at dksX6_init_0 10 rfl rfl)
theorem dX6_init_11 : decode cX6_init 11 = .ok (.putfield 15, 3) := dk_181 0 15 (dk_at dksX6_init_0 11 rfl rfl)
theorem dX6_init_14 : decode cX6_init 14 = .ok (.return_, 1) := dk_177 (dk_at dksX6_init_0 14 rfl rfl)
abbrev cX6_to : ByteArray := prog_16_method_3_code
def yX6_to : MethodName := ⟨RX6, "to", "()I"⟩
theorem dX6_to_0 : decode cX6_to 0 = .ok (.iconst (-1), 1) := by decide +kernel
theorem dX6_to_1 : decode cX6_to 1 = .ok (.ireturn, 1) := by decide +kernel
abbrev cX6_said : ByteArray := prog_16_method_4_code
def yX6_said : MethodName := ⟨RX6, "said", "()LCrossingWords$Saying;"⟩
theorem dX6_said_0 : decode cX6_said 0 = .ok (.aconst_null, 1) := by decide +kernel
theorem dX6_said_1 : decode cX6_said 1 = .ok (.areturn, 1) := by decide +kernel
abbrev cX6_hold : ByteArray := prog_16_method_5_code
def yX6_hold : MethodName := ⟨RX6, "hold", "()I"⟩
theorem dX6_hold_0 : decode cX6_hold 0 = .ok (.iconst (-1), 1) := by decide +kernel
theorem dX6_hold_1 : decode cX6_hold 1 = .ok (.ireturn, 1) := by decide +kernel
abbrev cX6_given : ByteArray := prog_16_method_6_code
def yX6_given : MethodName := ⟨RX6, "given", "()I"⟩
theorem dX6_given_0 : decode cX6_given 0 = .ok (.iconst (-1), 1) := by decide +kernel
theorem dX6_given_1 : decode cX6_given 1 = .ok (.ireturn, 1) := by decide +kernel
abbrev cX6_own : ByteArray := prog_16_method_7_code
def yX6_own : MethodName := ⟨RX6, "own", "(I)I"⟩
theorem dX6_own_0 : decode cX6_own 0 = .ok (.iconst (-1), 1) := by decide +kernel
theorem dX6_own_1 : decode cX6_own 1 = .ok (.ireturn, 1) := by decide +kernel
abbrev cX6_isOffer : ByteArray := prog_16_method_9_code
def yX6_isOffer : MethodName := ⟨RX6, "isOffer", "(LCrossingWords$Rules;)Z"⟩
theorem dX6_isOffer_0 : decode cX6_isOffer 0 = .ok (.iconst 0, 1) := by decide +kernel
theorem dX6_isOffer_1 : decode cX6_isOffer 1 = .ok (.ireturn, 1) := by decide +kernel
abbrev cX6_isSaid : ByteArray := prog_16_method_13_code
def yX6_isSaid : MethodName := ⟨RX6, "isSaid", "(LCrossingWords$Saying;)Z"⟩
def dkwX6_isSaid_0 : List UInt8 := [42, 182, 0, 22, 43, 166, 0, 7, 4, 167, 0, 4, 3, 172]
abbrev dktX6_isSaid_0 : List UInt8 := dkwX6_isSaid_0 ++ []
theorem dksX6_isSaid_0 : cX6_isSaid.data.toList.drop 0 = dktX6_isSaid_0 := by decide +kernel
theorem dX6_isSaid_0 : decode cX6_isSaid 0 = .ok (.aload_n 0, 1) := dk_42 (dk_at dksX6_isSaid_0 0 rfl rfl)
theorem dX6_isSaid_1 : decode cX6_isSaid 1 = .ok (.invokevirtual 22, 3) := dk_182 0 22 (dk_at dksX6_isSaid_0 1 rfl rfl)
theorem dX6_isSaid_4 : decode cX6_isSaid 4 = .ok (.aload_n 1, 1) := dk_43 (dk_at dksX6_isSaid_0 4 rfl rfl)
theorem dX6_isSaid_5 : decode cX6_isSaid 5 = .ok (.if_acmp .ne 7, 3) := dk_166 0 7 (dk_at dksX6_isSaid_0 5 rfl rfl)
theorem dX6_isSaid_8 : decode cX6_isSaid 8 = .ok (.iconst 1, 1) := dk_4 (dk_at dksX6_isSaid_0 8 rfl rfl)
theorem dX6_isSaid_9 : decode cX6_isSaid 9 = .ok (.goto 4, 3) := dk_167 0 4 (dk_at dksX6_isSaid_0 9 rfl rfl)
theorem dX6_isSaid_12 : decode cX6_isSaid 12 = .ok (.iconst 0, 1) := dk_3 (dk_at dksX6_isSaid_0 12 rfl rfl)
theorem dX6_isSaid_13 : decode cX6_isSaid 13 = .ok (.ireturn, 1) := dk_172 (dk_at dksX6_isSaid_0 13 rfl rfl)
abbrev cX6_isNo : ByteArray := prog_16_method_11_code
def yX6_isNo : MethodName := ⟨RX6, "isNo", "(LCrossingWords$Rules;)Z"⟩
theorem dX6_isNo_0 : decode cX6_isNo 0 = .ok (.iconst 0, 1) := by decide +kernel
theorem dX6_isNo_1 : decode cX6_isNo 1 = .ok (.ireturn, 1) := by decide +kernel
abbrev cX6_isYes : ByteArray := prog_16_method_10_code
def yX6_isYes : MethodName := ⟨RX6, "isYes", "(LCrossingWords$Rules;)Z"⟩
theorem dX6_isYes_0 : decode cX6_isYes 0 = .ok (.iconst 0, 1) := by decide +kernel
theorem dX6_isYes_1 : decode cX6_isYes 1 = .ok (.ireturn, 1) := by decide +kernel
abbrev cX6_answers : ByteArray := prog_16_method_12_code
def yX6_answers : MethodName := ⟨RX6, "answers", "()Z"⟩
theorem dX6_answers_0 : decode cX6_answers 0 = .ok (.iconst 0, 1) := by decide +kernel
theorem dX6_answers_1 : decode cX6_answers 1 = .ok (.ireturn, 1) := by decide +kernel
abbrev cX6_term : ByteArray := prog_16_method_8_code
def yX6_term : MethodName := ⟨RX6, "term", "(I)I"⟩
def dkwX6_term_0 : List UInt8 := [42, 27, 182, 0, 18, 172]
abbrev dktX6_term_0 : List UInt8 := dkwX6_term_0 ++ []
theorem dksX6_term_0 : cX6_term.data.toList.drop 0 = dktX6_term_0 := by decide +kernel
theorem dX6_term_0 : decode cX6_term 0 = .ok (.aload_n 0, 1) := dk_42 (dk_at dksX6_term_0 0 rfl rfl)
theorem dX6_term_1 : decode cX6_term 1 = .ok (.iload_n 1, 1) := dk_27 (dk_at dksX6_term_0 1 rfl rfl)
theorem dX6_term_2 : decode cX6_term 2 = .ok (.invokevirtual 18, 3) := dk_182 0 18 (dk_at dksX6_term_0 2 rfl rfl)
theorem dX6_term_5 : decode cX6_term 5 = .ok (.ireturn, 1) := dk_172 (dk_at dksX6_term_0 5 rfl rfl)
theorem q102 : (Jvm.Cond.initialized "CrossingWords$Saying") ∈ lw_all := lw_g (lw_at lw_m1 8 rfl) rfl
theorem q442 : (Jvm.Cond.instanceMethod ({ cls := "CrossingWords$Saying", name := "<init>", desc := "(II)V" } : Jvm.MethodName)) ∈ lw_all := lw_g (lw_at lw_m2 108 rfl) rfl
theorem q443 : (Jvm.Cond.code ({ cls := "CrossingWords$Saying", name := "<init>", desc := "(II)V" } : Jvm.MethodName) prog_16_method_1_code (3 : Nat) (Option.none : Option Jvm.ClassFile.FieldType)) ∈ lw_all := lw_g (lw_at lw_m2 109 rfl) rfl
theorem q444 : (Jvm.Cond.methodLink "CrossingWords$Saying" (3 : Nat) ({ cls := "java/lang/Object", name := "<init>", desc := "()V" } : Jvm.MethodName)) ∈ lw_all := lw_g (lw_at lw_m2 110 rfl) rfl
theorem q446 : (Jvm.Cond.fieldLink "CrossingWords$Saying" (9 : Nat) "CrossingWords$Saying" "index" "I") ∈ lw_all := lw_g (lw_at lw_m2 112 rfl) rfl
theorem q450 : (Jvm.Cond.fieldLink "CrossingWords$Saying" (15 : Nat) "CrossingWords$Saying" "hand" "I") ∈ lw_all := lw_g (lw_at lw_m2 116 rfl) rfl
theorem q463 : (Jvm.Cond.soleField "CrossingWords$Saying" "index") ∈ lw_all := lw_g (lw_at lw_m2 129 rfl) rfl
theorem q465 : (Jvm.Cond.soleField "CrossingWords$Saying" "hand") ∈ lw_all := lw_g (lw_at lw_m2 131 rfl) rfl
theorem q467 : (Jvm.Cond.soleField "CrossingWords$Saying" "times") ∈ lw_all := lw_g (lw_at lw_m2 133 rfl) rfl
theorem q534 : (Jvm.Cond.declares ({ cls := "CrossingWords$Saying", name := "kind", desc := "()I" } : Jvm.MethodName)) ∈ lw_tbl := lw_at lw_m2 200 rfl
theorem q535 : (Jvm.Cond.sameMethod "CrossingWords$Saying" "CrossingWords$Saying" "kind" "()I") ∈ lw_all := lw_g (lw_at lw_m2 201 rfl) rfl
theorem q561 : (Jvm.Cond.instanceMethod ({ cls := "CrossingWords$Saying", name := "to", desc := "()I" } : Jvm.MethodName)) ∈ lw_all := lw_g (lw_at lw_m2 227 rfl) rfl
theorem q562 : (Jvm.Cond.sameMethod "CrossingWords$Saying" "CrossingWords$Saying" "to" "()I") ∈ lw_all := lw_g (lw_at lw_m2 228 rfl) rfl
theorem q583 : (Jvm.Cond.code ({ cls := "CrossingWords$Saying", name := "to", desc := "()I" } : Jvm.MethodName) prog_16_method_3_code (1 : Nat) (Option.some Jvm.ClassFile.FieldType.int)) ∈ lw_all := lw_g (lw_at lw_m3 9 rfl) rfl
theorem q869 : (Jvm.Cond.instanceMethod ({ cls := "CrossingWords$Saying", name := "said", desc := "()LCrossingWords$Saying;" } : Jvm.MethodName)) ∈ lw_all := lw_g (lw_at lw_m4 55 rfl) rfl
theorem q870 : (Jvm.Cond.sameMethod "CrossingWords$Saying" "CrossingWords$Saying" "said" "()LCrossingWords$Saying;") ∈ lw_all := lw_g (lw_at lw_m4 56 rfl) rfl
theorem q879 : (Jvm.Cond.code ({ cls := "CrossingWords$Saying", name := "said", desc := "()LCrossingWords$Saying;" } : Jvm.MethodName) prog_16_method_4_code (1 : Nat) (Option.some (Jvm.ClassFile.FieldType.object "CrossingWords$Saying"))) ∈ lw_all := lw_g (lw_at lw_m4 65 rfl) rfl
theorem q881 : (Jvm.Cond.instanceMethod ({ cls := "CrossingWords$Saying", name := "hold", desc := "()I" } : Jvm.MethodName)) ∈ lw_all := lw_g (lw_at lw_m4 67 rfl) rfl
theorem q882 : (Jvm.Cond.sameMethod "CrossingWords$Saying" "CrossingWords$Saying" "hold" "()I") ∈ lw_all := lw_g (lw_at lw_m4 68 rfl) rfl
theorem q893 : (Jvm.Cond.code ({ cls := "CrossingWords$Saying", name := "hold", desc := "()I" } : Jvm.MethodName) prog_16_method_5_code (1 : Nat) (Option.some Jvm.ClassFile.FieldType.int)) ∈ lw_all := lw_g (lw_at lw_m4 79 rfl) rfl
theorem q895 : (Jvm.Cond.instanceMethod ({ cls := "CrossingWords$Saying", name := "given", desc := "()I" } : Jvm.MethodName)) ∈ lw_all := lw_g (lw_at lw_m4 81 rfl) rfl
theorem q896 : (Jvm.Cond.sameMethod "CrossingWords$Saying" "CrossingWords$Saying" "given" "()I") ∈ lw_all := lw_g (lw_at lw_m4 82 rfl) rfl
theorem q907 : (Jvm.Cond.code ({ cls := "CrossingWords$Saying", name := "given", desc := "()I" } : Jvm.MethodName) prog_16_method_6_code (1 : Nat) (Option.some Jvm.ClassFile.FieldType.int)) ∈ lw_all := lw_g (lw_at lw_m4 93 rfl) rfl
theorem q909 : (Jvm.Cond.instanceMethod ({ cls := "CrossingWords$Saying", name := "own", desc := "(I)I" } : Jvm.MethodName)) ∈ lw_all := lw_g (lw_at lw_m4 95 rfl) rfl
theorem q910 : (Jvm.Cond.sameMethod "CrossingWords$Saying" "CrossingWords$Saying" "own" "(I)I") ∈ lw_all := lw_g (lw_at lw_m4 96 rfl) rfl
theorem q923 : (Jvm.Cond.code ({ cls := "CrossingWords$Saying", name := "own", desc := "(I)I" } : Jvm.MethodName) prog_16_method_7_code (2 : Nat) (Option.some Jvm.ClassFile.FieldType.int)) ∈ lw_all := lw_g (lw_at lw_m4 109 rfl) rfl
theorem q1009 : (Jvm.Cond.instanceMethod ({ cls := "CrossingWords$Saying", name := "isOffer", desc := "(LCrossingWords$Rules;)Z" } : Jvm.MethodName)) ∈ lw_all := lw_g (lw_at lw_m4 195 rfl) rfl
theorem q1010 : (Jvm.Cond.sameMethod "CrossingWords$Saying" "CrossingWords$Saying" "isOffer" "(LCrossingWords$Rules;)Z") ∈ lw_all := lw_g (lw_at lw_m4 196 rfl) rfl
theorem q1031 : (Jvm.Cond.code ({ cls := "CrossingWords$Saying", name := "isOffer", desc := "(LCrossingWords$Rules;)Z" } : Jvm.MethodName) prog_16_method_9_code (2 : Nat) (Option.some Jvm.ClassFile.FieldType.boolean)) ∈ lw_all := lw_g (lw_at lw_m4 217 rfl) rfl
theorem q1049 : (Jvm.Cond.instanceMethod ({ cls := "CrossingWords$Saying", name := "isSaid", desc := "(LCrossingWords$Saying;)Z" } : Jvm.MethodName)) ∈ lw_all := lw_g (lw_at lw_m4 235 rfl) rfl
theorem q1050 : (Jvm.Cond.sameMethod "CrossingWords$Saying" "CrossingWords$Saying" "isSaid" "(LCrossingWords$Saying;)Z") ∈ lw_all := lw_g (lw_at lw_m4 236 rfl) rfl
theorem q1059 : (Jvm.Cond.code ({ cls := "CrossingWords$Saying", name := "isSaid", desc := "(LCrossingWords$Saying;)Z" } : Jvm.MethodName) prog_16_method_13_code (2 : Nat) (Option.some Jvm.ClassFile.FieldType.boolean)) ∈ lw_all := lw_g (lw_at lw_m5 5 rfl) rfl
theorem q1060 : (Jvm.Cond.methodLink "CrossingWords$Saying" (22 : Nat) ({ cls := "CrossingWords$Saying", name := "said", desc := "()LCrossingWords$Saying;" } : Jvm.MethodName)) ∈ lw_all := lw_g (lw_at lw_m5 6 rfl) rfl
theorem q1067 : (Jvm.Cond.instanceMethod ({ cls := "CrossingWords$Saying", name := "isNo", desc := "(LCrossingWords$Rules;)Z" } : Jvm.MethodName)) ∈ lw_all := lw_g (lw_at lw_m5 13 rfl) rfl
theorem q1068 : (Jvm.Cond.sameMethod "CrossingWords$Saying" "CrossingWords$Saying" "isNo" "(LCrossingWords$Rules;)Z") ∈ lw_all := lw_g (lw_at lw_m5 14 rfl) rfl
theorem q1081 : (Jvm.Cond.code ({ cls := "CrossingWords$Saying", name := "isNo", desc := "(LCrossingWords$Rules;)Z" } : Jvm.MethodName) prog_16_method_11_code (2 : Nat) (Option.some Jvm.ClassFile.FieldType.boolean)) ∈ lw_all := lw_g (lw_at lw_m5 27 rfl) rfl
theorem q1083 : (Jvm.Cond.instanceMethod ({ cls := "CrossingWords$Saying", name := "isYes", desc := "(LCrossingWords$Rules;)Z" } : Jvm.MethodName)) ∈ lw_all := lw_g (lw_at lw_m5 29 rfl) rfl
theorem q1084 : (Jvm.Cond.sameMethod "CrossingWords$Saying" "CrossingWords$Saying" "isYes" "(LCrossingWords$Rules;)Z") ∈ lw_all := lw_g (lw_at lw_m5 30 rfl) rfl
theorem q1103 : (Jvm.Cond.code ({ cls := "CrossingWords$Saying", name := "isYes", desc := "(LCrossingWords$Rules;)Z" } : Jvm.MethodName) prog_16_method_10_code (2 : Nat) (Option.some Jvm.ClassFile.FieldType.boolean)) ∈ lw_all := lw_g (lw_at lw_m5 49 rfl) rfl
theorem q1128 : (Jvm.Cond.instanceMethod ({ cls := "CrossingWords$Saying", name := "answers", desc := "()Z" } : Jvm.MethodName)) ∈ lw_all := lw_g (lw_at lw_m5 74 rfl) rfl
theorem q1129 : (Jvm.Cond.sameMethod "CrossingWords$Saying" "CrossingWords$Saying" "answers" "()Z") ∈ lw_all := lw_g (lw_at lw_m5 75 rfl) rfl
theorem q1142 : (Jvm.Cond.code ({ cls := "CrossingWords$Saying", name := "answers", desc := "()Z" } : Jvm.MethodName) prog_16_method_12_code (1 : Nat) (Option.some Jvm.ClassFile.FieldType.boolean)) ∈ lw_all := lw_g (lw_at lw_m5 88 rfl) rfl
theorem q1149 : (Jvm.Cond.instanceMethod ({ cls := "CrossingWords$Saying", name := "term", desc := "(I)I" } : Jvm.MethodName)) ∈ lw_all := lw_g (lw_at lw_m5 95 rfl) rfl
theorem q1150 : (Jvm.Cond.sameMethod "CrossingWords$Saying" "CrossingWords$Saying" "term" "(I)I") ∈ lw_all := lw_g (lw_at lw_m5 96 rfl) rfl
theorem q1162 : (Jvm.Cond.code ({ cls := "CrossingWords$Saying", name := "term", desc := "(I)I" } : Jvm.MethodName) prog_16_method_8_code (2 : Nat) (Option.some Jvm.ClassFile.FieldType.int)) ∈ lw_all := lw_g (lw_at lw_m5 108 rfl) rfl
theorem q1163 : (Jvm.Cond.methodLink "CrossingWords$Saying" (18 : Nat) ({ cls := "CrossingWords$Saying", name := "own", desc := "(I)I" } : Jvm.MethodName)) ∈ lw_all := lw_g (lw_at lw_m5 109 rfl) rfl
/-! CrossingWords$Ask -/
set_option maxRecDepth 100000
def RX7 : String := "CrossingWords$Ask"
def TX7 : u_T := fun k => match k with
  | 0 => ("CrossingWords$Saying", "index", "I", true)
  | 1 => ("CrossingWords$Saying", "hand", "I", true)
  | 2 => ("CrossingWords$Saying", "times", "LCrossingWords$Times;", false)
  | _ => ("CrossingWords$Ask", "to", "I", true)
def tyX7 : Nat → FieldType := fun k => match k with
  | 0 => .int
  | 1 => .int
  | 2 => .object "CrossingWords$Times"
  | _ => .int
abbrev wsX70 : List Cond := u_ws RX7 TX7 4
theorem nmX7 : ∀ a, a < 4 → ∀ b, b < 4 → a ≠ b → (TX7 a).2.1 ≠ (TX7 b).2.1 := by decide +kernel
theorem tyX7_ok : ∀ k, k < 4 → parseFieldDescriptor (TX7 k).2.2.1 = some (tyX7 k) := by decide +kernel
abbrev cX7_init : ByteArray := prog_3_method_1_code
def yX7_init : MethodName := ⟨RX7, "<init>", "(III)V"⟩
def dkwX7_init_0 : List UInt8 := [42, 27, 28, 183, 0, 3, 42, 29, 181, 0, 9, 177]
abbrev dktX7_init_0 : List UInt8 := dkwX7_init_0 ++ []
theorem dksX7_init_0 : cX7_init.data.toList.drop 0 = dktX7_init_0 := by decide +kernel
theorem dX7_init_0 : decode cX7_init 0 = .ok (.aload_n 0, 1) := dk_42 (dk_at dksX7_init_0 0 rfl rfl)
theorem dX7_init_1 : decode cX7_init 1 = .ok (.iload_n 1, 1) := dk_27 (dk_at dksX7_init_0 1 rfl rfl)
theorem dX7_init_2 : decode cX7_init 2 = .ok (.iload_n 2, 1) := dk_28 (dk_at dksX7_init_0 2 rfl rfl)
theorem dX7_init_3 : decode cX7_init 3 = .ok (.invokespecial 3, 3) := dk_183 0 3 (dk_at dksX7_init_0 3 rfl rfl)
theorem dX7_init_6 : decode cX7_init 6 = .ok (.aload_n 0, 1) := dk_42 (dk_at dksX7_init_0 6 rfl rfl)
theorem dX7_init_7 : decode cX7_init 7 = .ok (.iload_n 3, 1) := dk_29 (dk_at dksX7_init_0 7 rfl rfl)
theorem dX7_init_8 : decode cX7_init 8 = .ok (.putfield 9, 3) := dk_181 0 9 (dk_at dksX7_init_0 8 rfl rfl)
theorem dX7_init_11 : decode cX7_init 11 = .ok (.return_, 1) := dk_177 (dk_at dksX7_init_0 11 rfl rfl)
abbrev cX7_kind : ByteArray := prog_3_method_2_code
def yX7_kind : MethodName := ⟨RX7, "kind", "()I"⟩
theorem dX7_kind_0 : decode cX7_kind 0 = .ok (.iconst 1, 1) := by decide +kernel
theorem dX7_kind_1 : decode cX7_kind 1 = .ok (.ireturn, 1) := by decide +kernel
abbrev cX7_to : ByteArray := prog_3_method_3_code
def yX7_to : MethodName := ⟨RX7, "to", "()I"⟩
theorem dX7_to_0 : decode cX7_to 0 = .ok (.aload_n 0, 1) := by decide +kernel
theorem dX7_to_1 : decode cX7_to 1 = .ok (.getfield 9, 3) := by decide +kernel
theorem dX7_to_4 : decode cX7_to 4 = .ok (.ireturn, 1) := by decide +kernel
theorem q103 : (Jvm.Cond.initialized "CrossingWords$Ask") ∈ lw_all := lw_g (lw_at lw_m1 9 rfl) rfl
theorem q437 : (Jvm.Cond.instantiable "CrossingWords$Ask" (4 : Nat)) ∈ lw_all := lw_g (lw_at lw_m2 103 rfl) rfl
theorem q439 : (Jvm.Cond.instanceMethod ({ cls := "CrossingWords$Ask", name := "<init>", desc := "(III)V" } : Jvm.MethodName)) ∈ lw_all := lw_g (lw_at lw_m2 105 rfl) rfl
theorem q440 : (Jvm.Cond.code ({ cls := "CrossingWords$Ask", name := "<init>", desc := "(III)V" } : Jvm.MethodName) prog_3_method_1_code (4 : Nat) (Option.none : Option Jvm.ClassFile.FieldType)) ∈ lw_all := lw_g (lw_at lw_m2 106 rfl) rfl
theorem q441 : (Jvm.Cond.methodLink "CrossingWords$Ask" (3 : Nat) ({ cls := "CrossingWords$Saying", name := "<init>", desc := "(II)V" } : Jvm.MethodName)) ∈ lw_all := lw_g (lw_at lw_m2 107 rfl) rfl
theorem q445 : (Jvm.Cond.fieldLink "CrossingWords$Ask" (9 : Nat) "CrossingWords$Ask" "to" "I") ∈ lw_all := lw_g (lw_at lw_m2 111 rfl) rfl
theorem q460 : (Jvm.Cond.laysFinal "CrossingWords$Ask" "CrossingWords$Ask" "to" "I") ∈ lw_all := lw_g (lw_at lw_m2 126 rfl) rfl
theorem q461 : (Jvm.Cond.soleField "CrossingWords$Ask" "to") ∈ lw_all := lw_g (lw_at lw_m2 127 rfl) rfl
theorem q462 : (Jvm.Cond.laysFinal "CrossingWords$Ask" "CrossingWords$Saying" "index" "I") ∈ lw_all := lw_g (lw_at lw_m2 128 rfl) rfl
theorem q464 : (Jvm.Cond.laysFinal "CrossingWords$Ask" "CrossingWords$Saying" "hand" "I") ∈ lw_all := lw_g (lw_at lw_m2 130 rfl) rfl
theorem q466 : (Jvm.Cond.lays "CrossingWords$Ask" "CrossingWords$Saying" "times" "LCrossingWords$Times;") ∈ lw_all := lw_g (lw_at lw_m2 132 rfl) rfl
theorem q468 : (Jvm.Cond.superclass "CrossingWords$Ask" "CrossingWords$Saying") ∈ lw_all := lw_g (lw_at lw_m2 134 rfl) rfl
theorem q536 : (Jvm.Cond.selects "CrossingWords$Ask" ({ cls := "CrossingWords$Saying", name := "kind", desc := "()I" } : Jvm.MethodName) ({ cls := "CrossingWords$Ask", name := "kind", desc := "()I" } : Jvm.MethodName)) ∈ lw_all := lw_g (lw_at lw_m2 202 rfl) rfl
theorem q537 : (Jvm.Cond.instanceMethod ({ cls := "CrossingWords$Ask", name := "kind", desc := "()I" } : Jvm.MethodName)) ∈ lw_all := lw_g (lw_at lw_m2 203 rfl) rfl
theorem q538 : (Jvm.Cond.code ({ cls := "CrossingWords$Ask", name := "kind", desc := "()I" } : Jvm.MethodName) prog_3_method_2_code (1 : Nat) (Option.some Jvm.ClassFile.FieldType.int)) ∈ lw_all := lw_g (lw_at lw_m2 204 rfl) rfl
theorem q563 : (Jvm.Cond.selects "CrossingWords$Ask" ({ cls := "CrossingWords$Saying", name := "to", desc := "()I" } : Jvm.MethodName) ({ cls := "CrossingWords$Ask", name := "to", desc := "()I" } : Jvm.MethodName)) ∈ lw_all := lw_g (lw_at lw_m2 229 rfl) rfl
theorem q564 : (Jvm.Cond.instanceMethod ({ cls := "CrossingWords$Ask", name := "to", desc := "()I" } : Jvm.MethodName)) ∈ lw_all := lw_g (lw_at lw_m2 230 rfl) rfl
theorem q565 : (Jvm.Cond.code ({ cls := "CrossingWords$Ask", name := "to", desc := "()I" } : Jvm.MethodName) prog_3_method_3_code (1 : Nat) (Option.some Jvm.ClassFile.FieldType.int)) ∈ lw_all := lw_g (lw_at lw_m2 231 rfl) rfl
theorem q871 : (Jvm.Cond.selects "CrossingWords$Ask" ({ cls := "CrossingWords$Saying", name := "said", desc := "()LCrossingWords$Saying;" } : Jvm.MethodName) ({ cls := "CrossingWords$Saying", name := "said", desc := "()LCrossingWords$Saying;" } : Jvm.MethodName)) ∈ lw_all := lw_g (lw_at lw_m4 57 rfl) rfl
theorem q883 : (Jvm.Cond.selects "CrossingWords$Ask" ({ cls := "CrossingWords$Saying", name := "hold", desc := "()I" } : Jvm.MethodName) ({ cls := "CrossingWords$Saying", name := "hold", desc := "()I" } : Jvm.MethodName)) ∈ lw_all := lw_g (lw_at lw_m4 69 rfl) rfl
theorem q897 : (Jvm.Cond.selects "CrossingWords$Ask" ({ cls := "CrossingWords$Saying", name := "given", desc := "()I" } : Jvm.MethodName) ({ cls := "CrossingWords$Saying", name := "given", desc := "()I" } : Jvm.MethodName)) ∈ lw_all := lw_g (lw_at lw_m4 83 rfl) rfl
theorem q911 : (Jvm.Cond.selects "CrossingWords$Ask" ({ cls := "CrossingWords$Saying", name := "own", desc := "(I)I" } : Jvm.MethodName) ({ cls := "CrossingWords$Saying", name := "own", desc := "(I)I" } : Jvm.MethodName)) ∈ lw_all := lw_g (lw_at lw_m4 97 rfl) rfl
theorem q1011 : (Jvm.Cond.selects "CrossingWords$Ask" ({ cls := "CrossingWords$Saying", name := "isOffer", desc := "(LCrossingWords$Rules;)Z" } : Jvm.MethodName) ({ cls := "CrossingWords$Saying", name := "isOffer", desc := "(LCrossingWords$Rules;)Z" } : Jvm.MethodName)) ∈ lw_all := lw_g (lw_at lw_m4 197 rfl) rfl
theorem q1051 : (Jvm.Cond.selects "CrossingWords$Ask" ({ cls := "CrossingWords$Saying", name := "isSaid", desc := "(LCrossingWords$Saying;)Z" } : Jvm.MethodName) ({ cls := "CrossingWords$Saying", name := "isSaid", desc := "(LCrossingWords$Saying;)Z" } : Jvm.MethodName)) ∈ lw_all := lw_g (lw_at lw_m4 237 rfl) rfl
theorem q1069 : (Jvm.Cond.selects "CrossingWords$Ask" ({ cls := "CrossingWords$Saying", name := "isNo", desc := "(LCrossingWords$Rules;)Z" } : Jvm.MethodName) ({ cls := "CrossingWords$Saying", name := "isNo", desc := "(LCrossingWords$Rules;)Z" } : Jvm.MethodName)) ∈ lw_all := lw_g (lw_at lw_m5 15 rfl) rfl
theorem q1085 : (Jvm.Cond.selects "CrossingWords$Ask" ({ cls := "CrossingWords$Saying", name := "isYes", desc := "(LCrossingWords$Rules;)Z" } : Jvm.MethodName) ({ cls := "CrossingWords$Saying", name := "isYes", desc := "(LCrossingWords$Rules;)Z" } : Jvm.MethodName)) ∈ lw_all := lw_g (lw_at lw_m5 31 rfl) rfl
theorem q1130 : (Jvm.Cond.selects "CrossingWords$Ask" ({ cls := "CrossingWords$Saying", name := "answers", desc := "()Z" } : Jvm.MethodName) ({ cls := "CrossingWords$Saying", name := "answers", desc := "()Z" } : Jvm.MethodName)) ∈ lw_all := lw_g (lw_at lw_m5 76 rfl) rfl
theorem q1151 : (Jvm.Cond.selects "CrossingWords$Ask" ({ cls := "CrossingWords$Saying", name := "term", desc := "(I)I" } : Jvm.MethodName) ({ cls := "CrossingWords$Saying", name := "term", desc := "(I)I" } : Jvm.MethodName)) ∈ lw_all := lw_g (lw_at lw_m5 97 rfl) rfl
theorem q1937 : (Jvm.Cond.castable "CrossingWords$Ask" "CrossingWords$Saying") ∈ lw_tbl := lw_at lw_m8 163 rfl
theorem in_X7 : ∀ w ∈ wsX70, w ∈ lw_all := lw_in wsX70 [462, 464, 466, 460] (by decide +kernel) (by decide +kernel)
/-! CrossingWords$Offer -/
set_option maxRecDepth 100000
def RX8 : String := "CrossingWords$Offer"
def TX8 : u_T := fun k => match k with
  | 0 => ("CrossingWords$Saying", "index", "I", true)
  | 1 => ("CrossingWords$Saying", "hand", "I", true)
  | 2 => ("CrossingWords$Saying", "times", "LCrossingWords$Times;", false)
  | 3 => ("CrossingWords$Offer", "to", "I", true)
  | 4 => ("CrossingWords$Offer", "terms", "[I", true)
  | 5 => ("CrossingWords$Offer", "hold", "I", false)
  | _ => ("CrossingWords$Offer", "given", "I", false)
def tyX8 : Nat → FieldType := fun k => match k with
  | 0 => .int
  | 1 => .int
  | 2 => .object "CrossingWords$Times"
  | 3 => .int
  | 4 => .array .int
  | 5 => .int
  | _ => .int
abbrev wsX80 : List Cond := u_ws RX8 TX8 7
theorem nmX8 : ∀ a, a < 7 → ∀ b, b < 7 → a ≠ b → (TX8 a).2.1 ≠ (TX8 b).2.1 := by decide +kernel
theorem tyX8_ok : ∀ k, k < 7 → parseFieldDescriptor (TX8 k).2.2.1 = some (tyX8 k) := by decide +kernel
abbrev cX8_init : ByteArray := prog_12_method_1_code
def yX8_init : MethodName := ⟨RX8, "<init>", "(III[I)V"⟩
def dkwX8_init_1 : List UInt8 := [181, 0, 21, 177]
abbrev dktX8_init_1 : List UInt8 := dkwX8_init_1 ++ []
def dkwX8_init_0 : List UInt8 := [42, 27, 28, 183, 0, 3, 42, 2, 181, 0, 9, 42, 2, 181, 0, 15, 42, 29, 181, 0, 18, 42, 25, 4]
abbrev dktX8_init_0 : List UInt8 := dkwX8_init_0 ++ dktX8_init_1
theorem dksX8_init_0 : cX8_init.data.toList.drop 0 = dktX8_init_0 := by decide +kernel
theorem dksX8_init_1 : cX8_init.data.toList.drop 24 = dktX8_init_1 := dk_seg dksX8_init_0 24 rfl rfl
theorem dX8_init_0 : decode cX8_init 0 = .ok (.aload_n 0, 1) := dk_42 (dk_at dksX8_init_0 0 rfl rfl)
theorem dX8_init_1 : decode cX8_init 1 = .ok (.iload_n 1, 1) := dk_27 (dk_at dksX8_init_0 1 rfl rfl)
theorem dX8_init_2 : decode cX8_init 2 = .ok (.iload_n 2, 1) := dk_28 (dk_at dksX8_init_0 2 rfl rfl)
theorem dX8_init_3 : decode cX8_init 3 = .ok (.invokespecial 3, 3) := dk_183 0 3 (dk_at dksX8_init_0 3 rfl rfl)
theorem dX8_init_6 : decode cX8_init 6 = .ok (.aload_n 0, 1) := dk_42 (dk_at dksX8_init_0 6 rfl rfl)
theorem dX8_init_7 : decode cX8_init 7 = .ok (.iconst (-1), 1) := dk_2 (dk_at dksX8_init_0 7 rfl rfl)
theorem dX8_init_8 : decode cX8_init 8 = .ok (.putfield 9, 3) := dk_181 0 9 (dk_at dksX8_init_0 8 rfl rfl)
theorem dX8_init_11 : decode cX8_init 11 = .ok (.aload_n 0, 1) := dk_42 (dk_at dksX8_init_0 11 rfl rfl)
theorem dX8_init_12 : decode cX8_init 12 = .ok (.iconst (-1), 1) := dk_2 (dk_at dksX8_init_0 12 rfl rfl)
theorem dX8_init_13 : decode cX8_init 13 = .ok (.putfield 15, 3) := dk_181 0 15 (dk_at dksX8_init_0 13 rfl rfl)
theorem dX8_init_16 : decode cX8_init 16 = .ok (.aload_n 0, 1) := dk_42 (dk_at dksX8_init_0 16 rfl rfl)
theorem dX8_init_17 : decode cX8_init 17 = .ok (.iload_n 3, 1) := dk_29 (dk_at dksX8_init_0 17 rfl rfl)
theorem dX8_init_18 : decode cX8_init 18 = .ok (.putfield 18, 3) := dk_181 0 18 (dk_at dksX8_init_0 18 rfl rfl)
theorem dX8_init_21 : decode cX8_init 21 = .ok (.aload_n 0, 1) := dk_42 (dk_at dksX8_init_0 21 rfl rfl)
theorem dX8_init_22 : decode cX8_init 22 = .ok (.aload 4, 2) := dk_25 4 (dk_at dksX8_init_0 22 rfl rfl)
theorem dX8_init_24 : decode cX8_init 24 = .ok (.putfield 21, 3) := dk_181 0 21 (dk_at dksX8_init_1 0 rfl rfl)
theorem dX8_init_27 : decode cX8_init 27 = .ok (.return_, 1) := dk_177 (dk_at dksX8_init_1 3 rfl rfl)
abbrev cX8_kind : ByteArray := prog_12_method_2_code
def yX8_kind : MethodName := ⟨RX8, "kind", "()I"⟩
theorem dX8_kind_0 : decode cX8_kind 0 = .ok (.iconst 0, 1) := by decide +kernel
theorem dX8_kind_1 : decode cX8_kind 1 = .ok (.ireturn, 1) := by decide +kernel
abbrev cX8_to : ByteArray := prog_12_method_3_code
def yX8_to : MethodName := ⟨RX8, "to", "()I"⟩
theorem dX8_to_0 : decode cX8_to 0 = .ok (.aload_n 0, 1) := by decide +kernel
theorem dX8_to_1 : decode cX8_to 1 = .ok (.getfield 18, 3) := by decide +kernel
theorem dX8_to_4 : decode cX8_to 4 = .ok (.ireturn, 1) := by decide +kernel
abbrev cX8_hold : ByteArray := prog_12_method_4_code
def yX8_hold : MethodName := ⟨RX8, "hold", "()I"⟩
theorem dX8_hold_0 : decode cX8_hold 0 = .ok (.aload_n 0, 1) := by decide +kernel
theorem dX8_hold_1 : decode cX8_hold 1 = .ok (.getfield 9, 3) := by decide +kernel
theorem dX8_hold_4 : decode cX8_hold 4 = .ok (.ireturn, 1) := by decide +kernel
abbrev cX8_given : ByteArray := prog_12_method_5_code
def yX8_given : MethodName := ⟨RX8, "given", "()I"⟩
theorem dX8_given_0 : decode cX8_given 0 = .ok (.aload_n 0, 1) := by decide +kernel
theorem dX8_given_1 : decode cX8_given 1 = .ok (.getfield 15, 3) := by decide +kernel
theorem dX8_given_4 : decode cX8_given 4 = .ok (.ireturn, 1) := by decide +kernel
abbrev cX8_own : ByteArray := prog_12_method_6_code
def yX8_own : MethodName := ⟨RX8, "own", "(I)I"⟩
def dkwX8_own_0 : List UInt8 := [42, 180, 0, 21, 27, 46, 172]
abbrev dktX8_own_0 : List UInt8 := dkwX8_own_0 ++ []
theorem dksX8_own_0 : cX8_own.data.toList.drop 0 = dktX8_own_0 := by decide +kernel
theorem dX8_own_0 : decode cX8_own 0 = .ok (.aload_n 0, 1) := dk_42 (dk_at dksX8_own_0 0 rfl rfl)
theorem dX8_own_1 : decode cX8_own 1 = .ok (.getfield 21, 3) := dk_180 0 21 (dk_at dksX8_own_0 1 rfl rfl)
theorem dX8_own_4 : decode cX8_own 4 = .ok (.iload_n 1, 1) := dk_27 (dk_at dksX8_own_0 4 rfl rfl)
theorem dX8_own_5 : decode cX8_own 5 = .ok (.iaload, 1) := dk_46 (dk_at dksX8_own_0 5 rfl rfl)
theorem dX8_own_6 : decode cX8_own 6 = .ok (.ireturn, 1) := dk_172 (dk_at dksX8_own_0 6 rfl rfl)
abbrev cX8_isOffer : ByteArray := prog_12_method_7_code
def yX8_isOffer : MethodName := ⟨RX8, "isOffer", "(LCrossingWords$Rules;)Z"⟩
theorem dX8_isOffer_0 : decode cX8_isOffer 0 = .ok (.iconst 1, 1) := by decide +kernel
theorem dX8_isOffer_1 : decode cX8_isOffer 1 = .ok (.ireturn, 1) := by decide +kernel
theorem q104 : (Jvm.Cond.initialized "CrossingWords$Offer") ∈ lw_all := lw_g (lw_at lw_m1 10 rfl) rfl
theorem q470 : (Jvm.Cond.instantiable "CrossingWords$Offer" (7 : Nat)) ∈ lw_all := lw_g (lw_at lw_m2 136 rfl) rfl
theorem q489 : (Jvm.Cond.instanceMethod ({ cls := "CrossingWords$Offer", name := "<init>", desc := "(III[I)V" } : Jvm.MethodName)) ∈ lw_all := lw_g (lw_at lw_m2 155 rfl) rfl
theorem q490 : (Jvm.Cond.code ({ cls := "CrossingWords$Offer", name := "<init>", desc := "(III[I)V" } : Jvm.MethodName) prog_12_method_1_code (5 : Nat) (Option.none : Option Jvm.ClassFile.FieldType)) ∈ lw_all := lw_g (lw_at lw_m2 156 rfl) rfl
theorem q491 : (Jvm.Cond.methodLink "CrossingWords$Offer" (3 : Nat) ({ cls := "CrossingWords$Saying", name := "<init>", desc := "(II)V" } : Jvm.MethodName)) ∈ lw_all := lw_g (lw_at lw_m2 157 rfl) rfl
theorem q492 : (Jvm.Cond.fieldLink "CrossingWords$Offer" (18 : Nat) "CrossingWords$Offer" "to" "I") ∈ lw_all := lw_g (lw_at lw_m2 158 rfl) rfl
theorem q493 : (Jvm.Cond.fieldLink "CrossingWords$Offer" (21 : Nat) "CrossingWords$Offer" "terms" "[I") ∈ lw_all := lw_g (lw_at lw_m2 159 rfl) rfl
theorem q494 : (Jvm.Cond.fieldLink "CrossingWords$Offer" (9 : Nat) "CrossingWords$Offer" "hold" "I") ∈ lw_all := lw_g (lw_at lw_m2 160 rfl) rfl
theorem q496 : (Jvm.Cond.fieldLink "CrossingWords$Offer" (15 : Nat) "CrossingWords$Offer" "given" "I") ∈ lw_all := lw_g (lw_at lw_m2 162 rfl) rfl
theorem q498 : (Jvm.Cond.laysFinal "CrossingWords$Offer" "CrossingWords$Offer" "to" "I") ∈ lw_all := lw_g (lw_at lw_m2 164 rfl) rfl
theorem q499 : (Jvm.Cond.soleField "CrossingWords$Offer" "to") ∈ lw_all := lw_g (lw_at lw_m2 165 rfl) rfl
theorem q500 : (Jvm.Cond.laysFinal "CrossingWords$Offer" "CrossingWords$Offer" "terms" "[I") ∈ lw_all := lw_g (lw_at lw_m2 166 rfl) rfl
theorem q501 : (Jvm.Cond.soleField "CrossingWords$Offer" "terms") ∈ lw_all := lw_g (lw_at lw_m2 167 rfl) rfl
theorem q502 : (Jvm.Cond.lays "CrossingWords$Offer" "CrossingWords$Offer" "hold" "I") ∈ lw_all := lw_g (lw_at lw_m2 168 rfl) rfl
theorem q503 : (Jvm.Cond.soleField "CrossingWords$Offer" "hold") ∈ lw_all := lw_g (lw_at lw_m2 169 rfl) rfl
theorem q504 : (Jvm.Cond.lays "CrossingWords$Offer" "CrossingWords$Offer" "given" "I") ∈ lw_all := lw_g (lw_at lw_m2 170 rfl) rfl
theorem q505 : (Jvm.Cond.soleField "CrossingWords$Offer" "given") ∈ lw_all := lw_g (lw_at lw_m2 171 rfl) rfl
theorem q506 : (Jvm.Cond.laysFinal "CrossingWords$Offer" "CrossingWords$Saying" "index" "I") ∈ lw_all := lw_g (lw_at lw_m2 172 rfl) rfl
theorem q507 : (Jvm.Cond.laysFinal "CrossingWords$Offer" "CrossingWords$Saying" "hand" "I") ∈ lw_all := lw_g (lw_at lw_m2 173 rfl) rfl
theorem q508 : (Jvm.Cond.lays "CrossingWords$Offer" "CrossingWords$Saying" "times" "LCrossingWords$Times;") ∈ lw_all := lw_g (lw_at lw_m2 174 rfl) rfl
theorem q509 : (Jvm.Cond.superclass "CrossingWords$Offer" "CrossingWords$Saying") ∈ lw_all := lw_g (lw_at lw_m2 175 rfl) rfl
theorem q551 : (Jvm.Cond.selects "CrossingWords$Offer" ({ cls := "CrossingWords$Saying", name := "kind", desc := "()I" } : Jvm.MethodName) ({ cls := "CrossingWords$Offer", name := "kind", desc := "()I" } : Jvm.MethodName)) ∈ lw_all := lw_g (lw_at lw_m2 217 rfl) rfl
theorem q552 : (Jvm.Cond.instanceMethod ({ cls := "CrossingWords$Offer", name := "kind", desc := "()I" } : Jvm.MethodName)) ∈ lw_all := lw_g (lw_at lw_m2 218 rfl) rfl
theorem q553 : (Jvm.Cond.code ({ cls := "CrossingWords$Offer", name := "kind", desc := "()I" } : Jvm.MethodName) prog_12_method_2_code (1 : Nat) (Option.some Jvm.ClassFile.FieldType.int)) ∈ lw_all := lw_g (lw_at lw_m2 219 rfl) rfl
theorem q578 : (Jvm.Cond.selects "CrossingWords$Offer" ({ cls := "CrossingWords$Saying", name := "to", desc := "()I" } : Jvm.MethodName) ({ cls := "CrossingWords$Offer", name := "to", desc := "()I" } : Jvm.MethodName)) ∈ lw_all := lw_g (lw_at lw_m3 4 rfl) rfl
theorem q579 : (Jvm.Cond.instanceMethod ({ cls := "CrossingWords$Offer", name := "to", desc := "()I" } : Jvm.MethodName)) ∈ lw_all := lw_g (lw_at lw_m3 5 rfl) rfl
theorem q580 : (Jvm.Cond.code ({ cls := "CrossingWords$Offer", name := "to", desc := "()I" } : Jvm.MethodName) prog_12_method_3_code (1 : Nat) (Option.some Jvm.ClassFile.FieldType.int)) ∈ lw_all := lw_g (lw_at lw_m3 6 rfl) rfl
theorem q876 : (Jvm.Cond.selects "CrossingWords$Offer" ({ cls := "CrossingWords$Saying", name := "said", desc := "()LCrossingWords$Saying;" } : Jvm.MethodName) ({ cls := "CrossingWords$Saying", name := "said", desc := "()LCrossingWords$Saying;" } : Jvm.MethodName)) ∈ lw_all := lw_g (lw_at lw_m4 62 rfl) rfl
theorem q888 : (Jvm.Cond.selects "CrossingWords$Offer" ({ cls := "CrossingWords$Saying", name := "hold", desc := "()I" } : Jvm.MethodName) ({ cls := "CrossingWords$Offer", name := "hold", desc := "()I" } : Jvm.MethodName)) ∈ lw_all := lw_g (lw_at lw_m4 74 rfl) rfl
theorem q889 : (Jvm.Cond.instanceMethod ({ cls := "CrossingWords$Offer", name := "hold", desc := "()I" } : Jvm.MethodName)) ∈ lw_all := lw_g (lw_at lw_m4 75 rfl) rfl
theorem q890 : (Jvm.Cond.code ({ cls := "CrossingWords$Offer", name := "hold", desc := "()I" } : Jvm.MethodName) prog_12_method_4_code (1 : Nat) (Option.some Jvm.ClassFile.FieldType.int)) ∈ lw_all := lw_g (lw_at lw_m4 76 rfl) rfl
theorem q902 : (Jvm.Cond.selects "CrossingWords$Offer" ({ cls := "CrossingWords$Saying", name := "given", desc := "()I" } : Jvm.MethodName) ({ cls := "CrossingWords$Offer", name := "given", desc := "()I" } : Jvm.MethodName)) ∈ lw_all := lw_g (lw_at lw_m4 88 rfl) rfl
theorem q903 : (Jvm.Cond.instanceMethod ({ cls := "CrossingWords$Offer", name := "given", desc := "()I" } : Jvm.MethodName)) ∈ lw_all := lw_g (lw_at lw_m4 89 rfl) rfl
theorem q904 : (Jvm.Cond.code ({ cls := "CrossingWords$Offer", name := "given", desc := "()I" } : Jvm.MethodName) prog_12_method_5_code (1 : Nat) (Option.some Jvm.ClassFile.FieldType.int)) ∈ lw_all := lw_g (lw_at lw_m4 90 rfl) rfl
theorem q918 : (Jvm.Cond.selects "CrossingWords$Offer" ({ cls := "CrossingWords$Saying", name := "own", desc := "(I)I" } : Jvm.MethodName) ({ cls := "CrossingWords$Offer", name := "own", desc := "(I)I" } : Jvm.MethodName)) ∈ lw_all := lw_g (lw_at lw_m4 104 rfl) rfl
theorem q919 : (Jvm.Cond.instanceMethod ({ cls := "CrossingWords$Offer", name := "own", desc := "(I)I" } : Jvm.MethodName)) ∈ lw_all := lw_g (lw_at lw_m4 105 rfl) rfl
theorem q920 : (Jvm.Cond.code ({ cls := "CrossingWords$Offer", name := "own", desc := "(I)I" } : Jvm.MethodName) prog_12_method_6_code (2 : Nat) (Option.some Jvm.ClassFile.FieldType.int)) ∈ lw_all := lw_g (lw_at lw_m4 106 rfl) rfl
theorem q1026 : (Jvm.Cond.selects "CrossingWords$Offer" ({ cls := "CrossingWords$Saying", name := "isOffer", desc := "(LCrossingWords$Rules;)Z" } : Jvm.MethodName) ({ cls := "CrossingWords$Offer", name := "isOffer", desc := "(LCrossingWords$Rules;)Z" } : Jvm.MethodName)) ∈ lw_all := lw_g (lw_at lw_m4 212 rfl) rfl
theorem q1027 : (Jvm.Cond.instanceMethod ({ cls := "CrossingWords$Offer", name := "isOffer", desc := "(LCrossingWords$Rules;)Z" } : Jvm.MethodName)) ∈ lw_all := lw_g (lw_at lw_m4 213 rfl) rfl
theorem q1028 : (Jvm.Cond.code ({ cls := "CrossingWords$Offer", name := "isOffer", desc := "(LCrossingWords$Rules;)Z" } : Jvm.MethodName) prog_12_method_7_code (2 : Nat) (Option.some Jvm.ClassFile.FieldType.boolean)) ∈ lw_all := lw_g (lw_at lw_m4 214 rfl) rfl
theorem q1056 : (Jvm.Cond.selects "CrossingWords$Offer" ({ cls := "CrossingWords$Saying", name := "isSaid", desc := "(LCrossingWords$Saying;)Z" } : Jvm.MethodName) ({ cls := "CrossingWords$Saying", name := "isSaid", desc := "(LCrossingWords$Saying;)Z" } : Jvm.MethodName)) ∈ lw_all := lw_g (lw_at lw_m5 2 rfl) rfl
theorem q1078 : (Jvm.Cond.selects "CrossingWords$Offer" ({ cls := "CrossingWords$Saying", name := "isNo", desc := "(LCrossingWords$Rules;)Z" } : Jvm.MethodName) ({ cls := "CrossingWords$Saying", name := "isNo", desc := "(LCrossingWords$Rules;)Z" } : Jvm.MethodName)) ∈ lw_all := lw_g (lw_at lw_m5 24 rfl) rfl
theorem q1098 : (Jvm.Cond.selects "CrossingWords$Offer" ({ cls := "CrossingWords$Saying", name := "isYes", desc := "(LCrossingWords$Rules;)Z" } : Jvm.MethodName) ({ cls := "CrossingWords$Saying", name := "isYes", desc := "(LCrossingWords$Rules;)Z" } : Jvm.MethodName)) ∈ lw_all := lw_g (lw_at lw_m5 44 rfl) rfl
theorem q1139 : (Jvm.Cond.selects "CrossingWords$Offer" ({ cls := "CrossingWords$Saying", name := "answers", desc := "()Z" } : Jvm.MethodName) ({ cls := "CrossingWords$Saying", name := "answers", desc := "()Z" } : Jvm.MethodName)) ∈ lw_all := lw_g (lw_at lw_m5 85 rfl) rfl
theorem q1159 : (Jvm.Cond.selects "CrossingWords$Offer" ({ cls := "CrossingWords$Saying", name := "term", desc := "(I)I" } : Jvm.MethodName) ({ cls := "CrossingWords$Saying", name := "term", desc := "(I)I" } : Jvm.MethodName)) ∈ lw_all := lw_g (lw_at lw_m5 105 rfl) rfl
theorem q1938 : (Jvm.Cond.castable "CrossingWords$Offer" "CrossingWords$Saying") ∈ lw_tbl := lw_at lw_m8 164 rfl
theorem in_X8 : ∀ w ∈ wsX80, w ∈ lw_all := lw_in wsX80 [506, 507, 508, 498, 500, 502, 504] (by decide +kernel) (by decide +kernel)
/-! CrossingWords$Answer -/
set_option maxRecDepth 100000
def RX9 : String := "CrossingWords$Answer"
abbrev cX9_said : ByteArray := prog_2_method_2_code
def yX9_said : MethodName := ⟨RX9, "said", "()LCrossingWords$Saying;"⟩
theorem dX9_said_0 : decode cX9_said 0 = .ok (.aload_n 0, 1) := by decide +kernel
theorem dX9_said_1 : decode cX9_said 1 = .ok (.getfield 7, 3) := by decide +kernel
theorem dX9_said_4 : decode cX9_said 4 = .ok (.areturn, 1) := by decide +kernel
abbrev cX9_init : ByteArray := prog_2_method_1_code
def yX9_init : MethodName := ⟨RX9, "<init>", "(IILCrossingWords$Saying;)V"⟩
def dkwX9_init_0 : List UInt8 := [42, 27, 28, 183, 0, 1, 42, 45, 181, 0, 7, 177]
abbrev dktX9_init_0 : List UInt8 := dkwX9_init_0 ++ []
theorem dksX9_init_0 : cX9_init.data.toList.drop 0 = dktX9_init_0 := by decide +kernel
theorem dX9_init_0 : decode cX9_init 0 = .ok (.aload_n 0, 1) := dk_42 (dk_at dksX9_init_0 0 rfl rfl)
theorem dX9_init_1 : decode cX9_init 1 = .ok (.iload_n 1, 1) := dk_27 (dk_at dksX9_init_0 1 rfl rfl)
theorem dX9_init_2 : decode cX9_init 2 = .ok (.iload_n 2, 1) := dk_28 (dk_at dksX9_init_0 2 rfl rfl)
theorem dX9_init_3 : decode cX9_init 3 = .ok (.invokespecial 1, 3) := dk_183 0 1 (dk_at dksX9_init_0 3 rfl rfl)
theorem dX9_init_6 : decode cX9_init 6 = .ok (.aload_n 0, 1) := dk_42 (dk_at dksX9_init_0 6 rfl rfl)
theorem dX9_init_7 : decode cX9_init 7 = .ok (.aload_n 3, 1) := dk_45 (dk_at dksX9_init_0 7 rfl rfl)
theorem dX9_init_8 : decode cX9_init 8 = .ok (.putfield 7, 3) := dk_181 0 7 (dk_at dksX9_init_0 8 rfl rfl)
theorem dX9_init_11 : decode cX9_init 11 = .ok (.return_, 1) := dk_177 (dk_at dksX9_init_0 11 rfl rfl)
theorem q105 : (Jvm.Cond.initialized "CrossingWords$Answer") ∈ lw_all := lw_g (lw_at lw_m1 11 rfl) rfl
theorem q572 : (Jvm.Cond.declares ({ cls := "CrossingWords$Answer", name := "said", desc := "()LCrossingWords$Saying;" } : Jvm.MethodName)) ∈ lw_tbl := lw_at lw_m2 238 rfl
theorem q574 : (Jvm.Cond.instanceMethod ({ cls := "CrossingWords$Answer", name := "said", desc := "()LCrossingWords$Saying;" } : Jvm.MethodName)) ∈ lw_all := lw_g (lw_at lw_m3 0 rfl) rfl
theorem q575 : (Jvm.Cond.code ({ cls := "CrossingWords$Answer", name := "said", desc := "()LCrossingWords$Saying;" } : Jvm.MethodName) prog_2_method_2_code (1 : Nat) (Option.some (Jvm.ClassFile.FieldType.object "CrossingWords$Saying"))) ∈ lw_all := lw_g (lw_at lw_m3 1 rfl) rfl
theorem q599 : (Jvm.Cond.instanceMethod ({ cls := "CrossingWords$Answer", name := "<init>", desc := "(IILCrossingWords$Saying;)V" } : Jvm.MethodName)) ∈ lw_all := lw_g (lw_at lw_m3 25 rfl) rfl
theorem q600 : (Jvm.Cond.code ({ cls := "CrossingWords$Answer", name := "<init>", desc := "(IILCrossingWords$Saying;)V" } : Jvm.MethodName) prog_2_method_1_code (4 : Nat) (Option.none : Option Jvm.ClassFile.FieldType)) ∈ lw_all := lw_g (lw_at lw_m3 26 rfl) rfl
theorem q601 : (Jvm.Cond.methodLink "CrossingWords$Answer" (1 : Nat) ({ cls := "CrossingWords$Saying", name := "<init>", desc := "(II)V" } : Jvm.MethodName)) ∈ lw_all := lw_g (lw_at lw_m3 27 rfl) rfl
theorem q603 : (Jvm.Cond.fieldLink "CrossingWords$Answer" (7 : Nat) "CrossingWords$Answer" "said" "LCrossingWords$Saying;") ∈ lw_all := lw_g (lw_at lw_m3 29 rfl) rfl
theorem q607 : (Jvm.Cond.soleField "CrossingWords$Answer" "said") ∈ lw_all := lw_g (lw_at lw_m3 33 rfl) rfl
/-! CrossingWords$Yes -/
set_option maxRecDepth 100000
def RX10 : String := "CrossingWords$Yes"
def TX10 : u_T := fun k => match k with
  | 0 => ("CrossingWords$Answer", "said", "LCrossingWords$Saying;", true)
  | 1 => ("CrossingWords$Saying", "index", "I", true)
  | 2 => ("CrossingWords$Saying", "hand", "I", true)
  | _ => ("CrossingWords$Saying", "times", "LCrossingWords$Times;", false)
def tyX10 : Nat → FieldType := fun k => match k with
  | 0 => .object "CrossingWords$Saying"
  | 1 => .int
  | 2 => .int
  | _ => .object "CrossingWords$Times"
abbrev wsX100 : List Cond := u_ws RX10 TX10 4
theorem nmX10 : ∀ a, a < 4 → ∀ b, b < 4 → a ≠ b → (TX10 a).2.1 ≠ (TX10 b).2.1 := by decide +kernel
theorem tyX10_ok : ∀ k, k < 4 → parseFieldDescriptor (TX10 k).2.2.1 = some (tyX10 k) := by decide +kernel
abbrev cX10_kind : ByteArray := prog_21_method_2_code
def yX10_kind : MethodName := ⟨RX10, "kind", "()I"⟩
theorem dX10_kind_0 : decode cX10_kind 0 = .ok (.iconst 2, 1) := by decide +kernel
theorem dX10_kind_1 : decode cX10_kind 1 = .ok (.ireturn, 1) := by decide +kernel
abbrev cX10_init : ByteArray := prog_21_method_1_code
def yX10_init : MethodName := ⟨RX10, "<init>", "(IILCrossingWords$Saying;)V"⟩
def dkwX10_init_0 : List UInt8 := [42, 27, 28, 45, 183, 0, 3, 177]
abbrev dktX10_init_0 : List UInt8 := dkwX10_init_0 ++ []
theorem dksX10_init_0 : cX10_init.data.toList.drop 0 = dktX10_init_0 := by decide +kernel
theorem dX10_init_0 : decode cX10_init 0 = .ok (.aload_n 0, 1) := dk_42 (dk_at dksX10_init_0 0 rfl rfl)
theorem dX10_init_1 : decode cX10_init 1 = .ok (.iload_n 1, 1) := dk_27 (dk_at dksX10_init_0 1 rfl rfl)
theorem dX10_init_2 : decode cX10_init 2 = .ok (.iload_n 2, 1) := dk_28 (dk_at dksX10_init_0 2 rfl rfl)
theorem dX10_init_3 : decode cX10_init 3 = .ok (.aload_n 3, 1) := dk_45 (dk_at dksX10_init_0 3 rfl rfl)
theorem dX10_init_4 : decode cX10_init 4 = .ok (.invokespecial 3, 3) := dk_183 0 3 (dk_at dksX10_init_0 4 rfl rfl)
theorem dX10_init_7 : decode cX10_init 7 = .ok (.return_, 1) := dk_177 (dk_at dksX10_init_0 7 rfl rfl)
abbrev cX10_isYes : ByteArray := prog_21_method_3_code
def yX10_isYes : MethodName := ⟨RX10, "isYes", "(LCrossingWords$Rules;)Z"⟩
theorem dX10_isYes_0 : decode cX10_isYes 0 = .ok (.iconst 1, 1) := by decide +kernel
theorem dX10_isYes_1 : decode cX10_isYes 1 = .ok (.ireturn, 1) := by decide +kernel
abbrev cX10_answers : ByteArray := prog_21_method_4_code
def yX10_answers : MethodName := ⟨RX10, "answers", "()Z"⟩
theorem dX10_answers_0 : decode cX10_answers 0 = .ok (.iconst 1, 1) := by decide +kernel
theorem dX10_answers_1 : decode cX10_answers 1 = .ok (.ireturn, 1) := by decide +kernel
theorem q106 : (Jvm.Cond.initialized "CrossingWords$Yes") ∈ lw_all := lw_g (lw_at lw_m1 12 rfl) rfl
theorem q557 : (Jvm.Cond.selects "CrossingWords$Yes" ({ cls := "CrossingWords$Saying", name := "kind", desc := "()I" } : Jvm.MethodName) ({ cls := "CrossingWords$Yes", name := "kind", desc := "()I" } : Jvm.MethodName)) ∈ lw_all := lw_g (lw_at lw_m2 223 rfl) rfl
theorem q558 : (Jvm.Cond.instanceMethod ({ cls := "CrossingWords$Yes", name := "kind", desc := "()I" } : Jvm.MethodName)) ∈ lw_all := lw_g (lw_at lw_m2 224 rfl) rfl
theorem q559 : (Jvm.Cond.code ({ cls := "CrossingWords$Yes", name := "kind", desc := "()I" } : Jvm.MethodName) prog_21_method_2_code (1 : Nat) (Option.some Jvm.ClassFile.FieldType.int)) ∈ lw_all := lw_g (lw_at lw_m2 225 rfl) rfl
theorem q582 : (Jvm.Cond.selects "CrossingWords$Yes" ({ cls := "CrossingWords$Saying", name := "to", desc := "()I" } : Jvm.MethodName) ({ cls := "CrossingWords$Saying", name := "to", desc := "()I" } : Jvm.MethodName)) ∈ lw_all := lw_g (lw_at lw_m3 8 rfl) rfl
theorem q596 : (Jvm.Cond.instanceMethod ({ cls := "CrossingWords$Yes", name := "<init>", desc := "(IILCrossingWords$Saying;)V" } : Jvm.MethodName)) ∈ lw_all := lw_g (lw_at lw_m3 22 rfl) rfl
theorem q597 : (Jvm.Cond.code ({ cls := "CrossingWords$Yes", name := "<init>", desc := "(IILCrossingWords$Saying;)V" } : Jvm.MethodName) prog_21_method_1_code (4 : Nat) (Option.none : Option Jvm.ClassFile.FieldType)) ∈ lw_all := lw_g (lw_at lw_m3 23 rfl) rfl
theorem q598 : (Jvm.Cond.methodLink "CrossingWords$Yes" (3 : Nat) ({ cls := "CrossingWords$Answer", name := "<init>", desc := "(IILCrossingWords$Saying;)V" } : Jvm.MethodName)) ∈ lw_all := lw_g (lw_at lw_m3 24 rfl) rfl
theorem q613 : (Jvm.Cond.instantiable "CrossingWords$Yes" (4 : Nat)) ∈ lw_all := lw_g (lw_at lw_m3 39 rfl) rfl
theorem q615 : (Jvm.Cond.laysFinal "CrossingWords$Yes" "CrossingWords$Answer" "said" "LCrossingWords$Saying;") ∈ lw_all := lw_g (lw_at lw_m3 41 rfl) rfl
theorem q616 : (Jvm.Cond.laysFinal "CrossingWords$Yes" "CrossingWords$Saying" "index" "I") ∈ lw_all := lw_g (lw_at lw_m3 42 rfl) rfl
theorem q617 : (Jvm.Cond.laysFinal "CrossingWords$Yes" "CrossingWords$Saying" "hand" "I") ∈ lw_all := lw_g (lw_at lw_m3 43 rfl) rfl
theorem q618 : (Jvm.Cond.lays "CrossingWords$Yes" "CrossingWords$Saying" "times" "LCrossingWords$Times;") ∈ lw_all := lw_g (lw_at lw_m3 44 rfl) rfl
theorem q619 : (Jvm.Cond.superclass "CrossingWords$Yes" "CrossingWords$Answer") ∈ lw_all := lw_g (lw_at lw_m3 45 rfl) rfl
theorem q878 : (Jvm.Cond.selects "CrossingWords$Yes" ({ cls := "CrossingWords$Saying", name := "said", desc := "()LCrossingWords$Saying;" } : Jvm.MethodName) ({ cls := "CrossingWords$Answer", name := "said", desc := "()LCrossingWords$Saying;" } : Jvm.MethodName)) ∈ lw_all := lw_g (lw_at lw_m4 64 rfl) rfl
theorem q892 : (Jvm.Cond.selects "CrossingWords$Yes" ({ cls := "CrossingWords$Saying", name := "hold", desc := "()I" } : Jvm.MethodName) ({ cls := "CrossingWords$Saying", name := "hold", desc := "()I" } : Jvm.MethodName)) ∈ lw_all := lw_g (lw_at lw_m4 78 rfl) rfl
theorem q906 : (Jvm.Cond.selects "CrossingWords$Yes" ({ cls := "CrossingWords$Saying", name := "given", desc := "()I" } : Jvm.MethodName) ({ cls := "CrossingWords$Saying", name := "given", desc := "()I" } : Jvm.MethodName)) ∈ lw_all := lw_g (lw_at lw_m4 92 rfl) rfl
theorem q922 : (Jvm.Cond.selects "CrossingWords$Yes" ({ cls := "CrossingWords$Saying", name := "own", desc := "(I)I" } : Jvm.MethodName) ({ cls := "CrossingWords$Saying", name := "own", desc := "(I)I" } : Jvm.MethodName)) ∈ lw_all := lw_g (lw_at lw_m4 108 rfl) rfl
theorem q1030 : (Jvm.Cond.selects "CrossingWords$Yes" ({ cls := "CrossingWords$Saying", name := "isOffer", desc := "(LCrossingWords$Rules;)Z" } : Jvm.MethodName) ({ cls := "CrossingWords$Saying", name := "isOffer", desc := "(LCrossingWords$Rules;)Z" } : Jvm.MethodName)) ∈ lw_all := lw_g (lw_at lw_m4 216 rfl) rfl
theorem q1058 : (Jvm.Cond.selects "CrossingWords$Yes" ({ cls := "CrossingWords$Saying", name := "isSaid", desc := "(LCrossingWords$Saying;)Z" } : Jvm.MethodName) ({ cls := "CrossingWords$Saying", name := "isSaid", desc := "(LCrossingWords$Saying;)Z" } : Jvm.MethodName)) ∈ lw_all := lw_g (lw_at lw_m5 4 rfl) rfl
theorem q1080 : (Jvm.Cond.selects "CrossingWords$Yes" ({ cls := "CrossingWords$Saying", name := "isNo", desc := "(LCrossingWords$Rules;)Z" } : Jvm.MethodName) ({ cls := "CrossingWords$Saying", name := "isNo", desc := "(LCrossingWords$Rules;)Z" } : Jvm.MethodName)) ∈ lw_all := lw_g (lw_at lw_m5 26 rfl) rfl
theorem q1100 : (Jvm.Cond.selects "CrossingWords$Yes" ({ cls := "CrossingWords$Saying", name := "isYes", desc := "(LCrossingWords$Rules;)Z" } : Jvm.MethodName) ({ cls := "CrossingWords$Yes", name := "isYes", desc := "(LCrossingWords$Rules;)Z" } : Jvm.MethodName)) ∈ lw_all := lw_g (lw_at lw_m5 46 rfl) rfl
theorem q1101 : (Jvm.Cond.instanceMethod ({ cls := "CrossingWords$Yes", name := "isYes", desc := "(LCrossingWords$Rules;)Z" } : Jvm.MethodName)) ∈ lw_all := lw_g (lw_at lw_m5 47 rfl) rfl
theorem q1102 : (Jvm.Cond.code ({ cls := "CrossingWords$Yes", name := "isYes", desc := "(LCrossingWords$Rules;)Z" } : Jvm.MethodName) prog_21_method_3_code (2 : Nat) (Option.some Jvm.ClassFile.FieldType.boolean)) ∈ lw_all := lw_g (lw_at lw_m5 48 rfl) rfl
theorem q1133 : (Jvm.Cond.instanceMethod ({ cls := "CrossingWords$Yes", name := "answers", desc := "()Z" } : Jvm.MethodName)) ∈ lw_all := lw_g (lw_at lw_m5 79 rfl) rfl
theorem q1134 : (Jvm.Cond.code ({ cls := "CrossingWords$Yes", name := "answers", desc := "()Z" } : Jvm.MethodName) prog_21_method_4_code (1 : Nat) (Option.some Jvm.ClassFile.FieldType.boolean)) ∈ lw_all := lw_g (lw_at lw_m5 80 rfl) rfl
theorem q1141 : (Jvm.Cond.selects "CrossingWords$Yes" ({ cls := "CrossingWords$Saying", name := "answers", desc := "()Z" } : Jvm.MethodName) ({ cls := "CrossingWords$Yes", name := "answers", desc := "()Z" } : Jvm.MethodName)) ∈ lw_all := lw_g (lw_at lw_m5 87 rfl) rfl
theorem q1161 : (Jvm.Cond.selects "CrossingWords$Yes" ({ cls := "CrossingWords$Saying", name := "term", desc := "(I)I" } : Jvm.MethodName) ({ cls := "CrossingWords$Saying", name := "term", desc := "(I)I" } : Jvm.MethodName)) ∈ lw_all := lw_g (lw_at lw_m5 107 rfl) rfl
theorem q1940 : (Jvm.Cond.castable "CrossingWords$Yes" "CrossingWords$Saying") ∈ lw_tbl := lw_at lw_m8 166 rfl
theorem in_X10 : ∀ w ∈ wsX100, w ∈ lw_all := lw_in wsX100 [615, 616, 617, 618] (by decide +kernel) (by decide +kernel)
/-! CrossingWords$But -/
set_option maxRecDepth 100000
def RX11 : String := "CrossingWords$But"
def TX11 : u_T := fun k => match k with
  | 0 => ("CrossingWords$Answer", "said", "LCrossingWords$Saying;", true)
  | 1 => ("CrossingWords$Saying", "index", "I", true)
  | 2 => ("CrossingWords$Saying", "hand", "I", true)
  | 3 => ("CrossingWords$Saying", "times", "LCrossingWords$Times;", false)
  | _ => ("CrossingWords$But", "terms", "[I", true)
def tyX11 : Nat → FieldType := fun k => match k with
  | 0 => .object "CrossingWords$Saying"
  | 1 => .int
  | 2 => .int
  | 3 => .object "CrossingWords$Times"
  | _ => .array .int
abbrev wsX110 : List Cond := u_ws RX11 TX11 5
theorem nmX11 : ∀ a, a < 5 → ∀ b, b < 5 → a ≠ b → (TX11 a).2.1 ≠ (TX11 b).2.1 := by decide +kernel
theorem tyX11_ok : ∀ k, k < 5 → parseFieldDescriptor (TX11 k).2.2.1 = some (tyX11 k) := by decide +kernel
abbrev cX11_kind : ByteArray := prog_5_method_2_code
def yX11_kind : MethodName := ⟨RX11, "kind", "()I"⟩
theorem dX11_kind_0 : decode cX11_kind 0 = .ok (.iconst 3, 1) := by decide +kernel
theorem dX11_kind_1 : decode cX11_kind 1 = .ok (.ireturn, 1) := by decide +kernel
abbrev cX11_to : ByteArray := prog_5_method_3_code
def yX11_to : MethodName := ⟨RX11, "to", "()I"⟩
def dkwX11_to_0 : List UInt8 := [42, 182, 0, 15, 180, 0, 19, 172]
abbrev dktX11_to_0 : List UInt8 := dkwX11_to_0 ++ []
theorem dksX11_to_0 : cX11_to.data.toList.drop 0 = dktX11_to_0 := by decide +kernel
theorem dX11_to_0 : decode cX11_to 0 = .ok (.aload_n 0, 1) := dk_42 (dk_at dksX11_to_0 0 rfl rfl)
theorem dX11_to_1 : decode cX11_to 1 = .ok (.invokevirtual 15, 3) := dk_182 0 15 (dk_at dksX11_to_0 1 rfl rfl)
theorem dX11_to_4 : decode cX11_to 4 = .ok (.getfield 19, 3) := dk_180 0 19 (dk_at dksX11_to_0 4 rfl rfl)
theorem dX11_to_7 : decode cX11_to 7 = .ok (.ireturn, 1) := dk_172 (dk_at dksX11_to_0 7 rfl rfl)
abbrev cX11_init : ByteArray := prog_5_method_1_code
def yX11_init : MethodName := ⟨RX11, "<init>", "(IILCrossingWords$Saying;[I)V"⟩
def dkwX11_init_0 : List UInt8 := [42, 27, 28, 45, 183, 0, 3, 42, 25, 4, 181, 0, 9, 177]
abbrev dktX11_init_0 : List UInt8 := dkwX11_init_0 ++ []
theorem dksX11_init_0 : cX11_init.data.toList.drop 0 = dktX11_init_0 := by decide +kernel
theorem dX11_init_0 : decode cX11_init 0 = .ok (.aload_n 0, 1) := dk_42 (dk_at dksX11_init_0 0 rfl rfl)
theorem dX11_init_1 : decode cX11_init 1 = .ok (.iload_n 1, 1) := dk_27 (dk_at dksX11_init_0 1 rfl rfl)
theorem dX11_init_2 : decode cX11_init 2 = .ok (.iload_n 2, 1) := dk_28 (dk_at dksX11_init_0 2 rfl rfl)
theorem dX11_init_3 : decode cX11_init 3 = .ok (.aload_n 3, 1) := dk_45 (dk_at dksX11_init_0 3 rfl rfl)
theorem dX11_init_4 : decode cX11_init 4 = .ok (.invokespecial 3, 3) := dk_183 0 3 (dk_at dksX11_init_0 4 rfl rfl)
theorem dX11_init_7 : decode cX11_init 7 = .ok (.aload_n 0, 1) := dk_42 (dk_at dksX11_init_0 7 rfl rfl)
theorem dX11_init_8 : decode cX11_init 8 = .ok (.aload 4, 2) := dk_25 4 (dk_at dksX11_init_0 8 rfl rfl)
theorem dX11_init_10 : decode cX11_init 10 = .ok (.putfield 9, 3) := dk_181 0 9 (dk_at dksX11_init_0 10 rfl rfl)
theorem dX11_init_13 : decode cX11_init 13 = .ok (.return_, 1) := dk_177 (dk_at dksX11_init_0 13 rfl rfl)
abbrev cX11_own : ByteArray := prog_5_method_4_code
def yX11_own : MethodName := ⟨RX11, "own", "(I)I"⟩
def dkwX11_own_0 : List UInt8 := [42, 180, 0, 9, 27, 46, 172]
abbrev dktX11_own_0 : List UInt8 := dkwX11_own_0 ++ []
theorem dksX11_own_0 : cX11_own.data.toList.drop 0 = dktX11_own_0 := by decide +kernel
theorem dX11_own_0 : decode cX11_own 0 = .ok (.aload_n 0, 1) := dk_42 (dk_at dksX11_own_0 0 rfl rfl)
theorem dX11_own_1 : decode cX11_own 1 = .ok (.getfield 9, 3) := dk_180 0 9 (dk_at dksX11_own_0 1 rfl rfl)
theorem dX11_own_4 : decode cX11_own 4 = .ok (.iload_n 1, 1) := dk_27 (dk_at dksX11_own_0 4 rfl rfl)
theorem dX11_own_5 : decode cX11_own 5 = .ok (.iaload, 1) := dk_46 (dk_at dksX11_own_0 5 rfl rfl)
theorem dX11_own_6 : decode cX11_own 6 = .ok (.ireturn, 1) := dk_172 (dk_at dksX11_own_0 6 rfl rfl)
abbrev cX11_isOffer : ByteArray := prog_5_method_8_code
def yX11_isOffer : MethodName := ⟨RX11, "isOffer", "(LCrossingWords$Rules;)Z"⟩
def dkwX11_isOffer_0 : List UInt8 := [42, 43, 182, 0, 35, 154, 0, 7, 4, 167, 0, 4, 3, 172]
abbrev dktX11_isOffer_0 : List UInt8 := dkwX11_isOffer_0 ++ []
theorem dksX11_isOffer_0 : cX11_isOffer.data.toList.drop 0 = dktX11_isOffer_0 := by decide +kernel
theorem dX11_isOffer_0 : decode cX11_isOffer 0 = .ok (.aload_n 0, 1) := dk_42 (dk_at dksX11_isOffer_0 0 rfl rfl)
theorem dX11_isOffer_1 : decode cX11_isOffer 1 = .ok (.aload_n 1, 1) := dk_43 (dk_at dksX11_isOffer_0 1 rfl rfl)
theorem dX11_isOffer_2 : decode cX11_isOffer 2 = .ok (.invokevirtual 35, 3) := dk_182 0 35 (dk_at dksX11_isOffer_0 2 rfl rfl)
theorem dX11_isOffer_5 : decode cX11_isOffer 5 = .ok (.ifCond .ne 7, 3) := dk_154 0 7 (dk_at dksX11_isOffer_0 5 rfl rfl)
theorem dX11_isOffer_8 : decode cX11_isOffer 8 = .ok (.iconst 1, 1) := dk_4 (dk_at dksX11_isOffer_0 8 rfl rfl)
theorem dX11_isOffer_9 : decode cX11_isOffer 9 = .ok (.goto 4, 3) := dk_167 0 4 (dk_at dksX11_isOffer_0 9 rfl rfl)
theorem dX11_isOffer_12 : decode cX11_isOffer 12 = .ok (.iconst 0, 1) := dk_3 (dk_at dksX11_isOffer_0 12 rfl rfl)
theorem dX11_isOffer_13 : decode cX11_isOffer 13 = .ok (.ireturn, 1) := dk_172 (dk_at dksX11_isOffer_0 13 rfl rfl)
abbrev cX11_isSmall : ByteArray := prog_5_method_6_code
def yX11_isSmall : MethodName := ⟨RX11, "isSmall", "(LCrossingWords$Rules;)Z"⟩
def dkwX11_isSmall_1 : List UInt8 := [160, 0, 7, 4, 167, 0, 4, 3, 61, 132, 3, 1, 167, 255, 228, 28, 172]
abbrev dktX11_isSmall_1 : List UInt8 := dkwX11_isSmall_1 ++ []
def dkwX11_isSmall_0 : List UInt8 := [43, 182, 0, 29, 61, 3, 62, 29, 6, 162, 0, 29, 28, 153, 0, 17, 42, 180, 0, 9, 29, 46, 2]
abbrev dktX11_isSmall_0 : List UInt8 := dkwX11_isSmall_0 ++ dktX11_isSmall_1
theorem dksX11_isSmall_0 : cX11_isSmall.data.toList.drop 0 = dktX11_isSmall_0 := by decide +kernel
theorem dksX11_isSmall_1 : cX11_isSmall.data.toList.drop 23 = dktX11_isSmall_1 := dk_seg dksX11_isSmall_0 23 rfl rfl
theorem dX11_isSmall_0 : decode cX11_isSmall 0 = .ok (.aload_n 1, 1) := dk_43 (dk_at dksX11_isSmall_0 0 rfl rfl)
theorem dX11_isSmall_1 : decode cX11_isSmall 1 = .ok (.invokevirtual 29, 3) := dk_182 0 29 (dk_at dksX11_isSmall_0 1 rfl rfl)
theorem dX11_isSmall_4 : decode cX11_isSmall 4 = .ok (.istore_n 2, 1) := dk_61 (dk_at dksX11_isSmall_0 4 rfl rfl)
theorem dX11_isSmall_5 : decode cX11_isSmall 5 = .ok (.iconst 0, 1) := dk_3 (dk_at dksX11_isSmall_0 5 rfl rfl)
theorem dX11_isSmall_6 : decode cX11_isSmall 6 = .ok (.istore_n 3, 1) := dk_62 (dk_at dksX11_isSmall_0 6 rfl rfl)
theorem dX11_isSmall_7 : decode cX11_isSmall 7 = .ok (.iload_n 3, 1) := dk_29 (dk_at dksX11_isSmall_0 7 rfl rfl)
theorem dX11_isSmall_8 : decode cX11_isSmall 8 = .ok (.iconst 3, 1) := dk_6 (dk_at dksX11_isSmall_0 8 rfl rfl)
theorem dX11_isSmall_9 : decode cX11_isSmall 9 = .ok (.if_icmp .ge 29, 3) := dk_162 0 29 (dk_at dksX11_isSmall_0 9 rfl rfl)
theorem dX11_isSmall_12 : decode cX11_isSmall 12 = .ok (.iload_n 2, 1) := dk_28 (dk_at dksX11_isSmall_0 12 rfl rfl)
theorem dX11_isSmall_13 : decode cX11_isSmall 13 = .ok (.ifCond .eq 17, 3) := dk_153 0 17 (dk_at dksX11_isSmall_0 13 rfl rfl)
theorem dX11_isSmall_16 : decode cX11_isSmall 16 = .ok (.aload_n 0, 1) := dk_42 (dk_at dksX11_isSmall_0 16 rfl rfl)
theorem dX11_isSmall_17 : decode cX11_isSmall 17 = .ok (.getfield 9, 3) := dk_180 0 9 (dk_at dksX11_isSmall_0 17 rfl rfl)
theorem dX11_isSmall_20 : decode cX11_isSmall 20 = .ok (.iload_n 3, 1) := dk_29 (dk_at dksX11_isSmall_0 20 rfl rfl)
theorem dX11_isSmall_21 : decode cX11_isSmall 21 = .ok (.iaload, 1) := dk_46 (dk_at dksX11_isSmall_0 21 rfl rfl)
theorem dX11_isSmall_22 : decode cX11_isSmall 22 = .ok (.iconst (-1), 1) := dk_2 (dk_at dksX11_isSmall_0 22 rfl rfl)
theorem dX11_isSmall_23 : decode cX11_isSmall 23 = .ok (.if_icmp .ne 7, 3) := dk_160 0 7 (dk_at dksX11_isSmall_1 0 rfl rfl)
theorem dX11_isSmall_26 : decode cX11_isSmall 26 = .ok (.iconst 1, 1) := dk_4 (dk_at dksX11_isSmall_1 3 rfl rfl)
theorem dX11_isSmall_27 : decode cX11_isSmall 27 = .ok (.goto 4, 3) := dk_167 0 4 (dk_at dksX11_isSmall_1 4 rfl rfl)
theorem dX11_isSmall_30 : decode cX11_isSmall 30 = .ok (.iconst 0, 1) := dk_3 (dk_at dksX11_isSmall_1 7 rfl rfl)
theorem dX11_isSmall_31 : decode cX11_isSmall 31 = .ok (.istore_n 2, 1) := dk_61 (dk_at dksX11_isSmall_1 8 rfl rfl)
theorem dX11_isSmall_32 : decode cX11_isSmall 32 = .ok (.iinc 3 1, 3) := dk_132 3 1 (dk_at dksX11_isSmall_1 9 rfl rfl)
theorem dX11_isSmall_35 : decode cX11_isSmall 35 = .ok (.goto (-28), 3) := dk_167 255 228 (dk_at dksX11_isSmall_1 12 rfl rfl)
theorem dX11_isSmall_38 : decode cX11_isSmall 38 = .ok (.iload_n 2, 1) := dk_28 (dk_at dksX11_isSmall_1 15 rfl rfl)
theorem dX11_isSmall_39 : decode cX11_isSmall 39 = .ok (.ireturn, 1) := dk_172 (dk_at dksX11_isSmall_1 16 rfl rfl)
abbrev cX11_isNo : ByteArray := prog_5_method_9_code
def yX11_isNo : MethodName := ⟨RX11, "isNo", "(LCrossingWords$Rules;)Z"⟩
def dkwX11_isNo_0 : List UInt8 := [42, 43, 182, 0, 35, 154, 0, 7, 4, 167, 0, 4, 3, 172]
abbrev dktX11_isNo_0 : List UInt8 := dkwX11_isNo_0 ++ []
theorem dksX11_isNo_0 : cX11_isNo.data.toList.drop 0 = dktX11_isNo_0 := by decide +kernel
theorem dX11_isNo_0 : decode cX11_isNo 0 = .ok (.aload_n 0, 1) := dk_42 (dk_at dksX11_isNo_0 0 rfl rfl)
theorem dX11_isNo_1 : decode cX11_isNo 1 = .ok (.aload_n 1, 1) := dk_43 (dk_at dksX11_isNo_0 1 rfl rfl)
theorem dX11_isNo_2 : decode cX11_isNo 2 = .ok (.invokevirtual 35, 3) := dk_182 0 35 (dk_at dksX11_isNo_0 2 rfl rfl)
theorem dX11_isNo_5 : decode cX11_isNo 5 = .ok (.ifCond .ne 7, 3) := dk_154 0 7 (dk_at dksX11_isNo_0 5 rfl rfl)
theorem dX11_isNo_8 : decode cX11_isNo 8 = .ok (.iconst 1, 1) := dk_4 (dk_at dksX11_isNo_0 8 rfl rfl)
theorem dX11_isNo_9 : decode cX11_isNo 9 = .ok (.goto 4, 3) := dk_167 0 4 (dk_at dksX11_isNo_0 9 rfl rfl)
theorem dX11_isNo_12 : decode cX11_isNo 12 = .ok (.iconst 0, 1) := dk_3 (dk_at dksX11_isNo_0 12 rfl rfl)
theorem dX11_isNo_13 : decode cX11_isNo 13 = .ok (.ireturn, 1) := dk_172 (dk_at dksX11_isNo_0 13 rfl rfl)
abbrev cX11_isYes : ByteArray := prog_5_method_7_code
def yX11_isYes : MethodName := ⟨RX11, "isYes", "(LCrossingWords$Rules;)Z"⟩
def dkwX11_isYes_0 : List UInt8 := [42, 43, 182, 0, 35, 172]
abbrev dktX11_isYes_0 : List UInt8 := dkwX11_isYes_0 ++ []
theorem dksX11_isYes_0 : cX11_isYes.data.toList.drop 0 = dktX11_isYes_0 := by decide +kernel
theorem dX11_isYes_0 : decode cX11_isYes 0 = .ok (.aload_n 0, 1) := dk_42 (dk_at dksX11_isYes_0 0 rfl rfl)
theorem dX11_isYes_1 : decode cX11_isYes 1 = .ok (.aload_n 1, 1) := dk_43 (dk_at dksX11_isYes_0 1 rfl rfl)
theorem dX11_isYes_2 : decode cX11_isYes 2 = .ok (.invokevirtual 35, 3) := dk_182 0 35 (dk_at dksX11_isYes_0 2 rfl rfl)
theorem dX11_isYes_5 : decode cX11_isYes 5 = .ok (.ireturn, 1) := dk_172 (dk_at dksX11_isYes_0 5 rfl rfl)
abbrev cX11_term : ByteArray := prog_5_method_5_code
def yX11_term : MethodName := ⟨RX11, "term", "(I)I"⟩
def dkwX11_term_1 : List UInt8 := [182, 0, 25, 172]
abbrev dktX11_term_1 : List UInt8 := dkwX11_term_1 ++ []
def dkwX11_term_0 : List UInt8 := [42, 180, 0, 9, 27, 46, 2, 159, 0, 12, 42, 180, 0, 9, 27, 46, 167, 0, 11, 42, 182, 0, 15, 27]
abbrev dktX11_term_0 : List UInt8 := dkwX11_term_0 ++ dktX11_term_1
theorem dksX11_term_0 : cX11_term.data.toList.drop 0 = dktX11_term_0 := by decide +kernel
theorem dksX11_term_1 : cX11_term.data.toList.drop 24 = dktX11_term_1 := dk_seg dksX11_term_0 24 rfl rfl
theorem dX11_term_0 : decode cX11_term 0 = .ok (.aload_n 0, 1) := dk_42 (dk_at dksX11_term_0 0 rfl rfl)
theorem dX11_term_1 : decode cX11_term 1 = .ok (.getfield 9, 3) := dk_180 0 9 (dk_at dksX11_term_0 1 rfl rfl)
theorem dX11_term_4 : decode cX11_term 4 = .ok (.iload_n 1, 1) := dk_27 (dk_at dksX11_term_0 4 rfl rfl)
theorem dX11_term_5 : decode cX11_term 5 = .ok (.iaload, 1) := dk_46 (dk_at dksX11_term_0 5 rfl rfl)
theorem dX11_term_6 : decode cX11_term 6 = .ok (.iconst (-1), 1) := dk_2 (dk_at dksX11_term_0 6 rfl rfl)
theorem dX11_term_7 : decode cX11_term 7 = .ok (.if_icmp .eq 12, 3) := dk_159 0 12 (dk_at dksX11_term_0 7 rfl rfl)
theorem dX11_term_10 : decode cX11_term 10 = .ok (.aload_n 0, 1) := dk_42 (dk_at dksX11_term_0 10 rfl rfl)
theorem dX11_term_11 : decode cX11_term 11 = .ok (.getfield 9, 3) := dk_180 0 9 (dk_at dksX11_term_0 11 rfl rfl)
theorem dX11_term_14 : decode cX11_term 14 = .ok (.iload_n 1, 1) := dk_27 (dk_at dksX11_term_0 14 rfl rfl)
theorem dX11_term_15 : decode cX11_term 15 = .ok (.iaload, 1) := dk_46 (dk_at dksX11_term_0 15 rfl rfl)
theorem dX11_term_16 : decode cX11_term 16 = .ok (.goto 11, 3) := dk_167 0 11 (dk_at dksX11_term_0 16 rfl rfl)
theorem dX11_term_19 : decode cX11_term 19 = .ok (.aload_n 0, 1) := dk_42 (dk_at dksX11_term_0 19 rfl rfl)
theorem dX11_term_20 : decode cX11_term 20 = .ok (.invokevirtual 15, 3) := dk_182 0 15 (dk_at dksX11_term_0 20 rfl rfl)
theorem dX11_term_23 : decode cX11_term 23 = .ok (.iload_n 1, 1) := dk_27 (dk_at dksX11_term_0 23 rfl rfl)
theorem dX11_term_24 : decode cX11_term 24 = .ok (.invokevirtual 25, 3) := dk_182 0 25 (dk_at dksX11_term_1 0 rfl rfl)
theorem dX11_term_27 : decode cX11_term 27 = .ok (.ireturn, 1) := dk_172 (dk_at dksX11_term_1 3 rfl rfl)
theorem q107 : (Jvm.Cond.initialized "CrossingWords$But") ∈ lw_all := lw_g (lw_at lw_m1 13 rfl) rfl
theorem q451 : (Jvm.Cond.fieldLink "CrossingWords$But" (19 : Nat) "CrossingWords$Saying" "hand" "I") ∈ lw_all := lw_g (lw_at lw_m2 117 rfl) rfl
theorem q542 : (Jvm.Cond.selects "CrossingWords$But" ({ cls := "CrossingWords$Saying", name := "kind", desc := "()I" } : Jvm.MethodName) ({ cls := "CrossingWords$But", name := "kind", desc := "()I" } : Jvm.MethodName)) ∈ lw_all := lw_g (lw_at lw_m2 208 rfl) rfl
theorem q543 : (Jvm.Cond.instanceMethod ({ cls := "CrossingWords$But", name := "kind", desc := "()I" } : Jvm.MethodName)) ∈ lw_all := lw_g (lw_at lw_m2 209 rfl) rfl
theorem q544 : (Jvm.Cond.code ({ cls := "CrossingWords$But", name := "kind", desc := "()I" } : Jvm.MethodName) prog_5_method_2_code (1 : Nat) (Option.some Jvm.ClassFile.FieldType.int)) ∈ lw_all := lw_g (lw_at lw_m2 210 rfl) rfl
theorem q567 : (Jvm.Cond.selects "CrossingWords$But" ({ cls := "CrossingWords$Saying", name := "to", desc := "()I" } : Jvm.MethodName) ({ cls := "CrossingWords$But", name := "to", desc := "()I" } : Jvm.MethodName)) ∈ lw_all := lw_g (lw_at lw_m2 233 rfl) rfl
theorem q568 : (Jvm.Cond.instanceMethod ({ cls := "CrossingWords$But", name := "to", desc := "()I" } : Jvm.MethodName)) ∈ lw_all := lw_g (lw_at lw_m2 234 rfl) rfl
theorem q569 : (Jvm.Cond.code ({ cls := "CrossingWords$But", name := "to", desc := "()I" } : Jvm.MethodName) prog_5_method_3_code (1 : Nat) (Option.some Jvm.ClassFile.FieldType.int)) ∈ lw_all := lw_g (lw_at lw_m2 235 rfl) rfl
theorem q570 : (Jvm.Cond.methodLink "CrossingWords$But" (15 : Nat) ({ cls := "CrossingWords$But", name := "said", desc := "()LCrossingWords$Saying;" } : Jvm.MethodName)) ∈ lw_all := lw_g (lw_at lw_m2 236 rfl) rfl
theorem q571 : (Jvm.Cond.sameMethod "CrossingWords$But" "CrossingWords$Answer" "said" "()LCrossingWords$Saying;") ∈ lw_all := lw_g (lw_at lw_m2 237 rfl) rfl
theorem q573 : (Jvm.Cond.selects "CrossingWords$But" ({ cls := "CrossingWords$But", name := "said", desc := "()LCrossingWords$Saying;" } : Jvm.MethodName) ({ cls := "CrossingWords$Answer", name := "said", desc := "()LCrossingWords$Saying;" } : Jvm.MethodName)) ∈ lw_all := lw_g (lw_at lw_m2 239 rfl) rfl
theorem q591 : (Jvm.Cond.instantiable "CrossingWords$But" (5 : Nat)) ∈ lw_all := lw_g (lw_at lw_m3 17 rfl) rfl
theorem q593 : (Jvm.Cond.instanceMethod ({ cls := "CrossingWords$But", name := "<init>", desc := "(IILCrossingWords$Saying;[I)V" } : Jvm.MethodName)) ∈ lw_all := lw_g (lw_at lw_m3 19 rfl) rfl
theorem q594 : (Jvm.Cond.code ({ cls := "CrossingWords$But", name := "<init>", desc := "(IILCrossingWords$Saying;[I)V" } : Jvm.MethodName) prog_5_method_1_code (5 : Nat) (Option.none : Option Jvm.ClassFile.FieldType)) ∈ lw_all := lw_g (lw_at lw_m3 20 rfl) rfl
theorem q595 : (Jvm.Cond.methodLink "CrossingWords$But" (3 : Nat) ({ cls := "CrossingWords$Yes", name := "<init>", desc := "(IILCrossingWords$Saying;)V" } : Jvm.MethodName)) ∈ lw_all := lw_g (lw_at lw_m3 21 rfl) rfl
theorem q602 : (Jvm.Cond.fieldLink "CrossingWords$But" (9 : Nat) "CrossingWords$But" "terms" "[I") ∈ lw_all := lw_g (lw_at lw_m3 28 rfl) rfl
theorem q604 : (Jvm.Cond.laysFinal "CrossingWords$But" "CrossingWords$But" "terms" "[I") ∈ lw_all := lw_g (lw_at lw_m3 30 rfl) rfl
theorem q605 : (Jvm.Cond.soleField "CrossingWords$But" "terms") ∈ lw_all := lw_g (lw_at lw_m3 31 rfl) rfl
theorem q606 : (Jvm.Cond.laysFinal "CrossingWords$But" "CrossingWords$Answer" "said" "LCrossingWords$Saying;") ∈ lw_all := lw_g (lw_at lw_m3 32 rfl) rfl
theorem q608 : (Jvm.Cond.laysFinal "CrossingWords$But" "CrossingWords$Saying" "index" "I") ∈ lw_all := lw_g (lw_at lw_m3 34 rfl) rfl
theorem q609 : (Jvm.Cond.laysFinal "CrossingWords$But" "CrossingWords$Saying" "hand" "I") ∈ lw_all := lw_g (lw_at lw_m3 35 rfl) rfl
theorem q610 : (Jvm.Cond.lays "CrossingWords$But" "CrossingWords$Saying" "times" "LCrossingWords$Times;") ∈ lw_all := lw_g (lw_at lw_m3 36 rfl) rfl
theorem q611 : (Jvm.Cond.superclass "CrossingWords$But" "CrossingWords$Yes") ∈ lw_all := lw_g (lw_at lw_m3 37 rfl) rfl
theorem q873 : (Jvm.Cond.selects "CrossingWords$But" ({ cls := "CrossingWords$Saying", name := "said", desc := "()LCrossingWords$Saying;" } : Jvm.MethodName) ({ cls := "CrossingWords$Answer", name := "said", desc := "()LCrossingWords$Saying;" } : Jvm.MethodName)) ∈ lw_all := lw_g (lw_at lw_m4 59 rfl) rfl
theorem q885 : (Jvm.Cond.selects "CrossingWords$But" ({ cls := "CrossingWords$Saying", name := "hold", desc := "()I" } : Jvm.MethodName) ({ cls := "CrossingWords$Saying", name := "hold", desc := "()I" } : Jvm.MethodName)) ∈ lw_all := lw_g (lw_at lw_m4 71 rfl) rfl
theorem q899 : (Jvm.Cond.selects "CrossingWords$But" ({ cls := "CrossingWords$Saying", name := "given", desc := "()I" } : Jvm.MethodName) ({ cls := "CrossingWords$Saying", name := "given", desc := "()I" } : Jvm.MethodName)) ∈ lw_all := lw_g (lw_at lw_m4 85 rfl) rfl
theorem q913 : (Jvm.Cond.selects "CrossingWords$But" ({ cls := "CrossingWords$Saying", name := "own", desc := "(I)I" } : Jvm.MethodName) ({ cls := "CrossingWords$But", name := "own", desc := "(I)I" } : Jvm.MethodName)) ∈ lw_all := lw_g (lw_at lw_m4 99 rfl) rfl
theorem q914 : (Jvm.Cond.instanceMethod ({ cls := "CrossingWords$But", name := "own", desc := "(I)I" } : Jvm.MethodName)) ∈ lw_all := lw_g (lw_at lw_m4 100 rfl) rfl
theorem q915 : (Jvm.Cond.code ({ cls := "CrossingWords$But", name := "own", desc := "(I)I" } : Jvm.MethodName) prog_5_method_4_code (2 : Nat) (Option.some Jvm.ClassFile.FieldType.int)) ∈ lw_all := lw_g (lw_at lw_m4 101 rfl) rfl
theorem q1013 : (Jvm.Cond.selects "CrossingWords$But" ({ cls := "CrossingWords$Saying", name := "isOffer", desc := "(LCrossingWords$Rules;)Z" } : Jvm.MethodName) ({ cls := "CrossingWords$But", name := "isOffer", desc := "(LCrossingWords$Rules;)Z" } : Jvm.MethodName)) ∈ lw_all := lw_g (lw_at lw_m4 199 rfl) rfl
theorem q1014 : (Jvm.Cond.instanceMethod ({ cls := "CrossingWords$But", name := "isOffer", desc := "(LCrossingWords$Rules;)Z" } : Jvm.MethodName)) ∈ lw_all := lw_g (lw_at lw_m4 200 rfl) rfl
theorem q1015 : (Jvm.Cond.code ({ cls := "CrossingWords$But", name := "isOffer", desc := "(LCrossingWords$Rules;)Z" } : Jvm.MethodName) prog_5_method_8_code (2 : Nat) (Option.some Jvm.ClassFile.FieldType.boolean)) ∈ lw_all := lw_g (lw_at lw_m4 201 rfl) rfl
theorem q1016 : (Jvm.Cond.methodLink "CrossingWords$But" (35 : Nat) ({ cls := "CrossingWords$But", name := "isSmall", desc := "(LCrossingWords$Rules;)Z" } : Jvm.MethodName)) ∈ lw_all := lw_g (lw_at lw_m4 202 rfl) rfl
theorem q1017 : (Jvm.Cond.privateMethod ({ cls := "CrossingWords$But", name := "isSmall", desc := "(LCrossingWords$Rules;)Z" } : Jvm.MethodName)) ∈ lw_tbl := lw_at lw_m4 203 rfl
theorem q1018 : (Jvm.Cond.instanceMethod ({ cls := "CrossingWords$But", name := "isSmall", desc := "(LCrossingWords$Rules;)Z" } : Jvm.MethodName)) ∈ lw_all := lw_g (lw_at lw_m4 204 rfl) rfl
theorem q1019 : (Jvm.Cond.code ({ cls := "CrossingWords$But", name := "isSmall", desc := "(LCrossingWords$Rules;)Z" } : Jvm.MethodName) prog_5_method_6_code (4 : Nat) (Option.some Jvm.ClassFile.FieldType.boolean)) ∈ lw_all := lw_g (lw_at lw_m4 205 rfl) rfl
theorem q1020 : (Jvm.Cond.methodLink "CrossingWords$But" (29 : Nat) ({ cls := "CrossingWords$Rules", name := "isSmall", desc := "()Z" } : Jvm.MethodName)) ∈ lw_all := lw_g (lw_at lw_m4 206 rfl) rfl
theorem q1053 : (Jvm.Cond.selects "CrossingWords$But" ({ cls := "CrossingWords$Saying", name := "isSaid", desc := "(LCrossingWords$Saying;)Z" } : Jvm.MethodName) ({ cls := "CrossingWords$Saying", name := "isSaid", desc := "(LCrossingWords$Saying;)Z" } : Jvm.MethodName)) ∈ lw_all := lw_g (lw_at lw_m4 239 rfl) rfl
theorem q1071 : (Jvm.Cond.selects "CrossingWords$But" ({ cls := "CrossingWords$Saying", name := "isNo", desc := "(LCrossingWords$Rules;)Z" } : Jvm.MethodName) ({ cls := "CrossingWords$But", name := "isNo", desc := "(LCrossingWords$Rules;)Z" } : Jvm.MethodName)) ∈ lw_all := lw_g (lw_at lw_m5 17 rfl) rfl
theorem q1072 : (Jvm.Cond.instanceMethod ({ cls := "CrossingWords$But", name := "isNo", desc := "(LCrossingWords$Rules;)Z" } : Jvm.MethodName)) ∈ lw_all := lw_g (lw_at lw_m5 18 rfl) rfl
theorem q1073 : (Jvm.Cond.code ({ cls := "CrossingWords$But", name := "isNo", desc := "(LCrossingWords$Rules;)Z" } : Jvm.MethodName) prog_5_method_9_code (2 : Nat) (Option.some Jvm.ClassFile.FieldType.boolean)) ∈ lw_all := lw_g (lw_at lw_m5 19 rfl) rfl
theorem q1087 : (Jvm.Cond.selects "CrossingWords$But" ({ cls := "CrossingWords$Saying", name := "isYes", desc := "(LCrossingWords$Rules;)Z" } : Jvm.MethodName) ({ cls := "CrossingWords$But", name := "isYes", desc := "(LCrossingWords$Rules;)Z" } : Jvm.MethodName)) ∈ lw_all := lw_g (lw_at lw_m5 33 rfl) rfl
theorem q1088 : (Jvm.Cond.instanceMethod ({ cls := "CrossingWords$But", name := "isYes", desc := "(LCrossingWords$Rules;)Z" } : Jvm.MethodName)) ∈ lw_all := lw_g (lw_at lw_m5 34 rfl) rfl
theorem q1089 : (Jvm.Cond.code ({ cls := "CrossingWords$But", name := "isYes", desc := "(LCrossingWords$Rules;)Z" } : Jvm.MethodName) prog_5_method_7_code (2 : Nat) (Option.some Jvm.ClassFile.FieldType.boolean)) ∈ lw_all := lw_g (lw_at lw_m5 35 rfl) rfl
theorem q1132 : (Jvm.Cond.selects "CrossingWords$But" ({ cls := "CrossingWords$Saying", name := "answers", desc := "()Z" } : Jvm.MethodName) ({ cls := "CrossingWords$Yes", name := "answers", desc := "()Z" } : Jvm.MethodName)) ∈ lw_all := lw_g (lw_at lw_m5 78 rfl) rfl
theorem q1153 : (Jvm.Cond.selects "CrossingWords$But" ({ cls := "CrossingWords$Saying", name := "term", desc := "(I)I" } : Jvm.MethodName) ({ cls := "CrossingWords$But", name := "term", desc := "(I)I" } : Jvm.MethodName)) ∈ lw_all := lw_g (lw_at lw_m5 99 rfl) rfl
theorem q1154 : (Jvm.Cond.instanceMethod ({ cls := "CrossingWords$But", name := "term", desc := "(I)I" } : Jvm.MethodName)) ∈ lw_all := lw_g (lw_at lw_m5 100 rfl) rfl
theorem q1155 : (Jvm.Cond.code ({ cls := "CrossingWords$But", name := "term", desc := "(I)I" } : Jvm.MethodName) prog_5_method_5_code (2 : Nat) (Option.some Jvm.ClassFile.FieldType.int)) ∈ lw_all := lw_g (lw_at lw_m5 101 rfl) rfl
theorem q1156 : (Jvm.Cond.methodLink "CrossingWords$But" (25 : Nat) ({ cls := "CrossingWords$Saying", name := "term", desc := "(I)I" } : Jvm.MethodName)) ∈ lw_all := lw_g (lw_at lw_m5 102 rfl) rfl
theorem q1939 : (Jvm.Cond.castable "CrossingWords$But" "CrossingWords$Saying") ∈ lw_tbl := lw_at lw_m8 165 rfl
theorem in_X11 : ∀ w ∈ wsX110, w ∈ lw_all := lw_in wsX110 [606, 608, 609, 610, 604] (by decide +kernel) (by decide +kernel)
/-! CrossingWords$No -/
set_option maxRecDepth 100000
def RX12 : String := "CrossingWords$No"
def TX12 : u_T := fun k => match k with
  | 0 => ("CrossingWords$Answer", "said", "LCrossingWords$Saying;", true)
  | 1 => ("CrossingWords$Saying", "index", "I", true)
  | 2 => ("CrossingWords$Saying", "hand", "I", true)
  | _ => ("CrossingWords$Saying", "times", "LCrossingWords$Times;", false)
def tyX12 : Nat → FieldType := fun k => match k with
  | 0 => .object "CrossingWords$Saying"
  | 1 => .int
  | 2 => .int
  | _ => .object "CrossingWords$Times"
abbrev wsX120 : List Cond := u_ws RX12 TX12 4
theorem nmX12 : ∀ a, a < 4 → ∀ b, b < 4 → a ≠ b → (TX12 a).2.1 ≠ (TX12 b).2.1 := by decide +kernel
theorem tyX12_ok : ∀ k, k < 4 → parseFieldDescriptor (TX12 k).2.2.1 = some (tyX12 k) := by decide +kernel
abbrev cX12_kind : ByteArray := prog_11_method_2_code
def yX12_kind : MethodName := ⟨RX12, "kind", "()I"⟩
theorem dX12_kind_0 : decode cX12_kind 0 = .ok (.iconst 4, 1) := by decide +kernel
theorem dX12_kind_1 : decode cX12_kind 1 = .ok (.ireturn, 1) := by decide +kernel
abbrev cX12_init : ByteArray := prog_11_method_1_code
def yX12_init : MethodName := ⟨RX12, "<init>", "(IILCrossingWords$Saying;)V"⟩
def dkwX12_init_0 : List UInt8 := [42, 27, 28, 45, 183, 0, 3, 177]
abbrev dktX12_init_0 : List UInt8 := dkwX12_init_0 ++ []
theorem dksX12_init_0 : cX12_init.data.toList.drop 0 = dktX12_init_0 := by decide +kernel
theorem dX12_init_0 : decode cX12_init 0 = .ok (.aload_n 0, 1) := dk_42 (dk_at dksX12_init_0 0 rfl rfl)
theorem dX12_init_1 : decode cX12_init 1 = .ok (.iload_n 1, 1) := dk_27 (dk_at dksX12_init_0 1 rfl rfl)
theorem dX12_init_2 : decode cX12_init 2 = .ok (.iload_n 2, 1) := dk_28 (dk_at dksX12_init_0 2 rfl rfl)
theorem dX12_init_3 : decode cX12_init 3 = .ok (.aload_n 3, 1) := dk_45 (dk_at dksX12_init_0 3 rfl rfl)
theorem dX12_init_4 : decode cX12_init 4 = .ok (.invokespecial 3, 3) := dk_183 0 3 (dk_at dksX12_init_0 4 rfl rfl)
theorem dX12_init_7 : decode cX12_init 7 = .ok (.return_, 1) := dk_177 (dk_at dksX12_init_0 7 rfl rfl)
abbrev cX12_isNo : ByteArray := prog_11_method_3_code
def yX12_isNo : MethodName := ⟨RX12, "isNo", "(LCrossingWords$Rules;)Z"⟩
theorem dX12_isNo_0 : decode cX12_isNo 0 = .ok (.iconst 1, 1) := by decide +kernel
theorem dX12_isNo_1 : decode cX12_isNo 1 = .ok (.ireturn, 1) := by decide +kernel
abbrev cX12_answers : ByteArray := prog_11_method_4_code
def yX12_answers : MethodName := ⟨RX12, "answers", "()Z"⟩
theorem dX12_answers_0 : decode cX12_answers 0 = .ok (.iconst 1, 1) := by decide +kernel
theorem dX12_answers_1 : decode cX12_answers 1 = .ok (.ireturn, 1) := by decide +kernel
theorem q108 : (Jvm.Cond.initialized "CrossingWords$No") ∈ lw_all := lw_g (lw_at lw_m1 14 rfl) rfl
theorem q548 : (Jvm.Cond.selects "CrossingWords$No" ({ cls := "CrossingWords$Saying", name := "kind", desc := "()I" } : Jvm.MethodName) ({ cls := "CrossingWords$No", name := "kind", desc := "()I" } : Jvm.MethodName)) ∈ lw_all := lw_g (lw_at lw_m2 214 rfl) rfl
theorem q549 : (Jvm.Cond.instanceMethod ({ cls := "CrossingWords$No", name := "kind", desc := "()I" } : Jvm.MethodName)) ∈ lw_all := lw_g (lw_at lw_m2 215 rfl) rfl
theorem q550 : (Jvm.Cond.code ({ cls := "CrossingWords$No", name := "kind", desc := "()I" } : Jvm.MethodName) prog_11_method_2_code (1 : Nat) (Option.some Jvm.ClassFile.FieldType.int)) ∈ lw_all := lw_g (lw_at lw_m2 216 rfl) rfl
theorem q577 : (Jvm.Cond.selects "CrossingWords$No" ({ cls := "CrossingWords$Saying", name := "to", desc := "()I" } : Jvm.MethodName) ({ cls := "CrossingWords$Saying", name := "to", desc := "()I" } : Jvm.MethodName)) ∈ lw_all := lw_g (lw_at lw_m3 3 rfl) rfl
theorem q621 : (Jvm.Cond.instantiable "CrossingWords$No" (4 : Nat)) ∈ lw_all := lw_g (lw_at lw_m3 47 rfl) rfl
theorem q623 : (Jvm.Cond.instanceMethod ({ cls := "CrossingWords$No", name := "<init>", desc := "(IILCrossingWords$Saying;)V" } : Jvm.MethodName)) ∈ lw_all := lw_g (lw_at lw_m3 49 rfl) rfl
theorem q624 : (Jvm.Cond.code ({ cls := "CrossingWords$No", name := "<init>", desc := "(IILCrossingWords$Saying;)V" } : Jvm.MethodName) prog_11_method_1_code (4 : Nat) (Option.none : Option Jvm.ClassFile.FieldType)) ∈ lw_all := lw_g (lw_at lw_m3 50 rfl) rfl
theorem q625 : (Jvm.Cond.methodLink "CrossingWords$No" (3 : Nat) ({ cls := "CrossingWords$Answer", name := "<init>", desc := "(IILCrossingWords$Saying;)V" } : Jvm.MethodName)) ∈ lw_all := lw_g (lw_at lw_m3 51 rfl) rfl
theorem q626 : (Jvm.Cond.laysFinal "CrossingWords$No" "CrossingWords$Answer" "said" "LCrossingWords$Saying;") ∈ lw_all := lw_g (lw_at lw_m3 52 rfl) rfl
theorem q627 : (Jvm.Cond.laysFinal "CrossingWords$No" "CrossingWords$Saying" "index" "I") ∈ lw_all := lw_g (lw_at lw_m3 53 rfl) rfl
theorem q628 : (Jvm.Cond.laysFinal "CrossingWords$No" "CrossingWords$Saying" "hand" "I") ∈ lw_all := lw_g (lw_at lw_m3 54 rfl) rfl
theorem q629 : (Jvm.Cond.lays "CrossingWords$No" "CrossingWords$Saying" "times" "LCrossingWords$Times;") ∈ lw_all := lw_g (lw_at lw_m3 55 rfl) rfl
theorem q630 : (Jvm.Cond.superclass "CrossingWords$No" "CrossingWords$Answer") ∈ lw_all := lw_g (lw_at lw_m3 56 rfl) rfl
theorem q875 : (Jvm.Cond.selects "CrossingWords$No" ({ cls := "CrossingWords$Saying", name := "said", desc := "()LCrossingWords$Saying;" } : Jvm.MethodName) ({ cls := "CrossingWords$Answer", name := "said", desc := "()LCrossingWords$Saying;" } : Jvm.MethodName)) ∈ lw_all := lw_g (lw_at lw_m4 61 rfl) rfl
theorem q887 : (Jvm.Cond.selects "CrossingWords$No" ({ cls := "CrossingWords$Saying", name := "hold", desc := "()I" } : Jvm.MethodName) ({ cls := "CrossingWords$Saying", name := "hold", desc := "()I" } : Jvm.MethodName)) ∈ lw_all := lw_g (lw_at lw_m4 73 rfl) rfl
theorem q901 : (Jvm.Cond.selects "CrossingWords$No" ({ cls := "CrossingWords$Saying", name := "given", desc := "()I" } : Jvm.MethodName) ({ cls := "CrossingWords$Saying", name := "given", desc := "()I" } : Jvm.MethodName)) ∈ lw_all := lw_g (lw_at lw_m4 87 rfl) rfl
theorem q917 : (Jvm.Cond.selects "CrossingWords$No" ({ cls := "CrossingWords$Saying", name := "own", desc := "(I)I" } : Jvm.MethodName) ({ cls := "CrossingWords$Saying", name := "own", desc := "(I)I" } : Jvm.MethodName)) ∈ lw_all := lw_g (lw_at lw_m4 103 rfl) rfl
theorem q1025 : (Jvm.Cond.selects "CrossingWords$No" ({ cls := "CrossingWords$Saying", name := "isOffer", desc := "(LCrossingWords$Rules;)Z" } : Jvm.MethodName) ({ cls := "CrossingWords$Saying", name := "isOffer", desc := "(LCrossingWords$Rules;)Z" } : Jvm.MethodName)) ∈ lw_all := lw_g (lw_at lw_m4 211 rfl) rfl
theorem q1055 : (Jvm.Cond.selects "CrossingWords$No" ({ cls := "CrossingWords$Saying", name := "isSaid", desc := "(LCrossingWords$Saying;)Z" } : Jvm.MethodName) ({ cls := "CrossingWords$Saying", name := "isSaid", desc := "(LCrossingWords$Saying;)Z" } : Jvm.MethodName)) ∈ lw_all := lw_g (lw_at lw_m5 1 rfl) rfl
theorem q1075 : (Jvm.Cond.selects "CrossingWords$No" ({ cls := "CrossingWords$Saying", name := "isNo", desc := "(LCrossingWords$Rules;)Z" } : Jvm.MethodName) ({ cls := "CrossingWords$No", name := "isNo", desc := "(LCrossingWords$Rules;)Z" } : Jvm.MethodName)) ∈ lw_all := lw_g (lw_at lw_m5 21 rfl) rfl
theorem q1076 : (Jvm.Cond.instanceMethod ({ cls := "CrossingWords$No", name := "isNo", desc := "(LCrossingWords$Rules;)Z" } : Jvm.MethodName)) ∈ lw_all := lw_g (lw_at lw_m5 22 rfl) rfl
theorem q1077 : (Jvm.Cond.code ({ cls := "CrossingWords$No", name := "isNo", desc := "(LCrossingWords$Rules;)Z" } : Jvm.MethodName) prog_11_method_3_code (2 : Nat) (Option.some Jvm.ClassFile.FieldType.boolean)) ∈ lw_all := lw_g (lw_at lw_m5 23 rfl) rfl
theorem q1097 : (Jvm.Cond.selects "CrossingWords$No" ({ cls := "CrossingWords$Saying", name := "isYes", desc := "(LCrossingWords$Rules;)Z" } : Jvm.MethodName) ({ cls := "CrossingWords$Saying", name := "isYes", desc := "(LCrossingWords$Rules;)Z" } : Jvm.MethodName)) ∈ lw_all := lw_g (lw_at lw_m5 43 rfl) rfl
theorem q1136 : (Jvm.Cond.selects "CrossingWords$No" ({ cls := "CrossingWords$Saying", name := "answers", desc := "()Z" } : Jvm.MethodName) ({ cls := "CrossingWords$No", name := "answers", desc := "()Z" } : Jvm.MethodName)) ∈ lw_all := lw_g (lw_at lw_m5 82 rfl) rfl
theorem q1137 : (Jvm.Cond.instanceMethod ({ cls := "CrossingWords$No", name := "answers", desc := "()Z" } : Jvm.MethodName)) ∈ lw_all := lw_g (lw_at lw_m5 83 rfl) rfl
theorem q1138 : (Jvm.Cond.code ({ cls := "CrossingWords$No", name := "answers", desc := "()Z" } : Jvm.MethodName) prog_11_method_4_code (1 : Nat) (Option.some Jvm.ClassFile.FieldType.boolean)) ∈ lw_all := lw_g (lw_at lw_m5 84 rfl) rfl
theorem q1158 : (Jvm.Cond.selects "CrossingWords$No" ({ cls := "CrossingWords$Saying", name := "term", desc := "(I)I" } : Jvm.MethodName) ({ cls := "CrossingWords$Saying", name := "term", desc := "(I)I" } : Jvm.MethodName)) ∈ lw_all := lw_g (lw_at lw_m5 104 rfl) rfl
theorem q1941 : (Jvm.Cond.castable "CrossingWords$No" "CrossingWords$Saying") ∈ lw_tbl := lw_at lw_m8 167 rfl
theorem in_X12 : ∀ w ∈ wsX120, w ∈ lw_all := lw_in wsX120 [626, 627, 628, 629] (by decide +kernel) (by decide +kernel)
/-! CrossingWords$Back -/
set_option maxRecDepth 100000
def RX13 : String := "CrossingWords$Back"
def TX13 : u_T := fun k => match k with
  | 0 => ("CrossingWords$Answer", "said", "LCrossingWords$Saying;", true)
  | 1 => ("CrossingWords$Saying", "index", "I", true)
  | 2 => ("CrossingWords$Saying", "hand", "I", true)
  | _ => ("CrossingWords$Saying", "times", "LCrossingWords$Times;", false)
def tyX13 : Nat → FieldType := fun k => match k with
  | 0 => .object "CrossingWords$Saying"
  | 1 => .int
  | 2 => .int
  | _ => .object "CrossingWords$Times"
abbrev wsX130 : List Cond := u_ws RX13 TX13 4
theorem nmX13 : ∀ a, a < 4 → ∀ b, b < 4 → a ≠ b → (TX13 a).2.1 ≠ (TX13 b).2.1 := by decide +kernel
theorem tyX13_ok : ∀ k, k < 4 → parseFieldDescriptor (TX13 k).2.2.1 = some (tyX13 k) := by decide +kernel
abbrev cX13_kind : ByteArray := prog_4_method_2_code
def yX13_kind : MethodName := ⟨RX13, "kind", "()I"⟩
theorem dX13_kind_0 : decode cX13_kind 0 = .ok (.iconst 5, 1) := by decide +kernel
theorem dX13_kind_1 : decode cX13_kind 1 = .ok (.ireturn, 1) := by decide +kernel
abbrev cX13_init : ByteArray := prog_4_method_1_code
def yX13_init : MethodName := ⟨RX13, "<init>", "(IILCrossingWords$Saying;)V"⟩
def dkwX13_init_0 : List UInt8 := [42, 27, 28, 45, 183, 0, 3, 177]
abbrev dktX13_init_0 : List UInt8 := dkwX13_init_0 ++ []
theorem dksX13_init_0 : cX13_init.data.toList.drop 0 = dktX13_init_0 := by decide +kernel
theorem dX13_init_0 : decode cX13_init 0 = .ok (.aload_n 0, 1) := dk_42 (dk_at dksX13_init_0 0 rfl rfl)
theorem dX13_init_1 : decode cX13_init 1 = .ok (.iload_n 1, 1) := dk_27 (dk_at dksX13_init_0 1 rfl rfl)
theorem dX13_init_2 : decode cX13_init 2 = .ok (.iload_n 2, 1) := dk_28 (dk_at dksX13_init_0 2 rfl rfl)
theorem dX13_init_3 : decode cX13_init 3 = .ok (.aload_n 3, 1) := dk_45 (dk_at dksX13_init_0 3 rfl rfl)
theorem dX13_init_4 : decode cX13_init 4 = .ok (.invokespecial 3, 3) := dk_183 0 3 (dk_at dksX13_init_0 4 rfl rfl)
theorem dX13_init_7 : decode cX13_init 7 = .ok (.return_, 1) := dk_177 (dk_at dksX13_init_0 7 rfl rfl)
theorem q109 : (Jvm.Cond.initialized "CrossingWords$Back") ∈ lw_all := lw_g (lw_at lw_m1 15 rfl) rfl
theorem q539 : (Jvm.Cond.selects "CrossingWords$Back" ({ cls := "CrossingWords$Saying", name := "kind", desc := "()I" } : Jvm.MethodName) ({ cls := "CrossingWords$Back", name := "kind", desc := "()I" } : Jvm.MethodName)) ∈ lw_all := lw_g (lw_at lw_m2 205 rfl) rfl
theorem q540 : (Jvm.Cond.instanceMethod ({ cls := "CrossingWords$Back", name := "kind", desc := "()I" } : Jvm.MethodName)) ∈ lw_all := lw_g (lw_at lw_m2 206 rfl) rfl
theorem q541 : (Jvm.Cond.code ({ cls := "CrossingWords$Back", name := "kind", desc := "()I" } : Jvm.MethodName) prog_4_method_2_code (1 : Nat) (Option.some Jvm.ClassFile.FieldType.int)) ∈ lw_all := lw_g (lw_at lw_m2 207 rfl) rfl
theorem q566 : (Jvm.Cond.selects "CrossingWords$Back" ({ cls := "CrossingWords$Saying", name := "to", desc := "()I" } : Jvm.MethodName) ({ cls := "CrossingWords$Saying", name := "to", desc := "()I" } : Jvm.MethodName)) ∈ lw_all := lw_g (lw_at lw_m2 232 rfl) rfl
theorem q632 : (Jvm.Cond.instantiable "CrossingWords$Back" (4 : Nat)) ∈ lw_all := lw_g (lw_at lw_m3 58 rfl) rfl
theorem q634 : (Jvm.Cond.instanceMethod ({ cls := "CrossingWords$Back", name := "<init>", desc := "(IILCrossingWords$Saying;)V" } : Jvm.MethodName)) ∈ lw_all := lw_g (lw_at lw_m3 60 rfl) rfl
theorem q635 : (Jvm.Cond.code ({ cls := "CrossingWords$Back", name := "<init>", desc := "(IILCrossingWords$Saying;)V" } : Jvm.MethodName) prog_4_method_1_code (4 : Nat) (Option.none : Option Jvm.ClassFile.FieldType)) ∈ lw_all := lw_g (lw_at lw_m3 61 rfl) rfl
theorem q636 : (Jvm.Cond.methodLink "CrossingWords$Back" (3 : Nat) ({ cls := "CrossingWords$Answer", name := "<init>", desc := "(IILCrossingWords$Saying;)V" } : Jvm.MethodName)) ∈ lw_all := lw_g (lw_at lw_m3 62 rfl) rfl
theorem q637 : (Jvm.Cond.laysFinal "CrossingWords$Back" "CrossingWords$Answer" "said" "LCrossingWords$Saying;") ∈ lw_all := lw_g (lw_at lw_m3 63 rfl) rfl
theorem q638 : (Jvm.Cond.laysFinal "CrossingWords$Back" "CrossingWords$Saying" "index" "I") ∈ lw_all := lw_g (lw_at lw_m3 64 rfl) rfl
theorem q639 : (Jvm.Cond.laysFinal "CrossingWords$Back" "CrossingWords$Saying" "hand" "I") ∈ lw_all := lw_g (lw_at lw_m3 65 rfl) rfl
theorem q640 : (Jvm.Cond.lays "CrossingWords$Back" "CrossingWords$Saying" "times" "LCrossingWords$Times;") ∈ lw_all := lw_g (lw_at lw_m3 66 rfl) rfl
theorem q641 : (Jvm.Cond.superclass "CrossingWords$Back" "CrossingWords$Answer") ∈ lw_all := lw_g (lw_at lw_m3 67 rfl) rfl
theorem q872 : (Jvm.Cond.selects "CrossingWords$Back" ({ cls := "CrossingWords$Saying", name := "said", desc := "()LCrossingWords$Saying;" } : Jvm.MethodName) ({ cls := "CrossingWords$Answer", name := "said", desc := "()LCrossingWords$Saying;" } : Jvm.MethodName)) ∈ lw_all := lw_g (lw_at lw_m4 58 rfl) rfl
theorem q884 : (Jvm.Cond.selects "CrossingWords$Back" ({ cls := "CrossingWords$Saying", name := "hold", desc := "()I" } : Jvm.MethodName) ({ cls := "CrossingWords$Saying", name := "hold", desc := "()I" } : Jvm.MethodName)) ∈ lw_all := lw_g (lw_at lw_m4 70 rfl) rfl
theorem q898 : (Jvm.Cond.selects "CrossingWords$Back" ({ cls := "CrossingWords$Saying", name := "given", desc := "()I" } : Jvm.MethodName) ({ cls := "CrossingWords$Saying", name := "given", desc := "()I" } : Jvm.MethodName)) ∈ lw_all := lw_g (lw_at lw_m4 84 rfl) rfl
theorem q912 : (Jvm.Cond.selects "CrossingWords$Back" ({ cls := "CrossingWords$Saying", name := "own", desc := "(I)I" } : Jvm.MethodName) ({ cls := "CrossingWords$Saying", name := "own", desc := "(I)I" } : Jvm.MethodName)) ∈ lw_all := lw_g (lw_at lw_m4 98 rfl) rfl
theorem q1012 : (Jvm.Cond.selects "CrossingWords$Back" ({ cls := "CrossingWords$Saying", name := "isOffer", desc := "(LCrossingWords$Rules;)Z" } : Jvm.MethodName) ({ cls := "CrossingWords$Saying", name := "isOffer", desc := "(LCrossingWords$Rules;)Z" } : Jvm.MethodName)) ∈ lw_all := lw_g (lw_at lw_m4 198 rfl) rfl
theorem q1052 : (Jvm.Cond.selects "CrossingWords$Back" ({ cls := "CrossingWords$Saying", name := "isSaid", desc := "(LCrossingWords$Saying;)Z" } : Jvm.MethodName) ({ cls := "CrossingWords$Saying", name := "isSaid", desc := "(LCrossingWords$Saying;)Z" } : Jvm.MethodName)) ∈ lw_all := lw_g (lw_at lw_m4 238 rfl) rfl
theorem q1070 : (Jvm.Cond.selects "CrossingWords$Back" ({ cls := "CrossingWords$Saying", name := "isNo", desc := "(LCrossingWords$Rules;)Z" } : Jvm.MethodName) ({ cls := "CrossingWords$Saying", name := "isNo", desc := "(LCrossingWords$Rules;)Z" } : Jvm.MethodName)) ∈ lw_all := lw_g (lw_at lw_m5 16 rfl) rfl
theorem q1086 : (Jvm.Cond.selects "CrossingWords$Back" ({ cls := "CrossingWords$Saying", name := "isYes", desc := "(LCrossingWords$Rules;)Z" } : Jvm.MethodName) ({ cls := "CrossingWords$Saying", name := "isYes", desc := "(LCrossingWords$Rules;)Z" } : Jvm.MethodName)) ∈ lw_all := lw_g (lw_at lw_m5 32 rfl) rfl
theorem q1131 : (Jvm.Cond.selects "CrossingWords$Back" ({ cls := "CrossingWords$Saying", name := "answers", desc := "()Z" } : Jvm.MethodName) ({ cls := "CrossingWords$Saying", name := "answers", desc := "()Z" } : Jvm.MethodName)) ∈ lw_all := lw_g (lw_at lw_m5 77 rfl) rfl
theorem q1152 : (Jvm.Cond.selects "CrossingWords$Back" ({ cls := "CrossingWords$Saying", name := "term", desc := "(I)I" } : Jvm.MethodName) ({ cls := "CrossingWords$Saying", name := "term", desc := "(I)I" } : Jvm.MethodName)) ∈ lw_all := lw_g (lw_at lw_m5 98 rfl) rfl
theorem q1942 : (Jvm.Cond.castable "CrossingWords$Back" "CrossingWords$Saying") ∈ lw_tbl := lw_at lw_m8 168 rfl
theorem in_X13 : ∀ w ∈ wsX130, w ∈ lw_all := lw_in wsX130 [637, 638, 639, 640] (by decide +kernel) (by decide +kernel)
/-! CrossingWords$Deed -/
set_option maxRecDepth 100000
def RX14 : String := "CrossingWords$Deed"
def TX14 : u_T := fun k => match k with
  | 0 => ("CrossingWords$Answer", "said", "LCrossingWords$Saying;", true)
  | 1 => ("CrossingWords$Saying", "index", "I", true)
  | 2 => ("CrossingWords$Saying", "hand", "I", true)
  | _ => ("CrossingWords$Saying", "times", "LCrossingWords$Times;", false)
def tyX14 : Nat → FieldType := fun k => match k with
  | 0 => .object "CrossingWords$Saying"
  | 1 => .int
  | 2 => .int
  | _ => .object "CrossingWords$Times"
abbrev wsX140 : List Cond := u_ws RX14 TX14 4
theorem nmX14 : ∀ a, a < 4 → ∀ b, b < 4 → a ≠ b → (TX14 a).2.1 ≠ (TX14 b).2.1 := by decide +kernel
theorem tyX14_ok : ∀ k, k < 4 → parseFieldDescriptor (TX14 k).2.2.1 = some (tyX14 k) := by decide +kernel
abbrev cX14_kind : ByteArray := prog_8_method_2_code
def yX14_kind : MethodName := ⟨RX14, "kind", "()I"⟩
theorem dX14_kind_0 : decode cX14_kind 0 = .ok (.bipush 6, 2) := by decide +kernel
theorem dX14_kind_2 : decode cX14_kind 2 = .ok (.ireturn, 1) := by decide +kernel
abbrev cX14_init : ByteArray := prog_8_method_1_code
def yX14_init : MethodName := ⟨RX14, "<init>", "(IILCrossingWords$Saying;)V"⟩
def dkwX14_init_0 : List UInt8 := [42, 27, 28, 45, 183, 0, 3, 177]
abbrev dktX14_init_0 : List UInt8 := dkwX14_init_0 ++ []
theorem dksX14_init_0 : cX14_init.data.toList.drop 0 = dktX14_init_0 := by decide +kernel
theorem dX14_init_0 : decode cX14_init 0 = .ok (.aload_n 0, 1) := dk_42 (dk_at dksX14_init_0 0 rfl rfl)
theorem dX14_init_1 : decode cX14_init 1 = .ok (.iload_n 1, 1) := dk_27 (dk_at dksX14_init_0 1 rfl rfl)
theorem dX14_init_2 : decode cX14_init 2 = .ok (.iload_n 2, 1) := dk_28 (dk_at dksX14_init_0 2 rfl rfl)
theorem dX14_init_3 : decode cX14_init 3 = .ok (.aload_n 3, 1) := dk_45 (dk_at dksX14_init_0 3 rfl rfl)
theorem dX14_init_4 : decode cX14_init 4 = .ok (.invokespecial 3, 3) := dk_183 0 3 (dk_at dksX14_init_0 4 rfl rfl)
theorem dX14_init_7 : decode cX14_init 7 = .ok (.return_, 1) := dk_177 (dk_at dksX14_init_0 7 rfl rfl)
abbrev cX14_isYes : ByteArray := prog_8_method_3_code
def yX14_isYes : MethodName := ⟨RX14, "isYes", "(LCrossingWords$Rules;)Z"⟩
theorem dX14_isYes_0 : decode cX14_isYes 0 = .ok (.aload_n 1, 1) := by decide +kernel
theorem dX14_isYes_1 : decode cX14_isYes 1 = .ok (.invokevirtual 9, 3) := by decide +kernel
theorem dX14_isYes_4 : decode cX14_isYes 4 = .ok (.ireturn, 1) := by decide +kernel
theorem q110 : (Jvm.Cond.initialized "CrossingWords$Deed") ∈ lw_all := lw_g (lw_at lw_m1 16 rfl) rfl
theorem q545 : (Jvm.Cond.selects "CrossingWords$Deed" ({ cls := "CrossingWords$Saying", name := "kind", desc := "()I" } : Jvm.MethodName) ({ cls := "CrossingWords$Deed", name := "kind", desc := "()I" } : Jvm.MethodName)) ∈ lw_all := lw_g (lw_at lw_m2 211 rfl) rfl
theorem q546 : (Jvm.Cond.instanceMethod ({ cls := "CrossingWords$Deed", name := "kind", desc := "()I" } : Jvm.MethodName)) ∈ lw_all := lw_g (lw_at lw_m2 212 rfl) rfl
theorem q547 : (Jvm.Cond.code ({ cls := "CrossingWords$Deed", name := "kind", desc := "()I" } : Jvm.MethodName) prog_8_method_2_code (1 : Nat) (Option.some Jvm.ClassFile.FieldType.int)) ∈ lw_all := lw_g (lw_at lw_m2 213 rfl) rfl
theorem q576 : (Jvm.Cond.selects "CrossingWords$Deed" ({ cls := "CrossingWords$Saying", name := "to", desc := "()I" } : Jvm.MethodName) ({ cls := "CrossingWords$Saying", name := "to", desc := "()I" } : Jvm.MethodName)) ∈ lw_all := lw_g (lw_at lw_m3 2 rfl) rfl
theorem q643 : (Jvm.Cond.instantiable "CrossingWords$Deed" (4 : Nat)) ∈ lw_all := lw_g (lw_at lw_m3 69 rfl) rfl
theorem q645 : (Jvm.Cond.instanceMethod ({ cls := "CrossingWords$Deed", name := "<init>", desc := "(IILCrossingWords$Saying;)V" } : Jvm.MethodName)) ∈ lw_all := lw_g (lw_at lw_m3 71 rfl) rfl
theorem q646 : (Jvm.Cond.code ({ cls := "CrossingWords$Deed", name := "<init>", desc := "(IILCrossingWords$Saying;)V" } : Jvm.MethodName) prog_8_method_1_code (4 : Nat) (Option.none : Option Jvm.ClassFile.FieldType)) ∈ lw_all := lw_g (lw_at lw_m3 72 rfl) rfl
theorem q647 : (Jvm.Cond.methodLink "CrossingWords$Deed" (3 : Nat) ({ cls := "CrossingWords$Yes", name := "<init>", desc := "(IILCrossingWords$Saying;)V" } : Jvm.MethodName)) ∈ lw_all := lw_g (lw_at lw_m3 73 rfl) rfl
theorem q648 : (Jvm.Cond.laysFinal "CrossingWords$Deed" "CrossingWords$Answer" "said" "LCrossingWords$Saying;") ∈ lw_all := lw_g (lw_at lw_m3 74 rfl) rfl
theorem q649 : (Jvm.Cond.laysFinal "CrossingWords$Deed" "CrossingWords$Saying" "index" "I") ∈ lw_all := lw_g (lw_at lw_m3 75 rfl) rfl
theorem q650 : (Jvm.Cond.laysFinal "CrossingWords$Deed" "CrossingWords$Saying" "hand" "I") ∈ lw_all := lw_g (lw_at lw_m3 76 rfl) rfl
theorem q651 : (Jvm.Cond.lays "CrossingWords$Deed" "CrossingWords$Saying" "times" "LCrossingWords$Times;") ∈ lw_all := lw_g (lw_at lw_m3 77 rfl) rfl
theorem q652 : (Jvm.Cond.superclass "CrossingWords$Deed" "CrossingWords$Yes") ∈ lw_all := lw_g (lw_at lw_m3 78 rfl) rfl
theorem q874 : (Jvm.Cond.selects "CrossingWords$Deed" ({ cls := "CrossingWords$Saying", name := "said", desc := "()LCrossingWords$Saying;" } : Jvm.MethodName) ({ cls := "CrossingWords$Answer", name := "said", desc := "()LCrossingWords$Saying;" } : Jvm.MethodName)) ∈ lw_all := lw_g (lw_at lw_m4 60 rfl) rfl
theorem q886 : (Jvm.Cond.selects "CrossingWords$Deed" ({ cls := "CrossingWords$Saying", name := "hold", desc := "()I" } : Jvm.MethodName) ({ cls := "CrossingWords$Saying", name := "hold", desc := "()I" } : Jvm.MethodName)) ∈ lw_all := lw_g (lw_at lw_m4 72 rfl) rfl
theorem q900 : (Jvm.Cond.selects "CrossingWords$Deed" ({ cls := "CrossingWords$Saying", name := "given", desc := "()I" } : Jvm.MethodName) ({ cls := "CrossingWords$Saying", name := "given", desc := "()I" } : Jvm.MethodName)) ∈ lw_all := lw_g (lw_at lw_m4 86 rfl) rfl
theorem q916 : (Jvm.Cond.selects "CrossingWords$Deed" ({ cls := "CrossingWords$Saying", name := "own", desc := "(I)I" } : Jvm.MethodName) ({ cls := "CrossingWords$Saying", name := "own", desc := "(I)I" } : Jvm.MethodName)) ∈ lw_all := lw_g (lw_at lw_m4 102 rfl) rfl
theorem q1024 : (Jvm.Cond.selects "CrossingWords$Deed" ({ cls := "CrossingWords$Saying", name := "isOffer", desc := "(LCrossingWords$Rules;)Z" } : Jvm.MethodName) ({ cls := "CrossingWords$Saying", name := "isOffer", desc := "(LCrossingWords$Rules;)Z" } : Jvm.MethodName)) ∈ lw_all := lw_g (lw_at lw_m4 210 rfl) rfl
theorem q1054 : (Jvm.Cond.selects "CrossingWords$Deed" ({ cls := "CrossingWords$Saying", name := "isSaid", desc := "(LCrossingWords$Saying;)Z" } : Jvm.MethodName) ({ cls := "CrossingWords$Saying", name := "isSaid", desc := "(LCrossingWords$Saying;)Z" } : Jvm.MethodName)) ∈ lw_all := lw_g (lw_at lw_m5 0 rfl) rfl
theorem q1074 : (Jvm.Cond.selects "CrossingWords$Deed" ({ cls := "CrossingWords$Saying", name := "isNo", desc := "(LCrossingWords$Rules;)Z" } : Jvm.MethodName) ({ cls := "CrossingWords$Saying", name := "isNo", desc := "(LCrossingWords$Rules;)Z" } : Jvm.MethodName)) ∈ lw_all := lw_g (lw_at lw_m5 20 rfl) rfl
theorem q1090 : (Jvm.Cond.selects "CrossingWords$Deed" ({ cls := "CrossingWords$Saying", name := "isYes", desc := "(LCrossingWords$Rules;)Z" } : Jvm.MethodName) ({ cls := "CrossingWords$Deed", name := "isYes", desc := "(LCrossingWords$Rules;)Z" } : Jvm.MethodName)) ∈ lw_all := lw_g (lw_at lw_m5 36 rfl) rfl
theorem q1091 : (Jvm.Cond.instanceMethod ({ cls := "CrossingWords$Deed", name := "isYes", desc := "(LCrossingWords$Rules;)Z" } : Jvm.MethodName)) ∈ lw_all := lw_g (lw_at lw_m5 37 rfl) rfl
theorem q1092 : (Jvm.Cond.code ({ cls := "CrossingWords$Deed", name := "isYes", desc := "(LCrossingWords$Rules;)Z" } : Jvm.MethodName) prog_8_method_3_code (2 : Nat) (Option.some Jvm.ClassFile.FieldType.boolean)) ∈ lw_all := lw_g (lw_at lw_m5 38 rfl) rfl
theorem q1093 : (Jvm.Cond.methodLink "CrossingWords$Deed" (9 : Nat) ({ cls := "CrossingWords$Rules", name := "isDeedYes", desc := "()Z" } : Jvm.MethodName)) ∈ lw_all := lw_g (lw_at lw_m5 39 rfl) rfl
theorem q1135 : (Jvm.Cond.selects "CrossingWords$Deed" ({ cls := "CrossingWords$Saying", name := "answers", desc := "()Z" } : Jvm.MethodName) ({ cls := "CrossingWords$Yes", name := "answers", desc := "()Z" } : Jvm.MethodName)) ∈ lw_all := lw_g (lw_at lw_m5 81 rfl) rfl
theorem q1157 : (Jvm.Cond.selects "CrossingWords$Deed" ({ cls := "CrossingWords$Saying", name := "term", desc := "(I)I" } : Jvm.MethodName) ({ cls := "CrossingWords$Saying", name := "term", desc := "(I)I" } : Jvm.MethodName)) ∈ lw_all := lw_g (lw_at lw_m5 103 rfl) rfl
theorem q1943 : (Jvm.Cond.castable "CrossingWords$Deed" "CrossingWords$Saying") ∈ lw_tbl := lw_at lw_m8 169 rfl
theorem in_X14 : ∀ w ∈ wsX140, w ∈ lw_all := lw_in wsX140 [648, 649, 650, 651] (by decide +kernel) (by decide +kernel)
/-! CrossingWords$Send -/
set_option maxRecDepth 100000
def RX15 : String := "CrossingWords$Send"
def TX15 : u_T := fun k => match k with
  | 0 => ("CrossingWords$Answer", "said", "LCrossingWords$Saying;", true)
  | 1 => ("CrossingWords$Saying", "index", "I", true)
  | 2 => ("CrossingWords$Saying", "hand", "I", true)
  | _ => ("CrossingWords$Saying", "times", "LCrossingWords$Times;", false)
def tyX15 : Nat → FieldType := fun k => match k with
  | 0 => .object "CrossingWords$Saying"
  | 1 => .int
  | 2 => .int
  | _ => .object "CrossingWords$Times"
abbrev wsX150 : List Cond := u_ws RX15 TX15 4
theorem nmX15 : ∀ a, a < 4 → ∀ b, b < 4 → a ≠ b → (TX15 a).2.1 ≠ (TX15 b).2.1 := by decide +kernel
theorem tyX15_ok : ∀ k, k < 4 → parseFieldDescriptor (TX15 k).2.2.1 = some (tyX15 k) := by decide +kernel
abbrev cX15_kind : ByteArray := prog_17_method_2_code
def yX15_kind : MethodName := ⟨RX15, "kind", "()I"⟩
theorem dX15_kind_0 : decode cX15_kind 0 = .ok (.bipush 7, 2) := by decide +kernel
theorem dX15_kind_2 : decode cX15_kind 2 = .ok (.ireturn, 1) := by decide +kernel
abbrev cX15_init : ByteArray := prog_17_method_1_code
def yX15_init : MethodName := ⟨RX15, "<init>", "(IILCrossingWords$Saying;)V"⟩
def dkwX15_init_0 : List UInt8 := [42, 27, 28, 45, 183, 0, 3, 177]
abbrev dktX15_init_0 : List UInt8 := dkwX15_init_0 ++ []
theorem dksX15_init_0 : cX15_init.data.toList.drop 0 = dktX15_init_0 := by decide +kernel
theorem dX15_init_0 : decode cX15_init 0 = .ok (.aload_n 0, 1) := dk_42 (dk_at dksX15_init_0 0 rfl rfl)
theorem dX15_init_1 : decode cX15_init 1 = .ok (.iload_n 1, 1) := dk_27 (dk_at dksX15_init_0 1 rfl rfl)
theorem dX15_init_2 : decode cX15_init 2 = .ok (.iload_n 2, 1) := dk_28 (dk_at dksX15_init_0 2 rfl rfl)
theorem dX15_init_3 : decode cX15_init 3 = .ok (.aload_n 3, 1) := dk_45 (dk_at dksX15_init_0 3 rfl rfl)
theorem dX15_init_4 : decode cX15_init 4 = .ok (.invokespecial 3, 3) := dk_183 0 3 (dk_at dksX15_init_0 4 rfl rfl)
theorem dX15_init_7 : decode cX15_init 7 = .ok (.return_, 1) := dk_177 (dk_at dksX15_init_0 7 rfl rfl)
theorem q111 : (Jvm.Cond.initialized "CrossingWords$Send") ∈ lw_all := lw_g (lw_at lw_m1 17 rfl) rfl
theorem q554 : (Jvm.Cond.selects "CrossingWords$Send" ({ cls := "CrossingWords$Saying", name := "kind", desc := "()I" } : Jvm.MethodName) ({ cls := "CrossingWords$Send", name := "kind", desc := "()I" } : Jvm.MethodName)) ∈ lw_all := lw_g (lw_at lw_m2 220 rfl) rfl
theorem q555 : (Jvm.Cond.instanceMethod ({ cls := "CrossingWords$Send", name := "kind", desc := "()I" } : Jvm.MethodName)) ∈ lw_all := lw_g (lw_at lw_m2 221 rfl) rfl
theorem q556 : (Jvm.Cond.code ({ cls := "CrossingWords$Send", name := "kind", desc := "()I" } : Jvm.MethodName) prog_17_method_2_code (1 : Nat) (Option.some Jvm.ClassFile.FieldType.int)) ∈ lw_all := lw_g (lw_at lw_m2 222 rfl) rfl
theorem q581 : (Jvm.Cond.selects "CrossingWords$Send" ({ cls := "CrossingWords$Saying", name := "to", desc := "()I" } : Jvm.MethodName) ({ cls := "CrossingWords$Saying", name := "to", desc := "()I" } : Jvm.MethodName)) ∈ lw_all := lw_g (lw_at lw_m3 7 rfl) rfl
theorem q654 : (Jvm.Cond.instantiable "CrossingWords$Send" (4 : Nat)) ∈ lw_all := lw_g (lw_at lw_m3 80 rfl) rfl
theorem q656 : (Jvm.Cond.instanceMethod ({ cls := "CrossingWords$Send", name := "<init>", desc := "(IILCrossingWords$Saying;)V" } : Jvm.MethodName)) ∈ lw_all := lw_g (lw_at lw_m3 82 rfl) rfl
theorem q657 : (Jvm.Cond.code ({ cls := "CrossingWords$Send", name := "<init>", desc := "(IILCrossingWords$Saying;)V" } : Jvm.MethodName) prog_17_method_1_code (4 : Nat) (Option.none : Option Jvm.ClassFile.FieldType)) ∈ lw_all := lw_g (lw_at lw_m3 83 rfl) rfl
theorem q658 : (Jvm.Cond.methodLink "CrossingWords$Send" (3 : Nat) ({ cls := "CrossingWords$Answer", name := "<init>", desc := "(IILCrossingWords$Saying;)V" } : Jvm.MethodName)) ∈ lw_all := lw_g (lw_at lw_m3 84 rfl) rfl
theorem q659 : (Jvm.Cond.laysFinal "CrossingWords$Send" "CrossingWords$Answer" "said" "LCrossingWords$Saying;") ∈ lw_all := lw_g (lw_at lw_m3 85 rfl) rfl
theorem q660 : (Jvm.Cond.laysFinal "CrossingWords$Send" "CrossingWords$Saying" "index" "I") ∈ lw_all := lw_g (lw_at lw_m3 86 rfl) rfl
theorem q661 : (Jvm.Cond.laysFinal "CrossingWords$Send" "CrossingWords$Saying" "hand" "I") ∈ lw_all := lw_g (lw_at lw_m3 87 rfl) rfl
theorem q662 : (Jvm.Cond.lays "CrossingWords$Send" "CrossingWords$Saying" "times" "LCrossingWords$Times;") ∈ lw_all := lw_g (lw_at lw_m3 88 rfl) rfl
theorem q663 : (Jvm.Cond.superclass "CrossingWords$Send" "CrossingWords$Answer") ∈ lw_all := lw_g (lw_at lw_m3 89 rfl) rfl
theorem q877 : (Jvm.Cond.selects "CrossingWords$Send" ({ cls := "CrossingWords$Saying", name := "said", desc := "()LCrossingWords$Saying;" } : Jvm.MethodName) ({ cls := "CrossingWords$Answer", name := "said", desc := "()LCrossingWords$Saying;" } : Jvm.MethodName)) ∈ lw_all := lw_g (lw_at lw_m4 63 rfl) rfl
theorem q891 : (Jvm.Cond.selects "CrossingWords$Send" ({ cls := "CrossingWords$Saying", name := "hold", desc := "()I" } : Jvm.MethodName) ({ cls := "CrossingWords$Saying", name := "hold", desc := "()I" } : Jvm.MethodName)) ∈ lw_all := lw_g (lw_at lw_m4 77 rfl) rfl
theorem q905 : (Jvm.Cond.selects "CrossingWords$Send" ({ cls := "CrossingWords$Saying", name := "given", desc := "()I" } : Jvm.MethodName) ({ cls := "CrossingWords$Saying", name := "given", desc := "()I" } : Jvm.MethodName)) ∈ lw_all := lw_g (lw_at lw_m4 91 rfl) rfl
theorem q921 : (Jvm.Cond.selects "CrossingWords$Send" ({ cls := "CrossingWords$Saying", name := "own", desc := "(I)I" } : Jvm.MethodName) ({ cls := "CrossingWords$Saying", name := "own", desc := "(I)I" } : Jvm.MethodName)) ∈ lw_all := lw_g (lw_at lw_m4 107 rfl) rfl
theorem q1029 : (Jvm.Cond.selects "CrossingWords$Send" ({ cls := "CrossingWords$Saying", name := "isOffer", desc := "(LCrossingWords$Rules;)Z" } : Jvm.MethodName) ({ cls := "CrossingWords$Saying", name := "isOffer", desc := "(LCrossingWords$Rules;)Z" } : Jvm.MethodName)) ∈ lw_all := lw_g (lw_at lw_m4 215 rfl) rfl
theorem q1057 : (Jvm.Cond.selects "CrossingWords$Send" ({ cls := "CrossingWords$Saying", name := "isSaid", desc := "(LCrossingWords$Saying;)Z" } : Jvm.MethodName) ({ cls := "CrossingWords$Saying", name := "isSaid", desc := "(LCrossingWords$Saying;)Z" } : Jvm.MethodName)) ∈ lw_all := lw_g (lw_at lw_m5 3 rfl) rfl
theorem q1079 : (Jvm.Cond.selects "CrossingWords$Send" ({ cls := "CrossingWords$Saying", name := "isNo", desc := "(LCrossingWords$Rules;)Z" } : Jvm.MethodName) ({ cls := "CrossingWords$Saying", name := "isNo", desc := "(LCrossingWords$Rules;)Z" } : Jvm.MethodName)) ∈ lw_all := lw_g (lw_at lw_m5 25 rfl) rfl
theorem q1099 : (Jvm.Cond.selects "CrossingWords$Send" ({ cls := "CrossingWords$Saying", name := "isYes", desc := "(LCrossingWords$Rules;)Z" } : Jvm.MethodName) ({ cls := "CrossingWords$Saying", name := "isYes", desc := "(LCrossingWords$Rules;)Z" } : Jvm.MethodName)) ∈ lw_all := lw_g (lw_at lw_m5 45 rfl) rfl
theorem q1140 : (Jvm.Cond.selects "CrossingWords$Send" ({ cls := "CrossingWords$Saying", name := "answers", desc := "()Z" } : Jvm.MethodName) ({ cls := "CrossingWords$Saying", name := "answers", desc := "()Z" } : Jvm.MethodName)) ∈ lw_all := lw_g (lw_at lw_m5 86 rfl) rfl
theorem q1160 : (Jvm.Cond.selects "CrossingWords$Send" ({ cls := "CrossingWords$Saying", name := "term", desc := "(I)I" } : Jvm.MethodName) ({ cls := "CrossingWords$Saying", name := "term", desc := "(I)I" } : Jvm.MethodName)) ∈ lw_all := lw_g (lw_at lw_m5 106 rfl) rfl
theorem q1944 : (Jvm.Cond.castable "CrossingWords$Send" "CrossingWords$Saying") ∈ lw_tbl := lw_at lw_m8 170 rfl
theorem in_X15 : ∀ w ∈ wsX150, w ∈ lw_all := lw_in wsX150 [659, 660, 661, 662] (by decide +kernel) (by decide +kernel)
/-! CrossingWords$Span -/
set_option maxRecDepth 100000
def RX16 : String := "CrossingWords$Span"
def TX16 : u_T := fun k => match k with
  | 0 => ("CrossingWords$Span", "low", "I", true)
  | _ => ("CrossingWords$Span", "high", "I", true)
def tyX16 : Nat → FieldType := fun k => match k with
  | 0 => .int
  | _ => .int
abbrev wsX160 : List Cond := u_ws RX16 TX16 2
theorem nmX16 : ∀ a, a < 2 → ∀ b, b < 2 → a ≠ b → (TX16 a).2.1 ≠ (TX16 b).2.1 := by decide +kernel
theorem tyX16_ok : ∀ k, k < 2 → parseFieldDescriptor (TX16 k).2.2.1 = some (tyX16 k) := by decide +kernel
abbrev cX16_many : ByteArray := prog_18_method_3_code
def yX16_many : MethodName := ⟨RX16, "many", "()I"⟩
def dkwX16_many_0 : List UInt8 := [42, 180, 0, 13, 42, 180, 0, 7, 100, 4, 96, 172]
abbrev dktX16_many_0 : List UInt8 := dkwX16_many_0 ++ []
theorem dksX16_many_0 : cX16_many.data.toList.drop 0 = dktX16_many_0 := by decide +kernel
theorem dX16_many_0 : decode cX16_many 0 = .ok (.aload_n 0, 1) := dk_42 (dk_at dksX16_many_0 0 rfl rfl)
theorem dX16_many_1 : decode cX16_many 1 = .ok (.getfield 13, 3) := dk_180 0 13 (dk_at dksX16_many_0 1 rfl rfl)
theorem dX16_many_4 : decode cX16_many 4 = .ok (.aload_n 0, 1) := dk_42 (dk_at dksX16_many_0 4 rfl rfl)
theorem dX16_many_5 : decode cX16_many 5 = .ok (.getfield 7, 3) := dk_180 0 7 (dk_at dksX16_many_0 5 rfl rfl)
theorem dX16_many_8 : decode cX16_many 8 = .ok (.isub, 1) := dk_100 (dk_at dksX16_many_0 8 rfl rfl)
theorem dX16_many_9 : decode cX16_many 9 = .ok (.iconst 1, 1) := dk_4 (dk_at dksX16_many_0 9 rfl rfl)
theorem dX16_many_10 : decode cX16_many 10 = .ok (.iadd, 1) := dk_96 (dk_at dksX16_many_0 10 rfl rfl)
theorem dX16_many_11 : decode cX16_many 11 = .ok (.ireturn, 1) := dk_172 (dk_at dksX16_many_0 11 rfl rfl)
abbrev cX16_init : ByteArray := prog_18_method_1_code
def yX16_init : MethodName := ⟨RX16, "<init>", "(II)V"⟩
def dkwX16_init_0 : List UInt8 := [42, 183, 0, 1, 42, 27, 181, 0, 7, 42, 28, 181, 0, 13, 177]
abbrev dktX16_init_0 : List UInt8 := dkwX16_init_0 ++ []
theorem dksX16_init_0 : cX16_init.data.toList.drop 0 = dktX16_init_0 := by decide +kernel
theorem dX16_init_0 : decode cX16_init 0 = .ok (.aload_n 0, 1) := dk_42 (dk_at dksX16_init_0 0 rfl rfl)
theorem dX16_init_1 : decode cX16_init 1 = .ok (.invokespecial 1, 3) := dk_183 0 1 (dk_at dksX16_init_0 1 rfl rfl)
theorem dX16_init_4 : decode cX16_init 4 = .ok (.aload_n 0, 1) := dk_42 (dk_at dksX16_init_0 4 rfl rfl)
theorem dX16_init_5 : decode cX16_init 5 = .ok (.iload_n 1, 1) := dk_27 (dk_at dksX16_init_0 5 rfl rfl)
theorem dX16_init_6 : decode cX16_init 6 = .ok (.putfield 7, 3) := dk_181 0 7 (dk_at dksX16_init_0 6 rfl rfl)
theorem dX16_init_9 : decode cX16_init 9 = .ok (.aload_n 0, 1) := dk_42 (dk_at dksX16_init_0 9 rfl rfl)
theorem dX16_init_10 : decode cX16_init 10 = .ok (.iload_n 2, 1) := dk_28 (dk_at dksX16_init_0 10 rfl rfl)
theorem dX16_init_11 : decode cX16_init 11 = .ok (.putfield 13, 3) := dk_181 0 13 (dk_at dksX16_init_0 11 rfl rfl)
theorem dX16_init_14 : decode cX16_init 14 = .ok (.return_, 1) := dk_177 (dk_at dksX16_init_0 14 rfl rfl)
theorem q112 : (Jvm.Cond.initialized "CrossingWords$Span") ∈ lw_all := lw_g (lw_at lw_m1 18 rfl) rfl
theorem q321 : (Jvm.Cond.instanceMethod ({ cls := "CrossingWords$Span", name := "many", desc := "()I" } : Jvm.MethodName)) ∈ lw_all := lw_g (lw_at lw_m1 227 rfl) rfl
theorem q322 : (Jvm.Cond.selects "CrossingWords$Span" ({ cls := "CrossingWords$Span", name := "many", desc := "()I" } : Jvm.MethodName) ({ cls := "CrossingWords$Span", name := "many", desc := "()I" } : Jvm.MethodName)) ∈ lw_all := lw_g (lw_at lw_m1 228 rfl) rfl
theorem q323 : (Jvm.Cond.code ({ cls := "CrossingWords$Span", name := "many", desc := "()I" } : Jvm.MethodName) prog_18_method_3_code (1 : Nat) (Option.some Jvm.ClassFile.FieldType.int)) ∈ lw_all := lw_g (lw_at lw_m1 229 rfl) rfl
theorem q683 : (Jvm.Cond.instantiable "CrossingWords$Span" (2 : Nat)) ∈ lw_all := lw_g (lw_at lw_m3 109 rfl) rfl
theorem q690 : (Jvm.Cond.instanceMethod ({ cls := "CrossingWords$Span", name := "<init>", desc := "(II)V" } : Jvm.MethodName)) ∈ lw_all := lw_g (lw_at lw_m3 116 rfl) rfl
theorem q691 : (Jvm.Cond.code ({ cls := "CrossingWords$Span", name := "<init>", desc := "(II)V" } : Jvm.MethodName) prog_18_method_1_code (3 : Nat) (Option.none : Option Jvm.ClassFile.FieldType)) ∈ lw_all := lw_g (lw_at lw_m3 117 rfl) rfl
theorem q692 : (Jvm.Cond.methodLink "CrossingWords$Span" (1 : Nat) ({ cls := "java/lang/Object", name := "<init>", desc := "()V" } : Jvm.MethodName)) ∈ lw_all := lw_g (lw_at lw_m3 118 rfl) rfl
theorem q693 : (Jvm.Cond.fieldLink "CrossingWords$Span" (7 : Nat) "CrossingWords$Span" "low" "I") ∈ lw_all := lw_g (lw_at lw_m3 119 rfl) rfl
theorem q695 : (Jvm.Cond.fieldLink "CrossingWords$Span" (13 : Nat) "CrossingWords$Span" "high" "I") ∈ lw_all := lw_g (lw_at lw_m3 121 rfl) rfl
theorem q696 : (Jvm.Cond.laysFinal "CrossingWords$Span" "CrossingWords$Span" "low" "I") ∈ lw_all := lw_g (lw_at lw_m3 122 rfl) rfl
theorem q697 : (Jvm.Cond.soleField "CrossingWords$Span" "low") ∈ lw_all := lw_g (lw_at lw_m3 123 rfl) rfl
theorem q698 : (Jvm.Cond.laysFinal "CrossingWords$Span" "CrossingWords$Span" "high" "I") ∈ lw_all := lw_g (lw_at lw_m3 124 rfl) rfl
theorem q699 : (Jvm.Cond.soleField "CrossingWords$Span" "high") ∈ lw_all := lw_g (lw_at lw_m3 125 rfl) rfl
theorem q700 : (Jvm.Cond.superclass "CrossingWords$Span" "java/lang/Object") ∈ lw_all := lw_g (lw_at lw_m3 126 rfl) rfl
theorem in_X16 : ∀ w ∈ wsX160, w ∈ lw_all := lw_in wsX160 [696, 698] (by decide +kernel) (by decide +kernel)
/-! CrossingWords$Times -/
set_option maxRecDepth 100000
def RX17 : String := "CrossingWords$Times"
def TX17 : u_T := fun k => match k with
  | 0 => ("CrossingWords$Times", "way", "I", true)
  | 1 => ("CrossingWords$Times", "at", "LCrossingWords$Span;", true)
  | 2 => ("CrossingWords$Times", "after", "LCrossingWords$Span;", true)
  | 3 => ("CrossingWords$Times", "read", "LCrossingWords$Span;", true)
  | 4 => ("CrossingWords$Times", "mayBeLost", "Z", true)
  | _ => ("CrossingWords$Times", "isLost", "Z", true)
def tyX17 : Nat → FieldType := fun k => match k with
  | 0 => .int
  | 1 => .object "CrossingWords$Span"
  | 2 => .object "CrossingWords$Span"
  | 3 => .object "CrossingWords$Span"
  | 4 => .boolean
  | _ => .boolean
abbrev wsX170 : List Cond := u_ws RX17 TX17 6
theorem nmX17 : ∀ a, a < 6 → ∀ b, b < 6 → a ≠ b → (TX17 a).2.1 ≠ (TX17 b).2.1 := by decide +kernel
theorem tyX17_ok : ∀ k, k < 6 → parseFieldDescriptor (TX17 k).2.2.1 = some (tyX17 k) := by decide +kernel
abbrev cX17_init : ByteArray := prog_20_method_1_code
def yX17_init : MethodName := ⟨RX17, "<init>", "(ILCrossingWords$Span;LCrossingWords$Span;LCrossingWords$Span;ZZ)V"⟩
def dkwX17_init_1 : List UInt8 := [181, 0, 22, 42, 21, 5, 181, 0, 25, 42, 21, 6, 181, 0, 29, 177]
abbrev dktX17_init_1 : List UInt8 := dkwX17_init_1 ++ []
def dkwX17_init_0 : List UInt8 := [42, 183, 0, 3, 42, 27, 181, 0, 9, 42, 44, 181, 0, 15, 42, 45, 181, 0, 19, 42, 25, 4]
abbrev dktX17_init_0 : List UInt8 := dkwX17_init_0 ++ dktX17_init_1
theorem dksX17_init_0 : cX17_init.data.toList.drop 0 = dktX17_init_0 := by decide +kernel
theorem dksX17_init_1 : cX17_init.data.toList.drop 22 = dktX17_init_1 := dk_seg dksX17_init_0 22 rfl rfl
theorem dX17_init_0 : decode cX17_init 0 = .ok (.aload_n 0, 1) := dk_42 (dk_at dksX17_init_0 0 rfl rfl)
theorem dX17_init_1 : decode cX17_init 1 = .ok (.invokespecial 3, 3) := dk_183 0 3 (dk_at dksX17_init_0 1 rfl rfl)
theorem dX17_init_4 : decode cX17_init 4 = .ok (.aload_n 0, 1) := dk_42 (dk_at dksX17_init_0 4 rfl rfl)
theorem dX17_init_5 : decode cX17_init 5 = .ok (.iload_n 1, 1) := dk_27 (dk_at dksX17_init_0 5 rfl rfl)
theorem dX17_init_6 : decode cX17_init 6 = .ok (.putfield 9, 3) := dk_181 0 9 (dk_at dksX17_init_0 6 rfl rfl)
theorem dX17_init_9 : decode cX17_init 9 = .ok (.aload_n 0, 1) := dk_42 (dk_at dksX17_init_0 9 rfl rfl)
theorem dX17_init_10 : decode cX17_init 10 = .ok (.aload_n 2, 1) := dk_44 (dk_at dksX17_init_0 10 rfl rfl)
theorem dX17_init_11 : decode cX17_init 11 = .ok (.putfield 15, 3) := dk_181 0 15 (dk_at dksX17_init_0 11 rfl rfl)
theorem dX17_init_14 : decode cX17_init 14 = .ok (.aload_n 0, 1) := dk_42 (dk_at dksX17_init_0 14 rfl rfl)
theorem dX17_init_15 : decode cX17_init 15 = .ok (.aload_n 3, 1) := dk_45 (dk_at dksX17_init_0 15 rfl rfl)
theorem dX17_init_16 : decode cX17_init 16 = .ok (.putfield 19, 3) := dk_181 0 19 (dk_at dksX17_init_0 16 rfl rfl)
theorem dX17_init_19 : decode cX17_init 19 = .ok (.aload_n 0, 1) := dk_42 (dk_at dksX17_init_0 19 rfl rfl)
theorem dX17_init_20 : decode cX17_init 20 = .ok (.aload 4, 2) := dk_25 4 (dk_at dksX17_init_0 20 rfl rfl)
theorem dX17_init_22 : decode cX17_init 22 = .ok (.putfield 22, 3) := dk_181 0 22 (dk_at dksX17_init_1 0 rfl rfl)
theorem dX17_init_25 : decode cX17_init 25 = .ok (.aload_n 0, 1) := dk_42 (dk_at dksX17_init_1 3 rfl rfl)
theorem dX17_init_26 : decode cX17_init 26 = .ok (.iload 5, 2) := dk_21 5 (dk_at dksX17_init_1 4 rfl rfl)
theorem dX17_init_28 : decode cX17_init 28 = .ok (.putfield 25, 3) := dk_181 0 25 (dk_at dksX17_init_1 6 rfl rfl)
theorem dX17_init_31 : decode cX17_init 31 = .ok (.aload_n 0, 1) := dk_42 (dk_at dksX17_init_1 9 rfl rfl)
theorem dX17_init_32 : decode cX17_init 32 = .ok (.iload 6, 2) := dk_21 6 (dk_at dksX17_init_1 10 rfl rfl)
theorem dX17_init_34 : decode cX17_init 34 = .ok (.putfield 29, 3) := dk_181 0 29 (dk_at dksX17_init_1 12 rfl rfl)
theorem dX17_init_37 : decode cX17_init 37 = .ok (.return_, 1) := dk_177 (dk_at dksX17_init_1 15 rfl rfl)
abbrev cX17_lost : ByteArray := prog_20_method_2_code
def yX17_lost : MethodName := ⟨RX17, "lost", "()LCrossingWords$Times;"⟩
def dkwX17_lost_1 : List UInt8 := [183, 0, 32, 176]
abbrev dktX17_lost_1 : List UInt8 := dkwX17_lost_1 ++ []
def dkwX17_lost_0 : List UInt8 := [187, 0, 10, 89, 42, 180, 0, 9, 42, 180, 0, 15, 42, 180, 0, 19, 42, 180, 0, 22, 3, 4]
abbrev dktX17_lost_0 : List UInt8 := dkwX17_lost_0 ++ dktX17_lost_1
theorem dksX17_lost_0 : cX17_lost.data.toList.drop 0 = dktX17_lost_0 := by decide +kernel
theorem dksX17_lost_1 : cX17_lost.data.toList.drop 22 = dktX17_lost_1 := dk_seg dksX17_lost_0 22 rfl rfl
theorem dX17_lost_0 : decode cX17_lost 0 = .ok (.new 10, 3) := dk_187 0 10 (dk_at dksX17_lost_0 0 rfl rfl)
theorem dX17_lost_3 : decode cX17_lost 3 = .ok (.dup, 1) := dk_89 (dk_at dksX17_lost_0 3 rfl rfl)
theorem dX17_lost_4 : decode cX17_lost 4 = .ok (.aload_n 0, 1) := dk_42 (dk_at dksX17_lost_0 4 rfl rfl)
theorem dX17_lost_5 : decode cX17_lost 5 = .ok (.getfield 9, 3) := dk_180 0 9 (dk_at dksX17_lost_0 5 rfl rfl)
theorem dX17_lost_8 : decode cX17_lost 8 = .ok (.aload_n 0, 1) := dk_42 (dk_at dksX17_lost_0 8 rfl rfl)
theorem dX17_lost_9 : decode cX17_lost 9 = .ok (.getfield 15, 3) := dk_180 0 15 (dk_at dksX17_lost_0 9 rfl rfl)
theorem dX17_lost_12 : decode cX17_lost 12 = .ok (.aload_n 0, 1) := dk_42 (dk_at dksX17_lost_0 12 rfl rfl)
theorem dX17_lost_13 : decode cX17_lost 13 = .ok (.getfield 19, 3) := dk_180 0 19 (dk_at dksX17_lost_0 13 rfl rfl)
theorem dX17_lost_16 : decode cX17_lost 16 = .ok (.aload_n 0, 1) := dk_42 (dk_at dksX17_lost_0 16 rfl rfl)
theorem dX17_lost_17 : decode cX17_lost 17 = .ok (.getfield 22, 3) := dk_180 0 22 (dk_at dksX17_lost_0 17 rfl rfl)
theorem dX17_lost_20 : decode cX17_lost 20 = .ok (.iconst 0, 1) := dk_3 (dk_at dksX17_lost_0 20 rfl rfl)
theorem dX17_lost_21 : decode cX17_lost 21 = .ok (.iconst 1, 1) := dk_4 (dk_at dksX17_lost_0 21 rfl rfl)
theorem dX17_lost_22 : decode cX17_lost 22 = .ok (.invokespecial 32, 3) := dk_183 0 32 (dk_at dksX17_lost_1 0 rfl rfl)
theorem dX17_lost_25 : decode cX17_lost 25 = .ok (.areturn, 1) := dk_176 (dk_at dksX17_lost_1 3 rfl rfl)
abbrev cX17_wired : ByteArray := prog_20_method_3_code
def yX17_wired : MethodName := ⟨RX17, "wired", "()LCrossingWords$Times;"⟩
def dkwX17_wired_0 : List UInt8 := [187, 0, 10, 89, 4, 42, 180, 0, 15, 178, 0, 35, 178, 0, 35, 3, 3, 183, 0, 32, 176]
abbrev dktX17_wired_0 : List UInt8 := dkwX17_wired_0 ++ []
theorem dksX17_wired_0 : cX17_wired.data.toList.drop 0 = dktX17_wired_0 := by decide +kernel
theorem dX17_wired_0 : decode cX17_wired 0 = .ok (.new 10, 3) := dk_187 0 10 (dk_at dksX17_wired_0 0 rfl rfl)
theorem dX17_wired_3 : decode cX17_wired 3 = .ok (.dup, 1) := dk_89 (dk_at dksX17_wired_0 3 rfl rfl)
theorem dX17_wired_4 : decode cX17_wired 4 = .ok (.iconst 1, 1) := dk_4 (dk_at dksX17_wired_0 4 rfl rfl)
theorem dX17_wired_5 : decode cX17_wired 5 = .ok (.aload_n 0, 1) := dk_42 (dk_at dksX17_wired_0 5 rfl rfl)
theorem dX17_wired_6 : decode cX17_wired 6 = .ok (.getfield 15, 3) := dk_180 0 15 (dk_at dksX17_wired_0 6 rfl rfl)
theorem dX17_wired_9 : decode cX17_wired 9 = .ok (.getstatic 35, 3) := dk_178 0 35 (dk_at dksX17_wired_0 9 rfl rfl)
theorem dX17_wired_12 : decode cX17_wired 12 = .ok (.getstatic 35, 3) := dk_178 0 35 (dk_at dksX17_wired_0 12 rfl rfl)
theorem dX17_wired_15 : decode cX17_wired 15 = .ok (.iconst 0, 1) := dk_3 (dk_at dksX17_wired_0 15 rfl rfl)
theorem dX17_wired_16 : decode cX17_wired 16 = .ok (.iconst 0, 1) := dk_3 (dk_at dksX17_wired_0 16 rfl rfl)
theorem dX17_wired_17 : decode cX17_wired 17 = .ok (.invokespecial 32, 3) := dk_183 0 32 (dk_at dksX17_wired_0 17 rfl rfl)
theorem dX17_wired_20 : decode cX17_wired 20 = .ok (.areturn, 1) := dk_176 (dk_at dksX17_wired_0 20 rfl rfl)
theorem q113 : (Jvm.Cond.initialized "CrossingWords$Times") ∈ lw_all := lw_g (lw_at lw_m1 19 rfl) rfl
theorem q702 : (Jvm.Cond.instantiable "CrossingWords$Times" (6 : Nat)) ∈ lw_all := lw_g (lw_at lw_m3 128 rfl) rfl
theorem q706 : (Jvm.Cond.instanceMethod ({ cls := "CrossingWords$Times", name := "<init>", desc := "(ILCrossingWords$Span;LCrossingWords$Span;LCrossingWords$Span;ZZ)V" } : Jvm.MethodName)) ∈ lw_all := lw_g (lw_at lw_m3 132 rfl) rfl
theorem q707 : (Jvm.Cond.code ({ cls := "CrossingWords$Times", name := "<init>", desc := "(ILCrossingWords$Span;LCrossingWords$Span;LCrossingWords$Span;ZZ)V" } : Jvm.MethodName) prog_20_method_1_code (7 : Nat) (Option.none : Option Jvm.ClassFile.FieldType)) ∈ lw_all := lw_g (lw_at lw_m3 133 rfl) rfl
theorem q708 : (Jvm.Cond.methodLink "CrossingWords$Times" (3 : Nat) ({ cls := "java/lang/Object", name := "<init>", desc := "()V" } : Jvm.MethodName)) ∈ lw_all := lw_g (lw_at lw_m3 134 rfl) rfl
theorem q709 : (Jvm.Cond.fieldLink "CrossingWords$Times" (9 : Nat) "CrossingWords$Times" "way" "I") ∈ lw_all := lw_g (lw_at lw_m3 135 rfl) rfl
theorem q712 : (Jvm.Cond.fieldLink "CrossingWords$Times" (15 : Nat) "CrossingWords$Times" "at" "LCrossingWords$Span;") ∈ lw_all := lw_g (lw_at lw_m3 138 rfl) rfl
theorem q715 : (Jvm.Cond.fieldLink "CrossingWords$Times" (19 : Nat) "CrossingWords$Times" "after" "LCrossingWords$Span;") ∈ lw_all := lw_g (lw_at lw_m3 141 rfl) rfl
theorem q718 : (Jvm.Cond.fieldLink "CrossingWords$Times" (22 : Nat) "CrossingWords$Times" "read" "LCrossingWords$Span;") ∈ lw_all := lw_g (lw_at lw_m3 144 rfl) rfl
theorem q721 : (Jvm.Cond.fieldLink "CrossingWords$Times" (25 : Nat) "CrossingWords$Times" "mayBeLost" "Z") ∈ lw_all := lw_g (lw_at lw_m3 147 rfl) rfl
theorem q723 : (Jvm.Cond.fieldLink "CrossingWords$Times" (29 : Nat) "CrossingWords$Times" "isLost" "Z") ∈ lw_all := lw_g (lw_at lw_m3 149 rfl) rfl
theorem q725 : (Jvm.Cond.laysFinal "CrossingWords$Times" "CrossingWords$Times" "way" "I") ∈ lw_all := lw_g (lw_at lw_m3 151 rfl) rfl
theorem q726 : (Jvm.Cond.soleField "CrossingWords$Times" "way") ∈ lw_all := lw_g (lw_at lw_m3 152 rfl) rfl
theorem q727 : (Jvm.Cond.laysFinal "CrossingWords$Times" "CrossingWords$Times" "at" "LCrossingWords$Span;") ∈ lw_all := lw_g (lw_at lw_m3 153 rfl) rfl
theorem q728 : (Jvm.Cond.soleField "CrossingWords$Times" "at") ∈ lw_all := lw_g (lw_at lw_m3 154 rfl) rfl
theorem q729 : (Jvm.Cond.laysFinal "CrossingWords$Times" "CrossingWords$Times" "after" "LCrossingWords$Span;") ∈ lw_all := lw_g (lw_at lw_m3 155 rfl) rfl
theorem q730 : (Jvm.Cond.soleField "CrossingWords$Times" "after") ∈ lw_all := lw_g (lw_at lw_m3 156 rfl) rfl
theorem q731 : (Jvm.Cond.laysFinal "CrossingWords$Times" "CrossingWords$Times" "read" "LCrossingWords$Span;") ∈ lw_all := lw_g (lw_at lw_m3 157 rfl) rfl
theorem q732 : (Jvm.Cond.soleField "CrossingWords$Times" "read") ∈ lw_all := lw_g (lw_at lw_m3 158 rfl) rfl
theorem q733 : (Jvm.Cond.laysFinal "CrossingWords$Times" "CrossingWords$Times" "mayBeLost" "Z") ∈ lw_all := lw_g (lw_at lw_m3 159 rfl) rfl
theorem q734 : (Jvm.Cond.soleField "CrossingWords$Times" "mayBeLost") ∈ lw_all := lw_g (lw_at lw_m3 160 rfl) rfl
theorem q735 : (Jvm.Cond.laysFinal "CrossingWords$Times" "CrossingWords$Times" "isLost" "Z") ∈ lw_all := lw_g (lw_at lw_m3 161 rfl) rfl
theorem q736 : (Jvm.Cond.soleField "CrossingWords$Times" "isLost") ∈ lw_all := lw_g (lw_at lw_m3 162 rfl) rfl
theorem q737 : (Jvm.Cond.superclass "CrossingWords$Times" "java/lang/Object") ∈ lw_all := lw_g (lw_at lw_m3 163 rfl) rfl
theorem q1216 : (Jvm.Cond.instanceMethod ({ cls := "CrossingWords$Times", name := "lost", desc := "()LCrossingWords$Times;" } : Jvm.MethodName)) ∈ lw_all := lw_g (lw_at lw_m5 162 rfl) rfl
theorem q1217 : (Jvm.Cond.selects "CrossingWords$Times" ({ cls := "CrossingWords$Times", name := "lost", desc := "()LCrossingWords$Times;" } : Jvm.MethodName) ({ cls := "CrossingWords$Times", name := "lost", desc := "()LCrossingWords$Times;" } : Jvm.MethodName)) ∈ lw_all := lw_g (lw_at lw_m5 163 rfl) rfl
theorem q1218 : (Jvm.Cond.code ({ cls := "CrossingWords$Times", name := "lost", desc := "()LCrossingWords$Times;" } : Jvm.MethodName) prog_20_method_2_code (1 : Nat) (Option.some (Jvm.ClassFile.FieldType.object "CrossingWords$Times"))) ∈ lw_all := lw_g (lw_at lw_m5 164 rfl) rfl
theorem q1219 : (Jvm.Cond.classLink "CrossingWords$Times" (10 : Nat) "CrossingWords$Times") ∈ lw_all := lw_g (lw_at lw_m5 165 rfl) rfl
theorem q1220 : (Jvm.Cond.methodLink "CrossingWords$Times" (32 : Nat) ({ cls := "CrossingWords$Times", name := "<init>", desc := "(ILCrossingWords$Span;LCrossingWords$Span;LCrossingWords$Span;ZZ)V" } : Jvm.MethodName)) ∈ lw_all := lw_g (lw_at lw_m5 166 rfl) rfl
theorem q1232 : (Jvm.Cond.instanceMethod ({ cls := "CrossingWords$Times", name := "wired", desc := "()LCrossingWords$Times;" } : Jvm.MethodName)) ∈ lw_all := lw_g (lw_at lw_m5 178 rfl) rfl
theorem q1233 : (Jvm.Cond.selects "CrossingWords$Times" ({ cls := "CrossingWords$Times", name := "wired", desc := "()LCrossingWords$Times;" } : Jvm.MethodName) ({ cls := "CrossingWords$Times", name := "wired", desc := "()LCrossingWords$Times;" } : Jvm.MethodName)) ∈ lw_all := lw_g (lw_at lw_m5 179 rfl) rfl
theorem q1234 : (Jvm.Cond.code ({ cls := "CrossingWords$Times", name := "wired", desc := "()LCrossingWords$Times;" } : Jvm.MethodName) prog_20_method_3_code (1 : Nat) (Option.some (Jvm.ClassFile.FieldType.object "CrossingWords$Times"))) ∈ lw_all := lw_g (lw_at lw_m5 180 rfl) rfl
theorem q1235 : (Jvm.Cond.fieldLinkNest "CrossingWords$Times" (35 : Nat) "CrossingWords" "AT_ONCE" "LCrossingWords$Span;" "CrossingWords") ∈ lw_tbl := lw_at lw_m5 181 rfl
theorem in_X17 : ∀ w ∈ wsX170, w ∈ lw_all := lw_in wsX170 [725, 727, 729, 731, 733, 735] (by decide +kernel) (by decide +kernel)
/-! CrossingWords$LawReader -/
set_option maxRecDepth 100000
def RX18 : String := "CrossingWords$LawReader"
def TX18 : u_T := fun k => match k with
  | 0 => ("CrossingWords$Reader", "text", "[B", true)
  | 1 => ("CrossingWords$Reader", "size", "I", true)
  | 2 => ("CrossingWords$Reader", "at", "I", false)
  | 3 => ("CrossingWords$Reader", "end", "I", false)
  | 4 => ("CrossingWords$Reader", "kind", "I", false)
  | 5 => ("CrossingWords$Reader", "word", "J", false)
  | 6 => ("CrossingWords$Reader", "wrong", "Z", false)
  | 7 => ("CrossingWords$LawReader", "own", "LCrossingWords$Text;", true)
  | _ => ("CrossingWords$LawReader", "least", "I", true)
def tyX18 : Nat → FieldType := fun k => match k with
  | 0 => .array .byte
  | 1 => .int
  | 2 => .int
  | 3 => .int
  | 4 => .int
  | 5 => .long
  | 6 => .boolean
  | 7 => .object "CrossingWords$Text"
  | _ => .int
abbrev wsX180 : List Cond := u_ws RX18 TX18 9
theorem nmX18 : ∀ a, a < 9 → ∀ b, b < 9 → a ≠ b → (TX18 a).2.1 ≠ (TX18 b).2.1 := by decide +kernel
theorem tyX18_ok : ∀ k, k < 9 → parseFieldDescriptor (TX18 k).2.2.1 = some (tyX18 k) := by decide +kernel
abbrev cX18_hasRoom : ByteArray := prog_10_method_2_code
def yX18_hasRoom : MethodName := ⟨RX18, "hasRoom", "()Z"⟩
def dkwX18_hasRoom_0 : List UInt8 := [42, 180, 0, 14, 180, 0, 24, 16, 20, 162, 0, 7, 4, 167, 0, 4, 3, 172]
abbrev dktX18_hasRoom_0 : List UInt8 := dkwX18_hasRoom_0 ++ []
theorem dksX18_hasRoom_0 : cX18_hasRoom.data.toList.drop 0 = dktX18_hasRoom_0 := by decide +kernel
theorem dX18_hasRoom_0 : decode cX18_hasRoom 0 = .ok (.aload_n 0, 1) := dk_42 (dk_at dksX18_hasRoom_0 0 rfl rfl)
theorem dX18_hasRoom_1 : decode cX18_hasRoom 1 = .ok (.getfield 14, 3) := dk_180 0 14 (dk_at dksX18_hasRoom_0 1 rfl rfl)
theorem dX18_hasRoom_4 : decode cX18_hasRoom 4 = .ok (.getfield 24, 3) := dk_180 0 24 (dk_at dksX18_hasRoom_0 4 rfl rfl)
theorem dX18_hasRoom_7 : decode cX18_hasRoom 7 = .ok (.bipush 20, 2) := dk_16 20 (dk_at dksX18_hasRoom_0 7 rfl rfl)
theorem dX18_hasRoom_9 : decode cX18_hasRoom 9 = .ok (.if_icmp .ge 7, 3) := dk_162 0 7 (dk_at dksX18_hasRoom_0 9 rfl rfl)
theorem dX18_hasRoom_12 : decode cX18_hasRoom 12 = .ok (.iconst 1, 1) := dk_4 (dk_at dksX18_hasRoom_0 12 rfl rfl)
theorem dX18_hasRoom_13 : decode cX18_hasRoom 13 = .ok (.goto 4, 3) := dk_167 0 4 (dk_at dksX18_hasRoom_0 13 rfl rfl)
theorem dX18_hasRoom_16 : decode cX18_hasRoom 16 = .ok (.iconst 0, 1) := dk_3 (dk_at dksX18_hasRoom_0 16 rfl rfl)
theorem dX18_hasRoom_17 : decode cX18_hasRoom 17 = .ok (.ireturn, 1) := dk_172 (dk_at dksX18_hasRoom_0 17 rfl rfl)
abbrev cX18_statement : ByteArray := prog_10_method_4_code
def yX18_statement : MethodName := ⟨RX18, "statement", "()V"⟩
def dkwX18_statement_11 : List UInt8 := [180, 0, 24, 4, 96, 181, 0, 24, 177]
abbrev dktX18_statement_11 : List UInt8 := dkwX18_statement_11 ++ []
def dkwX18_statement_10 : List UInt8 := [42, 178, 0, 61, 182, 0, 31, 182, 0, 41, 42, 6, 20, 0, 64, 182, 0, 66, 42, 180, 0, 14, 89]
abbrev dktX18_statement_10 : List UInt8 := dkwX18_statement_10 ++ dktX18_statement_11
def dkwX18_statement_9 : List UInt8 := [180, 0, 14, 16, 11, 42, 178, 0, 58, 182, 0, 31, 182, 0, 41, 167, 0, 19, 42, 180, 0, 14, 16, 12]
abbrev dktX18_statement_9 : List UInt8 := dkwX18_statement_9 ++ dktX18_statement_10
def dkwX18_statement_8 : List UInt8 := [167, 0, 57, 42, 180, 0, 14, 16, 10, 42, 178, 0, 55, 182, 0, 31, 182, 0, 41, 167, 0, 38, 42]
abbrev dktX18_statement_8 : List UInt8 := dkwX18_statement_8 ++ dktX18_statement_9
def dkwX18_statement_7 : List UInt8 := [182, 0, 41, 167, 0, 76, 42, 180, 0, 14, 16, 9, 42, 178, 0, 52, 182, 0, 31, 182, 0, 41]
abbrev dktX18_statement_7 : List UInt8 := dkwX18_statement_7 ++ dktX18_statement_8
def dkwX18_statement_6 : List UInt8 := [182, 0, 48, 182, 0, 41, 167, 0, 96, 42, 180, 0, 14, 16, 8, 42, 3, 17, 3, 231, 182, 0, 48]
abbrev dktX18_statement_6 : List UInt8 := dkwX18_statement_6 ++ dktX18_statement_7
def dkwX18_statement_5 : List UInt8 := [178, 0, 45, 182, 0, 31, 182, 0, 41, 167, 0, 116, 42, 180, 0, 14, 16, 7, 42, 3, 17, 3, 231]
abbrev dktX18_statement_5 : List UInt8 := dkwX18_statement_5 ++ dktX18_statement_6
def dkwX18_statement_4 : List UInt8 := [180, 0, 14, 8, 42, 178, 0, 38, 182, 0, 31, 182, 0, 41, 167, 0, 135, 42, 180, 0, 14, 16, 6, 42]
abbrev dktX18_statement_4 : List UInt8 := dkwX18_statement_4 ++ dktX18_statement_5
def dkwX18_statement_3 : List UInt8 := [167, 0, 171, 42, 180, 0, 14, 7, 42, 178, 0, 38, 182, 0, 31, 182, 0, 41, 167, 0, 153, 42]
abbrev dktX18_statement_3 : List UInt8 := dkwX18_statement_3 ++ dktX18_statement_4
def dkwX18_statement_2 : List UInt8 := [42, 182, 0, 35, 167, 0, 189, 42, 180, 0, 14, 6, 42, 178, 0, 38, 182, 0, 31, 182, 0, 41]
abbrev dktX18_statement_2 : List UInt8 := dkwX18_statement_2 ++ dktX18_statement_3
def dkwX18_statement_1 : List UInt8 := [170, 0, 0, 0, 230, 0, 0, 0, 0, 0, 0, 0, 9, 0, 0, 0, 53, 0, 0, 0, 60, 0, 0, 0, 78, 0, 0, 0, 96, 0, 0, 0, 114, 0, 0, 0, 133, 0, 0, 0, 153, 0, 0, 0, 173, 0, 0, 0, 192, 0, 0, 0, 211]
abbrev dktX18_statement_1 : List UInt8 := dkwX18_statement_1 ++ dktX18_statement_2
def dkwX18_statement_0 : List UInt8 := [42, 178, 0, 27, 182, 0, 31]
abbrev dktX18_statement_0 : List UInt8 := dkwX18_statement_0 ++ dktX18_statement_1
theorem dksX18_statement_0 : cX18_statement.data.toList.drop 0 = dktX18_statement_0 := by decide +kernel
theorem dksX18_statement_1 : cX18_statement.data.toList.drop 7 = dktX18_statement_1 := dk_seg dksX18_statement_0 7 rfl rfl
theorem dksX18_statement_2 : cX18_statement.data.toList.drop 60 = dktX18_statement_2 := dk_seg dksX18_statement_1 53 rfl rfl
theorem dksX18_statement_3 : cX18_statement.data.toList.drop 82 = dktX18_statement_3 := dk_seg dksX18_statement_2 22 rfl rfl
theorem dksX18_statement_4 : cX18_statement.data.toList.drop 104 = dktX18_statement_4 := dk_seg dksX18_statement_3 22 rfl rfl
theorem dksX18_statement_5 : cX18_statement.data.toList.drop 128 = dktX18_statement_5 := dk_seg dksX18_statement_4 24 rfl rfl
theorem dksX18_statement_6 : cX18_statement.data.toList.drop 151 = dktX18_statement_6 := dk_seg dksX18_statement_5 23 rfl rfl
theorem dksX18_statement_7 : cX18_statement.data.toList.drop 174 = dktX18_statement_7 := dk_seg dksX18_statement_6 23 rfl rfl
theorem dksX18_statement_8 : cX18_statement.data.toList.drop 196 = dktX18_statement_8 := dk_seg dksX18_statement_7 22 rfl rfl
theorem dksX18_statement_9 : cX18_statement.data.toList.drop 219 = dktX18_statement_9 := dk_seg dksX18_statement_8 23 rfl rfl
theorem dksX18_statement_10 : cX18_statement.data.toList.drop 243 = dktX18_statement_10 := dk_seg dksX18_statement_9 24 rfl rfl
theorem dksX18_statement_11 : cX18_statement.data.toList.drop 266 = dktX18_statement_11 := dk_seg dksX18_statement_10 23 rfl rfl
theorem dX18_statement_0 : decode cX18_statement 0 = .ok (.aload_n 0, 1) := dk_42 (dk_at dksX18_statement_0 0 rfl rfl)
theorem dX18_statement_1 : decode cX18_statement 1 = .ok (.getstatic 27, 3) := dk_178 0 27 (dk_at dksX18_statement_0 1 rfl rfl)
theorem dX18_statement_4 : decode cX18_statement 4 = .ok (.invokevirtual 31, 3) := dk_182 0 31 (dk_at dksX18_statement_0 4 rfl rfl)
theorem dX18_statement_7 : decode cX18_statement 7 = .ok (.tableswitch 230 0 9 #[53, 60, 78, 96, 114, 133, 153, 173, 192, 211], 53) := by decide +kernel
theorem dX18_statement_60 : decode cX18_statement 60 = .ok (.aload_n 0, 1) := dk_42 (dk_at dksX18_statement_2 0 rfl rfl)
theorem dX18_statement_61 : decode cX18_statement 61 = .ok (.invokevirtual 35, 3) := dk_182 0 35 (dk_at dksX18_statement_2 1 rfl rfl)
theorem dX18_statement_64 : decode cX18_statement 64 = .ok (.goto 189, 3) := dk_167 0 189 (dk_at dksX18_statement_2 4 rfl rfl)
theorem dX18_statement_67 : decode cX18_statement 67 = .ok (.aload_n 0, 1) := dk_42 (dk_at dksX18_statement_2 7 rfl rfl)
theorem dX18_statement_68 : decode cX18_statement 68 = .ok (.getfield 14, 3) := dk_180 0 14 (dk_at dksX18_statement_2 8 rfl rfl)
theorem dX18_statement_71 : decode cX18_statement 71 = .ok (.iconst 3, 1) := dk_6 (dk_at dksX18_statement_2 11 rfl rfl)
theorem dX18_statement_72 : decode cX18_statement 72 = .ok (.aload_n 0, 1) := dk_42 (dk_at dksX18_statement_2 12 rfl rfl)
theorem dX18_statement_73 : decode cX18_statement 73 = .ok (.getstatic 38, 3) := dk_178 0 38 (dk_at dksX18_statement_2 13 rfl rfl)
theorem dX18_statement_76 : decode cX18_statement 76 = .ok (.invokevirtual 31, 3) := dk_182 0 31 (dk_at dksX18_statement_2 16 rfl rfl)
theorem dX18_statement_79 : decode cX18_statement 79 = .ok (.invokevirtual 41, 3) := dk_182 0 41 (dk_at dksX18_statement_2 19 rfl rfl)
theorem dX18_statement_82 : decode cX18_statement 82 = .ok (.goto 171, 3) := dk_167 0 171 (dk_at dksX18_statement_3 0 rfl rfl)
theorem dX18_statement_85 : decode cX18_statement 85 = .ok (.aload_n 0, 1) := dk_42 (dk_at dksX18_statement_3 3 rfl rfl)
theorem dX18_statement_86 : decode cX18_statement 86 = .ok (.getfield 14, 3) := dk_180 0 14 (dk_at dksX18_statement_3 4 rfl rfl)
theorem dX18_statement_89 : decode cX18_statement 89 = .ok (.iconst 4, 1) := dk_7 (dk_at dksX18_statement_3 7 rfl rfl)
theorem dX18_statement_90 : decode cX18_statement 90 = .ok (.aload_n 0, 1) := dk_42 (dk_at dksX18_statement_3 8 rfl rfl)
theorem dX18_statement_91 : decode cX18_statement 91 = .ok (.getstatic 38, 3) := dk_178 0 38 (dk_at dksX18_statement_3 9 rfl rfl)
theorem dX18_statement_94 : decode cX18_statement 94 = .ok (.invokevirtual 31, 3) := dk_182 0 31 (dk_at dksX18_statement_3 12 rfl rfl)
theorem dX18_statement_97 : decode cX18_statement 97 = .ok (.invokevirtual 41, 3) := dk_182 0 41 (dk_at dksX18_statement_3 15 rfl rfl)
theorem dX18_statement_100 : decode cX18_statement 100 = .ok (.goto 153, 3) := dk_167 0 153 (dk_at dksX18_statement_3 18 rfl rfl)
theorem dX18_statement_103 : decode cX18_statement 103 = .ok (.aload_n 0, 1) := dk_42 (dk_at dksX18_statement_3 21 rfl rfl)
theorem dX18_statement_104 : decode cX18_statement 104 = .ok (.getfield 14, 3) := dk_180 0 14 (dk_at dksX18_statement_4 0 rfl rfl)
theorem dX18_statement_107 : decode cX18_statement 107 = .ok (.iconst 5, 1) := dk_8 (dk_at dksX18_statement_4 3 rfl rfl)
theorem dX18_statement_108 : decode cX18_statement 108 = .ok (.aload_n 0, 1) := dk_42 (dk_at dksX18_statement_4 4 rfl rfl)
theorem dX18_statement_109 : decode cX18_statement 109 = .ok (.getstatic 38, 3) := dk_178 0 38 (dk_at dksX18_statement_4 5 rfl rfl)
theorem dX18_statement_112 : decode cX18_statement 112 = .ok (.invokevirtual 31, 3) := dk_182 0 31 (dk_at dksX18_statement_4 8 rfl rfl)
theorem dX18_statement_115 : decode cX18_statement 115 = .ok (.invokevirtual 41, 3) := dk_182 0 41 (dk_at dksX18_statement_4 11 rfl rfl)
theorem dX18_statement_118 : decode cX18_statement 118 = .ok (.goto 135, 3) := dk_167 0 135 (dk_at dksX18_statement_4 14 rfl rfl)
theorem dX18_statement_121 : decode cX18_statement 121 = .ok (.aload_n 0, 1) := dk_42 (dk_at dksX18_statement_4 17 rfl rfl)
theorem dX18_statement_122 : decode cX18_statement 122 = .ok (.getfield 14, 3) := dk_180 0 14 (dk_at dksX18_statement_4 18 rfl rfl)
theorem dX18_statement_125 : decode cX18_statement 125 = .ok (.bipush 6, 2) := dk_16 6 (dk_at dksX18_statement_4 21 rfl rfl)
theorem dX18_statement_127 : decode cX18_statement 127 = .ok (.aload_n 0, 1) := dk_42 (dk_at dksX18_statement_4 23 rfl rfl)
theorem dX18_statement_128 : decode cX18_statement 128 = .ok (.getstatic 45, 3) := dk_178 0 45 (dk_at dksX18_statement_5 0 rfl rfl)
theorem dX18_statement_131 : decode cX18_statement 131 = .ok (.invokevirtual 31, 3) := dk_182 0 31 (dk_at dksX18_statement_5 3 rfl rfl)
theorem dX18_statement_134 : decode cX18_statement 134 = .ok (.invokevirtual 41, 3) := dk_182 0 41 (dk_at dksX18_statement_5 6 rfl rfl)
theorem dX18_statement_137 : decode cX18_statement 137 = .ok (.goto 116, 3) := dk_167 0 116 (dk_at dksX18_statement_5 9 rfl rfl)
theorem dX18_statement_140 : decode cX18_statement 140 = .ok (.aload_n 0, 1) := dk_42 (dk_at dksX18_statement_5 12 rfl rfl)
theorem dX18_statement_141 : decode cX18_statement 141 = .ok (.getfield 14, 3) := dk_180 0 14 (dk_at dksX18_statement_5 13 rfl rfl)
theorem dX18_statement_144 : decode cX18_statement 144 = .ok (.bipush 7, 2) := dk_16 7 (dk_at dksX18_statement_5 16 rfl rfl)
theorem dX18_statement_146 : decode cX18_statement 146 = .ok (.aload_n 0, 1) := dk_42 (dk_at dksX18_statement_5 18 rfl rfl)
theorem dX18_statement_147 : decode cX18_statement 147 = .ok (.iconst 0, 1) := dk_3 (dk_at dksX18_statement_5 19 rfl rfl)
theorem dX18_statement_148 : decode cX18_statement 148 = .ok (.sipush 999, 3) := dk_17 3 231 (dk_at dksX18_statement_5 20 rfl rfl)
theorem dX18_statement_151 : decode cX18_statement 151 = .ok (.invokevirtual 48, 3) := dk_182 0 48 (dk_at dksX18_statement_6 0 rfl rfl)
theorem dX18_statement_154 : decode cX18_statement 154 = .ok (.invokevirtual 41, 3) := dk_182 0 41 (dk_at dksX18_statement_6 3 rfl rfl)
theorem dX18_statement_157 : decode cX18_statement 157 = .ok (.goto 96, 3) := dk_167 0 96 (dk_at dksX18_statement_6 6 rfl rfl)
theorem dX18_statement_160 : decode cX18_statement 160 = .ok (.aload_n 0, 1) := dk_42 (dk_at dksX18_statement_6 9 rfl rfl)
theorem dX18_statement_161 : decode cX18_statement 161 = .ok (.getfield 14, 3) := dk_180 0 14 (dk_at dksX18_statement_6 10 rfl rfl)
theorem dX18_statement_164 : decode cX18_statement 164 = .ok (.bipush 8, 2) := dk_16 8 (dk_at dksX18_statement_6 13 rfl rfl)
theorem dX18_statement_166 : decode cX18_statement 166 = .ok (.aload_n 0, 1) := dk_42 (dk_at dksX18_statement_6 15 rfl rfl)
theorem dX18_statement_167 : decode cX18_statement 167 = .ok (.iconst 0, 1) := dk_3 (dk_at dksX18_statement_6 16 rfl rfl)
theorem dX18_statement_168 : decode cX18_statement 168 = .ok (.sipush 999, 3) := dk_17 3 231 (dk_at dksX18_statement_6 17 rfl rfl)
theorem dX18_statement_171 : decode cX18_statement 171 = .ok (.invokevirtual 48, 3) := dk_182 0 48 (dk_at dksX18_statement_6 20 rfl rfl)
theorem dX18_statement_174 : decode cX18_statement 174 = .ok (.invokevirtual 41, 3) := dk_182 0 41 (dk_at dksX18_statement_7 0 rfl rfl)
theorem dX18_statement_177 : decode cX18_statement 177 = .ok (.goto 76, 3) := dk_167 0 76 (dk_at dksX18_statement_7 3 rfl rfl)
theorem dX18_statement_180 : decode cX18_statement 180 = .ok (.aload_n 0, 1) := dk_42 (dk_at dksX18_statement_7 6 rfl rfl)
theorem dX18_statement_181 : decode cX18_statement 181 = .ok (.getfield 14, 3) := dk_180 0 14 (dk_at dksX18_statement_7 7 rfl rfl)
theorem dX18_statement_184 : decode cX18_statement 184 = .ok (.bipush 9, 2) := dk_16 9 (dk_at dksX18_statement_7 10 rfl rfl)
theorem dX18_statement_186 : decode cX18_statement 186 = .ok (.aload_n 0, 1) := dk_42 (dk_at dksX18_statement_7 12 rfl rfl)
theorem dX18_statement_187 : decode cX18_statement 187 = .ok (.getstatic 52, 3) := dk_178 0 52 (dk_at dksX18_statement_7 13 rfl rfl)
theorem dX18_statement_190 : decode cX18_statement 190 = .ok (.invokevirtual 31, 3) := dk_182 0 31 (dk_at dksX18_statement_7 16 rfl rfl)
theorem dX18_statement_193 : decode cX18_statement 193 = .ok (.invokevirtual 41, 3) := dk_182 0 41 (dk_at dksX18_statement_7 19 rfl rfl)
theorem dX18_statement_196 : decode cX18_statement 196 = .ok (.goto 57, 3) := dk_167 0 57 (dk_at dksX18_statement_8 0 rfl rfl)
theorem dX18_statement_199 : decode cX18_statement 199 = .ok (.aload_n 0, 1) := dk_42 (dk_at dksX18_statement_8 3 rfl rfl)
theorem dX18_statement_200 : decode cX18_statement 200 = .ok (.getfield 14, 3) := dk_180 0 14 (dk_at dksX18_statement_8 4 rfl rfl)
theorem dX18_statement_203 : decode cX18_statement 203 = .ok (.bipush 10, 2) := dk_16 10 (dk_at dksX18_statement_8 7 rfl rfl)
theorem dX18_statement_205 : decode cX18_statement 205 = .ok (.aload_n 0, 1) := dk_42 (dk_at dksX18_statement_8 9 rfl rfl)
theorem dX18_statement_206 : decode cX18_statement 206 = .ok (.getstatic 55, 3) := dk_178 0 55 (dk_at dksX18_statement_8 10 rfl rfl)
theorem dX18_statement_209 : decode cX18_statement 209 = .ok (.invokevirtual 31, 3) := dk_182 0 31 (dk_at dksX18_statement_8 13 rfl rfl)
theorem dX18_statement_212 : decode cX18_statement 212 = .ok (.invokevirtual 41, 3) := dk_182 0 41 (dk_at dksX18_statement_8 16 rfl rfl)
theorem dX18_statement_215 : decode cX18_statement 215 = .ok (.goto 38, 3) := dk_167 0 38 (dk_at dksX18_statement_8 19 rfl rfl)
theorem dX18_statement_218 : decode cX18_statement 218 = .ok (.aload_n 0, 1) := dk_42 (dk_at dksX18_statement_8 22 rfl rfl)
theorem dX18_statement_219 : decode cX18_statement 219 = .ok (.getfield 14, 3) := dk_180 0 14 (dk_at dksX18_statement_9 0 rfl rfl)
theorem dX18_statement_222 : decode cX18_statement 222 = .ok (.bipush 11, 2) := dk_16 11 (dk_at dksX18_statement_9 3 rfl rfl)
theorem dX18_statement_224 : decode cX18_statement 224 = .ok (.aload_n 0, 1) := dk_42 (dk_at dksX18_statement_9 5 rfl rfl)
theorem dX18_statement_225 : decode cX18_statement 225 = .ok (.getstatic 58, 3) := dk_178 0 58 (dk_at dksX18_statement_9 6 rfl rfl)
theorem dX18_statement_228 : decode cX18_statement 228 = .ok (.invokevirtual 31, 3) := dk_182 0 31 (dk_at dksX18_statement_9 9 rfl rfl)
theorem dX18_statement_231 : decode cX18_statement 231 = .ok (.invokevirtual 41, 3) := dk_182 0 41 (dk_at dksX18_statement_9 12 rfl rfl)
theorem dX18_statement_234 : decode cX18_statement 234 = .ok (.goto 19, 3) := dk_167 0 19 (dk_at dksX18_statement_9 15 rfl rfl)
theorem dX18_statement_237 : decode cX18_statement 237 = .ok (.aload_n 0, 1) := dk_42 (dk_at dksX18_statement_9 18 rfl rfl)
theorem dX18_statement_238 : decode cX18_statement 238 = .ok (.getfield 14, 3) := dk_180 0 14 (dk_at dksX18_statement_9 19 rfl rfl)
theorem dX18_statement_241 : decode cX18_statement 241 = .ok (.bipush 12, 2) := dk_16 12 (dk_at dksX18_statement_9 22 rfl rfl)
theorem dX18_statement_243 : decode cX18_statement 243 = .ok (.aload_n 0, 1) := dk_42 (dk_at dksX18_statement_10 0 rfl rfl)
theorem dX18_statement_244 : decode cX18_statement 244 = .ok (.getstatic 61, 3) := dk_178 0 61 (dk_at dksX18_statement_10 1 rfl rfl)
theorem dX18_statement_247 : decode cX18_statement 247 = .ok (.invokevirtual 31, 3) := dk_182 0 31 (dk_at dksX18_statement_10 4 rfl rfl)
theorem dX18_statement_250 : decode cX18_statement 250 = .ok (.invokevirtual 41, 3) := dk_182 0 41 (dk_at dksX18_statement_10 7 rfl rfl)
theorem dX18_statement_253 : decode cX18_statement 253 = .ok (.aload_n 0, 1) := dk_42 (dk_at dksX18_statement_10 10 rfl rfl)
theorem dX18_statement_254 : decode cX18_statement 254 = .ok (.iconst 3, 1) := dk_6 (dk_at dksX18_statement_10 11 rfl rfl)
theorem dX18_statement_255 : decode cX18_statement 255 = .ok (.ldc2_w 64, 3) := dk_20 0 64 (dk_at dksX18_statement_10 12 rfl rfl)
theorem dX18_statement_258 : decode cX18_statement 258 = .ok (.invokevirtual 66, 3) := dk_182 0 66 (dk_at dksX18_statement_10 15 rfl rfl)
theorem dX18_statement_261 : decode cX18_statement 261 = .ok (.aload_n 0, 1) := dk_42 (dk_at dksX18_statement_10 18 rfl rfl)
theorem dX18_statement_262 : decode cX18_statement 262 = .ok (.getfield 14, 3) := dk_180 0 14 (dk_at dksX18_statement_10 19 rfl rfl)
theorem dX18_statement_265 : decode cX18_statement 265 = .ok (.dup, 1) := dk_89 (dk_at dksX18_statement_10 22 rfl rfl)
theorem dX18_statement_266 : decode cX18_statement 266 = .ok (.getfield 24, 3) := dk_180 0 24 (dk_at dksX18_statement_11 0 rfl rfl)
theorem dX18_statement_269 : decode cX18_statement 269 = .ok (.iconst 1, 1) := dk_4 (dk_at dksX18_statement_11 3 rfl rfl)
theorem dX18_statement_270 : decode cX18_statement 270 = .ok (.iadd, 1) := dk_96 (dk_at dksX18_statement_11 4 rfl rfl)
theorem dX18_statement_271 : decode cX18_statement 271 = .ok (.putfield 24, 3) := dk_181 0 24 (dk_at dksX18_statement_11 5 rfl rfl)
theorem dX18_statement_274 : decode cX18_statement 274 = .ok (.return_, 1) := dk_177 (dk_at dksX18_statement_11 8 rfl rfl)
abbrev cX18_yes : ByteArray := prog_10_method_5_code
def yX18_yes : MethodName := ⟨RX18, "yes", "()V"⟩
def dkwX18_yes_2 : List UInt8 := [167, 255, 227, 177]
abbrev dktX18_yes_2 : List UInt8 := dkwX18_yes_2 ++ []
def dkwX18_yes_1 : List UInt8 := [6, 159, 0, 8, 27, 29, 160, 0, 14, 42, 180, 0, 14, 3, 29, 96, 28, 182, 0, 41, 132, 3, 1]
abbrev dktX18_yes_1 : List UInt8 := dkwX18_yes_1 ++ dktX18_yes_2
def dkwX18_yes_0 : List UInt8 := [42, 178, 0, 70, 182, 0, 31, 60, 42, 178, 0, 38, 182, 0, 31, 61, 3, 62, 29, 6, 162, 0, 30, 27]
abbrev dktX18_yes_0 : List UInt8 := dkwX18_yes_0 ++ dktX18_yes_1
theorem dksX18_yes_0 : cX18_yes.data.toList.drop 0 = dktX18_yes_0 := by decide +kernel
theorem dksX18_yes_1 : cX18_yes.data.toList.drop 24 = dktX18_yes_1 := dk_seg dksX18_yes_0 24 rfl rfl
theorem dksX18_yes_2 : cX18_yes.data.toList.drop 47 = dktX18_yes_2 := dk_seg dksX18_yes_1 23 rfl rfl
theorem dX18_yes_0 : decode cX18_yes 0 = .ok (.aload_n 0, 1) := dk_42 (dk_at dksX18_yes_0 0 rfl rfl)
theorem dX18_yes_1 : decode cX18_yes 1 = .ok (.getstatic 70, 3) := dk_178 0 70 (dk_at dksX18_yes_0 1 rfl rfl)
theorem dX18_yes_4 : decode cX18_yes 4 = .ok (.invokevirtual 31, 3) := dk_182 0 31 (dk_at dksX18_yes_0 4 rfl rfl)
theorem dX18_yes_7 : decode cX18_yes 7 = .ok (.istore_n 1, 1) := dk_60 (dk_at dksX18_yes_0 7 rfl rfl)
theorem dX18_yes_8 : decode cX18_yes 8 = .ok (.aload_n 0, 1) := dk_42 (dk_at dksX18_yes_0 8 rfl rfl)
theorem dX18_yes_9 : decode cX18_yes 9 = .ok (.getstatic 38, 3) := dk_178 0 38 (dk_at dksX18_yes_0 9 rfl rfl)
theorem dX18_yes_12 : decode cX18_yes 12 = .ok (.invokevirtual 31, 3) := dk_182 0 31 (dk_at dksX18_yes_0 12 rfl rfl)
theorem dX18_yes_15 : decode cX18_yes 15 = .ok (.istore_n 2, 1) := dk_61 (dk_at dksX18_yes_0 15 rfl rfl)
theorem dX18_yes_16 : decode cX18_yes 16 = .ok (.iconst 0, 1) := dk_3 (dk_at dksX18_yes_0 16 rfl rfl)
theorem dX18_yes_17 : decode cX18_yes 17 = .ok (.istore_n 3, 1) := dk_62 (dk_at dksX18_yes_0 17 rfl rfl)
theorem dX18_yes_18 : decode cX18_yes 18 = .ok (.iload_n 3, 1) := dk_29 (dk_at dksX18_yes_0 18 rfl rfl)
theorem dX18_yes_19 : decode cX18_yes 19 = .ok (.iconst 3, 1) := dk_6 (dk_at dksX18_yes_0 19 rfl rfl)
theorem dX18_yes_20 : decode cX18_yes 20 = .ok (.if_icmp .ge 30, 3) := dk_162 0 30 (dk_at dksX18_yes_0 20 rfl rfl)
theorem dX18_yes_23 : decode cX18_yes 23 = .ok (.iload_n 1, 1) := dk_27 (dk_at dksX18_yes_0 23 rfl rfl)
theorem dX18_yes_24 : decode cX18_yes 24 = .ok (.iconst 3, 1) := dk_6 (dk_at dksX18_yes_1 0 rfl rfl)
theorem dX18_yes_25 : decode cX18_yes 25 = .ok (.if_icmp .eq 8, 3) := dk_159 0 8 (dk_at dksX18_yes_1 1 rfl rfl)
theorem dX18_yes_28 : decode cX18_yes 28 = .ok (.iload_n 1, 1) := dk_27 (dk_at dksX18_yes_1 4 rfl rfl)
theorem dX18_yes_29 : decode cX18_yes 29 = .ok (.iload_n 3, 1) := dk_29 (dk_at dksX18_yes_1 5 rfl rfl)
theorem dX18_yes_30 : decode cX18_yes 30 = .ok (.if_icmp .ne 14, 3) := dk_160 0 14 (dk_at dksX18_yes_1 6 rfl rfl)
theorem dX18_yes_33 : decode cX18_yes 33 = .ok (.aload_n 0, 1) := dk_42 (dk_at dksX18_yes_1 9 rfl rfl)
theorem dX18_yes_34 : decode cX18_yes 34 = .ok (.getfield 14, 3) := dk_180 0 14 (dk_at dksX18_yes_1 10 rfl rfl)
theorem dX18_yes_37 : decode cX18_yes 37 = .ok (.iconst 0, 1) := dk_3 (dk_at dksX18_yes_1 13 rfl rfl)
theorem dX18_yes_38 : decode cX18_yes 38 = .ok (.iload_n 3, 1) := dk_29 (dk_at dksX18_yes_1 14 rfl rfl)
theorem dX18_yes_39 : decode cX18_yes 39 = .ok (.iadd, 1) := dk_96 (dk_at dksX18_yes_1 15 rfl rfl)
theorem dX18_yes_40 : decode cX18_yes 40 = .ok (.iload_n 2, 1) := dk_28 (dk_at dksX18_yes_1 16 rfl rfl)
theorem dX18_yes_41 : decode cX18_yes 41 = .ok (.invokevirtual 41, 3) := dk_182 0 41 (dk_at dksX18_yes_1 17 rfl rfl)
theorem dX18_yes_44 : decode cX18_yes 44 = .ok (.iinc 3 1, 3) := dk_132 3 1 (dk_at dksX18_yes_1 20 rfl rfl)
theorem dX18_yes_47 : decode cX18_yes 47 = .ok (.goto (-29), 3) := dk_167 255 227 (dk_at dksX18_yes_2 0 rfl rfl)
theorem dX18_yes_50 : decode cX18_yes 50 = .ok (.return_, 1) := dk_177 (dk_at dksX18_yes_2 3 rfl rfl)
abbrev cX18_isWhole : ByteArray := prog_10_method_3_code
def yX18_isWhole : MethodName := ⟨RX18, "isWhole", "()Z"⟩
def dkwX18_isWhole_0 : List UInt8 := [42, 180, 0, 14, 180, 0, 24, 42, 180, 0, 20, 161, 0, 7, 4, 167, 0, 4, 3, 172]
abbrev dktX18_isWhole_0 : List UInt8 := dkwX18_isWhole_0 ++ []
theorem dksX18_isWhole_0 : cX18_isWhole.data.toList.drop 0 = dktX18_isWhole_0 := by decide +kernel
theorem dX18_isWhole_0 : decode cX18_isWhole 0 = .ok (.aload_n 0, 1) := dk_42 (dk_at dksX18_isWhole_0 0 rfl rfl)
theorem dX18_isWhole_1 : decode cX18_isWhole 1 = .ok (.getfield 14, 3) := dk_180 0 14 (dk_at dksX18_isWhole_0 1 rfl rfl)
theorem dX18_isWhole_4 : decode cX18_isWhole 4 = .ok (.getfield 24, 3) := dk_180 0 24 (dk_at dksX18_isWhole_0 4 rfl rfl)
theorem dX18_isWhole_7 : decode cX18_isWhole 7 = .ok (.aload_n 0, 1) := dk_42 (dk_at dksX18_isWhole_0 7 rfl rfl)
theorem dX18_isWhole_8 : decode cX18_isWhole 8 = .ok (.getfield 20, 3) := dk_180 0 20 (dk_at dksX18_isWhole_0 8 rfl rfl)
theorem dX18_isWhole_11 : decode cX18_isWhole 11 = .ok (.if_icmp .lt 7, 3) := dk_161 0 7 (dk_at dksX18_isWhole_0 11 rfl rfl)
theorem dX18_isWhole_14 : decode cX18_isWhole 14 = .ok (.iconst 1, 1) := dk_4 (dk_at dksX18_isWhole_0 14 rfl rfl)
theorem dX18_isWhole_15 : decode cX18_isWhole 15 = .ok (.goto 4, 3) := dk_167 0 4 (dk_at dksX18_isWhole_0 15 rfl rfl)
theorem dX18_isWhole_18 : decode cX18_isWhole 18 = .ok (.iconst 0, 1) := dk_3 (dk_at dksX18_isWhole_0 18 rfl rfl)
theorem dX18_isWhole_19 : decode cX18_isWhole 19 = .ok (.ireturn, 1) := dk_172 (dk_at dksX18_isWhole_0 19 rfl rfl)
abbrev cX18_init : ByteArray := prog_10_method_1_code
def yX18_init : MethodName := ⟨RX18, "<init>", "([BII)V"⟩
def dkwX18_init_0 : List UInt8 := [42, 43, 28, 183, 0, 3, 42, 187, 0, 9, 89, 183, 0, 11, 181, 0, 14, 42, 29, 181, 0, 20, 177]
abbrev dktX18_init_0 : List UInt8 := dkwX18_init_0 ++ []
theorem dksX18_init_0 : cX18_init.data.toList.drop 0 = dktX18_init_0 := by decide +kernel
theorem dX18_init_0 : decode cX18_init 0 = .ok (.aload_n 0, 1) := dk_42 (dk_at dksX18_init_0 0 rfl rfl)
theorem dX18_init_1 : decode cX18_init 1 = .ok (.aload_n 1, 1) := dk_43 (dk_at dksX18_init_0 1 rfl rfl)
theorem dX18_init_2 : decode cX18_init 2 = .ok (.iload_n 2, 1) := dk_28 (dk_at dksX18_init_0 2 rfl rfl)
theorem dX18_init_3 : decode cX18_init 3 = .ok (.invokespecial 3, 3) := dk_183 0 3 (dk_at dksX18_init_0 3 rfl rfl)
theorem dX18_init_6 : decode cX18_init 6 = .ok (.aload_n 0, 1) := dk_42 (dk_at dksX18_init_0 6 rfl rfl)
theorem dX18_init_7 : decode cX18_init 7 = .ok (.new 9, 3) := dk_187 0 9 (dk_at dksX18_init_0 7 rfl rfl)
theorem dX18_init_10 : decode cX18_init 10 = .ok (.dup, 1) := dk_89 (dk_at dksX18_init_0 10 rfl rfl)
theorem dX18_init_11 : decode cX18_init 11 = .ok (.invokespecial 11, 3) := dk_183 0 11 (dk_at dksX18_init_0 11 rfl rfl)
theorem dX18_init_14 : decode cX18_init 14 = .ok (.putfield 14, 3) := dk_181 0 14 (dk_at dksX18_init_0 14 rfl rfl)
theorem dX18_init_17 : decode cX18_init 17 = .ok (.aload_n 0, 1) := dk_42 (dk_at dksX18_init_0 17 rfl rfl)
theorem dX18_init_18 : decode cX18_init 18 = .ok (.iload_n 3, 1) := dk_29 (dk_at dksX18_init_0 18 rfl rfl)
theorem dX18_init_19 : decode cX18_init 19 = .ok (.putfield 20, 3) := dk_181 0 20 (dk_at dksX18_init_0 19 rfl rfl)
theorem dX18_init_22 : decode cX18_init 22 = .ok (.return_, 1) := dk_177 (dk_at dksX18_init_0 22 rfl rfl)
theorem q114 : (Jvm.Cond.initialized "CrossingWords$LawReader") ∈ lw_all := lw_g (lw_at lw_m1 20 rfl) rfl
theorem q378 : (Jvm.Cond.selects "CrossingWords$LawReader" ({ cls := "CrossingWords$Reader", name := "reads", desc := "()Z" } : Jvm.MethodName) ({ cls := "CrossingWords$Reader", name := "reads", desc := "()Z" } : Jvm.MethodName)) ∈ lw_all := lw_g (lw_at lw_m2 44 rfl) rfl
theorem q386 : (Jvm.Cond.selects "CrossingWords$LawReader" ({ cls := "CrossingWords$Reader", name := "hasRoom", desc := "()Z" } : Jvm.MethodName) ({ cls := "CrossingWords$LawReader", name := "hasRoom", desc := "()Z" } : Jvm.MethodName)) ∈ lw_all := lw_g (lw_at lw_m2 52 rfl) rfl
theorem q387 : (Jvm.Cond.instanceMethod ({ cls := "CrossingWords$LawReader", name := "hasRoom", desc := "()Z" } : Jvm.MethodName)) ∈ lw_all := lw_g (lw_at lw_m2 53 rfl) rfl
theorem q388 : (Jvm.Cond.code ({ cls := "CrossingWords$LawReader", name := "hasRoom", desc := "()Z" } : Jvm.MethodName) prog_10_method_2_code (1 : Nat) (Option.some Jvm.ClassFile.FieldType.boolean)) ∈ lw_all := lw_g (lw_at lw_m2 54 rfl) rfl
theorem q407 : (Jvm.Cond.selects "CrossingWords$LawReader" ({ cls := "CrossingWords$Reader", name := "maybe", desc := "([J)I" } : Jvm.MethodName) ({ cls := "CrossingWords$Reader", name := "maybe", desc := "([J)I" } : Jvm.MethodName)) ∈ lw_all := lw_g (lw_at lw_m2 73 rfl) rfl
theorem q416 : (Jvm.Cond.selects "CrossingWords$LawReader" ({ cls := "CrossingWords$Reader", name := "pass", desc := "()V" } : Jvm.MethodName) ({ cls := "CrossingWords$Reader", name := "pass", desc := "()V" } : Jvm.MethodName)) ∈ lw_all := lw_g (lw_at lw_m2 82 rfl) rfl
theorem q746 : (Jvm.Cond.selects "CrossingWords$LawReader" ({ cls := "CrossingWords$Reader", name := "statement", desc := "()V" } : Jvm.MethodName) ({ cls := "CrossingWords$LawReader", name := "statement", desc := "()V" } : Jvm.MethodName)) ∈ lw_all := lw_g (lw_at lw_m3 172 rfl) rfl
theorem q747 : (Jvm.Cond.instanceMethod ({ cls := "CrossingWords$LawReader", name := "statement", desc := "()V" } : Jvm.MethodName)) ∈ lw_all := lw_g (lw_at lw_m3 173 rfl) rfl
theorem q748 : (Jvm.Cond.code ({ cls := "CrossingWords$LawReader", name := "statement", desc := "()V" } : Jvm.MethodName) prog_10_method_4_code (1 : Nat) (Option.none : Option Jvm.ClassFile.FieldType)) ∈ lw_all := lw_g (lw_at lw_m3 174 rfl) rfl
theorem q749 : (Jvm.Cond.fieldLinkNest "CrossingWords$LawReader" (27 : Nat) "CrossingWords" "RULE_NAMES" "[J" "CrossingWords") ∈ lw_tbl := lw_at lw_m3 175 rfl
theorem q751 : (Jvm.Cond.methodLink "CrossingWords$LawReader" (31 : Nat) ({ cls := "CrossingWords$LawReader", name := "name", desc := "([J)I" } : Jvm.MethodName)) ∈ lw_all := lw_g (lw_at lw_m3 177 rfl) rfl
theorem q752 : (Jvm.Cond.sameMethod "CrossingWords$LawReader" "CrossingWords$Reader" "name" "([J)I") ∈ lw_all := lw_g (lw_at lw_m3 178 rfl) rfl
theorem q753 : (Jvm.Cond.selects "CrossingWords$LawReader" ({ cls := "CrossingWords$LawReader", name := "name", desc := "([J)I" } : Jvm.MethodName) ({ cls := "CrossingWords$Reader", name := "name", desc := "([J)I" } : Jvm.MethodName)) ∈ lw_all := lw_g (lw_at lw_m3 179 rfl) rfl
theorem q754 : (Jvm.Cond.methodLink "CrossingWords$LawReader" (35 : Nat) ({ cls := "CrossingWords$LawReader", name := "yes", desc := "()V" } : Jvm.MethodName)) ∈ lw_all := lw_g (lw_at lw_m3 180 rfl) rfl
theorem q755 : (Jvm.Cond.privateMethod ({ cls := "CrossingWords$LawReader", name := "yes", desc := "()V" } : Jvm.MethodName)) ∈ lw_tbl := lw_at lw_m3 181 rfl
theorem q756 : (Jvm.Cond.instanceMethod ({ cls := "CrossingWords$LawReader", name := "yes", desc := "()V" } : Jvm.MethodName)) ∈ lw_all := lw_g (lw_at lw_m3 182 rfl) rfl
theorem q757 : (Jvm.Cond.instantiable "CrossingWords$LawReader" (9 : Nat)) ∈ lw_all := lw_g (lw_at lw_m3 183 rfl) rfl
theorem q758 : (Jvm.Cond.code ({ cls := "CrossingWords$LawReader", name := "yes", desc := "()V" } : Jvm.MethodName) prog_10_method_5_code (4 : Nat) (Option.none : Option Jvm.ClassFile.FieldType)) ∈ lw_all := lw_g (lw_at lw_m3 184 rfl) rfl
theorem q759 : (Jvm.Cond.fieldLinkNest "CrossingWords$LawReader" (70 : Nat) "CrossingWords" "YES_WAYS" "[J" "CrossingWords") ∈ lw_tbl := lw_at lw_m3 185 rfl
theorem q761 : (Jvm.Cond.fieldLinkNest "CrossingWords$LawReader" (38 : Nat) "CrossingWords" "WHENS" "[J" "CrossingWords") ∈ lw_tbl := lw_at lw_m3 187 rfl
theorem q763 : (Jvm.Cond.methodLink "CrossingWords$LawReader" (41 : Nat) ({ cls := "CrossingWords$Text", name := "adds", desc := "(II)V" } : Jvm.MethodName)) ∈ lw_all := lw_g (lw_at lw_m3 189 rfl) rfl
theorem q767 : (Jvm.Cond.fieldLinkNest "CrossingWords$LawReader" (45 : Nat) "CrossingWords" "HOLDS" "[J" "CrossingWords") ∈ lw_tbl := lw_at lw_m3 193 rfl
theorem q769 : (Jvm.Cond.methodLink "CrossingWords$LawReader" (48 : Nat) ({ cls := "CrossingWords$LawReader", name := "number", desc := "(II)I" } : Jvm.MethodName)) ∈ lw_all := lw_g (lw_at lw_m3 195 rfl) rfl
theorem q770 : (Jvm.Cond.sameMethod "CrossingWords$LawReader" "CrossingWords$Reader" "number" "(II)I") ∈ lw_all := lw_g (lw_at lw_m3 196 rfl) rfl
theorem q771 : (Jvm.Cond.selects "CrossingWords$LawReader" ({ cls := "CrossingWords$LawReader", name := "number", desc := "(II)I" } : Jvm.MethodName) ({ cls := "CrossingWords$Reader", name := "number", desc := "(II)I" } : Jvm.MethodName)) ∈ lw_all := lw_g (lw_at lw_m3 197 rfl) rfl
theorem q772 : (Jvm.Cond.fieldLinkNest "CrossingWords$LawReader" (52 : Nat) "CrossingWords" "BUTS" "[J" "CrossingWords") ∈ lw_tbl := lw_at lw_m3 198 rfl
theorem q774 : (Jvm.Cond.fieldLinkNest "CrossingWords$LawReader" (55 : Nat) "CrossingWords" "FORMS" "[J" "CrossingWords") ∈ lw_tbl := lw_at lw_m3 200 rfl
theorem q776 : (Jvm.Cond.fieldLinkNest "CrossingWords$LawReader" (58 : Nat) "CrossingWords" "DEEDS" "[J" "CrossingWords") ∈ lw_tbl := lw_at lw_m3 202 rfl
theorem q778 : (Jvm.Cond.fieldLinkNest "CrossingWords$LawReader" (61 : Nat) "CrossingWords" "RISKS" "[J" "CrossingWords") ∈ lw_tbl := lw_at lw_m3 204 rfl
theorem q780 : (Jvm.Cond.constantLong "CrossingWords$LawReader" (64 : Nat) (59 : Int64)) ∈ lw_all := lw_g (lw_at lw_m3 206 rfl) rfl
theorem q781 : (Jvm.Cond.methodLink "CrossingWords$LawReader" (66 : Nat) ({ cls := "CrossingWords$LawReader", name := "needs", desc := "(IJ)V" } : Jvm.MethodName)) ∈ lw_all := lw_g (lw_at lw_m3 207 rfl) rfl
theorem q782 : (Jvm.Cond.sameMethod "CrossingWords$LawReader" "CrossingWords$Reader" "needs" "(IJ)V") ∈ lw_all := lw_g (lw_at lw_m3 208 rfl) rfl
theorem q783 : (Jvm.Cond.selects "CrossingWords$LawReader" ({ cls := "CrossingWords$LawReader", name := "needs", desc := "(IJ)V" } : Jvm.MethodName) ({ cls := "CrossingWords$Reader", name := "needs", desc := "(IJ)V" } : Jvm.MethodName)) ∈ lw_all := lw_g (lw_at lw_m3 209 rfl) rfl
theorem q790 : (Jvm.Cond.selects "CrossingWords$LawReader" ({ cls := "CrossingWords$Reader", name := "isWhole", desc := "()Z" } : Jvm.MethodName) ({ cls := "CrossingWords$LawReader", name := "isWhole", desc := "()Z" } : Jvm.MethodName)) ∈ lw_all := lw_g (lw_at lw_m3 216 rfl) rfl
theorem q791 : (Jvm.Cond.instanceMethod ({ cls := "CrossingWords$LawReader", name := "isWhole", desc := "()Z" } : Jvm.MethodName)) ∈ lw_all := lw_g (lw_at lw_m3 217 rfl) rfl
theorem q792 : (Jvm.Cond.code ({ cls := "CrossingWords$LawReader", name := "isWhole", desc := "()Z" } : Jvm.MethodName) prog_10_method_3_code (1 : Nat) (Option.some Jvm.ClassFile.FieldType.boolean)) ∈ lw_all := lw_g (lw_at lw_m3 218 rfl) rfl
theorem q797 : (Jvm.Cond.selects "CrossingWords$LawReader" ({ cls := "CrossingWords$Reader", name := "place", desc := "()I" } : Jvm.MethodName) ({ cls := "CrossingWords$Reader", name := "place", desc := "()I" } : Jvm.MethodName)) ∈ lw_all := lw_g (lw_at lw_m3 223 rfl) rfl
theorem q813 : (Jvm.Cond.instanceMethod ({ cls := "CrossingWords$LawReader", name := "<init>", desc := "([BII)V" } : Jvm.MethodName)) ∈ lw_all := lw_g (lw_at lw_m3 239 rfl) rfl
theorem q814 : (Jvm.Cond.code ({ cls := "CrossingWords$LawReader", name := "<init>", desc := "([BII)V" } : Jvm.MethodName) prog_10_method_1_code (4 : Nat) (Option.none : Option Jvm.ClassFile.FieldType)) ∈ lw_all := lw_g (lw_at lw_m4 0 rfl) rfl
theorem q815 : (Jvm.Cond.methodLink "CrossingWords$LawReader" (3 : Nat) ({ cls := "CrossingWords$Reader", name := "<init>", desc := "([BI)V" } : Jvm.MethodName)) ∈ lw_all := lw_g (lw_at lw_m4 1 rfl) rfl
theorem q816 : (Jvm.Cond.classLink "CrossingWords$LawReader" (9 : Nat) "CrossingWords$Text") ∈ lw_all := lw_g (lw_at lw_m4 2 rfl) rfl
theorem q818 : (Jvm.Cond.methodLinkNest "CrossingWords$LawReader" (11 : Nat) ({ cls := "CrossingWords$Text", name := "<init>", desc := "()V" } : Jvm.MethodName) "CrossingWords") ∈ lw_tbl := lw_at lw_m4 4 rfl
theorem q828 : (Jvm.Cond.fieldLink "CrossingWords$LawReader" (24 : Nat) "CrossingWords$Text" "rules" "I") ∈ lw_all := lw_g (lw_at lw_m4 14 rfl) rfl
theorem q839 : (Jvm.Cond.fieldLink "CrossingWords$LawReader" (14 : Nat) "CrossingWords$LawReader" "own" "LCrossingWords$Text;") ∈ lw_all := lw_g (lw_at lw_m4 25 rfl) rfl
theorem q841 : (Jvm.Cond.fieldLink "CrossingWords$LawReader" (20 : Nat) "CrossingWords$LawReader" "least" "I") ∈ lw_all := lw_g (lw_at lw_m4 27 rfl) rfl
theorem q842 : (Jvm.Cond.laysFinal "CrossingWords$LawReader" "CrossingWords$LawReader" "own" "LCrossingWords$Text;") ∈ lw_all := lw_g (lw_at lw_m4 28 rfl) rfl
theorem q843 : (Jvm.Cond.soleField "CrossingWords$LawReader" "own") ∈ lw_all := lw_g (lw_at lw_m4 29 rfl) rfl
theorem q844 : (Jvm.Cond.laysFinal "CrossingWords$LawReader" "CrossingWords$LawReader" "least" "I") ∈ lw_all := lw_g (lw_at lw_m4 30 rfl) rfl
theorem q845 : (Jvm.Cond.soleField "CrossingWords$LawReader" "least") ∈ lw_all := lw_g (lw_at lw_m4 31 rfl) rfl
theorem q846 : (Jvm.Cond.laysFinal "CrossingWords$LawReader" "CrossingWords$Reader" "text" "[B") ∈ lw_all := lw_g (lw_at lw_m4 32 rfl) rfl
theorem q847 : (Jvm.Cond.laysFinal "CrossingWords$LawReader" "CrossingWords$Reader" "size" "I") ∈ lw_all := lw_g (lw_at lw_m4 33 rfl) rfl
theorem q848 : (Jvm.Cond.lays "CrossingWords$LawReader" "CrossingWords$Reader" "at" "I") ∈ lw_all := lw_g (lw_at lw_m4 34 rfl) rfl
theorem q849 : (Jvm.Cond.lays "CrossingWords$LawReader" "CrossingWords$Reader" "end" "I") ∈ lw_all := lw_g (lw_at lw_m4 35 rfl) rfl
theorem q850 : (Jvm.Cond.lays "CrossingWords$LawReader" "CrossingWords$Reader" "kind" "I") ∈ lw_all := lw_g (lw_at lw_m4 36 rfl) rfl
theorem q851 : (Jvm.Cond.lays "CrossingWords$LawReader" "CrossingWords$Reader" "word" "J") ∈ lw_all := lw_g (lw_at lw_m4 37 rfl) rfl
theorem q852 : (Jvm.Cond.lays "CrossingWords$LawReader" "CrossingWords$Reader" "wrong" "Z") ∈ lw_all := lw_g (lw_at lw_m4 38 rfl) rfl
theorem q853 : (Jvm.Cond.superclass "CrossingWords$LawReader" "CrossingWords$Reader") ∈ lw_all := lw_g (lw_at lw_m4 39 rfl) rfl
theorem in_X18 : ∀ w ∈ wsX180, w ∈ lw_all := lw_in wsX180 [846, 847, 848, 849, 850, 851, 852, 842, 844] (by decide +kernel) (by decide +kernel)
/-! CrossingWords$Text -/
set_option maxRecDepth 100000
def RX19 : String := "CrossingWords$Text"
def TX19 : u_T := fun k => match k with
  | 0 => ("CrossingWords$Text", "fields", "[I", true)
  | 1 => ("CrossingWords$Text", "values", "[I", true)
  | 2 => ("CrossingWords$Text", "many", "I", false)
  | _ => ("CrossingWords$Text", "rules", "I", false)
def tyX19 : Nat → FieldType := fun k => match k with
  | 0 => .array .int
  | 1 => .array .int
  | 2 => .int
  | _ => .int
abbrev wsX190 : List Cond := u_ws RX19 TX19 4
theorem nmX19 : ∀ a, a < 4 → ∀ b, b < 4 → a ≠ b → (TX19 a).2.1 ≠ (TX19 b).2.1 := by decide +kernel
theorem tyX19_ok : ∀ k, k < 4 → parseFieldDescriptor (TX19 k).2.2.1 = some (tyX19 k) := by decide +kernel
abbrev cX19_adds : ByteArray := prog_19_method_2_code
def yX19_adds : MethodName := ⟨RX19, "adds", "(II)V"⟩
def dkwX19_adds_1 : List UInt8 := [180, 0, 18, 4, 96, 181, 0, 18, 177]
abbrev dktX19_adds_1 : List UInt8 := dkwX19_adds_1 ++ []
def dkwX19_adds_0 : List UInt8 := [42, 180, 0, 9, 42, 180, 0, 18, 27, 79, 42, 180, 0, 15, 42, 180, 0, 18, 28, 79, 42, 89]
abbrev dktX19_adds_0 : List UInt8 := dkwX19_adds_0 ++ dktX19_adds_1
theorem dksX19_adds_0 : cX19_adds.data.toList.drop 0 = dktX19_adds_0 := by decide +kernel
theorem dksX19_adds_1 : cX19_adds.data.toList.drop 22 = dktX19_adds_1 := dk_seg dksX19_adds_0 22 rfl rfl
theorem dX19_adds_0 : decode cX19_adds 0 = .ok (.aload_n 0, 1) := dk_42 (dk_at dksX19_adds_0 0 rfl rfl)
theorem dX19_adds_1 : decode cX19_adds 1 = .ok (.getfield 9, 3) := dk_180 0 9 (dk_at dksX19_adds_0 1 rfl rfl)
theorem dX19_adds_4 : decode cX19_adds 4 = .ok (.aload_n 0, 1) := dk_42 (dk_at dksX19_adds_0 4 rfl rfl)
theorem dX19_adds_5 : decode cX19_adds 5 = .ok (.getfield 18, 3) := dk_180 0 18 (dk_at dksX19_adds_0 5 rfl rfl)
theorem dX19_adds_8 : decode cX19_adds 8 = .ok (.iload_n 1, 1) := dk_27 (dk_at dksX19_adds_0 8 rfl rfl)
theorem dX19_adds_9 : decode cX19_adds 9 = .ok (.iastore, 1) := dk_79 (dk_at dksX19_adds_0 9 rfl rfl)
theorem dX19_adds_10 : decode cX19_adds 10 = .ok (.aload_n 0, 1) := dk_42 (dk_at dksX19_adds_0 10 rfl rfl)
theorem dX19_adds_11 : decode cX19_adds 11 = .ok (.getfield 15, 3) := dk_180 0 15 (dk_at dksX19_adds_0 11 rfl rfl)
theorem dX19_adds_14 : decode cX19_adds 14 = .ok (.aload_n 0, 1) := dk_42 (dk_at dksX19_adds_0 14 rfl rfl)
theorem dX19_adds_15 : decode cX19_adds 15 = .ok (.getfield 18, 3) := dk_180 0 18 (dk_at dksX19_adds_0 15 rfl rfl)
theorem dX19_adds_18 : decode cX19_adds 18 = .ok (.iload_n 2, 1) := dk_28 (dk_at dksX19_adds_0 18 rfl rfl)
theorem dX19_adds_19 : decode cX19_adds 19 = .ok (.iastore, 1) := dk_79 (dk_at dksX19_adds_0 19 rfl rfl)
theorem dX19_adds_20 : decode cX19_adds 20 = .ok (.aload_n 0, 1) := dk_42 (dk_at dksX19_adds_0 20 rfl rfl)
theorem dX19_adds_21 : decode cX19_adds 21 = .ok (.dup, 1) := dk_89 (dk_at dksX19_adds_0 21 rfl rfl)
theorem dX19_adds_22 : decode cX19_adds 22 = .ok (.getfield 18, 3) := dk_180 0 18 (dk_at dksX19_adds_1 0 rfl rfl)
theorem dX19_adds_25 : decode cX19_adds 25 = .ok (.iconst 1, 1) := dk_4 (dk_at dksX19_adds_1 3 rfl rfl)
theorem dX19_adds_26 : decode cX19_adds 26 = .ok (.iadd, 1) := dk_96 (dk_at dksX19_adds_1 4 rfl rfl)
theorem dX19_adds_27 : decode cX19_adds 27 = .ok (.putfield 18, 3) := dk_181 0 18 (dk_at dksX19_adds_1 5 rfl rfl)
theorem dX19_adds_30 : decode cX19_adds 30 = .ok (.return_, 1) := dk_177 (dk_at dksX19_adds_1 8 rfl rfl)
abbrev cX19_init : ByteArray := prog_19_method_1_code
def yX19_init : MethodName := ⟨RX19, "<init>", "()V"⟩
def dkwX19_init_0 : List UInt8 := [42, 183, 0, 3, 42, 16, 60, 188, 10, 181, 0, 9, 42, 16, 60, 188, 10, 181, 0, 15, 177]
abbrev dktX19_init_0 : List UInt8 := dkwX19_init_0 ++ []
theorem dksX19_init_0 : cX19_init.data.toList.drop 0 = dktX19_init_0 := by decide +kernel
theorem dX19_init_0 : decode cX19_init 0 = .ok (.aload_n 0, 1) := dk_42 (dk_at dksX19_init_0 0 rfl rfl)
theorem dX19_init_1 : decode cX19_init 1 = .ok (.invokespecial 3, 3) := dk_183 0 3 (dk_at dksX19_init_0 1 rfl rfl)
theorem dX19_init_4 : decode cX19_init 4 = .ok (.aload_n 0, 1) := dk_42 (dk_at dksX19_init_0 4 rfl rfl)
theorem dX19_init_5 : decode cX19_init 5 = .ok (.bipush 60, 2) := dk_16 60 (dk_at dksX19_init_0 5 rfl rfl)
theorem dX19_init_7 : decode cX19_init 7 = .ok (.newarray .int, 2) := dk_188_10 (dk_at dksX19_init_0 7 rfl rfl)
theorem dX19_init_9 : decode cX19_init 9 = .ok (.putfield 9, 3) := dk_181 0 9 (dk_at dksX19_init_0 9 rfl rfl)
theorem dX19_init_12 : decode cX19_init 12 = .ok (.aload_n 0, 1) := dk_42 (dk_at dksX19_init_0 12 rfl rfl)
theorem dX19_init_13 : decode cX19_init 13 = .ok (.bipush 60, 2) := dk_16 60 (dk_at dksX19_init_0 13 rfl rfl)
theorem dX19_init_15 : decode cX19_init 15 = .ok (.newarray .int, 2) := dk_188_10 (dk_at dksX19_init_0 15 rfl rfl)
theorem dX19_init_17 : decode cX19_init 17 = .ok (.putfield 15, 3) := dk_181 0 15 (dk_at dksX19_init_0 17 rfl rfl)
theorem dX19_init_20 : decode cX19_init 20 = .ok (.return_, 1) := dk_177 (dk_at dksX19_init_0 20 rfl rfl)
theorem q115 : (Jvm.Cond.initialized "CrossingWords$Text") ∈ lw_all := lw_g (lw_at lw_m1 21 rfl) rfl
theorem q764 : (Jvm.Cond.instanceMethod ({ cls := "CrossingWords$Text", name := "adds", desc := "(II)V" } : Jvm.MethodName)) ∈ lw_all := lw_g (lw_at lw_m3 190 rfl) rfl
theorem q765 : (Jvm.Cond.selects "CrossingWords$Text" ({ cls := "CrossingWords$Text", name := "adds", desc := "(II)V" } : Jvm.MethodName) ({ cls := "CrossingWords$Text", name := "adds", desc := "(II)V" } : Jvm.MethodName)) ∈ lw_all := lw_g (lw_at lw_m3 191 rfl) rfl
theorem q766 : (Jvm.Cond.code ({ cls := "CrossingWords$Text", name := "adds", desc := "(II)V" } : Jvm.MethodName) prog_19_method_2_code (3 : Nat) (Option.none : Option Jvm.ClassFile.FieldType)) ∈ lw_all := lw_g (lw_at lw_m3 192 rfl) rfl
theorem q817 : (Jvm.Cond.instantiable "CrossingWords$Text" (4 : Nat)) ∈ lw_all := lw_g (lw_at lw_m4 3 rfl) rfl
theorem q819 : (Jvm.Cond.instanceMethod ({ cls := "CrossingWords$Text", name := "<init>", desc := "()V" } : Jvm.MethodName)) ∈ lw_all := lw_g (lw_at lw_m4 5 rfl) rfl
theorem q820 : (Jvm.Cond.code ({ cls := "CrossingWords$Text", name := "<init>", desc := "()V" } : Jvm.MethodName) prog_19_method_1_code (1 : Nat) (Option.none : Option Jvm.ClassFile.FieldType)) ∈ lw_all := lw_g (lw_at lw_m4 6 rfl) rfl
theorem q821 : (Jvm.Cond.methodLink "CrossingWords$Text" (3 : Nat) ({ cls := "java/lang/Object", name := "<init>", desc := "()V" } : Jvm.MethodName)) ∈ lw_all := lw_g (lw_at lw_m4 7 rfl) rfl
theorem q822 : (Jvm.Cond.fieldLink "CrossingWords$Text" (9 : Nat) "CrossingWords$Text" "fields" "[I") ∈ lw_all := lw_g (lw_at lw_m4 8 rfl) rfl
theorem q824 : (Jvm.Cond.fieldLink "CrossingWords$Text" (15 : Nat) "CrossingWords$Text" "values" "[I") ∈ lw_all := lw_g (lw_at lw_m4 10 rfl) rfl
theorem q827 : (Jvm.Cond.fieldLink "CrossingWords$Text" (18 : Nat) "CrossingWords$Text" "many" "I") ∈ lw_all := lw_g (lw_at lw_m4 13 rfl) rfl
theorem q830 : (Jvm.Cond.laysFinal "CrossingWords$Text" "CrossingWords$Text" "fields" "[I") ∈ lw_all := lw_g (lw_at lw_m4 16 rfl) rfl
theorem q831 : (Jvm.Cond.soleField "CrossingWords$Text" "fields") ∈ lw_all := lw_g (lw_at lw_m4 17 rfl) rfl
theorem q832 : (Jvm.Cond.laysFinal "CrossingWords$Text" "CrossingWords$Text" "values" "[I") ∈ lw_all := lw_g (lw_at lw_m4 18 rfl) rfl
theorem q833 : (Jvm.Cond.soleField "CrossingWords$Text" "values") ∈ lw_all := lw_g (lw_at lw_m4 19 rfl) rfl
theorem q834 : (Jvm.Cond.lays "CrossingWords$Text" "CrossingWords$Text" "many" "I") ∈ lw_all := lw_g (lw_at lw_m4 20 rfl) rfl
theorem q835 : (Jvm.Cond.soleField "CrossingWords$Text" "many") ∈ lw_all := lw_g (lw_at lw_m4 21 rfl) rfl
theorem q836 : (Jvm.Cond.lays "CrossingWords$Text" "CrossingWords$Text" "rules" "I") ∈ lw_all := lw_g (lw_at lw_m4 22 rfl) rfl
theorem q837 : (Jvm.Cond.soleField "CrossingWords$Text" "rules") ∈ lw_all := lw_g (lw_at lw_m4 23 rfl) rfl
theorem q838 : (Jvm.Cond.superclass "CrossingWords$Text" "java/lang/Object") ∈ lw_all := lw_g (lw_at lw_m4 24 rfl) rfl
theorem in_X19 : ∀ w ∈ wsX190, w ∈ lw_all := lw_in wsX190 [830, 832, 834, 836] (by decide +kernel) (by decide +kernel)
/-! CrossingWords$Rules -/
set_option maxRecDepth 100000
def RX20 : String := "CrossingWords$Rules"
def TX20 : u_T := fun k => match k with
  | 0 => ("CrossingWords$Rules", "row", "[I", true)
  | _ => ("CrossingWords$Rules", "given", "[I", true)
def tyX20 : Nat → FieldType := fun k => match k with
  | 0 => .array .int
  | _ => .array .int
abbrev wsX200 : List Cond := u_ws RX20 TX20 2
theorem nmX20 : ∀ a, a < 2 → ∀ b, b < 2 → a ≠ b → (TX20 a).2.1 ≠ (TX20 b).2.1 := by decide +kernel
theorem tyX20_ok : ∀ k, k < 2 → parseFieldDescriptor (TX20 k).2.2.1 = some (tyX20 k) := by decide +kernel
abbrev cX20_init : ByteArray := prog_14_method_1_code
def yX20_init : MethodName := ⟨RX20, "<init>", "()V"⟩
def dkwX20_init_3 : List UInt8 := [16, 16, 188, 10, 181, 0, 15, 177]
abbrev dktX20_init_3 : List UInt8 := dkwX20_init_3 ++ []
def dkwX20_init_2 : List UInt8 := [89, 16, 9, 3, 79, 89, 16, 10, 3, 79, 89, 16, 11, 3, 79, 89, 16, 12, 3, 79, 181, 0, 9, 42]
abbrev dktX20_init_2 : List UInt8 := dkwX20_init_2 ++ dktX20_init_3
def dkwX20_init_1 : List UInt8 := [79, 89, 7, 4, 79, 89, 8, 4, 79, 89, 16, 6, 3, 79, 89, 16, 7, 2, 79, 89, 16, 8, 2, 79]
abbrev dktX20_init_1 : List UInt8 := dkwX20_init_1 ++ dktX20_init_2
def dkwX20_init_0 : List UInt8 := [42, 183, 0, 3, 42, 16, 13, 188, 10, 89, 3, 4, 79, 89, 4, 4, 79, 89, 5, 4, 79, 89, 6, 4]
abbrev dktX20_init_0 : List UInt8 := dkwX20_init_0 ++ dktX20_init_1
theorem dksX20_init_0 : cX20_init.data.toList.drop 0 = dktX20_init_0 := by decide +kernel
theorem dksX20_init_1 : cX20_init.data.toList.drop 24 = dktX20_init_1 := dk_seg dksX20_init_0 24 rfl rfl
theorem dksX20_init_2 : cX20_init.data.toList.drop 48 = dktX20_init_2 := dk_seg dksX20_init_1 24 rfl rfl
theorem dksX20_init_3 : cX20_init.data.toList.drop 72 = dktX20_init_3 := dk_seg dksX20_init_2 24 rfl rfl
theorem dX20_init_0 : decode cX20_init 0 = .ok (.aload_n 0, 1) := dk_42 (dk_at dksX20_init_0 0 rfl rfl)
theorem dX20_init_1 : decode cX20_init 1 = .ok (.invokespecial 3, 3) := dk_183 0 3 (dk_at dksX20_init_0 1 rfl rfl)
theorem dX20_init_4 : decode cX20_init 4 = .ok (.aload_n 0, 1) := dk_42 (dk_at dksX20_init_0 4 rfl rfl)
theorem dX20_init_5 : decode cX20_init 5 = .ok (.bipush 13, 2) := dk_16 13 (dk_at dksX20_init_0 5 rfl rfl)
theorem dX20_init_7 : decode cX20_init 7 = .ok (.newarray .int, 2) := dk_188_10 (dk_at dksX20_init_0 7 rfl rfl)
theorem dX20_init_9 : decode cX20_init 9 = .ok (.dup, 1) := dk_89 (dk_at dksX20_init_0 9 rfl rfl)
theorem dX20_init_10 : decode cX20_init 10 = .ok (.iconst 0, 1) := dk_3 (dk_at dksX20_init_0 10 rfl rfl)
theorem dX20_init_11 : decode cX20_init 11 = .ok (.iconst 1, 1) := dk_4 (dk_at dksX20_init_0 11 rfl rfl)
theorem dX20_init_12 : decode cX20_init 12 = .ok (.iastore, 1) := dk_79 (dk_at dksX20_init_0 12 rfl rfl)
theorem dX20_init_13 : decode cX20_init 13 = .ok (.dup, 1) := dk_89 (dk_at dksX20_init_0 13 rfl rfl)
theorem dX20_init_14 : decode cX20_init 14 = .ok (.iconst 1, 1) := dk_4 (dk_at dksX20_init_0 14 rfl rfl)
theorem dX20_init_15 : decode cX20_init 15 = .ok (.iconst 1, 1) := dk_4 (dk_at dksX20_init_0 15 rfl rfl)
theorem dX20_init_16 : decode cX20_init 16 = .ok (.iastore, 1) := dk_79 (dk_at dksX20_init_0 16 rfl rfl)
theorem dX20_init_17 : decode cX20_init 17 = .ok (.dup, 1) := dk_89 (dk_at dksX20_init_0 17 rfl rfl)
theorem dX20_init_18 : decode cX20_init 18 = .ok (.iconst 2, 1) := dk_5 (dk_at dksX20_init_0 18 rfl rfl)
theorem dX20_init_19 : decode cX20_init 19 = .ok (.iconst 1, 1) := dk_4 (dk_at dksX20_init_0 19 rfl rfl)
theorem dX20_init_20 : decode cX20_init 20 = .ok (.iastore, 1) := dk_79 (dk_at dksX20_init_0 20 rfl rfl)
theorem dX20_init_21 : decode cX20_init 21 = .ok (.dup, 1) := dk_89 (dk_at dksX20_init_0 21 rfl rfl)
theorem dX20_init_22 : decode cX20_init 22 = .ok (.iconst 3, 1) := dk_6 (dk_at dksX20_init_0 22 rfl rfl)
theorem dX20_init_23 : decode cX20_init 23 = .ok (.iconst 1, 1) := dk_4 (dk_at dksX20_init_0 23 rfl rfl)
theorem dX20_init_24 : decode cX20_init 24 = .ok (.iastore, 1) := dk_79 (dk_at dksX20_init_1 0 rfl rfl)
theorem dX20_init_25 : decode cX20_init 25 = .ok (.dup, 1) := dk_89 (dk_at dksX20_init_1 1 rfl rfl)
theorem dX20_init_26 : decode cX20_init 26 = .ok (.iconst 4, 1) := dk_7 (dk_at dksX20_init_1 2 rfl rfl)
theorem dX20_init_27 : decode cX20_init 27 = .ok (.iconst 1, 1) := dk_4 (dk_at dksX20_init_1 3 rfl rfl)
theorem dX20_init_28 : decode cX20_init 28 = .ok (.iastore, 1) := dk_79 (dk_at dksX20_init_1 4 rfl rfl)
theorem dX20_init_29 : decode cX20_init 29 = .ok (.dup, 1) := dk_89 (dk_at dksX20_init_1 5 rfl rfl)
theorem dX20_init_30 : decode cX20_init 30 = .ok (.iconst 5, 1) := dk_8 (dk_at dksX20_init_1 6 rfl rfl)
theorem dX20_init_31 : decode cX20_init 31 = .ok (.iconst 1, 1) := dk_4 (dk_at dksX20_init_1 7 rfl rfl)
theorem dX20_init_32 : decode cX20_init 32 = .ok (.iastore, 1) := dk_79 (dk_at dksX20_init_1 8 rfl rfl)
theorem dX20_init_33 : decode cX20_init 33 = .ok (.dup, 1) := dk_89 (dk_at dksX20_init_1 9 rfl rfl)
theorem dX20_init_34 : decode cX20_init 34 = .ok (.bipush 6, 2) := dk_16 6 (dk_at dksX20_init_1 10 rfl rfl)
theorem dX20_init_36 : decode cX20_init 36 = .ok (.iconst 0, 1) := dk_3 (dk_at dksX20_init_1 12 rfl rfl)
theorem dX20_init_37 : decode cX20_init 37 = .ok (.iastore, 1) := dk_79 (dk_at dksX20_init_1 13 rfl rfl)
theorem dX20_init_38 : decode cX20_init 38 = .ok (.dup, 1) := dk_89 (dk_at dksX20_init_1 14 rfl rfl)
theorem dX20_init_39 : decode cX20_init 39 = .ok (.bipush 7, 2) := dk_16 7 (dk_at dksX20_init_1 15 rfl rfl)
theorem dX20_init_41 : decode cX20_init 41 = .ok (.iconst (-1), 1) := dk_2 (dk_at dksX20_init_1 17 rfl rfl)
theorem dX20_init_42 : decode cX20_init 42 = .ok (.iastore, 1) := dk_79 (dk_at dksX20_init_1 18 rfl rfl)
theorem dX20_init_43 : decode cX20_init 43 = .ok (.dup, 1) := dk_89 (dk_at dksX20_init_1 19 rfl rfl)
theorem dX20_init_44 : decode cX20_init 44 = .ok (.bipush 8, 2) := dk_16 8 (dk_at dksX20_init_1 20 rfl rfl)
theorem dX20_init_46 : decode cX20_init 46 = .ok (.iconst (-1), 1) := dk_2 (dk_at dksX20_init_1 22 rfl rfl)
theorem dX20_init_47 : decode cX20_init 47 = .ok (.iastore, 1) := dk_79 (dk_at dksX20_init_1 23 rfl rfl)
theorem dX20_init_48 : decode cX20_init 48 = .ok (.dup, 1) := dk_89 (dk_at dksX20_init_2 0 rfl rfl)
theorem dX20_init_49 : decode cX20_init 49 = .ok (.bipush 9, 2) := dk_16 9 (dk_at dksX20_init_2 1 rfl rfl)
theorem dX20_init_51 : decode cX20_init 51 = .ok (.iconst 0, 1) := dk_3 (dk_at dksX20_init_2 3 rfl rfl)
theorem dX20_init_52 : decode cX20_init 52 = .ok (.iastore, 1) := dk_79 (dk_at dksX20_init_2 4 rfl rfl)
theorem dX20_init_53 : decode cX20_init 53 = .ok (.dup, 1) := dk_89 (dk_at dksX20_init_2 5 rfl rfl)
theorem dX20_init_54 : decode cX20_init 54 = .ok (.bipush 10, 2) := dk_16 10 (dk_at dksX20_init_2 6 rfl rfl)
theorem dX20_init_56 : decode cX20_init 56 = .ok (.iconst 0, 1) := dk_3 (dk_at dksX20_init_2 8 rfl rfl)
theorem dX20_init_57 : decode cX20_init 57 = .ok (.iastore, 1) := dk_79 (dk_at dksX20_init_2 9 rfl rfl)
theorem dX20_init_58 : decode cX20_init 58 = .ok (.dup, 1) := dk_89 (dk_at dksX20_init_2 10 rfl rfl)
theorem dX20_init_59 : decode cX20_init 59 = .ok (.bipush 11, 2) := dk_16 11 (dk_at dksX20_init_2 11 rfl rfl)
theorem dX20_init_61 : decode cX20_init 61 = .ok (.iconst 0, 1) := dk_3 (dk_at dksX20_init_2 13 rfl rfl)
theorem dX20_init_62 : decode cX20_init 62 = .ok (.iastore, 1) := dk_79 (dk_at dksX20_init_2 14 rfl rfl)
theorem dX20_init_63 : decode cX20_init 63 = .ok (.dup, 1) := dk_89 (dk_at dksX20_init_2 15 rfl rfl)
theorem dX20_init_64 : decode cX20_init 64 = .ok (.bipush 12, 2) := dk_16 12 (dk_at dksX20_init_2 16 rfl rfl)
theorem dX20_init_66 : decode cX20_init 66 = .ok (.iconst 0, 1) := dk_3 (dk_at dksX20_init_2 18 rfl rfl)
theorem dX20_init_67 : decode cX20_init 67 = .ok (.iastore, 1) := dk_79 (dk_at dksX20_init_2 19 rfl rfl)
theorem dX20_init_68 : decode cX20_init 68 = .ok (.putfield 9, 3) := dk_181 0 9 (dk_at dksX20_init_2 20 rfl rfl)
theorem dX20_init_71 : decode cX20_init 71 = .ok (.aload_n 0, 1) := dk_42 (dk_at dksX20_init_2 23 rfl rfl)
theorem dX20_init_72 : decode cX20_init 72 = .ok (.bipush 16, 2) := dk_16 16 (dk_at dksX20_init_3 0 rfl rfl)
theorem dX20_init_74 : decode cX20_init 74 = .ok (.newarray .int, 2) := dk_188_10 (dk_at dksX20_init_3 2 rfl rfl)
theorem dX20_init_76 : decode cX20_init 76 = .ok (.putfield 15, 3) := dk_181 0 15 (dk_at dksX20_init_3 4 rfl rfl)
theorem dX20_init_79 : decode cX20_init 79 = .ok (.return_, 1) := dk_177 (dk_at dksX20_init_3 7 rfl rfl)
abbrev cX20_takes : ByteArray := prog_14_method_2_code
def yX20_takes : MethodName := ⟨RX20, "takes", "(LCrossingWords$Text;)V"⟩
def dkwX20_takes_1 : List UInt8 := [28, 46, 79, 132, 2, 1, 167, 255, 228, 177]
abbrev dktX20_takes_1 : List UInt8 := dkwX20_takes_1 ++ []
def dkwX20_takes_0 : List UInt8 := [3, 61, 28, 43, 180, 0, 18, 162, 0, 26, 42, 180, 0, 9, 43, 180, 0, 24, 28, 46, 43, 180, 0, 27]
abbrev dktX20_takes_0 : List UInt8 := dkwX20_takes_0 ++ dktX20_takes_1
theorem dksX20_takes_0 : cX20_takes.data.toList.drop 0 = dktX20_takes_0 := by decide +kernel
theorem dksX20_takes_1 : cX20_takes.data.toList.drop 24 = dktX20_takes_1 := dk_seg dksX20_takes_0 24 rfl rfl
theorem dX20_takes_0 : decode cX20_takes 0 = .ok (.iconst 0, 1) := dk_3 (dk_at dksX20_takes_0 0 rfl rfl)
theorem dX20_takes_1 : decode cX20_takes 1 = .ok (.istore_n 2, 1) := dk_61 (dk_at dksX20_takes_0 1 rfl rfl)
theorem dX20_takes_2 : decode cX20_takes 2 = .ok (.iload_n 2, 1) := dk_28 (dk_at dksX20_takes_0 2 rfl rfl)
theorem dX20_takes_3 : decode cX20_takes 3 = .ok (.aload_n 1, 1) := dk_43 (dk_at dksX20_takes_0 3 rfl rfl)
theorem dX20_takes_4 : decode cX20_takes 4 = .ok (.getfield 18, 3) := dk_180 0 18 (dk_at dksX20_takes_0 4 rfl rfl)
theorem dX20_takes_7 : decode cX20_takes 7 = .ok (.if_icmp .ge 26, 3) := dk_162 0 26 (dk_at dksX20_takes_0 7 rfl rfl)
theorem dX20_takes_10 : decode cX20_takes 10 = .ok (.aload_n 0, 1) := dk_42 (dk_at dksX20_takes_0 10 rfl rfl)
theorem dX20_takes_11 : decode cX20_takes 11 = .ok (.getfield 9, 3) := dk_180 0 9 (dk_at dksX20_takes_0 11 rfl rfl)
theorem dX20_takes_14 : decode cX20_takes 14 = .ok (.aload_n 1, 1) := dk_43 (dk_at dksX20_takes_0 14 rfl rfl)
theorem dX20_takes_15 : decode cX20_takes 15 = .ok (.getfield 24, 3) := dk_180 0 24 (dk_at dksX20_takes_0 15 rfl rfl)
theorem dX20_takes_18 : decode cX20_takes 18 = .ok (.iload_n 2, 1) := dk_28 (dk_at dksX20_takes_0 18 rfl rfl)
theorem dX20_takes_19 : decode cX20_takes 19 = .ok (.iaload, 1) := dk_46 (dk_at dksX20_takes_0 19 rfl rfl)
theorem dX20_takes_20 : decode cX20_takes 20 = .ok (.aload_n 1, 1) := dk_43 (dk_at dksX20_takes_0 20 rfl rfl)
theorem dX20_takes_21 : decode cX20_takes 21 = .ok (.getfield 27, 3) := dk_180 0 27 (dk_at dksX20_takes_0 21 rfl rfl)
theorem dX20_takes_24 : decode cX20_takes 24 = .ok (.iload_n 2, 1) := dk_28 (dk_at dksX20_takes_1 0 rfl rfl)
theorem dX20_takes_25 : decode cX20_takes 25 = .ok (.iaload, 1) := dk_46 (dk_at dksX20_takes_1 1 rfl rfl)
theorem dX20_takes_26 : decode cX20_takes 26 = .ok (.iastore, 1) := dk_79 (dk_at dksX20_takes_1 2 rfl rfl)
theorem dX20_takes_27 : decode cX20_takes 27 = .ok (.iinc 2 1, 3) := dk_132 2 1 (dk_at dksX20_takes_1 3 rfl rfl)
theorem dX20_takes_30 : decode cX20_takes 30 = .ok (.goto (-28), 3) := dk_167 255 228 (dk_at dksX20_takes_1 6 rfl rfl)
theorem dX20_takes_33 : decode cX20_takes 33 = .ok (.return_, 1) := dk_177 (dk_at dksX20_takes_1 9 rfl rfl)
abbrev cX20_at : ByteArray := prog_14_method_3_code
def yX20_at : MethodName := ⟨RX20, "at", "(I)I"⟩
def dkwX20_at_0 : List UInt8 := [42, 180, 0, 9, 27, 46, 172]
abbrev dktX20_at_0 : List UInt8 := dkwX20_at_0 ++ []
theorem dksX20_at_0 : cX20_at.data.toList.drop 0 = dktX20_at_0 := by decide +kernel
theorem dX20_at_0 : decode cX20_at 0 = .ok (.aload_n 0, 1) := dk_42 (dk_at dksX20_at_0 0 rfl rfl)
theorem dX20_at_1 : decode cX20_at 1 = .ok (.getfield 9, 3) := dk_180 0 9 (dk_at dksX20_at_0 1 rfl rfl)
theorem dX20_at_4 : decode cX20_at 4 = .ok (.iload_n 1, 1) := dk_27 (dk_at dksX20_at_0 4 rfl rfl)
theorem dX20_at_5 : decode cX20_at 5 = .ok (.iaload, 1) := dk_46 (dk_at dksX20_at_0 5 rfl rfl)
theorem dX20_at_6 : decode cX20_at 6 = .ok (.ireturn, 1) := dk_172 (dk_at dksX20_at_0 6 rfl rfl)
abbrev cX20_isSmall : ByteArray := prog_14_method_4_code
def yX20_isSmall : MethodName := ⟨RX20, "isSmall", "()Z"⟩
def dkwX20_isSmall_0 : List UInt8 := [42, 180, 0, 9, 16, 9, 46, 4, 160, 0, 7, 4, 167, 0, 4, 3, 172]
abbrev dktX20_isSmall_0 : List UInt8 := dkwX20_isSmall_0 ++ []
theorem dksX20_isSmall_0 : cX20_isSmall.data.toList.drop 0 = dktX20_isSmall_0 := by decide +kernel
theorem dX20_isSmall_0 : decode cX20_isSmall 0 = .ok (.aload_n 0, 1) := dk_42 (dk_at dksX20_isSmall_0 0 rfl rfl)
theorem dX20_isSmall_1 : decode cX20_isSmall 1 = .ok (.getfield 9, 3) := dk_180 0 9 (dk_at dksX20_isSmall_0 1 rfl rfl)
theorem dX20_isSmall_4 : decode cX20_isSmall 4 = .ok (.bipush 9, 2) := dk_16 9 (dk_at dksX20_isSmall_0 4 rfl rfl)
theorem dX20_isSmall_6 : decode cX20_isSmall 6 = .ok (.iaload, 1) := dk_46 (dk_at dksX20_isSmall_0 6 rfl rfl)
theorem dX20_isSmall_7 : decode cX20_isSmall 7 = .ok (.iconst 1, 1) := dk_4 (dk_at dksX20_isSmall_0 7 rfl rfl)
theorem dX20_isSmall_8 : decode cX20_isSmall 8 = .ok (.if_icmp .ne 7, 3) := dk_160 0 7 (dk_at dksX20_isSmall_0 8 rfl rfl)
theorem dX20_isSmall_11 : decode cX20_isSmall 11 = .ok (.iconst 1, 1) := dk_4 (dk_at dksX20_isSmall_0 11 rfl rfl)
theorem dX20_isSmall_12 : decode cX20_isSmall 12 = .ok (.goto 4, 3) := dk_167 0 4 (dk_at dksX20_isSmall_0 12 rfl rfl)
theorem dX20_isSmall_15 : decode cX20_isSmall 15 = .ok (.iconst 0, 1) := dk_3 (dk_at dksX20_isSmall_0 15 rfl rfl)
theorem dX20_isSmall_16 : decode cX20_isSmall 16 = .ok (.ireturn, 1) := dk_172 (dk_at dksX20_isSmall_0 16 rfl rfl)
abbrev cX20_isDeedYes : ByteArray := prog_14_method_5_code
def yX20_isDeedYes : MethodName := ⟨RX20, "isDeedYes", "()Z"⟩
def dkwX20_isDeedYes_0 : List UInt8 := [42, 180, 0, 9, 16, 11, 46, 4, 160, 0, 7, 4, 167, 0, 4, 3, 172]
abbrev dktX20_isDeedYes_0 : List UInt8 := dkwX20_isDeedYes_0 ++ []
theorem dksX20_isDeedYes_0 : cX20_isDeedYes.data.toList.drop 0 = dktX20_isDeedYes_0 := by decide +kernel
theorem dX20_isDeedYes_0 : decode cX20_isDeedYes 0 = .ok (.aload_n 0, 1) := dk_42 (dk_at dksX20_isDeedYes_0 0 rfl rfl)
theorem dX20_isDeedYes_1 : decode cX20_isDeedYes 1 = .ok (.getfield 9, 3) := dk_180 0 9 (dk_at dksX20_isDeedYes_0 1 rfl rfl)
theorem dX20_isDeedYes_4 : decode cX20_isDeedYes 4 = .ok (.bipush 11, 2) := dk_16 11 (dk_at dksX20_isDeedYes_0 4 rfl rfl)
theorem dX20_isDeedYes_6 : decode cX20_isDeedYes 6 = .ok (.iaload, 1) := dk_46 (dk_at dksX20_isDeedYes_0 6 rfl rfl)
theorem dX20_isDeedYes_7 : decode cX20_isDeedYes 7 = .ok (.iconst 1, 1) := dk_4 (dk_at dksX20_isDeedYes_0 7 rfl rfl)
theorem dX20_isDeedYes_8 : decode cX20_isDeedYes 8 = .ok (.if_icmp .ne 7, 3) := dk_160 0 7 (dk_at dksX20_isDeedYes_0 8 rfl rfl)
theorem dX20_isDeedYes_11 : decode cX20_isDeedYes 11 = .ok (.iconst 1, 1) := dk_4 (dk_at dksX20_isDeedYes_0 11 rfl rfl)
theorem dX20_isDeedYes_12 : decode cX20_isDeedYes 12 = .ok (.goto 4, 3) := dk_167 0 4 (dk_at dksX20_isDeedYes_0 12 rfl rfl)
theorem dX20_isDeedYes_15 : decode cX20_isDeedYes 15 = .ok (.iconst 0, 1) := dk_3 (dk_at dksX20_isDeedYes_0 15 rfl rfl)
theorem dX20_isDeedYes_16 : decode cX20_isDeedYes 16 = .ok (.ireturn, 1) := dk_172 (dk_at dksX20_isDeedYes_0 16 rfl rfl)
abbrev cX20_yesWhen : ByteArray := prog_14_method_6_code
def yX20_yesWhen : MethodName := ⟨RX20, "yesWhen", "(LCrossingWords$Saying;)I"⟩
def dkwX20_yesWhen_1 : List UInt8 := [180, 0, 40, 184, 0, 45, 96, 46, 172]
abbrev dktX20_yesWhen_1 : List UInt8 := dkwX20_yesWhen_1 ++ []
def dkwX20_yesWhen_0 : List UInt8 := [43, 182, 0, 30, 16, 6, 160, 0, 7, 3, 167, 0, 21, 42, 180, 0, 9, 3, 5, 43, 180, 0, 36]
abbrev dktX20_yesWhen_0 : List UInt8 := dkwX20_yesWhen_0 ++ dktX20_yesWhen_1
theorem dksX20_yesWhen_0 : cX20_yesWhen.data.toList.drop 0 = dktX20_yesWhen_0 := by decide +kernel
theorem dksX20_yesWhen_1 : cX20_yesWhen.data.toList.drop 23 = dktX20_yesWhen_1 := dk_seg dksX20_yesWhen_0 23 rfl rfl
theorem dX20_yesWhen_0 : decode cX20_yesWhen 0 = .ok (.aload_n 1, 1) := dk_43 (dk_at dksX20_yesWhen_0 0 rfl rfl)
theorem dX20_yesWhen_1 : decode cX20_yesWhen 1 = .ok (.invokevirtual 30, 3) := dk_182 0 30 (dk_at dksX20_yesWhen_0 1 rfl rfl)
theorem dX20_yesWhen_4 : decode cX20_yesWhen 4 = .ok (.bipush 6, 2) := dk_16 6 (dk_at dksX20_yesWhen_0 4 rfl rfl)
theorem dX20_yesWhen_6 : decode cX20_yesWhen 6 = .ok (.if_icmp .ne 7, 3) := dk_160 0 7 (dk_at dksX20_yesWhen_0 6 rfl rfl)
theorem dX20_yesWhen_9 : decode cX20_yesWhen 9 = .ok (.iconst 0, 1) := dk_3 (dk_at dksX20_yesWhen_0 9 rfl rfl)
theorem dX20_yesWhen_10 : decode cX20_yesWhen 10 = .ok (.goto 21, 3) := dk_167 0 21 (dk_at dksX20_yesWhen_0 10 rfl rfl)
theorem dX20_yesWhen_13 : decode cX20_yesWhen 13 = .ok (.aload_n 0, 1) := dk_42 (dk_at dksX20_yesWhen_0 13 rfl rfl)
theorem dX20_yesWhen_14 : decode cX20_yesWhen 14 = .ok (.getfield 9, 3) := dk_180 0 9 (dk_at dksX20_yesWhen_0 14 rfl rfl)
theorem dX20_yesWhen_17 : decode cX20_yesWhen 17 = .ok (.iconst 0, 1) := dk_3 (dk_at dksX20_yesWhen_0 17 rfl rfl)
theorem dX20_yesWhen_18 : decode cX20_yesWhen 18 = .ok (.iconst 2, 1) := dk_5 (dk_at dksX20_yesWhen_0 18 rfl rfl)
theorem dX20_yesWhen_19 : decode cX20_yesWhen 19 = .ok (.aload_n 1, 1) := dk_43 (dk_at dksX20_yesWhen_0 19 rfl rfl)
theorem dX20_yesWhen_20 : decode cX20_yesWhen 20 = .ok (.getfield 36, 3) := dk_180 0 36 (dk_at dksX20_yesWhen_0 20 rfl rfl)
theorem dX20_yesWhen_23 : decode cX20_yesWhen 23 = .ok (.getfield 40, 3) := dk_180 0 40 (dk_at dksX20_yesWhen_1 0 rfl rfl)
theorem dX20_yesWhen_26 : decode cX20_yesWhen 26 = .ok (.invokestatic 45, 3) := dk_184 0 45 (dk_at dksX20_yesWhen_1 3 rfl rfl)
theorem dX20_yesWhen_29 : decode cX20_yesWhen 29 = .ok (.iadd, 1) := dk_96 (dk_at dksX20_yesWhen_1 6 rfl rfl)
theorem dX20_yesWhen_30 : decode cX20_yesWhen 30 = .ok (.iaload, 1) := dk_46 (dk_at dksX20_yesWhen_1 7 rfl rfl)
theorem dX20_yesWhen_31 : decode cX20_yesWhen 31 = .ok (.ireturn, 1) := dk_172 (dk_at dksX20_yesWhen_1 8 rfl rfl)
theorem q116 : (Jvm.Cond.initialized "CrossingWords$Rules") ∈ lw_all := lw_g (lw_at lw_m1 22 rfl) rfl
theorem q458 : (Jvm.Cond.fieldLink "CrossingWords$Rules" (36 : Nat) "CrossingWords$Saying" "times" "LCrossingWords$Times;") ∈ lw_all := lw_g (lw_at lw_m2 124 rfl) rfl
theorem q710 : (Jvm.Cond.fieldLink "CrossingWords$Rules" (40 : Nat) "CrossingWords$Times" "way" "I") ∈ lw_all := lw_g (lw_at lw_m3 136 rfl) rfl
theorem q823 : (Jvm.Cond.fieldLink "CrossingWords$Rules" (24 : Nat) "CrossingWords$Text" "fields" "[I") ∈ lw_all := lw_g (lw_at lw_m4 9 rfl) rfl
theorem q825 : (Jvm.Cond.fieldLink "CrossingWords$Rules" (27 : Nat) "CrossingWords$Text" "values" "[I") ∈ lw_all := lw_g (lw_at lw_m4 11 rfl) rfl
theorem q826 : (Jvm.Cond.fieldLink "CrossingWords$Rules" (18 : Nat) "CrossingWords$Text" "many" "I") ∈ lw_all := lw_g (lw_at lw_m4 12 rfl) rfl
theorem q970 : (Jvm.Cond.instantiable "CrossingWords$Rules" (2 : Nat)) ∈ lw_all := lw_g (lw_at lw_m4 156 rfl) rfl
theorem q972 : (Jvm.Cond.instanceMethod ({ cls := "CrossingWords$Rules", name := "<init>", desc := "()V" } : Jvm.MethodName)) ∈ lw_all := lw_g (lw_at lw_m4 158 rfl) rfl
theorem q973 : (Jvm.Cond.code ({ cls := "CrossingWords$Rules", name := "<init>", desc := "()V" } : Jvm.MethodName) prog_14_method_1_code (1 : Nat) (Option.none : Option Jvm.ClassFile.FieldType)) ∈ lw_all := lw_g (lw_at lw_m4 159 rfl) rfl
theorem q974 : (Jvm.Cond.methodLink "CrossingWords$Rules" (3 : Nat) ({ cls := "java/lang/Object", name := "<init>", desc := "()V" } : Jvm.MethodName)) ∈ lw_all := lw_g (lw_at lw_m4 160 rfl) rfl
theorem q975 : (Jvm.Cond.fieldLink "CrossingWords$Rules" (9 : Nat) "CrossingWords$Rules" "row" "[I") ∈ lw_all := lw_g (lw_at lw_m4 161 rfl) rfl
theorem q976 : (Jvm.Cond.fieldLink "CrossingWords$Rules" (15 : Nat) "CrossingWords$Rules" "given" "[I") ∈ lw_all := lw_g (lw_at lw_m4 162 rfl) rfl
theorem q978 : (Jvm.Cond.laysFinal "CrossingWords$Rules" "CrossingWords$Rules" "row" "[I") ∈ lw_all := lw_g (lw_at lw_m4 164 rfl) rfl
theorem q979 : (Jvm.Cond.soleField "CrossingWords$Rules" "row") ∈ lw_all := lw_g (lw_at lw_m4 165 rfl) rfl
theorem q980 : (Jvm.Cond.laysFinal "CrossingWords$Rules" "CrossingWords$Rules" "given" "[I") ∈ lw_all := lw_g (lw_at lw_m4 166 rfl) rfl
theorem q981 : (Jvm.Cond.soleField "CrossingWords$Rules" "given") ∈ lw_all := lw_g (lw_at lw_m4 167 rfl) rfl
theorem q982 : (Jvm.Cond.superclass "CrossingWords$Rules" "java/lang/Object") ∈ lw_all := lw_g (lw_at lw_m4 168 rfl) rfl
theorem q984 : (Jvm.Cond.instanceMethod ({ cls := "CrossingWords$Rules", name := "takes", desc := "(LCrossingWords$Text;)V" } : Jvm.MethodName)) ∈ lw_all := lw_g (lw_at lw_m4 170 rfl) rfl
theorem q985 : (Jvm.Cond.selects "CrossingWords$Rules" ({ cls := "CrossingWords$Rules", name := "takes", desc := "(LCrossingWords$Text;)V" } : Jvm.MethodName) ({ cls := "CrossingWords$Rules", name := "takes", desc := "(LCrossingWords$Text;)V" } : Jvm.MethodName)) ∈ lw_all := lw_g (lw_at lw_m4 171 rfl) rfl
theorem q986 : (Jvm.Cond.code ({ cls := "CrossingWords$Rules", name := "takes", desc := "(LCrossingWords$Text;)V" } : Jvm.MethodName) prog_14_method_2_code (3 : Nat) (Option.none : Option Jvm.ClassFile.FieldType)) ∈ lw_all := lw_g (lw_at lw_m4 172 rfl) rfl
theorem q988 : (Jvm.Cond.instanceMethod ({ cls := "CrossingWords$Rules", name := "at", desc := "(I)I" } : Jvm.MethodName)) ∈ lw_all := lw_g (lw_at lw_m4 174 rfl) rfl
theorem q989 : (Jvm.Cond.selects "CrossingWords$Rules" ({ cls := "CrossingWords$Rules", name := "at", desc := "(I)I" } : Jvm.MethodName) ({ cls := "CrossingWords$Rules", name := "at", desc := "(I)I" } : Jvm.MethodName)) ∈ lw_all := lw_g (lw_at lw_m4 175 rfl) rfl
theorem q990 : (Jvm.Cond.code ({ cls := "CrossingWords$Rules", name := "at", desc := "(I)I" } : Jvm.MethodName) prog_14_method_3_code (2 : Nat) (Option.some Jvm.ClassFile.FieldType.int)) ∈ lw_all := lw_g (lw_at lw_m4 176 rfl) rfl
theorem q1021 : (Jvm.Cond.instanceMethod ({ cls := "CrossingWords$Rules", name := "isSmall", desc := "()Z" } : Jvm.MethodName)) ∈ lw_all := lw_g (lw_at lw_m4 207 rfl) rfl
theorem q1022 : (Jvm.Cond.selects "CrossingWords$Rules" ({ cls := "CrossingWords$Rules", name := "isSmall", desc := "()Z" } : Jvm.MethodName) ({ cls := "CrossingWords$Rules", name := "isSmall", desc := "()Z" } : Jvm.MethodName)) ∈ lw_all := lw_g (lw_at lw_m4 208 rfl) rfl
theorem q1023 : (Jvm.Cond.code ({ cls := "CrossingWords$Rules", name := "isSmall", desc := "()Z" } : Jvm.MethodName) prog_14_method_4_code (1 : Nat) (Option.some Jvm.ClassFile.FieldType.boolean)) ∈ lw_all := lw_g (lw_at lw_m4 209 rfl) rfl
theorem q1094 : (Jvm.Cond.instanceMethod ({ cls := "CrossingWords$Rules", name := "isDeedYes", desc := "()Z" } : Jvm.MethodName)) ∈ lw_all := lw_g (lw_at lw_m5 40 rfl) rfl
theorem q1095 : (Jvm.Cond.selects "CrossingWords$Rules" ({ cls := "CrossingWords$Rules", name := "isDeedYes", desc := "()Z" } : Jvm.MethodName) ({ cls := "CrossingWords$Rules", name := "isDeedYes", desc := "()Z" } : Jvm.MethodName)) ∈ lw_all := lw_g (lw_at lw_m5 41 rfl) rfl
theorem q1096 : (Jvm.Cond.code ({ cls := "CrossingWords$Rules", name := "isDeedYes", desc := "()Z" } : Jvm.MethodName) prog_14_method_5_code (1 : Nat) (Option.some Jvm.ClassFile.FieldType.boolean)) ∈ lw_all := lw_g (lw_at lw_m5 42 rfl) rfl
theorem q1110 : (Jvm.Cond.instanceMethod ({ cls := "CrossingWords$Rules", name := "yesWhen", desc := "(LCrossingWords$Saying;)I" } : Jvm.MethodName)) ∈ lw_all := lw_g (lw_at lw_m5 56 rfl) rfl
theorem q1111 : (Jvm.Cond.selects "CrossingWords$Rules" ({ cls := "CrossingWords$Rules", name := "yesWhen", desc := "(LCrossingWords$Saying;)I" } : Jvm.MethodName) ({ cls := "CrossingWords$Rules", name := "yesWhen", desc := "(LCrossingWords$Saying;)I" } : Jvm.MethodName)) ∈ lw_all := lw_g (lw_at lw_m5 57 rfl) rfl
theorem q1112 : (Jvm.Cond.code ({ cls := "CrossingWords$Rules", name := "yesWhen", desc := "(LCrossingWords$Saying;)I" } : Jvm.MethodName) prog_14_method_6_code (2 : Nat) (Option.some Jvm.ClassFile.FieldType.int)) ∈ lw_all := lw_g (lw_at lw_m5 58 rfl) rfl
theorem q1113 : (Jvm.Cond.methodLink "CrossingWords$Rules" (30 : Nat) ({ cls := "CrossingWords$Saying", name := "kind", desc := "()I" } : Jvm.MethodName)) ∈ lw_all := lw_g (lw_at lw_m5 59 rfl) rfl
theorem q1114 : (Jvm.Cond.methodLink "CrossingWords$Rules" (45 : Nat) ({ cls := "java/lang/Math", name := "min", desc := "(II)I" } : Jvm.MethodName)) ∈ lw_all := lw_g (lw_at lw_m5 60 rfl) rfl
theorem in_X20 : ∀ w ∈ wsX200, w ∈ lw_all := lw_in wsX200 [978, 980] (by decide +kernel) (by decide +kernel)
/-! CrossingWords$Image -/
set_option maxRecDepth 100000
def RX21 : String := "CrossingWords$Image"
def TX21 : u_T := fun k => match k with
  | 0 => ("CrossingWords$Image", "cases", "[LCrossingWords$Case;", true)
  | 1 => ("CrossingWords$Image", "caseMany", "I", true)
  | 2 => ("CrossingWords$Image", "lawMany", "I", true)
  | 3 => ("CrossingWords$Image", "clauseMany", "I", true)
  | 4 => ("CrossingWords$Image", "laws", "[LCrossingWords$Text;", true)
  | _ => ("CrossingWords$Image", "clauses", "[LCrossingWords$Text;", true)
def tyX21 : Nat → FieldType := fun k => match k with
  | 0 => .array (.object "CrossingWords$Case")
  | 1 => .int
  | 2 => .int
  | 3 => .int
  | 4 => .array (.object "CrossingWords$Text")
  | _ => .array (.object "CrossingWords$Text")
abbrev wsX210 : List Cond := u_ws RX21 TX21 6
theorem nmX21 : ∀ a, a < 6 → ∀ b, b < 6 → a ≠ b → (TX21 a).2.1 ≠ (TX21 b).2.1 := by decide +kernel
theorem tyX21_ok : ∀ k, k < 6 → parseFieldDescriptor (TX21 k).2.2.1 = some (tyX21 k) := by decide +kernel
abbrev cX21_init : ByteArray := prog_9_method_1_code
def yX21_init : MethodName := ⟨RX21, "<init>", "(LCrossingWords;)V"⟩
def dkwX21_init_4 : List UInt8 := [16, 6, 184, 0, 40, 177]
abbrev dktX21_init_4 : List UInt8 := dkwX21_init_4 ++ []
def dkwX21_init_3 : List UInt8 := [180, 0, 46, 3, 42, 180, 0, 19, 3, 16, 8, 184, 0, 40, 43, 180, 0, 47, 3, 42, 180, 0, 23, 3]
abbrev dktX21_init_3 : List UInt8 := dkwX21_init_3 ++ dktX21_init_4
def dkwX21_init_2 : List UInt8 := [42, 43, 180, 0, 35, 181, 0, 38, 43, 180, 0, 39, 3, 42, 180, 0, 11, 3, 16, 16, 184, 0, 40, 43]
abbrev dktX21_init_2 : List UInt8 := dkwX21_init_2 ++ dktX21_init_3
def dkwX21_init_1 : List UInt8 := [16, 6, 189, 0, 17, 181, 0, 23, 42, 43, 180, 0, 26, 181, 0, 30, 42, 43, 180, 0, 31, 181, 0, 34]
abbrev dktX21_init_1 : List UInt8 := dkwX21_init_1 ++ dktX21_init_2
def dkwX21_init_0 : List UInt8 := [42, 183, 0, 3, 42, 16, 16, 189, 0, 9, 181, 0, 11, 42, 16, 8, 189, 0, 17, 181, 0, 19, 42]
abbrev dktX21_init_0 : List UInt8 := dkwX21_init_0 ++ dktX21_init_1
theorem dksX21_init_0 : cX21_init.data.toList.drop 0 = dktX21_init_0 := by decide +kernel
theorem dksX21_init_1 : cX21_init.data.toList.drop 23 = dktX21_init_1 := dk_seg dksX21_init_0 23 rfl rfl
theorem dksX21_init_2 : cX21_init.data.toList.drop 47 = dktX21_init_2 := dk_seg dksX21_init_1 24 rfl rfl
theorem dksX21_init_3 : cX21_init.data.toList.drop 71 = dktX21_init_3 := dk_seg dksX21_init_2 24 rfl rfl
theorem dksX21_init_4 : cX21_init.data.toList.drop 95 = dktX21_init_4 := dk_seg dksX21_init_3 24 rfl rfl
theorem dX21_init_0 : decode cX21_init 0 = .ok (.aload_n 0, 1) := dk_42 (dk_at dksX21_init_0 0 rfl rfl)
theorem dX21_init_1 : decode cX21_init 1 = .ok (.invokespecial 3, 3) := dk_183 0 3 (dk_at dksX21_init_0 1 rfl rfl)
theorem dX21_init_4 : decode cX21_init 4 = .ok (.aload_n 0, 1) := dk_42 (dk_at dksX21_init_0 4 rfl rfl)
theorem dX21_init_5 : decode cX21_init 5 = .ok (.bipush 16, 2) := dk_16 16 (dk_at dksX21_init_0 5 rfl rfl)
theorem dX21_init_7 : decode cX21_init 7 = .ok (.anewarray 9, 3) := dk_189 0 9 (dk_at dksX21_init_0 7 rfl rfl)
theorem dX21_init_10 : decode cX21_init 10 = .ok (.putfield 11, 3) := dk_181 0 11 (dk_at dksX21_init_0 10 rfl rfl)
theorem dX21_init_13 : decode cX21_init 13 = .ok (.aload_n 0, 1) := dk_42 (dk_at dksX21_init_0 13 rfl rfl)
theorem dX21_init_14 : decode cX21_init 14 = .ok (.bipush 8, 2) := dk_16 8 (dk_at dksX21_init_0 14 rfl rfl)
theorem dX21_init_16 : decode cX21_init 16 = .ok (.anewarray 17, 3) := dk_189 0 17 (dk_at dksX21_init_0 16 rfl rfl)
theorem dX21_init_19 : decode cX21_init 19 = .ok (.putfield 19, 3) := dk_181 0 19 (dk_at dksX21_init_0 19 rfl rfl)
theorem dX21_init_22 : decode cX21_init 22 = .ok (.aload_n 0, 1) := dk_42 (dk_at dksX21_init_0 22 rfl rfl)
theorem dX21_init_23 : decode cX21_init 23 = .ok (.bipush 6, 2) := dk_16 6 (dk_at dksX21_init_1 0 rfl rfl)
theorem dX21_init_25 : decode cX21_init 25 = .ok (.anewarray 17, 3) := dk_189 0 17 (dk_at dksX21_init_1 2 rfl rfl)
theorem dX21_init_28 : decode cX21_init 28 = .ok (.putfield 23, 3) := dk_181 0 23 (dk_at dksX21_init_1 5 rfl rfl)
theorem dX21_init_31 : decode cX21_init 31 = .ok (.aload_n 0, 1) := dk_42 (dk_at dksX21_init_1 8 rfl rfl)
theorem dX21_init_32 : decode cX21_init 32 = .ok (.aload_n 1, 1) := dk_43 (dk_at dksX21_init_1 9 rfl rfl)
theorem dX21_init_33 : decode cX21_init 33 = .ok (.getfield 26, 3) := dk_180 0 26 (dk_at dksX21_init_1 10 rfl rfl)
theorem dX21_init_36 : decode cX21_init 36 = .ok (.putfield 30, 3) := dk_181 0 30 (dk_at dksX21_init_1 13 rfl rfl)
theorem dX21_init_39 : decode cX21_init 39 = .ok (.aload_n 0, 1) := dk_42 (dk_at dksX21_init_1 16 rfl rfl)
theorem dX21_init_40 : decode cX21_init 40 = .ok (.aload_n 1, 1) := dk_43 (dk_at dksX21_init_1 17 rfl rfl)
theorem dX21_init_41 : decode cX21_init 41 = .ok (.getfield 31, 3) := dk_180 0 31 (dk_at dksX21_init_1 18 rfl rfl)
theorem dX21_init_44 : decode cX21_init 44 = .ok (.putfield 34, 3) := dk_181 0 34 (dk_at dksX21_init_1 21 rfl rfl)
theorem dX21_init_47 : decode cX21_init 47 = .ok (.aload_n 0, 1) := dk_42 (dk_at dksX21_init_2 0 rfl rfl)
theorem dX21_init_48 : decode cX21_init 48 = .ok (.aload_n 1, 1) := dk_43 (dk_at dksX21_init_2 1 rfl rfl)
theorem dX21_init_49 : decode cX21_init 49 = .ok (.getfield 35, 3) := dk_180 0 35 (dk_at dksX21_init_2 2 rfl rfl)
theorem dX21_init_52 : decode cX21_init 52 = .ok (.putfield 38, 3) := dk_181 0 38 (dk_at dksX21_init_2 5 rfl rfl)
theorem dX21_init_55 : decode cX21_init 55 = .ok (.aload_n 1, 1) := dk_43 (dk_at dksX21_init_2 8 rfl rfl)
theorem dX21_init_56 : decode cX21_init 56 = .ok (.getfield 39, 3) := dk_180 0 39 (dk_at dksX21_init_2 9 rfl rfl)
theorem dX21_init_59 : decode cX21_init 59 = .ok (.iconst 0, 1) := dk_3 (dk_at dksX21_init_2 12 rfl rfl)
theorem dX21_init_60 : decode cX21_init 60 = .ok (.aload_n 0, 1) := dk_42 (dk_at dksX21_init_2 13 rfl rfl)
theorem dX21_init_61 : decode cX21_init 61 = .ok (.getfield 11, 3) := dk_180 0 11 (dk_at dksX21_init_2 14 rfl rfl)
theorem dX21_init_64 : decode cX21_init 64 = .ok (.iconst 0, 1) := dk_3 (dk_at dksX21_init_2 17 rfl rfl)
theorem dX21_init_65 : decode cX21_init 65 = .ok (.bipush 16, 2) := dk_16 16 (dk_at dksX21_init_2 18 rfl rfl)
theorem dX21_init_67 : decode cX21_init 67 = .ok (.invokestatic 40, 3) := dk_184 0 40 (dk_at dksX21_init_2 20 rfl rfl)
theorem dX21_init_70 : decode cX21_init 70 = .ok (.aload_n 1, 1) := dk_43 (dk_at dksX21_init_2 23 rfl rfl)
theorem dX21_init_71 : decode cX21_init 71 = .ok (.getfield 46, 3) := dk_180 0 46 (dk_at dksX21_init_3 0 rfl rfl)
theorem dX21_init_74 : decode cX21_init 74 = .ok (.iconst 0, 1) := dk_3 (dk_at dksX21_init_3 3 rfl rfl)
theorem dX21_init_75 : decode cX21_init 75 = .ok (.aload_n 0, 1) := dk_42 (dk_at dksX21_init_3 4 rfl rfl)
theorem dX21_init_76 : decode cX21_init 76 = .ok (.getfield 19, 3) := dk_180 0 19 (dk_at dksX21_init_3 5 rfl rfl)
theorem dX21_init_79 : decode cX21_init 79 = .ok (.iconst 0, 1) := dk_3 (dk_at dksX21_init_3 8 rfl rfl)
theorem dX21_init_80 : decode cX21_init 80 = .ok (.bipush 8, 2) := dk_16 8 (dk_at dksX21_init_3 9 rfl rfl)
theorem dX21_init_82 : decode cX21_init 82 = .ok (.invokestatic 40, 3) := dk_184 0 40 (dk_at dksX21_init_3 11 rfl rfl)
theorem dX21_init_85 : decode cX21_init 85 = .ok (.aload_n 1, 1) := dk_43 (dk_at dksX21_init_3 14 rfl rfl)
theorem dX21_init_86 : decode cX21_init 86 = .ok (.getfield 47, 3) := dk_180 0 47 (dk_at dksX21_init_3 15 rfl rfl)
theorem dX21_init_89 : decode cX21_init 89 = .ok (.iconst 0, 1) := dk_3 (dk_at dksX21_init_3 18 rfl rfl)
theorem dX21_init_90 : decode cX21_init 90 = .ok (.aload_n 0, 1) := dk_42 (dk_at dksX21_init_3 19 rfl rfl)
theorem dX21_init_91 : decode cX21_init 91 = .ok (.getfield 23, 3) := dk_180 0 23 (dk_at dksX21_init_3 20 rfl rfl)
theorem dX21_init_94 : decode cX21_init 94 = .ok (.iconst 0, 1) := dk_3 (dk_at dksX21_init_3 23 rfl rfl)
theorem dX21_init_95 : decode cX21_init 95 = .ok (.bipush 6, 2) := dk_16 6 (dk_at dksX21_init_4 0 rfl rfl)
theorem dX21_init_97 : decode cX21_init 97 = .ok (.invokestatic 40, 3) := dk_184 0 40 (dk_at dksX21_init_4 2 rfl rfl)
theorem dX21_init_100 : decode cX21_init 100 = .ok (.return_, 1) := dk_177 (dk_at dksX21_init_4 5 rfl rfl)
abbrev cX21_puts : ByteArray := prog_9_method_2_code
def yX21_puts : MethodName := ⟨RX21, "puts", "(LCrossingWords;)V"⟩
def dkwX21_puts_2 : List UInt8 := [3, 16, 8, 184, 0, 40, 42, 180, 0, 23, 3, 43, 180, 0, 47, 3, 16, 6, 184, 0, 40, 177]
abbrev dktX21_puts_2 : List UInt8 := dkwX21_puts_2 ++ []
def dkwX21_puts_1 : List UInt8 := [42, 180, 0, 11, 3, 43, 180, 0, 39, 3, 16, 16, 184, 0, 40, 42, 180, 0, 19, 3, 43, 180, 0, 46]
abbrev dktX21_puts_1 : List UInt8 := dkwX21_puts_1 ++ dktX21_puts_2
def dkwX21_puts_0 : List UInt8 := [43, 42, 180, 0, 30, 181, 0, 26, 43, 42, 180, 0, 34, 181, 0, 31, 43, 42, 180, 0, 38, 181, 0, 35]
abbrev dktX21_puts_0 : List UInt8 := dkwX21_puts_0 ++ dktX21_puts_1
theorem dksX21_puts_0 : cX21_puts.data.toList.drop 0 = dktX21_puts_0 := by decide +kernel
theorem dksX21_puts_1 : cX21_puts.data.toList.drop 24 = dktX21_puts_1 := dk_seg dksX21_puts_0 24 rfl rfl
theorem dksX21_puts_2 : cX21_puts.data.toList.drop 48 = dktX21_puts_2 := dk_seg dksX21_puts_1 24 rfl rfl
theorem dX21_puts_0 : decode cX21_puts 0 = .ok (.aload_n 1, 1) := dk_43 (dk_at dksX21_puts_0 0 rfl rfl)
theorem dX21_puts_1 : decode cX21_puts 1 = .ok (.aload_n 0, 1) := dk_42 (dk_at dksX21_puts_0 1 rfl rfl)
theorem dX21_puts_2 : decode cX21_puts 2 = .ok (.getfield 30, 3) := dk_180 0 30 (dk_at dksX21_puts_0 2 rfl rfl)
theorem dX21_puts_5 : decode cX21_puts 5 = .ok (.putfield 26, 3) := dk_181 0 26 (dk_at dksX21_puts_0 5 rfl rfl)
theorem dX21_puts_8 : decode cX21_puts 8 = .ok (.aload_n 1, 1) := dk_43 (dk_at dksX21_puts_0 8 rfl rfl)
theorem dX21_puts_9 : decode cX21_puts 9 = .ok (.aload_n 0, 1) := dk_42 (dk_at dksX21_puts_0 9 rfl rfl)
theorem dX21_puts_10 : decode cX21_puts 10 = .ok (.getfield 34, 3) := dk_180 0 34 (dk_at dksX21_puts_0 10 rfl rfl)
theorem dX21_puts_13 : decode cX21_puts 13 = .ok (.putfield 31, 3) := dk_181 0 31 (dk_at dksX21_puts_0 13 rfl rfl)
theorem dX21_puts_16 : decode cX21_puts 16 = .ok (.aload_n 1, 1) := dk_43 (dk_at dksX21_puts_0 16 rfl rfl)
theorem dX21_puts_17 : decode cX21_puts 17 = .ok (.aload_n 0, 1) := dk_42 (dk_at dksX21_puts_0 17 rfl rfl)
theorem dX21_puts_18 : decode cX21_puts 18 = .ok (.getfield 38, 3) := dk_180 0 38 (dk_at dksX21_puts_0 18 rfl rfl)
theorem dX21_puts_21 : decode cX21_puts 21 = .ok (.putfield 35, 3) := dk_181 0 35 (dk_at dksX21_puts_0 21 rfl rfl)
theorem dX21_puts_24 : decode cX21_puts 24 = .ok (.aload_n 0, 1) := dk_42 (dk_at dksX21_puts_1 0 rfl rfl)
theorem dX21_puts_25 : decode cX21_puts 25 = .ok (.getfield 11, 3) := dk_180 0 11 (dk_at dksX21_puts_1 1 rfl rfl)
theorem dX21_puts_28 : decode cX21_puts 28 = .ok (.iconst 0, 1) := dk_3 (dk_at dksX21_puts_1 4 rfl rfl)
theorem dX21_puts_29 : decode cX21_puts 29 = .ok (.aload_n 1, 1) := dk_43 (dk_at dksX21_puts_1 5 rfl rfl)
theorem dX21_puts_30 : decode cX21_puts 30 = .ok (.getfield 39, 3) := dk_180 0 39 (dk_at dksX21_puts_1 6 rfl rfl)
theorem dX21_puts_33 : decode cX21_puts 33 = .ok (.iconst 0, 1) := dk_3 (dk_at dksX21_puts_1 9 rfl rfl)
theorem dX21_puts_34 : decode cX21_puts 34 = .ok (.bipush 16, 2) := dk_16 16 (dk_at dksX21_puts_1 10 rfl rfl)
theorem dX21_puts_36 : decode cX21_puts 36 = .ok (.invokestatic 40, 3) := dk_184 0 40 (dk_at dksX21_puts_1 12 rfl rfl)
theorem dX21_puts_39 : decode cX21_puts 39 = .ok (.aload_n 0, 1) := dk_42 (dk_at dksX21_puts_1 15 rfl rfl)
theorem dX21_puts_40 : decode cX21_puts 40 = .ok (.getfield 19, 3) := dk_180 0 19 (dk_at dksX21_puts_1 16 rfl rfl)
theorem dX21_puts_43 : decode cX21_puts 43 = .ok (.iconst 0, 1) := dk_3 (dk_at dksX21_puts_1 19 rfl rfl)
theorem dX21_puts_44 : decode cX21_puts 44 = .ok (.aload_n 1, 1) := dk_43 (dk_at dksX21_puts_1 20 rfl rfl)
theorem dX21_puts_45 : decode cX21_puts 45 = .ok (.getfield 46, 3) := dk_180 0 46 (dk_at dksX21_puts_1 21 rfl rfl)
theorem dX21_puts_48 : decode cX21_puts 48 = .ok (.iconst 0, 1) := dk_3 (dk_at dksX21_puts_2 0 rfl rfl)
theorem dX21_puts_49 : decode cX21_puts 49 = .ok (.bipush 8, 2) := dk_16 8 (dk_at dksX21_puts_2 1 rfl rfl)
theorem dX21_puts_51 : decode cX21_puts 51 = .ok (.invokestatic 40, 3) := dk_184 0 40 (dk_at dksX21_puts_2 3 rfl rfl)
theorem dX21_puts_54 : decode cX21_puts 54 = .ok (.aload_n 0, 1) := dk_42 (dk_at dksX21_puts_2 6 rfl rfl)
theorem dX21_puts_55 : decode cX21_puts 55 = .ok (.getfield 23, 3) := dk_180 0 23 (dk_at dksX21_puts_2 7 rfl rfl)
theorem dX21_puts_58 : decode cX21_puts 58 = .ok (.iconst 0, 1) := dk_3 (dk_at dksX21_puts_2 10 rfl rfl)
theorem dX21_puts_59 : decode cX21_puts 59 = .ok (.aload_n 1, 1) := dk_43 (dk_at dksX21_puts_2 11 rfl rfl)
theorem dX21_puts_60 : decode cX21_puts 60 = .ok (.getfield 47, 3) := dk_180 0 47 (dk_at dksX21_puts_2 12 rfl rfl)
theorem dX21_puts_63 : decode cX21_puts 63 = .ok (.iconst 0, 1) := dk_3 (dk_at dksX21_puts_2 15 rfl rfl)
theorem dX21_puts_64 : decode cX21_puts 64 = .ok (.bipush 6, 2) := dk_16 6 (dk_at dksX21_puts_2 16 rfl rfl)
theorem dX21_puts_66 : decode cX21_puts 66 = .ok (.invokestatic 40, 3) := dk_184 0 40 (dk_at dksX21_puts_2 18 rfl rfl)
theorem dX21_puts_69 : decode cX21_puts 69 = .ok (.return_, 1) := dk_177 (dk_at dksX21_puts_2 21 rfl rfl)
theorem q118 : (Jvm.Cond.initialized "CrossingWords$Image") ∈ lw_all := lw_g (lw_at lw_m1 24 rfl) rfl
theorem q184 : (Jvm.Cond.fieldLinkNest "CrossingWords$Image" (39 : Nat) "CrossingWords" "cases" "[LCrossingWords$Case;" "CrossingWords") ∈ lw_tbl := lw_at lw_m1 90 rfl
theorem q186 : (Jvm.Cond.fieldLinkNest "CrossingWords$Image" (46 : Nat) "CrossingWords" "laws" "[LCrossingWords$Text;" "CrossingWords") ∈ lw_tbl := lw_at lw_m1 92 rfl
theorem q188 : (Jvm.Cond.fieldLinkNest "CrossingWords$Image" (47 : Nat) "CrossingWords" "clauses" "[LCrossingWords$Text;" "CrossingWords") ∈ lw_tbl := lw_at lw_m1 94 rfl
theorem q193 : (Jvm.Cond.fieldLinkNest "CrossingWords$Image" (26 : Nat) "CrossingWords" "caseMany" "I" "CrossingWords") ∈ lw_tbl := lw_at lw_m1 99 rfl
theorem q195 : (Jvm.Cond.fieldLinkNest "CrossingWords$Image" (31 : Nat) "CrossingWords" "lawMany" "I" "CrossingWords") ∈ lw_tbl := lw_at lw_m1 101 rfl
theorem q197 : (Jvm.Cond.fieldLinkNest "CrossingWords$Image" (35 : Nat) "CrossingWords" "clauseMany" "I" "CrossingWords") ∈ lw_tbl := lw_at lw_m1 103 rfl
theorem q1240 : (Jvm.Cond.instantiable "CrossingWords$Image" (6 : Nat)) ∈ lw_all := lw_g (lw_at lw_m5 186 rfl) rfl
theorem q1242 : (Jvm.Cond.instanceMethod ({ cls := "CrossingWords$Image", name := "<init>", desc := "(LCrossingWords;)V" } : Jvm.MethodName)) ∈ lw_all := lw_g (lw_at lw_m5 188 rfl) rfl
theorem q1243 : (Jvm.Cond.code ({ cls := "CrossingWords$Image", name := "<init>", desc := "(LCrossingWords;)V" } : Jvm.MethodName) prog_9_method_1_code (2 : Nat) (Option.none : Option Jvm.ClassFile.FieldType)) ∈ lw_all := lw_g (lw_at lw_m5 189 rfl) rfl
theorem q1244 : (Jvm.Cond.methodLink "CrossingWords$Image" (3 : Nat) ({ cls := "java/lang/Object", name := "<init>", desc := "()V" } : Jvm.MethodName)) ∈ lw_all := lw_g (lw_at lw_m5 190 rfl) rfl
theorem q1245 : (Jvm.Cond.classLink "CrossingWords$Image" (9 : Nat) "CrossingWords$Case") ∈ lw_all := lw_g (lw_at lw_m5 191 rfl) rfl
theorem q1246 : (Jvm.Cond.classLink "CrossingWords$Image" (17 : Nat) "CrossingWords$Text") ∈ lw_all := lw_g (lw_at lw_m5 192 rfl) rfl
theorem q1247 : (Jvm.Cond.methodLink "CrossingWords$Image" (40 : Nat) ({ cls := "java/lang/System", name := "arraycopy", desc := "(Ljava/lang/Object;ILjava/lang/Object;II)V" } : Jvm.MethodName)) ∈ lw_all := lw_g (lw_at lw_m5 193 rfl) rfl
theorem q1250 : (Jvm.Cond.fieldLink "CrossingWords$Image" (11 : Nat) "CrossingWords$Image" "cases" "[LCrossingWords$Case;") ∈ lw_all := lw_g (lw_at lw_m5 196 rfl) rfl
theorem q1251 : (Jvm.Cond.fieldLink "CrossingWords$Image" (30 : Nat) "CrossingWords$Image" "caseMany" "I") ∈ lw_all := lw_g (lw_at lw_m5 197 rfl) rfl
theorem q1252 : (Jvm.Cond.fieldLink "CrossingWords$Image" (34 : Nat) "CrossingWords$Image" "lawMany" "I") ∈ lw_all := lw_g (lw_at lw_m5 198 rfl) rfl
theorem q1253 : (Jvm.Cond.fieldLink "CrossingWords$Image" (38 : Nat) "CrossingWords$Image" "clauseMany" "I") ∈ lw_all := lw_g (lw_at lw_m5 199 rfl) rfl
theorem q1254 : (Jvm.Cond.fieldLink "CrossingWords$Image" (19 : Nat) "CrossingWords$Image" "laws" "[LCrossingWords$Text;") ∈ lw_all := lw_g (lw_at lw_m5 200 rfl) rfl
theorem q1255 : (Jvm.Cond.fieldLink "CrossingWords$Image" (23 : Nat) "CrossingWords$Image" "clauses" "[LCrossingWords$Text;") ∈ lw_all := lw_g (lw_at lw_m5 201 rfl) rfl
theorem q1256 : (Jvm.Cond.laysFinal "CrossingWords$Image" "CrossingWords$Image" "cases" "[LCrossingWords$Case;") ∈ lw_all := lw_g (lw_at lw_m5 202 rfl) rfl
theorem q1257 : (Jvm.Cond.soleField "CrossingWords$Image" "cases") ∈ lw_all := lw_g (lw_at lw_m5 203 rfl) rfl
theorem q1258 : (Jvm.Cond.laysFinal "CrossingWords$Image" "CrossingWords$Image" "caseMany" "I") ∈ lw_all := lw_g (lw_at lw_m5 204 rfl) rfl
theorem q1259 : (Jvm.Cond.soleField "CrossingWords$Image" "caseMany") ∈ lw_all := lw_g (lw_at lw_m5 205 rfl) rfl
theorem q1260 : (Jvm.Cond.laysFinal "CrossingWords$Image" "CrossingWords$Image" "lawMany" "I") ∈ lw_all := lw_g (lw_at lw_m5 206 rfl) rfl
theorem q1261 : (Jvm.Cond.soleField "CrossingWords$Image" "lawMany") ∈ lw_all := lw_g (lw_at lw_m5 207 rfl) rfl
theorem q1262 : (Jvm.Cond.laysFinal "CrossingWords$Image" "CrossingWords$Image" "clauseMany" "I") ∈ lw_all := lw_g (lw_at lw_m5 208 rfl) rfl
theorem q1263 : (Jvm.Cond.soleField "CrossingWords$Image" "clauseMany") ∈ lw_all := lw_g (lw_at lw_m5 209 rfl) rfl
theorem q1264 : (Jvm.Cond.laysFinal "CrossingWords$Image" "CrossingWords$Image" "laws" "[LCrossingWords$Text;") ∈ lw_all := lw_g (lw_at lw_m5 210 rfl) rfl
theorem q1265 : (Jvm.Cond.soleField "CrossingWords$Image" "laws") ∈ lw_all := lw_g (lw_at lw_m5 211 rfl) rfl
theorem q1266 : (Jvm.Cond.laysFinal "CrossingWords$Image" "CrossingWords$Image" "clauses" "[LCrossingWords$Text;") ∈ lw_all := lw_g (lw_at lw_m5 212 rfl) rfl
theorem q1267 : (Jvm.Cond.soleField "CrossingWords$Image" "clauses") ∈ lw_all := lw_g (lw_at lw_m5 213 rfl) rfl
theorem q1268 : (Jvm.Cond.superclass "CrossingWords$Image" "java/lang/Object") ∈ lw_all := lw_g (lw_at lw_m5 214 rfl) rfl
theorem q1274 : (Jvm.Cond.instanceMethod ({ cls := "CrossingWords$Image", name := "puts", desc := "(LCrossingWords;)V" } : Jvm.MethodName)) ∈ lw_all := lw_g (lw_at lw_m5 220 rfl) rfl
theorem q1275 : (Jvm.Cond.selects "CrossingWords$Image" ({ cls := "CrossingWords$Image", name := "puts", desc := "(LCrossingWords;)V" } : Jvm.MethodName) ({ cls := "CrossingWords$Image", name := "puts", desc := "(LCrossingWords;)V" } : Jvm.MethodName)) ∈ lw_all := lw_g (lw_at lw_m5 221 rfl) rfl
theorem q1276 : (Jvm.Cond.code ({ cls := "CrossingWords$Image", name := "puts", desc := "(LCrossingWords;)V" } : Jvm.MethodName) prog_9_method_2_code (2 : Nat) (Option.none : Option Jvm.ClassFile.FieldType)) ∈ lw_all := lw_g (lw_at lw_m5 222 rfl) rfl
theorem in_X21 : ∀ w ∈ wsX210, w ∈ lw_all := lw_in wsX210 [1256, 1258, 1260, 1262, 1264, 1266] (by decide +kernel) (by decide +kernel)
theorem q94 : (Jvm.Cond.initialized "CrossingWordsLaw") ∈ lw_all := lw_g (lw_at lw_m1 0 rfl) rfl
set_option maxRecDepth 100000
theorem q120 : (Jvm.Cond.classLink "CrossingWordsLaw" (7 : Nat) "CrossingWords") ∈ lw_all := lw_g (lw_at lw_m1 26 rfl) rfl
theorem q122 : (Jvm.Cond.methodLink "CrossingWordsLaw" (9 : Nat) ({ cls := "CrossingWords", name := "<init>", desc := "()V" } : Jvm.MethodName)) ∈ lw_all := lw_g (lw_at lw_m1 28 rfl) rfl
theorem q236 : (Jvm.Cond.methodLink "CrossingWordsLaw" (13 : Nat) ({ cls := "CrossingWords", name := "feed", desc := "(IIIII)I" } : Jvm.MethodName)) ∈ lw_all := lw_g (lw_at lw_m1 142 rfl) rfl
theorem q240 : (Jvm.Cond.methodLink "CrossingWordsLaw" (18 : Nat) ({ cls := "CrossingWords", name := "tell", desc := "(I)I" } : Jvm.MethodName)) ∈ lw_all := lw_g (lw_at lw_m1 146 rfl) rfl
theorem q799 : (Jvm.Cond.methodLink "CrossingWordsLaw" (23 : Nat) ({ cls := "CrossingWords", name := "more", desc := "(II)I" } : Jvm.MethodName)) ∈ lw_all := lw_g (lw_at lw_m3 225 rfl) rfl
theorem q807 : (Jvm.Cond.methodLink "CrossingWordsLaw" (28 : Nat) ({ cls := "CrossingWords", name := "law", desc := "(I)I" } : Jvm.MethodName)) ∈ lw_all := lw_g (lw_at lw_m3 233 rfl) rfl
theorem q854 : (Jvm.Cond.methodLink "CrossingWordsLaw" (32 : Nat) ({ cls := "CrossingWords", name := "clause", desc := "(I)I" } : Jvm.MethodName)) ∈ lw_all := lw_g (lw_at lw_m4 40 rfl) rfl
theorem q858 : (Jvm.Cond.methodLink "CrossingWordsLaw" (36 : Nat) ({ cls := "CrossingWords", name := "fault", desc := "()I" } : Jvm.MethodName)) ∈ lw_all := lw_g (lw_at lw_m4 44 rfl) rfl
theorem q862 : (Jvm.Cond.methodLink "CrossingWordsLaw" (41 : Nat) ({ cls := "CrossingWords", name := "saying", desc := "(III)I" } : Jvm.MethodName)) ∈ lw_all := lw_g (lw_at lw_m4 48 rfl) rfl
theorem q924 : (Jvm.Cond.methodLink "CrossingWordsLaw" (46 : Nat) ({ cls := "CrossingWords", name := "asked", desc := "(II)I" } : Jvm.MethodName)) ∈ lw_all := lw_g (lw_at lw_m4 110 rfl) rfl
theorem q937 : (Jvm.Cond.methodLink "CrossingWordsLaw" (50 : Nat) ({ cls := "CrossingWords", name := "hour", desc := "(IIII)I" } : Jvm.MethodName)) ∈ lw_all := lw_g (lw_at lw_m4 123 rfl) rfl
theorem q957 : (Jvm.Cond.methodLink "CrossingWordsLaw" (55 : Nat) ({ cls := "CrossingWords", name := "rule", desc := "(II)I" } : Jvm.MethodName)) ∈ lw_all := lw_g (lw_at lw_m4 143 rfl) rfl
theorem q991 : (Jvm.Cond.methodLink "CrossingWordsLaw" (59 : Nat) ({ cls := "CrossingWords", name := "run", desc := "(IIII)I" } : Jvm.MethodName)) ∈ lw_all := lw_g (lw_at lw_m4 177 rfl) rfl
theorem q1164 : (Jvm.Cond.methodLink "CrossingWordsLaw" (63 : Nat) ({ cls := "CrossingWords", name := "open", desc := "(IIIII)I" } : Jvm.MethodName)) ∈ lw_all := lw_g (lw_at lw_m5 110 rfl) rfl
theorem q1169 : (Jvm.Cond.methodLink "CrossingWordsLaw" (67 : Nat) ({ cls := "CrossingWords", name := "binds", desc := "(III)I" } : Jvm.MethodName)) ∈ lw_all := lw_g (lw_at lw_m5 115 rfl) rfl
theorem q1173 : (Jvm.Cond.methodLink "CrossingWordsLaw" (71 : Nat) ({ cls := "CrossingWords", name := "sure", desc := "(III)I" } : Jvm.MethodName)) ∈ lw_all := lw_g (lw_at lw_m5 119 rfl) rfl
theorem q1178 : (Jvm.Cond.methodLink "CrossingWordsLaw" (99 : Nat) ({ cls := "CrossingWords", name := "does", desc := "(IIII)I" } : Jvm.MethodName)) ∈ lw_all := lw_g (lw_at lw_m5 124 rfl) rfl
theorem q1191 : (Jvm.Cond.methodLink "CrossingWordsLaw" (103 : Nat) ({ cls := "CrossingWords", name := "can", desc := "(IIIII)I" } : Jvm.MethodName)) ∈ lw_all := lw_g (lw_at lw_m5 137 rfl) rfl
theorem q1203 : (Jvm.Cond.methodLink "CrossingWordsLaw" (107 : Nat) ({ cls := "CrossingWords", name := "until", desc := "(IIIII)I" } : Jvm.MethodName)) ∈ lw_all := lw_g (lw_at lw_m5 149 rfl) rfl
theorem q1207 : (Jvm.Cond.methodLink "CrossingWordsLaw" (111 : Nat) ({ cls := "CrossingWords", name := "lost", desc := "(III)I" } : Jvm.MethodName)) ∈ lw_all := lw_g (lw_at lw_m5 153 rfl) rfl
theorem q1227 : (Jvm.Cond.methodLink "CrossingWordsLaw" (115 : Nat) ({ cls := "CrossingWords", name := "wired", desc := "(III)I" } : Jvm.MethodName)) ∈ lw_all := lw_g (lw_at lw_m5 173 rfl) rfl
theorem q1236 : (Jvm.Cond.methodLink "CrossingWordsLaw" (119 : Nat) ({ cls := "CrossingWords", name := "image", desc := "()I" } : Jvm.MethodName)) ∈ lw_all := lw_g (lw_at lw_m5 182 rfl) rfl
theorem q1269 : (Jvm.Cond.methodLink "CrossingWordsLaw" (123 : Nat) ({ cls := "CrossingWords", name := "back", desc := "(I)Z" } : Jvm.MethodName)) ∈ lw_all := lw_g (lw_at lw_m5 215 rfl) rfl
theorem q1277 : (Jvm.Cond.methodLink "CrossingWordsLaw" (75 : Nat) ({ cls := "CrossingWords", name := "hang", desc := "(II)I" } : Jvm.MethodName)) ∈ lw_all := lw_g (lw_at lw_m5 223 rfl) rfl
theorem q1291 : (Jvm.Cond.methodLink "CrossingWordsLaw" (79 : Nat) ({ cls := "CrossingWords", name := "bears", desc := "(IIII)I" } : Jvm.MethodName)) ∈ lw_all := lw_g (lw_at lw_m5 237 rfl) rfl
theorem q1306 : (Jvm.Cond.methodLink "CrossingWordsLaw" (83 : Nat) ({ cls := "CrossingWords", name := "judge", desc := "(IIIII)I" } : Jvm.MethodName)) ∈ lw_all := lw_g (lw_at lw_m6 12 rfl) rfl
theorem q1310 : (Jvm.Cond.methodLink "CrossingWordsLaw" (87 : Nat) ({ cls := "CrossingWords", name := "apart", desc := "(IIII)I" } : Jvm.MethodName)) ∈ lw_all := lw_g (lw_at lw_m6 16 rfl) rfl
theorem q1318 : (Jvm.Cond.methodLink "CrossingWordsLaw" (91 : Nat) ({ cls := "CrossingWords", name := "part", desc := "(II)I" } : Jvm.MethodName)) ∈ lw_all := lw_g (lw_at lw_m6 24 rfl) rfl
theorem q1322 : (Jvm.Cond.methodLink "CrossingWordsLaw" (95 : Nat) ({ cls := "CrossingWords", name := "write", desc := "(I)I" } : Jvm.MethodName)) ∈ lw_all := lw_g (lw_at lw_m6 28 rfl) rfl
theorem q1330 : (Jvm.Cond.methodLink "CrossingWordsLaw" (128 : Nat) ({ cls := "CrossingWords", name := "count", desc := "(I)I" } : Jvm.MethodName)) ∈ lw_all := lw_g (lw_at lw_m6 36 rfl) rfl
theorem q1334 : (Jvm.Cond.classLink "CrossingWordsLaw" (10 : Nat) "CrossingWordsModel") ∈ lw_all := lw_g (lw_at lw_m6 40 rfl) rfl
theorem q1336 : (Jvm.Cond.methodLink "CrossingWordsLaw" (12 : Nat) ({ cls := "CrossingWordsModel", name := "<init>", desc := "()V" } : Jvm.MethodName)) ∈ lw_all := lw_g (lw_at lw_m6 42 rfl) rfl
theorem q1530 : (Jvm.Cond.methodLink "CrossingWordsLaw" (17 : Nat) ({ cls := "CrossingWordsModel", name := "feed", desc := "(IIIII)I" } : Jvm.MethodName)) ∈ lw_all := lw_g (lw_at lw_m6 236 rfl) rfl
theorem q1534 : (Jvm.Cond.methodLink "CrossingWordsLaw" (22 : Nat) ({ cls := "CrossingWordsModel", name := "tell", desc := "(I)I" } : Jvm.MethodName)) ∈ lw_all := lw_g (lw_at lw_m7 0 rfl) rfl
theorem q1644 : (Jvm.Cond.methodLink "CrossingWordsLaw" (27 : Nat) ({ cls := "CrossingWordsModel", name := "more", desc := "(II)I" } : Jvm.MethodName)) ∈ lw_all := lw_g (lw_at lw_m7 110 rfl) rfl
theorem q1652 : (Jvm.Cond.methodLink "CrossingWordsLaw" (31 : Nat) ({ cls := "CrossingWordsModel", name := "law", desc := "(I)I" } : Jvm.MethodName)) ∈ lw_all := lw_g (lw_at lw_m7 118 rfl) rfl
theorem q1687 : (Jvm.Cond.methodLink "CrossingWordsLaw" (35 : Nat) ({ cls := "CrossingWordsModel", name := "clause", desc := "(I)I" } : Jvm.MethodName)) ∈ lw_all := lw_g (lw_at lw_m7 153 rfl) rfl
theorem q1691 : (Jvm.Cond.methodLink "CrossingWordsLaw" (40 : Nat) ({ cls := "CrossingWordsModel", name := "fault", desc := "()I" } : Jvm.MethodName)) ∈ lw_all := lw_g (lw_at lw_m7 157 rfl) rfl
theorem q1695 : (Jvm.Cond.methodLink "CrossingWordsLaw" (58 : Nat) ({ cls := "CrossingWordsModel", name := "rule", desc := "(II)I" } : Jvm.MethodName)) ∈ lw_all := lw_g (lw_at lw_m7 161 rfl) rfl
theorem q1707 : (Jvm.Cond.methodLink "CrossingWordsLaw" (45 : Nat) ({ cls := "CrossingWordsModel", name := "saying", desc := "(III)I" } : Jvm.MethodName)) ∈ lw_all := lw_g (lw_at lw_m7 173 rfl) rfl
theorem q1711 : (Jvm.Cond.methodLink "CrossingWordsLaw" (49 : Nat) ({ cls := "CrossingWordsModel", name := "asked", desc := "(II)I" } : Jvm.MethodName)) ∈ lw_all := lw_g (lw_at lw_m7 177 rfl) rfl
theorem q1731 : (Jvm.Cond.methodLink "CrossingWordsLaw" (54 : Nat) ({ cls := "CrossingWordsModel", name := "hour", desc := "(IIII)I" } : Jvm.MethodName)) ∈ lw_all := lw_g (lw_at lw_m7 197 rfl) rfl
theorem q1743 : (Jvm.Cond.methodLink "CrossingWordsLaw" (62 : Nat) ({ cls := "CrossingWordsModel", name := "run", desc := "(IIII)I" } : Jvm.MethodName)) ∈ lw_all := lw_g (lw_at lw_m7 209 rfl) rfl
theorem q1827 : (Jvm.Cond.methodLink "CrossingWordsLaw" (66 : Nat) ({ cls := "CrossingWordsModel", name := "open", desc := "(IIIII)I" } : Jvm.MethodName)) ∈ lw_all := lw_g (lw_at lw_m8 53 rfl) rfl
theorem q1831 : (Jvm.Cond.methodLink "CrossingWordsLaw" (70 : Nat) ({ cls := "CrossingWordsModel", name := "binds", desc := "(III)I" } : Jvm.MethodName)) ∈ lw_all := lw_g (lw_at lw_m8 57 rfl) rfl
theorem q1835 : (Jvm.Cond.methodLink "CrossingWordsLaw" (74 : Nat) ({ cls := "CrossingWordsModel", name := "sure", desc := "(III)I" } : Jvm.MethodName)) ∈ lw_all := lw_g (lw_at lw_m8 61 rfl) rfl
theorem q1839 : (Jvm.Cond.methodLink "CrossingWordsLaw" (78 : Nat) ({ cls := "CrossingWordsModel", name := "hang", desc := "(II)I" } : Jvm.MethodName)) ∈ lw_all := lw_g (lw_at lw_m8 65 rfl) rfl
theorem q1854 : (Jvm.Cond.methodLink "CrossingWordsLaw" (82 : Nat) ({ cls := "CrossingWordsModel", name := "bears", desc := "(IIII)I" } : Jvm.MethodName)) ∈ lw_all := lw_g (lw_at lw_m8 80 rfl) rfl
theorem q1858 : (Jvm.Cond.methodLink "CrossingWordsLaw" (86 : Nat) ({ cls := "CrossingWordsModel", name := "judge", desc := "(IIIII)I" } : Jvm.MethodName)) ∈ lw_all := lw_g (lw_at lw_m8 84 rfl) rfl
theorem q1862 : (Jvm.Cond.methodLink "CrossingWordsLaw" (90 : Nat) ({ cls := "CrossingWordsModel", name := "apart", desc := "(IIII)I" } : Jvm.MethodName)) ∈ lw_all := lw_g (lw_at lw_m8 88 rfl) rfl
theorem q1870 : (Jvm.Cond.methodLink "CrossingWordsLaw" (94 : Nat) ({ cls := "CrossingWordsModel", name := "part", desc := "(II)I" } : Jvm.MethodName)) ∈ lw_all := lw_g (lw_at lw_m8 96 rfl) rfl
theorem q1874 : (Jvm.Cond.methodLink "CrossingWordsLaw" (98 : Nat) ({ cls := "CrossingWordsModel", name := "write", desc := "(I)I" } : Jvm.MethodName)) ∈ lw_all := lw_g (lw_at lw_m8 100 rfl) rfl
theorem q1882 : (Jvm.Cond.methodLink "CrossingWordsLaw" (102 : Nat) ({ cls := "CrossingWordsModel", name := "does", desc := "(IIII)I" } : Jvm.MethodName)) ∈ lw_all := lw_g (lw_at lw_m8 108 rfl) rfl
theorem q1886 : (Jvm.Cond.methodLink "CrossingWordsLaw" (106 : Nat) ({ cls := "CrossingWordsModel", name := "can", desc := "(IIIII)I" } : Jvm.MethodName)) ∈ lw_all := lw_g (lw_at lw_m8 112 rfl) rfl
theorem q1894 : (Jvm.Cond.methodLink "CrossingWordsLaw" (110 : Nat) ({ cls := "CrossingWordsModel", name := "until", desc := "(IIIII)I" } : Jvm.MethodName)) ∈ lw_all := lw_g (lw_at lw_m8 120 rfl) rfl
theorem q1898 : (Jvm.Cond.methodLink "CrossingWordsLaw" (114 : Nat) ({ cls := "CrossingWordsModel", name := "lost", desc := "(III)I" } : Jvm.MethodName)) ∈ lw_all := lw_g (lw_at lw_m8 124 rfl) rfl
theorem q1910 : (Jvm.Cond.methodLink "CrossingWordsLaw" (118 : Nat) ({ cls := "CrossingWordsModel", name := "wired", desc := "(III)I" } : Jvm.MethodName)) ∈ lw_all := lw_g (lw_at lw_m8 136 rfl) rfl
theorem q1914 : (Jvm.Cond.methodLink "CrossingWordsLaw" (122 : Nat) ({ cls := "CrossingWordsModel", name := "image", desc := "()I" } : Jvm.MethodName)) ∈ lw_all := lw_g (lw_at lw_m8 140 rfl) rfl
theorem q1922 : (Jvm.Cond.methodLink "CrossingWordsLaw" (127 : Nat) ({ cls := "CrossingWordsModel", name := "back", desc := "(I)Z" } : Jvm.MethodName)) ∈ lw_all := lw_g (lw_at lw_m8 148 rfl) rfl
theorem q1926 : (Jvm.Cond.methodLink "CrossingWordsLaw" (131 : Nat) ({ cls := "CrossingWordsModel", name := "count", desc := "(I)I" } : Jvm.MethodName)) ∈ lw_all := lw_g (lw_at lw_m8 152 rfl) rfl
theorem q119 : (Jvm.Cond.initialized "java/lang/System") ∈ lw_all := lw_g (lw_at lw_m1 25 rfl) rfl
set_option maxRecDepth 100000
theorem q1248 : (Jvm.Cond.static ({ cls := "java/lang/System", name := "arraycopy", desc := "(Ljava/lang/Object;ILjava/lang/Object;II)V" } : Jvm.MethodName)) ∈ lw_all := lw_g (lw_at lw_m5 194 rfl) rfl
theorem q1249 : (Jvm.Cond.native ({ cls := "java/lang/System", name := "arraycopy", desc := "(Ljava/lang/Object;ILjava/lang/Object;II)V" } : Jvm.MethodName)) ∈ lw_all := lw_g (lw_at lw_m5 195 rfl) rfl
theorem q129 : (Jvm.Cond.arrayOver (Jvm.ClassFile.FieldType.object "CrossingWords$Case")) ∈ lw_tbl := lw_at lw_m1 35 rfl
set_option maxRecDepth 100000
theorem q131 : (Jvm.Cond.arrayOver (Jvm.ClassFile.FieldType.object "CrossingWords$Text")) ∈ lw_tbl := lw_at lw_m1 37 rfl
theorem q133 : (Jvm.Cond.arrayOver (Jvm.ClassFile.FieldType.object "CrossingWords$Run")) ∈ lw_tbl := lw_at lw_m1 39 rfl
theorem q135 : (Jvm.Cond.arrayOver (Jvm.ClassFile.FieldType.object "CrossingWords$Image")) ∈ lw_tbl := lw_at lw_m1 41 rfl
theorem q181 : (Jvm.Cond.arrayClass Jvm.ClassFile.FieldType.byte) ∈ lw_all := lw_g (lw_at lw_m1 87 rfl) rfl
theorem q182 : (Jvm.Cond.arrayClass Jvm.ClassFile.FieldType.boolean) ∈ lw_all := lw_g (lw_at lw_m1 88 rfl) rfl
theorem q183 : (Jvm.Cond.arrayClass Jvm.ClassFile.FieldType.int) ∈ lw_all := lw_g (lw_at lw_m1 89 rfl) rfl
theorem q278 : (Jvm.Cond.arrayOver (Jvm.ClassFile.FieldType.object "CrossingWords$Saying")) ∈ lw_tbl := lw_at lw_m1 184 rfl
theorem q1945 : (Jvm.Cond.arrayClass Jvm.ClassFile.FieldType.long) ∈ lw_all := lw_g (lw_at lw_m8 171 rfl) rfl
