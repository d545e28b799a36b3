/-! CrossingWords$Run -/
set_option maxRecDepth 100000
def RX1 : String := "CrossingWords$Run"
def TX1 : u_T := fun k => match k with
  | 0 => ("CrossingWords$Run", "hours", "[I", true)
  | 1 => ("CrossingWords$Run", "from", "[I", true)
  | 2 => ("CrossingWords$Run", "ends", "[I", true)
  | 3 => ("CrossingWords$Run", "why", "[I", true)
  | 4 => ("CrossingWords$Run", "digits", "[I", true)
  | 5 => ("CrossingWords$Run", "own", "LCrossingWords$Case;", false)
  | 6 => ("CrossingWords$Run", "rules", "LCrossingWords$Rules;", false)
  | 7 => ("CrossingWords$Run", "yes", "I", false)
  | 8 => ("CrossingWords$Run", "since", "I", false)
  | 9 => ("CrossingWords$Run", "offer", "LCrossingWords$Saying;", false)
  | _ => ("CrossingWords$Run", "this$0", "LCrossingWords;", true)
def tyX1 : Nat → FieldType := fun k => match k with
  | 0 => .array .int
  | 1 => .array .int
  | 2 => .array .int
  | 3 => .array .int
  | 4 => .array .int
  | 5 => .object "CrossingWords$Case"
  | 6 => .object "CrossingWords$Rules"
  | 7 => .int
  | 8 => .int
  | 9 => .object "CrossingWords$Saying"
  | _ => .object "CrossingWords"
abbrev wsX10 : List Cond := u_ws RX1 TX1 11
theorem nmX1 : ∀ a, a < 11 → ∀ b, b < 11 → a ≠ b → (TX1 a).2.1 ≠ (TX1 b).2.1 := by decide +kernel
theorem tyX1_ok : ∀ k, k < 11 → parseFieldDescriptor (TX1 k).2.2.1 = some (tyX1 k) := by decide +kernel
abbrev cX1_init : ByteArray := prog_15_method_1_code
def yX1_init : MethodName := ⟨RX1, "<init>", "(LCrossingWords;)V"⟩
def dkwX1_init_2 : List UInt8 := [181, 0, 28, 177]
abbrev dktX1_init_2 : List UInt8 := dkwX1_init_2 ++ []
def dkwX1_init_1 : List UInt8 := [181, 0, 19, 42, 16, 12, 188, 10, 181, 0, 22, 42, 16, 12, 188, 10, 181, 0, 25, 42, 16, 48, 188, 10]
abbrev dktX1_init_1 : List UInt8 := dkwX1_init_1 ++ dktX1_init_2
def dkwX1_init_0 : List UInt8 := [42, 43, 181, 0, 3, 42, 183, 0, 9, 42, 16, 36, 188, 10, 181, 0, 15, 42, 16, 12, 188, 10]
abbrev dktX1_init_0 : List UInt8 := dkwX1_init_0 ++ dktX1_init_1
theorem dksX1_init_0 : cX1_init.data.toList.drop 0 = dktX1_init_0 := by decide +kernel
theorem dksX1_init_1 : cX1_init.data.toList.drop 22 = dktX1_init_1 := dk_seg dksX1_init_0 22 rfl rfl
theorem dksX1_init_2 : cX1_init.data.toList.drop 46 = dktX1_init_2 := dk_seg dksX1_init_1 24 rfl rfl
theorem dX1_init_0 : decode cX1_init 0 = .ok (.aload_n 0, 1) := dk_42 (dk_at dksX1_init_0 0 rfl rfl)
theorem dX1_init_1 : decode cX1_init 1 = .ok (.aload_n 1, 1) := dk_43 (dk_at dksX1_init_0 1 rfl rfl)
theorem dX1_init_2 : decode cX1_init 2 = .ok (.putfield 3, 3) := dk_181 0 3 (dk_at dksX1_init_0 2 rfl rfl)
theorem dX1_init_5 : decode cX1_init 5 = .ok (.aload_n 0, 1) := dk_42 (dk_at dksX1_init_0 5 rfl rfl)
theorem dX1_init_6 : decode cX1_init 6 = .ok (.invokespecial 9, 3) := dk_183 0 9 (dk_at dksX1_init_0 6 rfl rfl)
theorem dX1_init_9 : decode cX1_init 9 = .ok (.aload_n 0, 1) := dk_42 (dk_at dksX1_init_0 9 rfl rfl)
theorem dX1_init_10 : decode cX1_init 10 = .ok (.bipush 36, 2) := dk_16 36 (dk_at dksX1_init_0 10 rfl rfl)
theorem dX1_init_12 : decode cX1_init 12 = .ok (.newarray .int, 2) := dk_188_10 (dk_at dksX1_init_0 12 rfl rfl)
theorem dX1_init_14 : decode cX1_init 14 = .ok (.putfield 15, 3) := dk_181 0 15 (dk_at dksX1_init_0 14 rfl rfl)
theorem dX1_init_17 : decode cX1_init 17 = .ok (.aload_n 0, 1) := dk_42 (dk_at dksX1_init_0 17 rfl rfl)
theorem dX1_init_18 : decode cX1_init 18 = .ok (.bipush 12, 2) := dk_16 12 (dk_at dksX1_init_0 18 rfl rfl)
theorem dX1_init_20 : decode cX1_init 20 = .ok (.newarray .int, 2) := dk_188_10 (dk_at dksX1_init_0 20 rfl rfl)
theorem dX1_init_22 : decode cX1_init 22 = .ok (.putfield 19, 3) := dk_181 0 19 (dk_at dksX1_init_1 0 rfl rfl)
theorem dX1_init_25 : decode cX1_init 25 = .ok (.aload_n 0, 1) := dk_42 (dk_at dksX1_init_1 3 rfl rfl)
theorem dX1_init_26 : decode cX1_init 26 = .ok (.bipush 12, 2) := dk_16 12 (dk_at dksX1_init_1 4 rfl rfl)
theorem dX1_init_28 : decode cX1_init 28 = .ok (.newarray .int, 2) := dk_188_10 (dk_at dksX1_init_1 6 rfl rfl)
theorem dX1_init_30 : decode cX1_init 30 = .ok (.putfield 22, 3) := dk_181 0 22 (dk_at dksX1_init_1 8 rfl rfl)
theorem dX1_init_33 : decode cX1_init 33 = .ok (.aload_n 0, 1) := dk_42 (dk_at dksX1_init_1 11 rfl rfl)
theorem dX1_init_34 : decode cX1_init 34 = .ok (.bipush 12, 2) := dk_16 12 (dk_at dksX1_init_1 12 rfl rfl)
theorem dX1_init_36 : decode cX1_init 36 = .ok (.newarray .int, 2) := dk_188_10 (dk_at dksX1_init_1 14 rfl rfl)
theorem dX1_init_38 : decode cX1_init 38 = .ok (.putfield 25, 3) := dk_181 0 25 (dk_at dksX1_init_1 16 rfl rfl)
theorem dX1_init_41 : decode cX1_init 41 = .ok (.aload_n 0, 1) := dk_42 (dk_at dksX1_init_1 19 rfl rfl)
theorem dX1_init_42 : decode cX1_init 42 = .ok (.bipush 48, 2) := dk_16 48 (dk_at dksX1_init_1 20 rfl rfl)
theorem dX1_init_44 : decode cX1_init 44 = .ok (.newarray .int, 2) := dk_188_10 (dk_at dksX1_init_1 22 rfl rfl)
theorem dX1_init_46 : decode cX1_init 46 = .ok (.putfield 28, 3) := dk_181 0 28 (dk_at dksX1_init_2 0 rfl rfl)
theorem dX1_init_49 : decode cX1_init 49 = .ok (.return_, 1) := dk_177 (dk_at dksX1_init_2 3 rfl rfl)
abbrev cX1_lays : ByteArray := prog_15_method_2_code
def yX1_lays : MethodName := ⟨RX1, "lays", "(LCrossingWords$Case;I)V"⟩
def dkwX1_lays_10 : List UInt8 := [29, 104, 5, 96, 46, 96, 79, 132, 3, 1, 167, 255, 80, 177]
abbrev dktX1_lays_10 : List UInt8 := dkwX1_lays_10 ++ []
def dkwX1_lays_9 : List UInt8 := [42, 180, 0, 15, 6, 29, 104, 4, 96, 46, 25, 4, 180, 0, 82, 180, 0, 74, 96, 42, 180, 0, 28, 7]
abbrev dktX1_lays_9 : List UInt8 := dkwX1_lays_9 ++ dktX1_lays_10
def dkwX1_lays_8 : List UInt8 := [96, 46, 96, 79, 42, 180, 0, 15, 6, 29, 104, 5, 96, 21, 5, 153, 0, 9, 17, 39, 15, 167, 0, 33]
abbrev dktX1_lays_8 : List UInt8 := dkwX1_lays_8 ++ dktX1_lays_9
def dkwX1_lays_7 : List UInt8 := [180, 0, 15, 6, 29, 104, 46, 25, 4, 180, 0, 79, 180, 0, 74, 96, 42, 180, 0, 28, 7, 29, 104, 4]
abbrev dktX1_lays_7 : List UInt8 := dkwX1_lays_7 ++ dktX1_lays_8
def dkwX1_lays_6 : List UInt8 := [79, 42, 180, 0, 15, 6, 29, 104, 4, 96, 21, 5, 153, 0, 9, 17, 39, 15, 167, 0, 31, 42]
abbrev dktX1_lays_6 : List UInt8 := dkwX1_lays_6 ++ dktX1_lays_7
def dkwX1_lays_5 : List UInt8 := [42, 180, 0, 15, 6, 29, 104, 25, 4, 180, 0, 70, 180, 0, 74, 42, 180, 0, 28, 7, 29, 104, 46, 96]
abbrev dktX1_lays_5 : List UInt8 := dkwX1_lays_5 ++ dktX1_lays_6
def dkwX1_lays_4 : List UInt8 := [154, 0, 17, 42, 180, 0, 28, 7, 29, 104, 6, 96, 46, 4, 160, 0, 7, 4, 167, 0, 4, 3, 54, 5]
abbrev dktX1_lays_4 : List UInt8 := dkwX1_lays_4 ++ dktX1_lays_5
def dkwX1_lays_3 : List UInt8 := [43, 180, 0, 51, 162, 0, 174, 43, 180, 0, 54, 29, 50, 180, 0, 58, 58, 4, 25, 4, 180, 0, 64]
abbrev dktX1_lays_3 : List UInt8 := dkwX1_lays_3 ++ dktX1_lays_4
def dkwX1_lays_2 : List UInt8 := [104, 43, 180, 0, 44, 29, 46, 96, 43, 28, 29, 182, 0, 47, 79, 132, 3, 1, 167, 255, 219, 3, 62, 29]
abbrev dktX1_lays_2 : List UInt8 := dkwX1_lays_2 ++ dktX1_lays_3
def dkwX1_lays_1 : List UInt8 := [167, 255, 240, 3, 62, 29, 43, 180, 0, 35, 162, 0, 35, 42, 180, 0, 28, 7, 43, 180, 0, 41, 29, 46]
abbrev dktX1_lays_1 : List UInt8 := dkwX1_lays_1 ++ dktX1_lays_2
def dkwX1_lays_0 : List UInt8 := [42, 43, 181, 0, 31, 3, 62, 29, 16, 48, 162, 0, 16, 42, 180, 0, 28, 29, 3, 79, 132, 3, 1]
abbrev dktX1_lays_0 : List UInt8 := dkwX1_lays_0 ++ dktX1_lays_1
theorem dksX1_lays_0 : cX1_lays.data.toList.drop 0 = dktX1_lays_0 := by decide +kernel
theorem dksX1_lays_1 : cX1_lays.data.toList.drop 23 = dktX1_lays_1 := dk_seg dksX1_lays_0 23 rfl rfl
theorem dksX1_lays_2 : cX1_lays.data.toList.drop 47 = dktX1_lays_2 := dk_seg dksX1_lays_1 24 rfl rfl
theorem dksX1_lays_3 : cX1_lays.data.toList.drop 71 = dktX1_lays_3 := dk_seg dksX1_lays_2 24 rfl rfl
theorem dksX1_lays_4 : cX1_lays.data.toList.drop 94 = dktX1_lays_4 := dk_seg dksX1_lays_3 23 rfl rfl
theorem dksX1_lays_5 : cX1_lays.data.toList.drop 118 = dktX1_lays_5 := dk_seg dksX1_lays_4 24 rfl rfl
theorem dksX1_lays_6 : cX1_lays.data.toList.drop 142 = dktX1_lays_6 := dk_seg dksX1_lays_5 24 rfl rfl
theorem dksX1_lays_7 : cX1_lays.data.toList.drop 164 = dktX1_lays_7 := dk_seg dksX1_lays_6 22 rfl rfl
theorem dksX1_lays_8 : cX1_lays.data.toList.drop 188 = dktX1_lays_8 := dk_seg dksX1_lays_7 24 rfl rfl
theorem dksX1_lays_9 : cX1_lays.data.toList.drop 212 = dktX1_lays_9 := dk_seg dksX1_lays_8 24 rfl rfl
theorem dksX1_lays_10 : cX1_lays.data.toList.drop 236 = dktX1_lays_10 := dk_seg dksX1_lays_9 24 rfl rfl
theorem dX1_lays_0 : decode cX1_lays 0 = .ok (.aload_n 0, 1) := dk_42 (dk_at dksX1_lays_0 0 rfl rfl)
theorem dX1_lays_1 : decode cX1_lays 1 = .ok (.aload_n 1, 1) := dk_43 (dk_at dksX1_lays_0 1 rfl rfl)
theorem dX1_lays_2 : decode cX1_lays 2 = .ok (.putfield 31, 3) := dk_181 0 31 (dk_at dksX1_lays_0 2 rfl rfl)
theorem dX1_lays_5 : decode cX1_lays 5 = .ok (.iconst 0, 1) := dk_3 (dk_at dksX1_lays_0 5 rfl rfl)
theorem dX1_lays_6 : decode cX1_lays 6 = .ok (.istore_n 3, 1) := dk_62 (dk_at dksX1_lays_0 6 rfl rfl)
theorem dX1_lays_7 : decode cX1_lays 7 = .ok (.iload_n 3, 1) := dk_29 (dk_at dksX1_lays_0 7 rfl rfl)
theorem dX1_lays_8 : decode cX1_lays 8 = .ok (.bipush 48, 2) := dk_16 48 (dk_at dksX1_lays_0 8 rfl rfl)
theorem dX1_lays_10 : decode cX1_lays 10 = .ok (.if_icmp .ge 16, 3) := dk_162 0 16 (dk_at dksX1_lays_0 10 rfl rfl)
theorem dX1_lays_13 : decode cX1_lays 13 = .ok (.aload_n 0, 1) := dk_42 (dk_at dksX1_lays_0 13 rfl rfl)
theorem dX1_lays_14 : decode cX1_lays 14 = .ok (.getfield 28, 3) := dk_180 0 28 (dk_at dksX1_lays_0 14 rfl rfl)
theorem dX1_lays_17 : decode cX1_lays 17 = .ok (.iload_n 3, 1) := dk_29 (dk_at dksX1_lays_0 17 rfl rfl)
theorem dX1_lays_18 : decode cX1_lays 18 = .ok (.iconst 0, 1) := dk_3 (dk_at dksX1_lays_0 18 rfl rfl)
theorem dX1_lays_19 : decode cX1_lays 19 = .ok (.iastore, 1) := dk_79 (dk_at dksX1_lays_0 19 rfl rfl)
theorem dX1_lays_20 : decode cX1_lays 20 = .ok (.iinc 3 1, 3) := dk_132 3 1 (dk_at dksX1_lays_0 20 rfl rfl)
theorem dX1_lays_23 : decode cX1_lays 23 = .ok (.goto (-16), 3) := dk_167 255 240 (dk_at dksX1_lays_1 0 rfl rfl)
theorem dX1_lays_26 : decode cX1_lays 26 = .ok (.iconst 0, 1) := dk_3 (dk_at dksX1_lays_1 3 rfl rfl)
theorem dX1_lays_27 : decode cX1_lays 27 = .ok (.istore_n 3, 1) := dk_62 (dk_at dksX1_lays_1 4 rfl rfl)
theorem dX1_lays_28 : decode cX1_lays 28 = .ok (.iload_n 3, 1) := dk_29 (dk_at dksX1_lays_1 5 rfl rfl)
theorem dX1_lays_29 : decode cX1_lays 29 = .ok (.aload_n 1, 1) := dk_43 (dk_at dksX1_lays_1 6 rfl rfl)
theorem dX1_lays_30 : decode cX1_lays 30 = .ok (.getfield 35, 3) := dk_180 0 35 (dk_at dksX1_lays_1 7 rfl rfl)
theorem dX1_lays_33 : decode cX1_lays 33 = .ok (.if_icmp .ge 35, 3) := dk_162 0 35 (dk_at dksX1_lays_1 10 rfl rfl)
theorem dX1_lays_36 : decode cX1_lays 36 = .ok (.aload_n 0, 1) := dk_42 (dk_at dksX1_lays_1 13 rfl rfl)
theorem dX1_lays_37 : decode cX1_lays 37 = .ok (.getfield 28, 3) := dk_180 0 28 (dk_at dksX1_lays_1 14 rfl rfl)
theorem dX1_lays_40 : decode cX1_lays 40 = .ok (.iconst 4, 1) := dk_7 (dk_at dksX1_lays_1 17 rfl rfl)
theorem dX1_lays_41 : decode cX1_lays 41 = .ok (.aload_n 1, 1) := dk_43 (dk_at dksX1_lays_1 18 rfl rfl)
theorem dX1_lays_42 : decode cX1_lays 42 = .ok (.getfield 41, 3) := dk_180 0 41 (dk_at dksX1_lays_1 19 rfl rfl)
theorem dX1_lays_45 : decode cX1_lays 45 = .ok (.iload_n 3, 1) := dk_29 (dk_at dksX1_lays_1 22 rfl rfl)
theorem dX1_lays_46 : decode cX1_lays 46 = .ok (.iaload, 1) := dk_46 (dk_at dksX1_lays_1 23 rfl rfl)
theorem dX1_lays_47 : decode cX1_lays 47 = .ok (.imul, 1) := dk_104 (dk_at dksX1_lays_2 0 rfl rfl)
theorem dX1_lays_48 : decode cX1_lays 48 = .ok (.aload_n 1, 1) := dk_43 (dk_at dksX1_lays_2 1 rfl rfl)
theorem dX1_lays_49 : decode cX1_lays 49 = .ok (.getfield 44, 3) := dk_180 0 44 (dk_at dksX1_lays_2 2 rfl rfl)
theorem dX1_lays_52 : decode cX1_lays 52 = .ok (.iload_n 3, 1) := dk_29 (dk_at dksX1_lays_2 5 rfl rfl)
theorem dX1_lays_53 : decode cX1_lays 53 = .ok (.iaload, 1) := dk_46 (dk_at dksX1_lays_2 6 rfl rfl)
theorem dX1_lays_54 : decode cX1_lays 54 = .ok (.iadd, 1) := dk_96 (dk_at dksX1_lays_2 7 rfl rfl)
theorem dX1_lays_55 : decode cX1_lays 55 = .ok (.aload_n 1, 1) := dk_43 (dk_at dksX1_lays_2 8 rfl rfl)
theorem dX1_lays_56 : decode cX1_lays 56 = .ok (.iload_n 2, 1) := dk_28 (dk_at dksX1_lays_2 9 rfl rfl)
theorem dX1_lays_57 : decode cX1_lays 57 = .ok (.iload_n 3, 1) := dk_29 (dk_at dksX1_lays_2 10 rfl rfl)
theorem dX1_lays_58 : decode cX1_lays 58 = .ok (.invokevirtual 47, 3) := dk_182 0 47 (dk_at dksX1_lays_2 11 rfl rfl)
theorem dX1_lays_61 : decode cX1_lays 61 = .ok (.iastore, 1) := dk_79 (dk_at dksX1_lays_2 14 rfl rfl)
theorem dX1_lays_62 : decode cX1_lays 62 = .ok (.iinc 3 1, 3) := dk_132 3 1 (dk_at dksX1_lays_2 15 rfl rfl)
theorem dX1_lays_65 : decode cX1_lays 65 = .ok (.goto (-37), 3) := dk_167 255 219 (dk_at dksX1_lays_2 18 rfl rfl)
theorem dX1_lays_68 : decode cX1_lays 68 = .ok (.iconst 0, 1) := dk_3 (dk_at dksX1_lays_2 21 rfl rfl)
theorem dX1_lays_69 : decode cX1_lays 69 = .ok (.istore_n 3, 1) := dk_62 (dk_at dksX1_lays_2 22 rfl rfl)
theorem dX1_lays_70 : decode cX1_lays 70 = .ok (.iload_n 3, 1) := dk_29 (dk_at dksX1_lays_2 23 rfl rfl)
theorem dX1_lays_71 : decode cX1_lays 71 = .ok (.aload_n 1, 1) := dk_43 (dk_at dksX1_lays_3 0 rfl rfl)
theorem dX1_lays_72 : decode cX1_lays 72 = .ok (.getfield 51, 3) := dk_180 0 51 (dk_at dksX1_lays_3 1 rfl rfl)
theorem dX1_lays_75 : decode cX1_lays 75 = .ok (.if_icmp .ge 174, 3) := dk_162 0 174 (dk_at dksX1_lays_3 4 rfl rfl)
theorem dX1_lays_78 : decode cX1_lays 78 = .ok (.aload_n 1, 1) := dk_43 (dk_at dksX1_lays_3 7 rfl rfl)
theorem dX1_lays_79 : decode cX1_lays 79 = .ok (.getfield 54, 3) := dk_180 0 54 (dk_at dksX1_lays_3 8 rfl rfl)
theorem dX1_lays_82 : decode cX1_lays 82 = .ok (.iload_n 3, 1) := dk_29 (dk_at dksX1_lays_3 11 rfl rfl)
theorem dX1_lays_83 : decode cX1_lays 83 = .ok (.aaload, 1) := dk_50 (dk_at dksX1_lays_3 12 rfl rfl)
theorem dX1_lays_84 : decode cX1_lays 84 = .ok (.getfield 58, 3) := dk_180 0 58 (dk_at dksX1_lays_3 13 rfl rfl)
theorem dX1_lays_87 : decode cX1_lays 87 = .ok (.astore 4, 2) := dk_58 4 (dk_at dksX1_lays_3 16 rfl rfl)
theorem dX1_lays_89 : decode cX1_lays 89 = .ok (.aload 4, 2) := dk_25 4 (dk_at dksX1_lays_3 18 rfl rfl)
theorem dX1_lays_91 : decode cX1_lays 91 = .ok (.getfield 64, 3) := dk_180 0 64 (dk_at dksX1_lays_3 20 rfl rfl)
theorem dX1_lays_94 : decode cX1_lays 94 = .ok (.ifCond .ne 17, 3) := dk_154 0 17 (dk_at dksX1_lays_4 0 rfl rfl)
theorem dX1_lays_97 : decode cX1_lays 97 = .ok (.aload_n 0, 1) := dk_42 (dk_at dksX1_lays_4 3 rfl rfl)
theorem dX1_lays_98 : decode cX1_lays 98 = .ok (.getfield 28, 3) := dk_180 0 28 (dk_at dksX1_lays_4 4 rfl rfl)
theorem dX1_lays_101 : decode cX1_lays 101 = .ok (.iconst 4, 1) := dk_7 (dk_at dksX1_lays_4 7 rfl rfl)
theorem dX1_lays_102 : decode cX1_lays 102 = .ok (.iload_n 3, 1) := dk_29 (dk_at dksX1_lays_4 8 rfl rfl)
theorem dX1_lays_103 : decode cX1_lays 103 = .ok (.imul, 1) := dk_104 (dk_at dksX1_lays_4 9 rfl rfl)
theorem dX1_lays_104 : decode cX1_lays 104 = .ok (.iconst 3, 1) := dk_6 (dk_at dksX1_lays_4 10 rfl rfl)
theorem dX1_lays_105 : decode cX1_lays 105 = .ok (.iadd, 1) := dk_96 (dk_at dksX1_lays_4 11 rfl rfl)
theorem dX1_lays_106 : decode cX1_lays 106 = .ok (.iaload, 1) := dk_46 (dk_at dksX1_lays_4 12 rfl rfl)
theorem dX1_lays_107 : decode cX1_lays 107 = .ok (.iconst 1, 1) := dk_4 (dk_at dksX1_lays_4 13 rfl rfl)
theorem dX1_lays_108 : decode cX1_lays 108 = .ok (.if_icmp .ne 7, 3) := dk_160 0 7 (dk_at dksX1_lays_4 14 rfl rfl)
theorem dX1_lays_111 : decode cX1_lays 111 = .ok (.iconst 1, 1) := dk_4 (dk_at dksX1_lays_4 17 rfl rfl)
theorem dX1_lays_112 : decode cX1_lays 112 = .ok (.goto 4, 3) := dk_167 0 4 (dk_at dksX1_lays_4 18 rfl rfl)
theorem dX1_lays_115 : decode cX1_lays 115 = .ok (.iconst 0, 1) := dk_3 (dk_at dksX1_lays_4 21 rfl rfl)
theorem dX1_lays_116 : decode cX1_lays 116 = .ok (.istore 5, 2) := dk_54 5 (dk_at dksX1_lays_4 22 rfl rfl)
theorem dX1_lays_118 : decode cX1_lays 118 = .ok (.aload_n 0, 1) := dk_42 (dk_at dksX1_lays_5 0 rfl rfl)
theorem dX1_lays_119 : decode cX1_lays 119 = .ok (.getfield 15, 3) := dk_180 0 15 (dk_at dksX1_lays_5 1 rfl rfl)
theorem dX1_lays_122 : decode cX1_lays 122 = .ok (.iconst 3, 1) := dk_6 (dk_at dksX1_lays_5 4 rfl rfl)
theorem dX1_lays_123 : decode cX1_lays 123 = .ok (.iload_n 3, 1) := dk_29 (dk_at dksX1_lays_5 5 rfl rfl)
theorem dX1_lays_124 : decode cX1_lays 124 = .ok (.imul, 1) := dk_104 (dk_at dksX1_lays_5 6 rfl rfl)
theorem dX1_lays_125 : decode cX1_lays 125 = .ok (.aload 4, 2) := dk_25 4 (dk_at dksX1_lays_5 7 rfl rfl)
theorem dX1_lays_127 : decode cX1_lays 127 = .ok (.getfield 70, 3) := dk_180 0 70 (dk_at dksX1_lays_5 9 rfl rfl)
theorem dX1_lays_130 : decode cX1_lays 130 = .ok (.getfield 74, 3) := dk_180 0 74 (dk_at dksX1_lays_5 12 rfl rfl)
theorem dX1_lays_133 : decode cX1_lays 133 = .ok (.aload_n 0, 1) := dk_42 (dk_at dksX1_lays_5 15 rfl rfl)
theorem dX1_lays_134 : decode cX1_lays 134 = .ok (.getfield 28, 3) := dk_180 0 28 (dk_at dksX1_lays_5 16 rfl rfl)
theorem dX1_lays_137 : decode cX1_lays 137 = .ok (.iconst 4, 1) := dk_7 (dk_at dksX1_lays_5 19 rfl rfl)
theorem dX1_lays_138 : decode cX1_lays 138 = .ok (.iload_n 3, 1) := dk_29 (dk_at dksX1_lays_5 20 rfl rfl)
theorem dX1_lays_139 : decode cX1_lays 139 = .ok (.imul, 1) := dk_104 (dk_at dksX1_lays_5 21 rfl rfl)
theorem dX1_lays_140 : decode cX1_lays 140 = .ok (.iaload, 1) := dk_46 (dk_at dksX1_lays_5 22 rfl rfl)
theorem dX1_lays_141 : decode cX1_lays 141 = .ok (.iadd, 1) := dk_96 (dk_at dksX1_lays_5 23 rfl rfl)
theorem dX1_lays_142 : decode cX1_lays 142 = .ok (.iastore, 1) := dk_79 (dk_at dksX1_lays_6 0 rfl rfl)
theorem dX1_lays_143 : decode cX1_lays 143 = .ok (.aload_n 0, 1) := dk_42 (dk_at dksX1_lays_6 1 rfl rfl)
theorem dX1_lays_144 : decode cX1_lays 144 = .ok (.getfield 15, 3) := dk_180 0 15 (dk_at dksX1_lays_6 2 rfl rfl)
theorem dX1_lays_147 : decode cX1_lays 147 = .ok (.iconst 3, 1) := dk_6 (dk_at dksX1_lays_6 5 rfl rfl)
theorem dX1_lays_148 : decode cX1_lays 148 = .ok (.iload_n 3, 1) := dk_29 (dk_at dksX1_lays_6 6 rfl rfl)
theorem dX1_lays_149 : decode cX1_lays 149 = .ok (.imul, 1) := dk_104 (dk_at dksX1_lays_6 7 rfl rfl)
theorem dX1_lays_150 : decode cX1_lays 150 = .ok (.iconst 1, 1) := dk_4 (dk_at dksX1_lays_6 8 rfl rfl)
theorem dX1_lays_151 : decode cX1_lays 151 = .ok (.iadd, 1) := dk_96 (dk_at dksX1_lays_6 9 rfl rfl)
theorem dX1_lays_152 : decode cX1_lays 152 = .ok (.iload 5, 2) := dk_21 5 (dk_at dksX1_lays_6 10 rfl rfl)
theorem dX1_lays_154 : decode cX1_lays 154 = .ok (.ifCond .eq 9, 3) := dk_153 0 9 (dk_at dksX1_lays_6 12 rfl rfl)
theorem dX1_lays_157 : decode cX1_lays 157 = .ok (.sipush 9999, 3) := dk_17 39 15 (dk_at dksX1_lays_6 15 rfl rfl)
theorem dX1_lays_160 : decode cX1_lays 160 = .ok (.goto 31, 3) := dk_167 0 31 (dk_at dksX1_lays_6 18 rfl rfl)
theorem dX1_lays_163 : decode cX1_lays 163 = .ok (.aload_n 0, 1) := dk_42 (dk_at dksX1_lays_6 21 rfl rfl)
theorem dX1_lays_164 : decode cX1_lays 164 = .ok (.getfield 15, 3) := dk_180 0 15 (dk_at dksX1_lays_7 0 rfl rfl)
theorem dX1_lays_167 : decode cX1_lays 167 = .ok (.iconst 3, 1) := dk_6 (dk_at dksX1_lays_7 3 rfl rfl)
theorem dX1_lays_168 : decode cX1_lays 168 = .ok (.iload_n 3, 1) := dk_29 (dk_at dksX1_lays_7 4 rfl rfl)
theorem dX1_lays_169 : decode cX1_lays 169 = .ok (.imul, 1) := dk_104 (dk_at dksX1_lays_7 5 rfl rfl)
theorem dX1_lays_170 : decode cX1_lays 170 = .ok (.iaload, 1) := dk_46 (dk_at dksX1_lays_7 6 rfl rfl)
theorem dX1_lays_171 : decode cX1_lays 171 = .ok (.aload 4, 2) := dk_25 4 (dk_at dksX1_lays_7 7 rfl rfl)
theorem dX1_lays_173 : decode cX1_lays 173 = .ok (.getfield 79, 3) := dk_180 0 79 (dk_at dksX1_lays_7 9 rfl rfl)
theorem dX1_lays_176 : decode cX1_lays 176 = .ok (.getfield 74, 3) := dk_180 0 74 (dk_at dksX1_lays_7 12 rfl rfl)
theorem dX1_lays_179 : decode cX1_lays 179 = .ok (.iadd, 1) := dk_96 (dk_at dksX1_lays_7 15 rfl rfl)
theorem dX1_lays_180 : decode cX1_lays 180 = .ok (.aload_n 0, 1) := dk_42 (dk_at dksX1_lays_7 16 rfl rfl)
theorem dX1_lays_181 : decode cX1_lays 181 = .ok (.getfield 28, 3) := dk_180 0 28 (dk_at dksX1_lays_7 17 rfl rfl)
theorem dX1_lays_184 : decode cX1_lays 184 = .ok (.iconst 4, 1) := dk_7 (dk_at dksX1_lays_7 20 rfl rfl)
theorem dX1_lays_185 : decode cX1_lays 185 = .ok (.iload_n 3, 1) := dk_29 (dk_at dksX1_lays_7 21 rfl rfl)
theorem dX1_lays_186 : decode cX1_lays 186 = .ok (.imul, 1) := dk_104 (dk_at dksX1_lays_7 22 rfl rfl)
theorem dX1_lays_187 : decode cX1_lays 187 = .ok (.iconst 1, 1) := dk_4 (dk_at dksX1_lays_7 23 rfl rfl)
theorem dX1_lays_188 : decode cX1_lays 188 = .ok (.iadd, 1) := dk_96 (dk_at dksX1_lays_8 0 rfl rfl)
theorem dX1_lays_189 : decode cX1_lays 189 = .ok (.iaload, 1) := dk_46 (dk_at dksX1_lays_8 1 rfl rfl)
theorem dX1_lays_190 : decode cX1_lays 190 = .ok (.iadd, 1) := dk_96 (dk_at dksX1_lays_8 2 rfl rfl)
theorem dX1_lays_191 : decode cX1_lays 191 = .ok (.iastore, 1) := dk_79 (dk_at dksX1_lays_8 3 rfl rfl)
theorem dX1_lays_192 : decode cX1_lays 192 = .ok (.aload_n 0, 1) := dk_42 (dk_at dksX1_lays_8 4 rfl rfl)
theorem dX1_lays_193 : decode cX1_lays 193 = .ok (.getfield 15, 3) := dk_180 0 15 (dk_at dksX1_lays_8 5 rfl rfl)
theorem dX1_lays_196 : decode cX1_lays 196 = .ok (.iconst 3, 1) := dk_6 (dk_at dksX1_lays_8 8 rfl rfl)
theorem dX1_lays_197 : decode cX1_lays 197 = .ok (.iload_n 3, 1) := dk_29 (dk_at dksX1_lays_8 9 rfl rfl)
theorem dX1_lays_198 : decode cX1_lays 198 = .ok (.imul, 1) := dk_104 (dk_at dksX1_lays_8 10 rfl rfl)
theorem dX1_lays_199 : decode cX1_lays 199 = .ok (.iconst 2, 1) := dk_5 (dk_at dksX1_lays_8 11 rfl rfl)
theorem dX1_lays_200 : decode cX1_lays 200 = .ok (.iadd, 1) := dk_96 (dk_at dksX1_lays_8 12 rfl rfl)
theorem dX1_lays_201 : decode cX1_lays 201 = .ok (.iload 5, 2) := dk_21 5 (dk_at dksX1_lays_8 13 rfl rfl)
theorem dX1_lays_203 : decode cX1_lays 203 = .ok (.ifCond .eq 9, 3) := dk_153 0 9 (dk_at dksX1_lays_8 15 rfl rfl)
theorem dX1_lays_206 : decode cX1_lays 206 = .ok (.sipush 9999, 3) := dk_17 39 15 (dk_at dksX1_lays_8 18 rfl rfl)
theorem dX1_lays_209 : decode cX1_lays 209 = .ok (.goto 33, 3) := dk_167 0 33 (dk_at dksX1_lays_8 21 rfl rfl)
theorem dX1_lays_212 : decode cX1_lays 212 = .ok (.aload_n 0, 1) := dk_42 (dk_at dksX1_lays_9 0 rfl rfl)
theorem dX1_lays_213 : decode cX1_lays 213 = .ok (.getfield 15, 3) := dk_180 0 15 (dk_at dksX1_lays_9 1 rfl rfl)
theorem dX1_lays_216 : decode cX1_lays 216 = .ok (.iconst 3, 1) := dk_6 (dk_at dksX1_lays_9 4 rfl rfl)
theorem dX1_lays_217 : decode cX1_lays 217 = .ok (.iload_n 3, 1) := dk_29 (dk_at dksX1_lays_9 5 rfl rfl)
theorem dX1_lays_218 : decode cX1_lays 218 = .ok (.imul, 1) := dk_104 (dk_at dksX1_lays_9 6 rfl rfl)
theorem dX1_lays_219 : decode cX1_lays 219 = .ok (.iconst 1, 1) := dk_4 (dk_at dksX1_lays_9 7 rfl rfl)
theorem dX1_lays_220 : decode cX1_lays 220 = .ok (.iadd, 1) := dk_96 (dk_at dksX1_lays_9 8 rfl rfl)
theorem dX1_lays_221 : decode cX1_lays 221 = .ok (.iaload, 1) := dk_46 (dk_at dksX1_lays_9 9 rfl rfl)
theorem dX1_lays_222 : decode cX1_lays 222 = .ok (.aload 4, 2) := dk_25 4 (dk_at dksX1_lays_9 10 rfl rfl)
theorem dX1_lays_224 : decode cX1_lays 224 = .ok (.getfield 82, 3) := dk_180 0 82 (dk_at dksX1_lays_9 12 rfl rfl)
theorem dX1_lays_227 : decode cX1_lays 227 = .ok (.getfield 74, 3) := dk_180 0 74 (dk_at dksX1_lays_9 15 rfl rfl)
theorem dX1_lays_230 : decode cX1_lays 230 = .ok (.iadd, 1) := dk_96 (dk_at dksX1_lays_9 18 rfl rfl)
theorem dX1_lays_231 : decode cX1_lays 231 = .ok (.aload_n 0, 1) := dk_42 (dk_at dksX1_lays_9 19 rfl rfl)
theorem dX1_lays_232 : decode cX1_lays 232 = .ok (.getfield 28, 3) := dk_180 0 28 (dk_at dksX1_lays_9 20 rfl rfl)
theorem dX1_lays_235 : decode cX1_lays 235 = .ok (.iconst 4, 1) := dk_7 (dk_at dksX1_lays_9 23 rfl rfl)
theorem dX1_lays_236 : decode cX1_lays 236 = .ok (.iload_n 3, 1) := dk_29 (dk_at dksX1_lays_10 0 rfl rfl)
theorem dX1_lays_237 : decode cX1_lays 237 = .ok (.imul, 1) := dk_104 (dk_at dksX1_lays_10 1 rfl rfl)
theorem dX1_lays_238 : decode cX1_lays 238 = .ok (.iconst 2, 1) := dk_5 (dk_at dksX1_lays_10 2 rfl rfl)
theorem dX1_lays_239 : decode cX1_lays 239 = .ok (.iadd, 1) := dk_96 (dk_at dksX1_lays_10 3 rfl rfl)
theorem dX1_lays_240 : decode cX1_lays 240 = .ok (.iaload, 1) := dk_46 (dk_at dksX1_lays_10 4 rfl rfl)
theorem dX1_lays_241 : decode cX1_lays 241 = .ok (.iadd, 1) := dk_96 (dk_at dksX1_lays_10 5 rfl rfl)
theorem dX1_lays_242 : decode cX1_lays 242 = .ok (.iastore, 1) := dk_79 (dk_at dksX1_lays_10 6 rfl rfl)
theorem dX1_lays_243 : decode cX1_lays 243 = .ok (.iinc 3 1, 3) := dk_132 3 1 (dk_at dksX1_lays_10 7 rfl rfl)
theorem dX1_lays_246 : decode cX1_lays 246 = .ok (.goto (-176), 3) := dk_167 255 80 (dk_at dksX1_lays_10 10 rfl rfl)
theorem dX1_lays_249 : decode cX1_lays 249 = .ok (.return_, 1) := dk_177 (dk_at dksX1_lays_10 13 rfl rfl)
abbrev cX1_hour : ByteArray := prog_15_method_3_code
def yX1_hour : MethodName := ⟨RX1, "hour", "(LCrossingWords$Saying;I)I"⟩
def dkwX1_hour_0 : List UInt8 := [42, 180, 0, 15, 6, 43, 180, 0, 85, 104, 28, 96, 46, 172]
abbrev dktX1_hour_0 : List UInt8 := dkwX1_hour_0 ++ []
theorem dksX1_hour_0 : cX1_hour.data.toList.drop 0 = dktX1_hour_0 := by decide +kernel
theorem dX1_hour_0 : decode cX1_hour 0 = .ok (.aload_n 0, 1) := dk_42 (dk_at dksX1_hour_0 0 rfl rfl)
theorem dX1_hour_1 : decode cX1_hour 1 = .ok (.getfield 15, 3) := dk_180 0 15 (dk_at dksX1_hour_0 1 rfl rfl)
theorem dX1_hour_4 : decode cX1_hour 4 = .ok (.iconst 3, 1) := dk_6 (dk_at dksX1_hour_0 4 rfl rfl)
theorem dX1_hour_5 : decode cX1_hour 5 = .ok (.aload_n 1, 1) := dk_43 (dk_at dksX1_hour_0 5 rfl rfl)
theorem dX1_hour_6 : decode cX1_hour 6 = .ok (.getfield 85, 3) := dk_180 0 85 (dk_at dksX1_hour_0 6 rfl rfl)
theorem dX1_hour_9 : decode cX1_hour 9 = .ok (.imul, 1) := dk_104 (dk_at dksX1_hour_0 9 rfl rfl)
theorem dX1_hour_10 : decode cX1_hour 10 = .ok (.iload_n 2, 1) := dk_28 (dk_at dksX1_hour_0 10 rfl rfl)
theorem dX1_hour_11 : decode cX1_hour 11 = .ok (.iadd, 1) := dk_96 (dk_at dksX1_hour_0 11 rfl rfl)
theorem dX1_hour_12 : decode cX1_hour 12 = .ok (.iaload, 1) := dk_46 (dk_at dksX1_hour_0 12 rfl rfl)
theorem dX1_hour_13 : decode cX1_hour 13 = .ok (.ireturn, 1) := dk_172 (dk_at dksX1_hour_0 13 rfl rfl)
abbrev cX1_runs : ByteArray := prog_15_method_10_code
def yX1_runs : MethodName := ⟨RX1, "runs", "(LCrossingWords$Case;LCrossingWords$Rules;I)V"⟩
def dkwX1_runs_7 : List UInt8 := [182, 0, 173, 2, 43, 180, 0, 54, 21, 4, 50, 182, 0, 169, 132, 4, 1, 167, 255, 207, 177]
abbrev dktX1_runs_7 : List UInt8 := dkwX1_runs_7 ++ []
def dkwX1_runs_6 : List UInt8 := [43, 180, 0, 54, 21, 4, 50, 44, 182, 0, 134, 153, 0, 26, 42, 42, 43, 180, 0, 54, 21, 4, 50]
abbrev dktX1_runs_6 : List UInt8 := dkwX1_runs_6 ++ dktX1_runs_7
def dkwX1_runs_5 : List UInt8 := [182, 0, 126, 182, 0, 169, 132, 4, 1, 167, 255, 203, 3, 54, 4, 21, 4, 43, 180, 0, 51, 162, 0, 46]
abbrev dktX1_runs_5 : List UInt8 := dkwX1_runs_5 ++ dktX1_runs_6
def dkwX1_runs_4 : List UInt8 := [153, 0, 30, 42, 42, 43, 180, 0, 54, 21, 4, 50, 182, 0, 166, 21, 4, 43, 180, 0, 54, 21, 4, 50]
abbrev dktX1_runs_4 : List UInt8 := dkwX1_runs_4 ++ dktX1_runs_5
def dkwX1_runs_3 : List UInt8 := [54, 4, 21, 4, 43, 180, 0, 51, 162, 0, 50, 43, 180, 0, 54, 21, 4, 50, 44, 182, 0, 163]
abbrev dktX1_runs_3 : List UInt8 := dkwX1_runs_3 ++ dktX1_runs_4
def dkwX1_runs_2 : List UInt8 := [182, 0, 134, 153, 0, 14, 42, 43, 180, 0, 54, 21, 4, 50, 182, 0, 159, 132, 4, 1, 167, 255, 219, 3]
abbrev dktX1_runs_2 : List UInt8 := dkwX1_runs_2 ++ dktX1_runs_3
def dkwX1_runs_1 : List UInt8 := [1, 181, 0, 151, 3, 54, 4, 21, 4, 43, 180, 0, 51, 162, 0, 34, 43, 180, 0, 54, 21, 4, 50, 44]
abbrev dktX1_runs_1 : List UInt8 := dkwX1_runs_1 ++ dktX1_runs_2
def dkwX1_runs_0 : List UInt8 := [42, 43, 29, 182, 0, 155, 42, 44, 181, 0, 92, 42, 17, 39, 15, 181, 0, 145, 42, 2, 181, 0, 148, 42]
abbrev dktX1_runs_0 : List UInt8 := dkwX1_runs_0 ++ dktX1_runs_1
theorem dksX1_runs_0 : cX1_runs.data.toList.drop 0 = dktX1_runs_0 := by decide +kernel
theorem dksX1_runs_1 : cX1_runs.data.toList.drop 24 = dktX1_runs_1 := dk_seg dksX1_runs_0 24 rfl rfl
theorem dksX1_runs_2 : cX1_runs.data.toList.drop 48 = dktX1_runs_2 := dk_seg dksX1_runs_1 24 rfl rfl
theorem dksX1_runs_3 : cX1_runs.data.toList.drop 72 = dktX1_runs_3 := dk_seg dksX1_runs_2 24 rfl rfl
theorem dksX1_runs_4 : cX1_runs.data.toList.drop 94 = dktX1_runs_4 := dk_seg dksX1_runs_3 22 rfl rfl
theorem dksX1_runs_5 : cX1_runs.data.toList.drop 118 = dktX1_runs_5 := dk_seg dksX1_runs_4 24 rfl rfl
theorem dksX1_runs_6 : cX1_runs.data.toList.drop 142 = dktX1_runs_6 := dk_seg dksX1_runs_5 24 rfl rfl
theorem dksX1_runs_7 : cX1_runs.data.toList.drop 165 = dktX1_runs_7 := dk_seg dksX1_runs_6 23 rfl rfl
theorem dX1_runs_0 : decode cX1_runs 0 = .ok (.aload_n 0, 1) := dk_42 (dk_at dksX1_runs_0 0 rfl rfl)
theorem dX1_runs_1 : decode cX1_runs 1 = .ok (.aload_n 1, 1) := dk_43 (dk_at dksX1_runs_0 1 rfl rfl)
theorem dX1_runs_2 : decode cX1_runs 2 = .ok (.iload_n 3, 1) := dk_29 (dk_at dksX1_runs_0 2 rfl rfl)
theorem dX1_runs_3 : decode cX1_runs 3 = .ok (.invokevirtual 155, 3) := dk_182 0 155 (dk_at dksX1_runs_0 3 rfl rfl)
theorem dX1_runs_6 : decode cX1_runs 6 = .ok (.aload_n 0, 1) := dk_42 (dk_at dksX1_runs_0 6 rfl rfl)
theorem dX1_runs_7 : decode cX1_runs 7 = .ok (.aload_n 2, 1) := dk_44 (dk_at dksX1_runs_0 7 rfl rfl)
theorem dX1_runs_8 : decode cX1_runs 8 = .ok (.putfield 92, 3) := dk_181 0 92 (dk_at dksX1_runs_0 8 rfl rfl)
theorem dX1_runs_11 : decode cX1_runs 11 = .ok (.aload_n 0, 1) := dk_42 (dk_at dksX1_runs_0 11 rfl rfl)
theorem dX1_runs_12 : decode cX1_runs 12 = .ok (.sipush 9999, 3) := dk_17 39 15 (dk_at dksX1_runs_0 12 rfl rfl)
theorem dX1_runs_15 : decode cX1_runs 15 = .ok (.putfield 145, 3) := dk_181 0 145 (dk_at dksX1_runs_0 15 rfl rfl)
theorem dX1_runs_18 : decode cX1_runs 18 = .ok (.aload_n 0, 1) := dk_42 (dk_at dksX1_runs_0 18 rfl rfl)
theorem dX1_runs_19 : decode cX1_runs 19 = .ok (.iconst (-1), 1) := dk_2 (dk_at dksX1_runs_0 19 rfl rfl)
theorem dX1_runs_20 : decode cX1_runs 20 = .ok (.putfield 148, 3) := dk_181 0 148 (dk_at dksX1_runs_0 20 rfl rfl)
theorem dX1_runs_23 : decode cX1_runs 23 = .ok (.aload_n 0, 1) := dk_42 (dk_at dksX1_runs_0 23 rfl rfl)
theorem dX1_runs_24 : decode cX1_runs 24 = .ok (.aconst_null, 1) := dk_1 (dk_at dksX1_runs_1 0 rfl rfl)
theorem dX1_runs_25 : decode cX1_runs 25 = .ok (.putfield 151, 3) := dk_181 0 151 (dk_at dksX1_runs_1 1 rfl rfl)
theorem dX1_runs_28 : decode cX1_runs 28 = .ok (.iconst 0, 1) := dk_3 (dk_at dksX1_runs_1 4 rfl rfl)
theorem dX1_runs_29 : decode cX1_runs 29 = .ok (.istore 4, 2) := dk_54 4 (dk_at dksX1_runs_1 5 rfl rfl)
theorem dX1_runs_31 : decode cX1_runs 31 = .ok (.iload 4, 2) := dk_21 4 (dk_at dksX1_runs_1 7 rfl rfl)
theorem dX1_runs_33 : decode cX1_runs 33 = .ok (.aload_n 1, 1) := dk_43 (dk_at dksX1_runs_1 9 rfl rfl)
theorem dX1_runs_34 : decode cX1_runs 34 = .ok (.getfield 51, 3) := dk_180 0 51 (dk_at dksX1_runs_1 10 rfl rfl)
theorem dX1_runs_37 : decode cX1_runs 37 = .ok (.if_icmp .ge 34, 3) := dk_162 0 34 (dk_at dksX1_runs_1 13 rfl rfl)
theorem dX1_runs_40 : decode cX1_runs 40 = .ok (.aload_n 1, 1) := dk_43 (dk_at dksX1_runs_1 16 rfl rfl)
theorem dX1_runs_41 : decode cX1_runs 41 = .ok (.getfield 54, 3) := dk_180 0 54 (dk_at dksX1_runs_1 17 rfl rfl)
theorem dX1_runs_44 : decode cX1_runs 44 = .ok (.iload 4, 2) := dk_21 4 (dk_at dksX1_runs_1 20 rfl rfl)
theorem dX1_runs_46 : decode cX1_runs 46 = .ok (.aaload, 1) := dk_50 (dk_at dksX1_runs_1 22 rfl rfl)
theorem dX1_runs_47 : decode cX1_runs 47 = .ok (.aload_n 2, 1) := dk_44 (dk_at dksX1_runs_1 23 rfl rfl)
theorem dX1_runs_48 : decode cX1_runs 48 = .ok (.invokevirtual 134, 3) := dk_182 0 134 (dk_at dksX1_runs_2 0 rfl rfl)
theorem dX1_runs_51 : decode cX1_runs 51 = .ok (.ifCond .eq 14, 3) := dk_153 0 14 (dk_at dksX1_runs_2 3 rfl rfl)
theorem dX1_runs_54 : decode cX1_runs 54 = .ok (.aload_n 0, 1) := dk_42 (dk_at dksX1_runs_2 6 rfl rfl)
theorem dX1_runs_55 : decode cX1_runs 55 = .ok (.aload_n 1, 1) := dk_43 (dk_at dksX1_runs_2 7 rfl rfl)
theorem dX1_runs_56 : decode cX1_runs 56 = .ok (.getfield 54, 3) := dk_180 0 54 (dk_at dksX1_runs_2 8 rfl rfl)
theorem dX1_runs_59 : decode cX1_runs 59 = .ok (.iload 4, 2) := dk_21 4 (dk_at dksX1_runs_2 11 rfl rfl)
theorem dX1_runs_61 : decode cX1_runs 61 = .ok (.aaload, 1) := dk_50 (dk_at dksX1_runs_2 13 rfl rfl)
theorem dX1_runs_62 : decode cX1_runs 62 = .ok (.invokevirtual 159, 3) := dk_182 0 159 (dk_at dksX1_runs_2 14 rfl rfl)
theorem dX1_runs_65 : decode cX1_runs 65 = .ok (.iinc 4 1, 3) := dk_132 4 1 (dk_at dksX1_runs_2 17 rfl rfl)
theorem dX1_runs_68 : decode cX1_runs 68 = .ok (.goto (-37), 3) := dk_167 255 219 (dk_at dksX1_runs_2 20 rfl rfl)
theorem dX1_runs_71 : decode cX1_runs 71 = .ok (.iconst 0, 1) := dk_3 (dk_at dksX1_runs_2 23 rfl rfl)
theorem dX1_runs_72 : decode cX1_runs 72 = .ok (.istore 4, 2) := dk_54 4 (dk_at dksX1_runs_3 0 rfl rfl)
theorem dX1_runs_74 : decode cX1_runs 74 = .ok (.iload 4, 2) := dk_21 4 (dk_at dksX1_runs_3 2 rfl rfl)
theorem dX1_runs_76 : decode cX1_runs 76 = .ok (.aload_n 1, 1) := dk_43 (dk_at dksX1_runs_3 4 rfl rfl)
theorem dX1_runs_77 : decode cX1_runs 77 = .ok (.getfield 51, 3) := dk_180 0 51 (dk_at dksX1_runs_3 5 rfl rfl)
theorem dX1_runs_80 : decode cX1_runs 80 = .ok (.if_icmp .ge 50, 3) := dk_162 0 50 (dk_at dksX1_runs_3 8 rfl rfl)
theorem dX1_runs_83 : decode cX1_runs 83 = .ok (.aload_n 1, 1) := dk_43 (dk_at dksX1_runs_3 11 rfl rfl)
theorem dX1_runs_84 : decode cX1_runs 84 = .ok (.getfield 54, 3) := dk_180 0 54 (dk_at dksX1_runs_3 12 rfl rfl)
theorem dX1_runs_87 : decode cX1_runs 87 = .ok (.iload 4, 2) := dk_21 4 (dk_at dksX1_runs_3 15 rfl rfl)
theorem dX1_runs_89 : decode cX1_runs 89 = .ok (.aaload, 1) := dk_50 (dk_at dksX1_runs_3 17 rfl rfl)
theorem dX1_runs_90 : decode cX1_runs 90 = .ok (.aload_n 2, 1) := dk_44 (dk_at dksX1_runs_3 18 rfl rfl)
theorem dX1_runs_91 : decode cX1_runs 91 = .ok (.invokevirtual 163, 3) := dk_182 0 163 (dk_at dksX1_runs_3 19 rfl rfl)
theorem dX1_runs_94 : decode cX1_runs 94 = .ok (.ifCond .eq 30, 3) := dk_153 0 30 (dk_at dksX1_runs_4 0 rfl rfl)
theorem dX1_runs_97 : decode cX1_runs 97 = .ok (.aload_n 0, 1) := dk_42 (dk_at dksX1_runs_4 3 rfl rfl)
theorem dX1_runs_98 : decode cX1_runs 98 = .ok (.aload_n 0, 1) := dk_42 (dk_at dksX1_runs_4 4 rfl rfl)
theorem dX1_runs_99 : decode cX1_runs 99 = .ok (.aload_n 1, 1) := dk_43 (dk_at dksX1_runs_4 5 rfl rfl)
theorem dX1_runs_100 : decode cX1_runs 100 = .ok (.getfield 54, 3) := dk_180 0 54 (dk_at dksX1_runs_4 6 rfl rfl)
theorem dX1_runs_103 : decode cX1_runs 103 = .ok (.iload 4, 2) := dk_21 4 (dk_at dksX1_runs_4 9 rfl rfl)
theorem dX1_runs_105 : decode cX1_runs 105 = .ok (.aaload, 1) := dk_50 (dk_at dksX1_runs_4 11 rfl rfl)
theorem dX1_runs_106 : decode cX1_runs 106 = .ok (.invokevirtual 166, 3) := dk_182 0 166 (dk_at dksX1_runs_4 12 rfl rfl)
theorem dX1_runs_109 : decode cX1_runs 109 = .ok (.iload 4, 2) := dk_21 4 (dk_at dksX1_runs_4 15 rfl rfl)
theorem dX1_runs_111 : decode cX1_runs 111 = .ok (.aload_n 1, 1) := dk_43 (dk_at dksX1_runs_4 17 rfl rfl)
theorem dX1_runs_112 : decode cX1_runs 112 = .ok (.getfield 54, 3) := dk_180 0 54 (dk_at dksX1_runs_4 18 rfl rfl)
theorem dX1_runs_115 : decode cX1_runs 115 = .ok (.iload 4, 2) := dk_21 4 (dk_at dksX1_runs_4 21 rfl rfl)
theorem dX1_runs_117 : decode cX1_runs 117 = .ok (.aaload, 1) := dk_50 (dk_at dksX1_runs_4 23 rfl rfl)
theorem dX1_runs_118 : decode cX1_runs 118 = .ok (.invokevirtual 126, 3) := dk_182 0 126 (dk_at dksX1_runs_5 0 rfl rfl)
theorem dX1_runs_121 : decode cX1_runs 121 = .ok (.invokevirtual 169, 3) := dk_182 0 169 (dk_at dksX1_runs_5 3 rfl rfl)
theorem dX1_runs_124 : decode cX1_runs 124 = .ok (.iinc 4 1, 3) := dk_132 4 1 (dk_at dksX1_runs_5 6 rfl rfl)
theorem dX1_runs_127 : decode cX1_runs 127 = .ok (.goto (-53), 3) := dk_167 255 203 (dk_at dksX1_runs_5 9 rfl rfl)
theorem dX1_runs_130 : decode cX1_runs 130 = .ok (.iconst 0, 1) := dk_3 (dk_at dksX1_runs_5 12 rfl rfl)
theorem dX1_runs_131 : decode cX1_runs 131 = .ok (.istore 4, 2) := dk_54 4 (dk_at dksX1_runs_5 13 rfl rfl)
theorem dX1_runs_133 : decode cX1_runs 133 = .ok (.iload 4, 2) := dk_21 4 (dk_at dksX1_runs_5 15 rfl rfl)
theorem dX1_runs_135 : decode cX1_runs 135 = .ok (.aload_n 1, 1) := dk_43 (dk_at dksX1_runs_5 17 rfl rfl)
theorem dX1_runs_136 : decode cX1_runs 136 = .ok (.getfield 51, 3) := dk_180 0 51 (dk_at dksX1_runs_5 18 rfl rfl)
theorem dX1_runs_139 : decode cX1_runs 139 = .ok (.if_icmp .ge 46, 3) := dk_162 0 46 (dk_at dksX1_runs_5 21 rfl rfl)
theorem dX1_runs_142 : decode cX1_runs 142 = .ok (.aload_n 1, 1) := dk_43 (dk_at dksX1_runs_6 0 rfl rfl)
theorem dX1_runs_143 : decode cX1_runs 143 = .ok (.getfield 54, 3) := dk_180 0 54 (dk_at dksX1_runs_6 1 rfl rfl)
theorem dX1_runs_146 : decode cX1_runs 146 = .ok (.iload 4, 2) := dk_21 4 (dk_at dksX1_runs_6 4 rfl rfl)
theorem dX1_runs_148 : decode cX1_runs 148 = .ok (.aaload, 1) := dk_50 (dk_at dksX1_runs_6 6 rfl rfl)
theorem dX1_runs_149 : decode cX1_runs 149 = .ok (.aload_n 2, 1) := dk_44 (dk_at dksX1_runs_6 7 rfl rfl)
theorem dX1_runs_150 : decode cX1_runs 150 = .ok (.invokevirtual 134, 3) := dk_182 0 134 (dk_at dksX1_runs_6 8 rfl rfl)
theorem dX1_runs_153 : decode cX1_runs 153 = .ok (.ifCond .eq 26, 3) := dk_153 0 26 (dk_at dksX1_runs_6 11 rfl rfl)
theorem dX1_runs_156 : decode cX1_runs 156 = .ok (.aload_n 0, 1) := dk_42 (dk_at dksX1_runs_6 14 rfl rfl)
theorem dX1_runs_157 : decode cX1_runs 157 = .ok (.aload_n 0, 1) := dk_42 (dk_at dksX1_runs_6 15 rfl rfl)
theorem dX1_runs_158 : decode cX1_runs 158 = .ok (.aload_n 1, 1) := dk_43 (dk_at dksX1_runs_6 16 rfl rfl)
theorem dX1_runs_159 : decode cX1_runs 159 = .ok (.getfield 54, 3) := dk_180 0 54 (dk_at dksX1_runs_6 17 rfl rfl)
theorem dX1_runs_162 : decode cX1_runs 162 = .ok (.iload 4, 2) := dk_21 4 (dk_at dksX1_runs_6 20 rfl rfl)
theorem dX1_runs_164 : decode cX1_runs 164 = .ok (.aaload, 1) := dk_50 (dk_at dksX1_runs_6 22 rfl rfl)
theorem dX1_runs_165 : decode cX1_runs 165 = .ok (.invokevirtual 173, 3) := dk_182 0 173 (dk_at dksX1_runs_7 0 rfl rfl)
theorem dX1_runs_168 : decode cX1_runs 168 = .ok (.iconst (-1), 1) := dk_2 (dk_at dksX1_runs_7 3 rfl rfl)
theorem dX1_runs_169 : decode cX1_runs 169 = .ok (.aload_n 1, 1) := dk_43 (dk_at dksX1_runs_7 4 rfl rfl)
theorem dX1_runs_170 : decode cX1_runs 170 = .ok (.getfield 54, 3) := dk_180 0 54 (dk_at dksX1_runs_7 5 rfl rfl)
theorem dX1_runs_173 : decode cX1_runs 173 = .ok (.iload 4, 2) := dk_21 4 (dk_at dksX1_runs_7 8 rfl rfl)
theorem dX1_runs_175 : decode cX1_runs 175 = .ok (.aaload, 1) := dk_50 (dk_at dksX1_runs_7 10 rfl rfl)
theorem dX1_runs_176 : decode cX1_runs 176 = .ok (.invokevirtual 169, 3) := dk_182 0 169 (dk_at dksX1_runs_7 11 rfl rfl)
theorem dX1_runs_179 : decode cX1_runs 179 = .ok (.iinc 4 1, 3) := dk_132 4 1 (dk_at dksX1_runs_7 14 rfl rfl)
theorem dX1_runs_182 : decode cX1_runs 182 = .ok (.goto (-49), 3) := dk_167 255 207 (dk_at dksX1_runs_7 17 rfl rfl)
theorem dX1_runs_185 : decode cX1_runs 185 = .ok (.return_, 1) := dk_177 (dk_at dksX1_runs_7 20 rfl rfl)
abbrev cX1_opens : ByteArray := prog_15_method_5_code
def yX1_opens : MethodName := ⟨RX1, "opens", "(LCrossingWords$Saying;)V"⟩
def dkwX1_opens_14 : List UInt8 := [177]
abbrev dktX1_opens_14 : List UInt8 := dkwX1_opens_14 ++ []
def dkwX1_opens_13 : List UInt8 := [42, 28, 42, 43, 4, 182, 0, 105, 42, 180, 0, 92, 16, 7, 182, 0, 100, 96, 4, 96, 7, 182, 0, 119]
abbrev dktX1_opens_13 : List UInt8 := dkwX1_opens_13 ++ dktX1_opens_14
def dkwX1_opens_12 : List UInt8 := [180, 0, 92, 16, 7, 182, 0, 100, 2, 159, 0, 39, 42, 43, 4, 182, 0, 105, 17, 39, 15, 159, 0, 27]
abbrev dktX1_opens_12 : List UInt8 := dkwX1_opens_12 ++ dktX1_opens_13
def dkwX1_opens_11 : List UInt8 := [182, 0, 116, 2, 159, 0, 18, 42, 28, 43, 182, 0, 116, 4, 96, 6, 182, 0, 119, 167, 0, 52, 42]
abbrev dktX1_opens_11 : List UInt8 := dkwX1_opens_11 ++ dktX1_opens_12
def dkwX1_opens_10 : List UInt8 := [42, 180, 0, 92, 8, 182, 0, 100, 182, 0, 105, 5, 182, 0, 119, 132, 3, 1, 167, 255, 180, 43]
abbrev dktX1_opens_10 : List UInt8 := dkwX1_opens_10 ++ dktX1_opens_11
def dkwX1_opens_9 : List UInt8 := [180, 0, 54, 29, 50, 43, 182, 0, 112, 153, 0, 30, 42, 28, 42, 42, 180, 0, 31, 180, 0, 54, 29, 50]
abbrev dktX1_opens_9 : List UInt8 := dkwX1_opens_9 ++ dktX1_opens_10
def dkwX1_opens_8 : List UInt8 := [180, 0, 31, 180, 0, 54, 29, 50, 42, 180, 0, 92, 182, 0, 122, 153, 0, 46, 42, 180, 0, 31]
abbrev dktX1_opens_8 : List UInt8 := dkwX1_opens_8 ++ dktX1_opens_9
def dkwX1_opens_7 : List UInt8 := [4, 182, 0, 119, 132, 3, 1, 167, 255, 157, 3, 62, 29, 42, 180, 0, 31, 180, 0, 51, 162, 0, 71, 42]
abbrev dktX1_opens_7 : List UInt8 := dkwX1_opens_7 ++ dktX1_opens_8
def dkwX1_opens_6 : List UInt8 := [180, 0, 92, 16, 6, 182, 0, 100, 153, 0, 12, 21, 5, 43, 182, 0, 116, 164, 0, 11, 42, 28, 21, 5]
abbrev dktX1_opens_6 : List UInt8 := dkwX1_opens_6 ++ dktX1_opens_7
def dkwX1_opens_5 : List UInt8 := [25, 4, 42, 180, 0, 92, 7, 182, 0, 100, 182, 0, 105, 54, 5, 43, 182, 0, 116, 2, 159, 0, 24, 42]
abbrev dktX1_opens_5 : List UInt8 := dkwX1_opens_5 ++ dktX1_opens_6
def dkwX1_opens_4 : List UInt8 := [58, 4, 25, 4, 182, 0, 109, 8, 160, 0, 68, 25, 4, 43, 182, 0, 112, 154, 0, 6, 167, 0, 56, 42]
abbrev dktX1_opens_4 : List UInt8 := dkwX1_opens_4 ++ dktX1_opens_5
def dkwX1_opens_3 : List UInt8 := [3, 79, 3, 62, 29, 42, 180, 0, 31, 180, 0, 51, 162, 0, 94, 42, 180, 0, 31, 180, 0, 54, 29, 50]
abbrev dktX1_opens_3 : List UInt8 := dkwX1_opens_3 ++ dktX1_opens_4
def dkwX1_opens_2 : List UInt8 := [182, 0, 105, 167, 0, 6, 17, 39, 15, 79, 42, 180, 0, 22, 28, 17, 39, 15, 79, 42, 180, 0, 25, 28]
abbrev dktX1_opens_2 : List UInt8 := dkwX1_opens_2 ++ dktX1_opens_3
def dkwX1_opens_1 : List UInt8 := [182, 0, 88, 42, 180, 0, 92, 182, 0, 96, 153, 0, 19, 42, 43, 42, 180, 0, 92, 6, 182, 0, 100]
abbrev dktX1_opens_1 : List UInt8 := dkwX1_opens_1 ++ dktX1_opens_2
def dkwX1_opens_0 : List UInt8 := [43, 180, 0, 85, 61, 42, 180, 0, 19, 28, 43, 182, 0, 88, 2, 159, 0, 21, 42, 180, 0, 3, 43]
abbrev dktX1_opens_0 : List UInt8 := dkwX1_opens_0 ++ dktX1_opens_1
theorem dksX1_opens_0 : cX1_opens.data.toList.drop 0 = dktX1_opens_0 := by decide +kernel
theorem dksX1_opens_1 : cX1_opens.data.toList.drop 23 = dktX1_opens_1 := dk_seg dksX1_opens_0 23 rfl rfl
theorem dksX1_opens_2 : cX1_opens.data.toList.drop 46 = dktX1_opens_2 := dk_seg dksX1_opens_1 23 rfl rfl
theorem dksX1_opens_3 : cX1_opens.data.toList.drop 70 = dktX1_opens_3 := dk_seg dksX1_opens_2 24 rfl rfl
theorem dksX1_opens_4 : cX1_opens.data.toList.drop 94 = dktX1_opens_4 := dk_seg dksX1_opens_3 24 rfl rfl
theorem dksX1_opens_5 : cX1_opens.data.toList.drop 118 = dktX1_opens_5 := dk_seg dksX1_opens_4 24 rfl rfl
theorem dksX1_opens_6 : cX1_opens.data.toList.drop 142 = dktX1_opens_6 := dk_seg dksX1_opens_5 24 rfl rfl
theorem dksX1_opens_7 : cX1_opens.data.toList.drop 166 = dktX1_opens_7 := dk_seg dksX1_opens_6 24 rfl rfl
theorem dksX1_opens_8 : cX1_opens.data.toList.drop 190 = dktX1_opens_8 := dk_seg dksX1_opens_7 24 rfl rfl
theorem dksX1_opens_9 : cX1_opens.data.toList.drop 212 = dktX1_opens_9 := dk_seg dksX1_opens_8 22 rfl rfl
theorem dksX1_opens_10 : cX1_opens.data.toList.drop 236 = dktX1_opens_10 := dk_seg dksX1_opens_9 24 rfl rfl
theorem dksX1_opens_11 : cX1_opens.data.toList.drop 258 = dktX1_opens_11 := dk_seg dksX1_opens_10 22 rfl rfl
theorem dksX1_opens_12 : cX1_opens.data.toList.drop 281 = dktX1_opens_12 := dk_seg dksX1_opens_11 23 rfl rfl
theorem dksX1_opens_13 : cX1_opens.data.toList.drop 305 = dktX1_opens_13 := dk_seg dksX1_opens_12 24 rfl rfl
theorem dksX1_opens_14 : cX1_opens.data.toList.drop 329 = dktX1_opens_14 := dk_seg dksX1_opens_13 24 rfl rfl
theorem dX1_opens_0 : decode cX1_opens 0 = .ok (.aload_n 1, 1) := dk_43 (dk_at dksX1_opens_0 0 rfl rfl)
theorem dX1_opens_1 : decode cX1_opens 1 = .ok (.getfield 85, 3) := dk_180 0 85 (dk_at dksX1_opens_0 1 rfl rfl)
theorem dX1_opens_4 : decode cX1_opens 4 = .ok (.istore_n 2, 1) := dk_61 (dk_at dksX1_opens_0 4 rfl rfl)
theorem dX1_opens_5 : decode cX1_opens 5 = .ok (.aload_n 0, 1) := dk_42 (dk_at dksX1_opens_0 5 rfl rfl)
theorem dX1_opens_6 : decode cX1_opens 6 = .ok (.getfield 19, 3) := dk_180 0 19 (dk_at dksX1_opens_0 6 rfl rfl)
theorem dX1_opens_9 : decode cX1_opens 9 = .ok (.iload_n 2, 1) := dk_28 (dk_at dksX1_opens_0 9 rfl rfl)
theorem dX1_opens_10 : decode cX1_opens 10 = .ok (.aload_n 1, 1) := dk_43 (dk_at dksX1_opens_0 10 rfl rfl)
theorem dX1_opens_11 : decode cX1_opens 11 = .ok (.invokevirtual 88, 3) := dk_182 0 88 (dk_at dksX1_opens_0 11 rfl rfl)
theorem dX1_opens_14 : decode cX1_opens 14 = .ok (.iconst (-1), 1) := dk_2 (dk_at dksX1_opens_0 14 rfl rfl)
theorem dX1_opens_15 : decode cX1_opens 15 = .ok (.if_icmp .eq 21, 3) := dk_159 0 21 (dk_at dksX1_opens_0 15 rfl rfl)
theorem dX1_opens_18 : decode cX1_opens 18 = .ok (.aload_n 0, 1) := dk_42 (dk_at dksX1_opens_0 18 rfl rfl)
theorem dX1_opens_19 : decode cX1_opens 19 = .ok (.getfield 3, 3) := dk_180 0 3 (dk_at dksX1_opens_0 19 rfl rfl)
theorem dX1_opens_22 : decode cX1_opens 22 = .ok (.aload_n 1, 1) := dk_43 (dk_at dksX1_opens_0 22 rfl rfl)
theorem dX1_opens_23 : decode cX1_opens 23 = .ok (.invokevirtual 88, 3) := dk_182 0 88 (dk_at dksX1_opens_1 0 rfl rfl)
theorem dX1_opens_26 : decode cX1_opens 26 = .ok (.aload_n 0, 1) := dk_42 (dk_at dksX1_opens_1 3 rfl rfl)
theorem dX1_opens_27 : decode cX1_opens 27 = .ok (.getfield 92, 3) := dk_180 0 92 (dk_at dksX1_opens_1 4 rfl rfl)
theorem dX1_opens_30 : decode cX1_opens 30 = .ok (.invokevirtual 96, 3) := dk_182 0 96 (dk_at dksX1_opens_1 7 rfl rfl)
theorem dX1_opens_33 : decode cX1_opens 33 = .ok (.ifCond .eq 19, 3) := dk_153 0 19 (dk_at dksX1_opens_1 10 rfl rfl)
theorem dX1_opens_36 : decode cX1_opens 36 = .ok (.aload_n 0, 1) := dk_42 (dk_at dksX1_opens_1 13 rfl rfl)
theorem dX1_opens_37 : decode cX1_opens 37 = .ok (.aload_n 1, 1) := dk_43 (dk_at dksX1_opens_1 14 rfl rfl)
theorem dX1_opens_38 : decode cX1_opens 38 = .ok (.aload_n 0, 1) := dk_42 (dk_at dksX1_opens_1 15 rfl rfl)
theorem dX1_opens_39 : decode cX1_opens 39 = .ok (.getfield 92, 3) := dk_180 0 92 (dk_at dksX1_opens_1 16 rfl rfl)
theorem dX1_opens_42 : decode cX1_opens 42 = .ok (.iconst 3, 1) := dk_6 (dk_at dksX1_opens_1 19 rfl rfl)
theorem dX1_opens_43 : decode cX1_opens 43 = .ok (.invokevirtual 100, 3) := dk_182 0 100 (dk_at dksX1_opens_1 20 rfl rfl)
theorem dX1_opens_46 : decode cX1_opens 46 = .ok (.invokevirtual 105, 3) := dk_182 0 105 (dk_at dksX1_opens_2 0 rfl rfl)
theorem dX1_opens_49 : decode cX1_opens 49 = .ok (.goto 6, 3) := dk_167 0 6 (dk_at dksX1_opens_2 3 rfl rfl)
theorem dX1_opens_52 : decode cX1_opens 52 = .ok (.sipush 9999, 3) := dk_17 39 15 (dk_at dksX1_opens_2 6 rfl rfl)
theorem dX1_opens_55 : decode cX1_opens 55 = .ok (.iastore, 1) := dk_79 (dk_at dksX1_opens_2 9 rfl rfl)
theorem dX1_opens_56 : decode cX1_opens 56 = .ok (.aload_n 0, 1) := dk_42 (dk_at dksX1_opens_2 10 rfl rfl)
theorem dX1_opens_57 : decode cX1_opens 57 = .ok (.getfield 22, 3) := dk_180 0 22 (dk_at dksX1_opens_2 11 rfl rfl)
theorem dX1_opens_60 : decode cX1_opens 60 = .ok (.iload_n 2, 1) := dk_28 (dk_at dksX1_opens_2 14 rfl rfl)
theorem dX1_opens_61 : decode cX1_opens 61 = .ok (.sipush 9999, 3) := dk_17 39 15 (dk_at dksX1_opens_2 15 rfl rfl)
theorem dX1_opens_64 : decode cX1_opens 64 = .ok (.iastore, 1) := dk_79 (dk_at dksX1_opens_2 18 rfl rfl)
theorem dX1_opens_65 : decode cX1_opens 65 = .ok (.aload_n 0, 1) := dk_42 (dk_at dksX1_opens_2 19 rfl rfl)
theorem dX1_opens_66 : decode cX1_opens 66 = .ok (.getfield 25, 3) := dk_180 0 25 (dk_at dksX1_opens_2 20 rfl rfl)
theorem dX1_opens_69 : decode cX1_opens 69 = .ok (.iload_n 2, 1) := dk_28 (dk_at dksX1_opens_2 23 rfl rfl)
theorem dX1_opens_70 : decode cX1_opens 70 = .ok (.iconst 0, 1) := dk_3 (dk_at dksX1_opens_3 0 rfl rfl)
theorem dX1_opens_71 : decode cX1_opens 71 = .ok (.iastore, 1) := dk_79 (dk_at dksX1_opens_3 1 rfl rfl)
theorem dX1_opens_72 : decode cX1_opens 72 = .ok (.iconst 0, 1) := dk_3 (dk_at dksX1_opens_3 2 rfl rfl)
theorem dX1_opens_73 : decode cX1_opens 73 = .ok (.istore_n 3, 1) := dk_62 (dk_at dksX1_opens_3 3 rfl rfl)
theorem dX1_opens_74 : decode cX1_opens 74 = .ok (.iload_n 3, 1) := dk_29 (dk_at dksX1_opens_3 4 rfl rfl)
theorem dX1_opens_75 : decode cX1_opens 75 = .ok (.aload_n 0, 1) := dk_42 (dk_at dksX1_opens_3 5 rfl rfl)
theorem dX1_opens_76 : decode cX1_opens 76 = .ok (.getfield 31, 3) := dk_180 0 31 (dk_at dksX1_opens_3 6 rfl rfl)
theorem dX1_opens_79 : decode cX1_opens 79 = .ok (.getfield 51, 3) := dk_180 0 51 (dk_at dksX1_opens_3 9 rfl rfl)
theorem dX1_opens_82 : decode cX1_opens 82 = .ok (.if_icmp .ge 94, 3) := dk_162 0 94 (dk_at dksX1_opens_3 12 rfl rfl)
theorem dX1_opens_85 : decode cX1_opens 85 = .ok (.aload_n 0, 1) := dk_42 (dk_at dksX1_opens_3 15 rfl rfl)
theorem dX1_opens_86 : decode cX1_opens 86 = .ok (.getfield 31, 3) := dk_180 0 31 (dk_at dksX1_opens_3 16 rfl rfl)
theorem dX1_opens_89 : decode cX1_opens 89 = .ok (.getfield 54, 3) := dk_180 0 54 (dk_at dksX1_opens_3 19 rfl rfl)
theorem dX1_opens_92 : decode cX1_opens 92 = .ok (.iload_n 3, 1) := dk_29 (dk_at dksX1_opens_3 22 rfl rfl)
theorem dX1_opens_93 : decode cX1_opens 93 = .ok (.aaload, 1) := dk_50 (dk_at dksX1_opens_3 23 rfl rfl)
theorem dX1_opens_94 : decode cX1_opens 94 = .ok (.astore 4, 2) := dk_58 4 (dk_at dksX1_opens_4 0 rfl rfl)
theorem dX1_opens_96 : decode cX1_opens 96 = .ok (.aload 4, 2) := dk_25 4 (dk_at dksX1_opens_4 2 rfl rfl)
theorem dX1_opens_98 : decode cX1_opens 98 = .ok (.invokevirtual 109, 3) := dk_182 0 109 (dk_at dksX1_opens_4 4 rfl rfl)
theorem dX1_opens_101 : decode cX1_opens 101 = .ok (.iconst 5, 1) := dk_8 (dk_at dksX1_opens_4 7 rfl rfl)
theorem dX1_opens_102 : decode cX1_opens 102 = .ok (.if_icmp .ne 68, 3) := dk_160 0 68 (dk_at dksX1_opens_4 8 rfl rfl)
theorem dX1_opens_105 : decode cX1_opens 105 = .ok (.aload 4, 2) := dk_25 4 (dk_at dksX1_opens_4 11 rfl rfl)
theorem dX1_opens_107 : decode cX1_opens 107 = .ok (.aload_n 1, 1) := dk_43 (dk_at dksX1_opens_4 13 rfl rfl)
theorem dX1_opens_108 : decode cX1_opens 108 = .ok (.invokevirtual 112, 3) := dk_182 0 112 (dk_at dksX1_opens_4 14 rfl rfl)
theorem dX1_opens_111 : decode cX1_opens 111 = .ok (.ifCond .ne 6, 3) := dk_154 0 6 (dk_at dksX1_opens_4 17 rfl rfl)
theorem dX1_opens_114 : decode cX1_opens 114 = .ok (.goto 56, 3) := dk_167 0 56 (dk_at dksX1_opens_4 20 rfl rfl)
theorem dX1_opens_117 : decode cX1_opens 117 = .ok (.aload_n 0, 1) := dk_42 (dk_at dksX1_opens_4 23 rfl rfl)
theorem dX1_opens_118 : decode cX1_opens 118 = .ok (.aload 4, 2) := dk_25 4 (dk_at dksX1_opens_5 0 rfl rfl)
theorem dX1_opens_120 : decode cX1_opens 120 = .ok (.aload_n 0, 1) := dk_42 (dk_at dksX1_opens_5 2 rfl rfl)
theorem dX1_opens_121 : decode cX1_opens 121 = .ok (.getfield 92, 3) := dk_180 0 92 (dk_at dksX1_opens_5 3 rfl rfl)
theorem dX1_opens_124 : decode cX1_opens 124 = .ok (.iconst 4, 1) := dk_7 (dk_at dksX1_opens_5 6 rfl rfl)
theorem dX1_opens_125 : decode cX1_opens 125 = .ok (.invokevirtual 100, 3) := dk_182 0 100 (dk_at dksX1_opens_5 7 rfl rfl)
theorem dX1_opens_128 : decode cX1_opens 128 = .ok (.invokevirtual 105, 3) := dk_182 0 105 (dk_at dksX1_opens_5 10 rfl rfl)
theorem dX1_opens_131 : decode cX1_opens 131 = .ok (.istore 5, 2) := dk_54 5 (dk_at dksX1_opens_5 13 rfl rfl)
theorem dX1_opens_133 : decode cX1_opens 133 = .ok (.aload_n 1, 1) := dk_43 (dk_at dksX1_opens_5 15 rfl rfl)
theorem dX1_opens_134 : decode cX1_opens 134 = .ok (.invokevirtual 116, 3) := dk_182 0 116 (dk_at dksX1_opens_5 16 rfl rfl)
theorem dX1_opens_137 : decode cX1_opens 137 = .ok (.iconst (-1), 1) := dk_2 (dk_at dksX1_opens_5 19 rfl rfl)
theorem dX1_opens_138 : decode cX1_opens 138 = .ok (.if_icmp .eq 24, 3) := dk_159 0 24 (dk_at dksX1_opens_5 20 rfl rfl)
theorem dX1_opens_141 : decode cX1_opens 141 = .ok (.aload_n 0, 1) := dk_42 (dk_at dksX1_opens_5 23 rfl rfl)
theorem dX1_opens_142 : decode cX1_opens 142 = .ok (.getfield 92, 3) := dk_180 0 92 (dk_at dksX1_opens_6 0 rfl rfl)
theorem dX1_opens_145 : decode cX1_opens 145 = .ok (.bipush 6, 2) := dk_16 6 (dk_at dksX1_opens_6 3 rfl rfl)
theorem dX1_opens_147 : decode cX1_opens 147 = .ok (.invokevirtual 100, 3) := dk_182 0 100 (dk_at dksX1_opens_6 5 rfl rfl)
theorem dX1_opens_150 : decode cX1_opens 150 = .ok (.ifCond .eq 12, 3) := dk_153 0 12 (dk_at dksX1_opens_6 8 rfl rfl)
theorem dX1_opens_153 : decode cX1_opens 153 = .ok (.iload 5, 2) := dk_21 5 (dk_at dksX1_opens_6 11 rfl rfl)
theorem dX1_opens_155 : decode cX1_opens 155 = .ok (.aload_n 1, 1) := dk_43 (dk_at dksX1_opens_6 13 rfl rfl)
theorem dX1_opens_156 : decode cX1_opens 156 = .ok (.invokevirtual 116, 3) := dk_182 0 116 (dk_at dksX1_opens_6 14 rfl rfl)
theorem dX1_opens_159 : decode cX1_opens 159 = .ok (.if_icmp .le 11, 3) := dk_164 0 11 (dk_at dksX1_opens_6 17 rfl rfl)
theorem dX1_opens_162 : decode cX1_opens 162 = .ok (.aload_n 0, 1) := dk_42 (dk_at dksX1_opens_6 20 rfl rfl)
theorem dX1_opens_163 : decode cX1_opens 163 = .ok (.iload_n 2, 1) := dk_28 (dk_at dksX1_opens_6 21 rfl rfl)
theorem dX1_opens_164 : decode cX1_opens 164 = .ok (.iload 5, 2) := dk_21 5 (dk_at dksX1_opens_6 22 rfl rfl)
theorem dX1_opens_166 : decode cX1_opens 166 = .ok (.iconst 1, 1) := dk_4 (dk_at dksX1_opens_7 0 rfl rfl)
theorem dX1_opens_167 : decode cX1_opens 167 = .ok (.invokevirtual 119, 3) := dk_182 0 119 (dk_at dksX1_opens_7 1 rfl rfl)
theorem dX1_opens_170 : decode cX1_opens 170 = .ok (.iinc 3 1, 3) := dk_132 3 1 (dk_at dksX1_opens_7 4 rfl rfl)
theorem dX1_opens_173 : decode cX1_opens 173 = .ok (.goto (-99), 3) := dk_167 255 157 (dk_at dksX1_opens_7 7 rfl rfl)
theorem dX1_opens_176 : decode cX1_opens 176 = .ok (.iconst 0, 1) := dk_3 (dk_at dksX1_opens_7 10 rfl rfl)
theorem dX1_opens_177 : decode cX1_opens 177 = .ok (.istore_n 3, 1) := dk_62 (dk_at dksX1_opens_7 11 rfl rfl)
theorem dX1_opens_178 : decode cX1_opens 178 = .ok (.iload_n 3, 1) := dk_29 (dk_at dksX1_opens_7 12 rfl rfl)
theorem dX1_opens_179 : decode cX1_opens 179 = .ok (.aload_n 0, 1) := dk_42 (dk_at dksX1_opens_7 13 rfl rfl)
theorem dX1_opens_180 : decode cX1_opens 180 = .ok (.getfield 31, 3) := dk_180 0 31 (dk_at dksX1_opens_7 14 rfl rfl)
theorem dX1_opens_183 : decode cX1_opens 183 = .ok (.getfield 51, 3) := dk_180 0 51 (dk_at dksX1_opens_7 17 rfl rfl)
theorem dX1_opens_186 : decode cX1_opens 186 = .ok (.if_icmp .ge 71, 3) := dk_162 0 71 (dk_at dksX1_opens_7 20 rfl rfl)
theorem dX1_opens_189 : decode cX1_opens 189 = .ok (.aload_n 0, 1) := dk_42 (dk_at dksX1_opens_7 23 rfl rfl)
theorem dX1_opens_190 : decode cX1_opens 190 = .ok (.getfield 31, 3) := dk_180 0 31 (dk_at dksX1_opens_8 0 rfl rfl)
theorem dX1_opens_193 : decode cX1_opens 193 = .ok (.getfield 54, 3) := dk_180 0 54 (dk_at dksX1_opens_8 3 rfl rfl)
theorem dX1_opens_196 : decode cX1_opens 196 = .ok (.iload_n 3, 1) := dk_29 (dk_at dksX1_opens_8 6 rfl rfl)
theorem dX1_opens_197 : decode cX1_opens 197 = .ok (.aaload, 1) := dk_50 (dk_at dksX1_opens_8 7 rfl rfl)
theorem dX1_opens_198 : decode cX1_opens 198 = .ok (.aload_n 0, 1) := dk_42 (dk_at dksX1_opens_8 8 rfl rfl)
theorem dX1_opens_199 : decode cX1_opens 199 = .ok (.getfield 92, 3) := dk_180 0 92 (dk_at dksX1_opens_8 9 rfl rfl)
theorem dX1_opens_202 : decode cX1_opens 202 = .ok (.invokevirtual 122, 3) := dk_182 0 122 (dk_at dksX1_opens_8 12 rfl rfl)
theorem dX1_opens_205 : decode cX1_opens 205 = .ok (.ifCond .eq 46, 3) := dk_153 0 46 (dk_at dksX1_opens_8 15 rfl rfl)
theorem dX1_opens_208 : decode cX1_opens 208 = .ok (.aload_n 0, 1) := dk_42 (dk_at dksX1_opens_8 18 rfl rfl)
theorem dX1_opens_209 : decode cX1_opens 209 = .ok (.getfield 31, 3) := dk_180 0 31 (dk_at dksX1_opens_8 19 rfl rfl)
theorem dX1_opens_212 : decode cX1_opens 212 = .ok (.getfield 54, 3) := dk_180 0 54 (dk_at dksX1_opens_9 0 rfl rfl)
theorem dX1_opens_215 : decode cX1_opens 215 = .ok (.iload_n 3, 1) := dk_29 (dk_at dksX1_opens_9 3 rfl rfl)
theorem dX1_opens_216 : decode cX1_opens 216 = .ok (.aaload, 1) := dk_50 (dk_at dksX1_opens_9 4 rfl rfl)
theorem dX1_opens_217 : decode cX1_opens 217 = .ok (.aload_n 1, 1) := dk_43 (dk_at dksX1_opens_9 5 rfl rfl)
theorem dX1_opens_218 : decode cX1_opens 218 = .ok (.invokevirtual 112, 3) := dk_182 0 112 (dk_at dksX1_opens_9 6 rfl rfl)
theorem dX1_opens_221 : decode cX1_opens 221 = .ok (.ifCond .eq 30, 3) := dk_153 0 30 (dk_at dksX1_opens_9 9 rfl rfl)
theorem dX1_opens_224 : decode cX1_opens 224 = .ok (.aload_n 0, 1) := dk_42 (dk_at dksX1_opens_9 12 rfl rfl)
theorem dX1_opens_225 : decode cX1_opens 225 = .ok (.iload_n 2, 1) := dk_28 (dk_at dksX1_opens_9 13 rfl rfl)
theorem dX1_opens_226 : decode cX1_opens 226 = .ok (.aload_n 0, 1) := dk_42 (dk_at dksX1_opens_9 14 rfl rfl)
theorem dX1_opens_227 : decode cX1_opens 227 = .ok (.aload_n 0, 1) := dk_42 (dk_at dksX1_opens_9 15 rfl rfl)
theorem dX1_opens_228 : decode cX1_opens 228 = .ok (.getfield 31, 3) := dk_180 0 31 (dk_at dksX1_opens_9 16 rfl rfl)
theorem dX1_opens_231 : decode cX1_opens 231 = .ok (.getfield 54, 3) := dk_180 0 54 (dk_at dksX1_opens_9 19 rfl rfl)
theorem dX1_opens_234 : decode cX1_opens 234 = .ok (.iload_n 3, 1) := dk_29 (dk_at dksX1_opens_9 22 rfl rfl)
theorem dX1_opens_235 : decode cX1_opens 235 = .ok (.aaload, 1) := dk_50 (dk_at dksX1_opens_9 23 rfl rfl)
theorem dX1_opens_236 : decode cX1_opens 236 = .ok (.aload_n 0, 1) := dk_42 (dk_at dksX1_opens_10 0 rfl rfl)
theorem dX1_opens_237 : decode cX1_opens 237 = .ok (.getfield 92, 3) := dk_180 0 92 (dk_at dksX1_opens_10 1 rfl rfl)
theorem dX1_opens_240 : decode cX1_opens 240 = .ok (.iconst 5, 1) := dk_8 (dk_at dksX1_opens_10 4 rfl rfl)
theorem dX1_opens_241 : decode cX1_opens 241 = .ok (.invokevirtual 100, 3) := dk_182 0 100 (dk_at dksX1_opens_10 5 rfl rfl)
theorem dX1_opens_244 : decode cX1_opens 244 = .ok (.invokevirtual 105, 3) := dk_182 0 105 (dk_at dksX1_opens_10 8 rfl rfl)
theorem dX1_opens_247 : decode cX1_opens 247 = .ok (.iconst 2, 1) := dk_5 (dk_at dksX1_opens_10 11 rfl rfl)
theorem dX1_opens_248 : decode cX1_opens 248 = .ok (.invokevirtual 119, 3) := dk_182 0 119 (dk_at dksX1_opens_10 12 rfl rfl)
theorem dX1_opens_251 : decode cX1_opens 251 = .ok (.iinc 3 1, 3) := dk_132 3 1 (dk_at dksX1_opens_10 15 rfl rfl)
theorem dX1_opens_254 : decode cX1_opens 254 = .ok (.goto (-76), 3) := dk_167 255 180 (dk_at dksX1_opens_10 18 rfl rfl)
theorem dX1_opens_257 : decode cX1_opens 257 = .ok (.aload_n 1, 1) := dk_43 (dk_at dksX1_opens_10 21 rfl rfl)
theorem dX1_opens_258 : decode cX1_opens 258 = .ok (.invokevirtual 116, 3) := dk_182 0 116 (dk_at dksX1_opens_11 0 rfl rfl)
theorem dX1_opens_261 : decode cX1_opens 261 = .ok (.iconst (-1), 1) := dk_2 (dk_at dksX1_opens_11 3 rfl rfl)
theorem dX1_opens_262 : decode cX1_opens 262 = .ok (.if_icmp .eq 18, 3) := dk_159 0 18 (dk_at dksX1_opens_11 4 rfl rfl)
theorem dX1_opens_265 : decode cX1_opens 265 = .ok (.aload_n 0, 1) := dk_42 (dk_at dksX1_opens_11 7 rfl rfl)
theorem dX1_opens_266 : decode cX1_opens 266 = .ok (.iload_n 2, 1) := dk_28 (dk_at dksX1_opens_11 8 rfl rfl)
theorem dX1_opens_267 : decode cX1_opens 267 = .ok (.aload_n 1, 1) := dk_43 (dk_at dksX1_opens_11 9 rfl rfl)
theorem dX1_opens_268 : decode cX1_opens 268 = .ok (.invokevirtual 116, 3) := dk_182 0 116 (dk_at dksX1_opens_11 10 rfl rfl)
theorem dX1_opens_271 : decode cX1_opens 271 = .ok (.iconst 1, 1) := dk_4 (dk_at dksX1_opens_11 13 rfl rfl)
theorem dX1_opens_272 : decode cX1_opens 272 = .ok (.iadd, 1) := dk_96 (dk_at dksX1_opens_11 14 rfl rfl)
theorem dX1_opens_273 : decode cX1_opens 273 = .ok (.iconst 3, 1) := dk_6 (dk_at dksX1_opens_11 15 rfl rfl)
theorem dX1_opens_274 : decode cX1_opens 274 = .ok (.invokevirtual 119, 3) := dk_182 0 119 (dk_at dksX1_opens_11 16 rfl rfl)
theorem dX1_opens_277 : decode cX1_opens 277 = .ok (.goto 52, 3) := dk_167 0 52 (dk_at dksX1_opens_11 19 rfl rfl)
theorem dX1_opens_280 : decode cX1_opens 280 = .ok (.aload_n 0, 1) := dk_42 (dk_at dksX1_opens_11 22 rfl rfl)
theorem dX1_opens_281 : decode cX1_opens 281 = .ok (.getfield 92, 3) := dk_180 0 92 (dk_at dksX1_opens_12 0 rfl rfl)
theorem dX1_opens_284 : decode cX1_opens 284 = .ok (.bipush 7, 2) := dk_16 7 (dk_at dksX1_opens_12 3 rfl rfl)
theorem dX1_opens_286 : decode cX1_opens 286 = .ok (.invokevirtual 100, 3) := dk_182 0 100 (dk_at dksX1_opens_12 5 rfl rfl)
theorem dX1_opens_289 : decode cX1_opens 289 = .ok (.iconst (-1), 1) := dk_2 (dk_at dksX1_opens_12 8 rfl rfl)
theorem dX1_opens_290 : decode cX1_opens 290 = .ok (.if_icmp .eq 39, 3) := dk_159 0 39 (dk_at dksX1_opens_12 9 rfl rfl)
theorem dX1_opens_293 : decode cX1_opens 293 = .ok (.aload_n 0, 1) := dk_42 (dk_at dksX1_opens_12 12 rfl rfl)
theorem dX1_opens_294 : decode cX1_opens 294 = .ok (.aload_n 1, 1) := dk_43 (dk_at dksX1_opens_12 13 rfl rfl)
theorem dX1_opens_295 : decode cX1_opens 295 = .ok (.iconst 1, 1) := dk_4 (dk_at dksX1_opens_12 14 rfl rfl)
theorem dX1_opens_296 : decode cX1_opens 296 = .ok (.invokevirtual 105, 3) := dk_182 0 105 (dk_at dksX1_opens_12 15 rfl rfl)
theorem dX1_opens_299 : decode cX1_opens 299 = .ok (.sipush 9999, 3) := dk_17 39 15 (dk_at dksX1_opens_12 18 rfl rfl)
theorem dX1_opens_302 : decode cX1_opens 302 = .ok (.if_icmp .eq 27, 3) := dk_159 0 27 (dk_at dksX1_opens_12 21 rfl rfl)
theorem dX1_opens_305 : decode cX1_opens 305 = .ok (.aload_n 0, 1) := dk_42 (dk_at dksX1_opens_13 0 rfl rfl)
theorem dX1_opens_306 : decode cX1_opens 306 = .ok (.iload_n 2, 1) := dk_28 (dk_at dksX1_opens_13 1 rfl rfl)
theorem dX1_opens_307 : decode cX1_opens 307 = .ok (.aload_n 0, 1) := dk_42 (dk_at dksX1_opens_13 2 rfl rfl)
theorem dX1_opens_308 : decode cX1_opens 308 = .ok (.aload_n 1, 1) := dk_43 (dk_at dksX1_opens_13 3 rfl rfl)
theorem dX1_opens_309 : decode cX1_opens 309 = .ok (.iconst 1, 1) := dk_4 (dk_at dksX1_opens_13 4 rfl rfl)
theorem dX1_opens_310 : decode cX1_opens 310 = .ok (.invokevirtual 105, 3) := dk_182 0 105 (dk_at dksX1_opens_13 5 rfl rfl)
theorem dX1_opens_313 : decode cX1_opens 313 = .ok (.aload_n 0, 1) := dk_42 (dk_at dksX1_opens_13 8 rfl rfl)
theorem dX1_opens_314 : decode cX1_opens 314 = .ok (.getfield 92, 3) := dk_180 0 92 (dk_at dksX1_opens_13 9 rfl rfl)
theorem dX1_opens_317 : decode cX1_opens 317 = .ok (.bipush 7, 2) := dk_16 7 (dk_at dksX1_opens_13 12 rfl rfl)
theorem dX1_opens_319 : decode cX1_opens 319 = .ok (.invokevirtual 100, 3) := dk_182 0 100 (dk_at dksX1_opens_13 14 rfl rfl)
theorem dX1_opens_322 : decode cX1_opens 322 = .ok (.iadd, 1) := dk_96 (dk_at dksX1_opens_13 17 rfl rfl)
theorem dX1_opens_323 : decode cX1_opens 323 = .ok (.iconst 1, 1) := dk_4 (dk_at dksX1_opens_13 18 rfl rfl)
theorem dX1_opens_324 : decode cX1_opens 324 = .ok (.iadd, 1) := dk_96 (dk_at dksX1_opens_13 19 rfl rfl)
theorem dX1_opens_325 : decode cX1_opens 325 = .ok (.iconst 4, 1) := dk_7 (dk_at dksX1_opens_13 20 rfl rfl)
theorem dX1_opens_326 : decode cX1_opens 326 = .ok (.invokevirtual 119, 3) := dk_182 0 119 (dk_at dksX1_opens_13 21 rfl rfl)
theorem dX1_opens_329 : decode cX1_opens 329 = .ok (.return_, 1) := dk_177 (dk_at dksX1_opens_14 0 rfl rfl)
abbrev cX1_isBargain : ByteArray := prog_15_method_11_code
def yX1_isBargain : MethodName := ⟨RX1, "isBargain", "()Z"⟩
def dkwX1_isBargain_0 : List UInt8 := [42, 180, 0, 145, 17, 39, 15, 162, 0, 7, 4, 167, 0, 4, 3, 172]
abbrev dktX1_isBargain_0 : List UInt8 := dkwX1_isBargain_0 ++ []
theorem dksX1_isBargain_0 : cX1_isBargain.data.toList.drop 0 = dktX1_isBargain_0 := by decide +kernel
theorem dX1_isBargain_0 : decode cX1_isBargain 0 = .ok (.aload_n 0, 1) := dk_42 (dk_at dksX1_isBargain_0 0 rfl rfl)
theorem dX1_isBargain_1 : decode cX1_isBargain 1 = .ok (.getfield 145, 3) := dk_180 0 145 (dk_at dksX1_isBargain_0 1 rfl rfl)
theorem dX1_isBargain_4 : decode cX1_isBargain 4 = .ok (.sipush 9999, 3) := dk_17 39 15 (dk_at dksX1_isBargain_0 4 rfl rfl)
theorem dX1_isBargain_7 : decode cX1_isBargain 7 = .ok (.if_icmp .ge 7, 3) := dk_162 0 7 (dk_at dksX1_isBargain_0 7 rfl rfl)
theorem dX1_isBargain_10 : decode cX1_isBargain 10 = .ok (.iconst 1, 1) := dk_4 (dk_at dksX1_isBargain_0 10 rfl rfl)
theorem dX1_isBargain_11 : decode cX1_isBargain 11 = .ok (.goto 4, 3) := dk_167 0 4 (dk_at dksX1_isBargain_0 11 rfl rfl)
theorem dX1_isBargain_14 : decode cX1_isBargain 14 = .ok (.iconst 0, 1) := dk_3 (dk_at dksX1_isBargain_0 14 rfl rfl)
theorem dX1_isBargain_15 : decode cX1_isBargain 15 = .ok (.ireturn, 1) := dk_172 (dk_at dksX1_isBargain_0 15 rfl rfl)
abbrev cX1_ends : ByteArray := prog_15_method_4_code
def yX1_ends : MethodName := ⟨RX1, "ends", "(III)V"⟩
def dkwX1_ends_1 : List UInt8 := [79, 177]
abbrev dktX1_ends_1 : List UInt8 := dkwX1_ends_1 ++ []
def dkwX1_ends_0 : List UInt8 := [28, 42, 180, 0, 22, 27, 46, 161, 0, 4, 177, 42, 180, 0, 22, 27, 28, 79, 42, 180, 0, 25, 27, 29]
abbrev dktX1_ends_0 : List UInt8 := dkwX1_ends_0 ++ dktX1_ends_1
theorem dksX1_ends_0 : cX1_ends.data.toList.drop 0 = dktX1_ends_0 := by decide +kernel
theorem dksX1_ends_1 : cX1_ends.data.toList.drop 24 = dktX1_ends_1 := dk_seg dksX1_ends_0 24 rfl rfl
theorem dX1_ends_0 : decode cX1_ends 0 = .ok (.iload_n 2, 1) := dk_28 (dk_at dksX1_ends_0 0 rfl rfl)
theorem dX1_ends_1 : decode cX1_ends 1 = .ok (.aload_n 0, 1) := dk_42 (dk_at dksX1_ends_0 1 rfl rfl)
theorem dX1_ends_2 : decode cX1_ends 2 = .ok (.getfield 22, 3) := dk_180 0 22 (dk_at dksX1_ends_0 2 rfl rfl)
theorem dX1_ends_5 : decode cX1_ends 5 = .ok (.iload_n 1, 1) := dk_27 (dk_at dksX1_ends_0 5 rfl rfl)
theorem dX1_ends_6 : decode cX1_ends 6 = .ok (.iaload, 1) := dk_46 (dk_at dksX1_ends_0 6 rfl rfl)
theorem dX1_ends_7 : decode cX1_ends 7 = .ok (.if_icmp .lt 4, 3) := dk_161 0 4 (dk_at dksX1_ends_0 7 rfl rfl)
theorem dX1_ends_10 : decode cX1_ends 10 = .ok (.return_, 1) := dk_177 (dk_at dksX1_ends_0 10 rfl rfl)
theorem dX1_ends_11 : decode cX1_ends 11 = .ok (.aload_n 0, 1) := dk_42 (dk_at dksX1_ends_0 11 rfl rfl)
theorem dX1_ends_12 : decode cX1_ends 12 = .ok (.getfield 22, 3) := dk_180 0 22 (dk_at dksX1_ends_0 12 rfl rfl)
theorem dX1_ends_15 : decode cX1_ends 15 = .ok (.iload_n 1, 1) := dk_27 (dk_at dksX1_ends_0 15 rfl rfl)
theorem dX1_ends_16 : decode cX1_ends 16 = .ok (.iload_n 2, 1) := dk_28 (dk_at dksX1_ends_0 16 rfl rfl)
theorem dX1_ends_17 : decode cX1_ends 17 = .ok (.iastore, 1) := dk_79 (dk_at dksX1_ends_0 17 rfl rfl)
theorem dX1_ends_18 : decode cX1_ends 18 = .ok (.aload_n 0, 1) := dk_42 (dk_at dksX1_ends_0 18 rfl rfl)
theorem dX1_ends_19 : decode cX1_ends 19 = .ok (.getfield 25, 3) := dk_180 0 25 (dk_at dksX1_ends_0 19 rfl rfl)
theorem dX1_ends_22 : decode cX1_ends 22 = .ok (.iload_n 1, 1) := dk_27 (dk_at dksX1_ends_0 22 rfl rfl)
theorem dX1_ends_23 : decode cX1_ends 23 = .ok (.iload_n 3, 1) := dk_29 (dk_at dksX1_ends_0 23 rfl rfl)
theorem dX1_ends_24 : decode cX1_ends 24 = .ok (.iastore, 1) := dk_79 (dk_at dksX1_ends_1 0 rfl rfl)
theorem dX1_ends_25 : decode cX1_ends 25 = .ok (.return_, 1) := dk_177 (dk_at dksX1_ends_1 1 rfl rfl)
abbrev cX1_makes : ByteArray := prog_15_method_7_code
def yX1_makes : MethodName := ⟨RX1, "makes", "(LCrossingWords$Saying;)I"⟩
def dkwX1_makes_5 : List UInt8 := [162, 0, 7, 17, 39, 15, 172, 132, 4, 1, 167, 255, 189, 29, 172]
abbrev dktX1_makes_5 : List UInt8 := dkwX1_makes_5 ++ []
def dkwX1_makes_4 : List UInt8 := [25, 5, 43, 182, 0, 112, 153, 0, 25, 42, 25, 5, 42, 180, 0, 92, 7, 182, 0, 100, 182, 0, 105, 29]
abbrev dktX1_makes_4 : List UInt8 := dkwX1_makes_4 ++ dktX1_makes_5
def dkwX1_makes_3 : List UInt8 := [162, 0, 61, 42, 180, 0, 31, 180, 0, 54, 21, 4, 50, 58, 5, 25, 5, 182, 0, 109, 8, 160, 0, 34]
abbrev dktX1_makes_3 : List UInt8 := dkwX1_makes_3 ++ dktX1_makes_4
def dkwX1_makes_2 : List UInt8 := [182, 0, 137, 154, 0, 7, 17, 39, 15, 172, 3, 54, 4, 21, 4, 42, 180, 0, 31, 180, 0, 51]
abbrev dktX1_makes_2 : List UInt8 := dkwX1_makes_2 ++ dktX1_makes_3
def dkwX1_makes_1 : List UInt8 := [182, 0, 134, 153, 0, 27, 42, 44, 4, 182, 0, 105, 42, 43, 3, 182, 0, 105, 163, 0, 12, 42, 44, 29]
abbrev dktX1_makes_1 : List UInt8 := dkwX1_makes_1 ++ dktX1_makes_2
def dkwX1_makes_0 : List UInt8 := [43, 182, 0, 126, 77, 42, 43, 42, 180, 0, 92, 43, 182, 0, 130, 182, 0, 105, 62, 44, 42, 180, 0, 92]
abbrev dktX1_makes_0 : List UInt8 := dkwX1_makes_0 ++ dktX1_makes_1
theorem dksX1_makes_0 : cX1_makes.data.toList.drop 0 = dktX1_makes_0 := by decide +kernel
theorem dksX1_makes_1 : cX1_makes.data.toList.drop 24 = dktX1_makes_1 := dk_seg dksX1_makes_0 24 rfl rfl
theorem dksX1_makes_2 : cX1_makes.data.toList.drop 48 = dktX1_makes_2 := dk_seg dksX1_makes_1 24 rfl rfl
theorem dksX1_makes_3 : cX1_makes.data.toList.drop 70 = dktX1_makes_3 := dk_seg dksX1_makes_2 22 rfl rfl
theorem dksX1_makes_4 : cX1_makes.data.toList.drop 94 = dktX1_makes_4 := dk_seg dksX1_makes_3 24 rfl rfl
theorem dksX1_makes_5 : cX1_makes.data.toList.drop 118 = dktX1_makes_5 := dk_seg dksX1_makes_4 24 rfl rfl
theorem dX1_makes_0 : decode cX1_makes 0 = .ok (.aload_n 1, 1) := dk_43 (dk_at dksX1_makes_0 0 rfl rfl)
theorem dX1_makes_1 : decode cX1_makes 1 = .ok (.invokevirtual 126, 3) := dk_182 0 126 (dk_at dksX1_makes_0 1 rfl rfl)
theorem dX1_makes_4 : decode cX1_makes 4 = .ok (.astore_n 2, 1) := dk_77 (dk_at dksX1_makes_0 4 rfl rfl)
theorem dX1_makes_5 : decode cX1_makes 5 = .ok (.aload_n 0, 1) := dk_42 (dk_at dksX1_makes_0 5 rfl rfl)
theorem dX1_makes_6 : decode cX1_makes 6 = .ok (.aload_n 1, 1) := dk_43 (dk_at dksX1_makes_0 6 rfl rfl)
theorem dX1_makes_7 : decode cX1_makes 7 = .ok (.aload_n 0, 1) := dk_42 (dk_at dksX1_makes_0 7 rfl rfl)
theorem dX1_makes_8 : decode cX1_makes 8 = .ok (.getfield 92, 3) := dk_180 0 92 (dk_at dksX1_makes_0 8 rfl rfl)
theorem dX1_makes_11 : decode cX1_makes 11 = .ok (.aload_n 1, 1) := dk_43 (dk_at dksX1_makes_0 11 rfl rfl)
theorem dX1_makes_12 : decode cX1_makes 12 = .ok (.invokevirtual 130, 3) := dk_182 0 130 (dk_at dksX1_makes_0 12 rfl rfl)
theorem dX1_makes_15 : decode cX1_makes 15 = .ok (.invokevirtual 105, 3) := dk_182 0 105 (dk_at dksX1_makes_0 15 rfl rfl)
theorem dX1_makes_18 : decode cX1_makes 18 = .ok (.istore_n 3, 1) := dk_62 (dk_at dksX1_makes_0 18 rfl rfl)
theorem dX1_makes_19 : decode cX1_makes 19 = .ok (.aload_n 2, 1) := dk_44 (dk_at dksX1_makes_0 19 rfl rfl)
theorem dX1_makes_20 : decode cX1_makes 20 = .ok (.aload_n 0, 1) := dk_42 (dk_at dksX1_makes_0 20 rfl rfl)
theorem dX1_makes_21 : decode cX1_makes 21 = .ok (.getfield 92, 3) := dk_180 0 92 (dk_at dksX1_makes_0 21 rfl rfl)
theorem dX1_makes_24 : decode cX1_makes 24 = .ok (.invokevirtual 134, 3) := dk_182 0 134 (dk_at dksX1_makes_1 0 rfl rfl)
theorem dX1_makes_27 : decode cX1_makes 27 = .ok (.ifCond .eq 27, 3) := dk_153 0 27 (dk_at dksX1_makes_1 3 rfl rfl)
theorem dX1_makes_30 : decode cX1_makes 30 = .ok (.aload_n 0, 1) := dk_42 (dk_at dksX1_makes_1 6 rfl rfl)
theorem dX1_makes_31 : decode cX1_makes 31 = .ok (.aload_n 2, 1) := dk_44 (dk_at dksX1_makes_1 7 rfl rfl)
theorem dX1_makes_32 : decode cX1_makes 32 = .ok (.iconst 1, 1) := dk_4 (dk_at dksX1_makes_1 8 rfl rfl)
theorem dX1_makes_33 : decode cX1_makes 33 = .ok (.invokevirtual 105, 3) := dk_182 0 105 (dk_at dksX1_makes_1 9 rfl rfl)
theorem dX1_makes_36 : decode cX1_makes 36 = .ok (.aload_n 0, 1) := dk_42 (dk_at dksX1_makes_1 12 rfl rfl)
theorem dX1_makes_37 : decode cX1_makes 37 = .ok (.aload_n 1, 1) := dk_43 (dk_at dksX1_makes_1 13 rfl rfl)
theorem dX1_makes_38 : decode cX1_makes 38 = .ok (.iconst 0, 1) := dk_3 (dk_at dksX1_makes_1 14 rfl rfl)
theorem dX1_makes_39 : decode cX1_makes 39 = .ok (.invokevirtual 105, 3) := dk_182 0 105 (dk_at dksX1_makes_1 15 rfl rfl)
theorem dX1_makes_42 : decode cX1_makes 42 = .ok (.if_icmp .gt 12, 3) := dk_163 0 12 (dk_at dksX1_makes_1 18 rfl rfl)
theorem dX1_makes_45 : decode cX1_makes 45 = .ok (.aload_n 0, 1) := dk_42 (dk_at dksX1_makes_1 21 rfl rfl)
theorem dX1_makes_46 : decode cX1_makes 46 = .ok (.aload_n 2, 1) := dk_44 (dk_at dksX1_makes_1 22 rfl rfl)
theorem dX1_makes_47 : decode cX1_makes 47 = .ok (.iload_n 3, 1) := dk_29 (dk_at dksX1_makes_1 23 rfl rfl)
theorem dX1_makes_48 : decode cX1_makes 48 = .ok (.invokevirtual 137, 3) := dk_182 0 137 (dk_at dksX1_makes_2 0 rfl rfl)
theorem dX1_makes_51 : decode cX1_makes 51 = .ok (.ifCond .ne 7, 3) := dk_154 0 7 (dk_at dksX1_makes_2 3 rfl rfl)
theorem dX1_makes_54 : decode cX1_makes 54 = .ok (.sipush 9999, 3) := dk_17 39 15 (dk_at dksX1_makes_2 6 rfl rfl)
theorem dX1_makes_57 : decode cX1_makes 57 = .ok (.ireturn, 1) := dk_172 (dk_at dksX1_makes_2 9 rfl rfl)
theorem dX1_makes_58 : decode cX1_makes 58 = .ok (.iconst 0, 1) := dk_3 (dk_at dksX1_makes_2 10 rfl rfl)
theorem dX1_makes_59 : decode cX1_makes 59 = .ok (.istore 4, 2) := dk_54 4 (dk_at dksX1_makes_2 11 rfl rfl)
theorem dX1_makes_61 : decode cX1_makes 61 = .ok (.iload 4, 2) := dk_21 4 (dk_at dksX1_makes_2 13 rfl rfl)
theorem dX1_makes_63 : decode cX1_makes 63 = .ok (.aload_n 0, 1) := dk_42 (dk_at dksX1_makes_2 15 rfl rfl)
theorem dX1_makes_64 : decode cX1_makes 64 = .ok (.getfield 31, 3) := dk_180 0 31 (dk_at dksX1_makes_2 16 rfl rfl)
theorem dX1_makes_67 : decode cX1_makes 67 = .ok (.getfield 51, 3) := dk_180 0 51 (dk_at dksX1_makes_2 19 rfl rfl)
theorem dX1_makes_70 : decode cX1_makes 70 = .ok (.if_icmp .ge 61, 3) := dk_162 0 61 (dk_at dksX1_makes_3 0 rfl rfl)
theorem dX1_makes_73 : decode cX1_makes 73 = .ok (.aload_n 0, 1) := dk_42 (dk_at dksX1_makes_3 3 rfl rfl)
theorem dX1_makes_74 : decode cX1_makes 74 = .ok (.getfield 31, 3) := dk_180 0 31 (dk_at dksX1_makes_3 4 rfl rfl)
theorem dX1_makes_77 : decode cX1_makes 77 = .ok (.getfield 54, 3) := dk_180 0 54 (dk_at dksX1_makes_3 7 rfl rfl)
theorem dX1_makes_80 : decode cX1_makes 80 = .ok (.iload 4, 2) := dk_21 4 (dk_at dksX1_makes_3 10 rfl rfl)
theorem dX1_makes_82 : decode cX1_makes 82 = .ok (.aaload, 1) := dk_50 (dk_at dksX1_makes_3 12 rfl rfl)
theorem dX1_makes_83 : decode cX1_makes 83 = .ok (.astore 5, 2) := dk_58 5 (dk_at dksX1_makes_3 13 rfl rfl)
theorem dX1_makes_85 : decode cX1_makes 85 = .ok (.aload 5, 2) := dk_25 5 (dk_at dksX1_makes_3 15 rfl rfl)
theorem dX1_makes_87 : decode cX1_makes 87 = .ok (.invokevirtual 109, 3) := dk_182 0 109 (dk_at dksX1_makes_3 17 rfl rfl)
theorem dX1_makes_90 : decode cX1_makes 90 = .ok (.iconst 5, 1) := dk_8 (dk_at dksX1_makes_3 20 rfl rfl)
theorem dX1_makes_91 : decode cX1_makes 91 = .ok (.if_icmp .ne 34, 3) := dk_160 0 34 (dk_at dksX1_makes_3 21 rfl rfl)
theorem dX1_makes_94 : decode cX1_makes 94 = .ok (.aload 5, 2) := dk_25 5 (dk_at dksX1_makes_4 0 rfl rfl)
theorem dX1_makes_96 : decode cX1_makes 96 = .ok (.aload_n 1, 1) := dk_43 (dk_at dksX1_makes_4 2 rfl rfl)
theorem dX1_makes_97 : decode cX1_makes 97 = .ok (.invokevirtual 112, 3) := dk_182 0 112 (dk_at dksX1_makes_4 3 rfl rfl)
theorem dX1_makes_100 : decode cX1_makes 100 = .ok (.ifCond .eq 25, 3) := dk_153 0 25 (dk_at dksX1_makes_4 6 rfl rfl)
theorem dX1_makes_103 : decode cX1_makes 103 = .ok (.aload_n 0, 1) := dk_42 (dk_at dksX1_makes_4 9 rfl rfl)
theorem dX1_makes_104 : decode cX1_makes 104 = .ok (.aload 5, 2) := dk_25 5 (dk_at dksX1_makes_4 10 rfl rfl)
theorem dX1_makes_106 : decode cX1_makes 106 = .ok (.aload_n 0, 1) := dk_42 (dk_at dksX1_makes_4 12 rfl rfl)
theorem dX1_makes_107 : decode cX1_makes 107 = .ok (.getfield 92, 3) := dk_180 0 92 (dk_at dksX1_makes_4 13 rfl rfl)
theorem dX1_makes_110 : decode cX1_makes 110 = .ok (.iconst 4, 1) := dk_7 (dk_at dksX1_makes_4 16 rfl rfl)
theorem dX1_makes_111 : decode cX1_makes 111 = .ok (.invokevirtual 100, 3) := dk_182 0 100 (dk_at dksX1_makes_4 17 rfl rfl)
theorem dX1_makes_114 : decode cX1_makes 114 = .ok (.invokevirtual 105, 3) := dk_182 0 105 (dk_at dksX1_makes_4 20 rfl rfl)
theorem dX1_makes_117 : decode cX1_makes 117 = .ok (.iload_n 3, 1) := dk_29 (dk_at dksX1_makes_4 23 rfl rfl)
theorem dX1_makes_118 : decode cX1_makes 118 = .ok (.if_icmp .ge 7, 3) := dk_162 0 7 (dk_at dksX1_makes_5 0 rfl rfl)
theorem dX1_makes_121 : decode cX1_makes 121 = .ok (.sipush 9999, 3) := dk_17 39 15 (dk_at dksX1_makes_5 3 rfl rfl)
theorem dX1_makes_124 : decode cX1_makes 124 = .ok (.ireturn, 1) := dk_172 (dk_at dksX1_makes_5 6 rfl rfl)
theorem dX1_makes_125 : decode cX1_makes 125 = .ok (.iinc 4 1, 3) := dk_132 4 1 (dk_at dksX1_makes_5 7 rfl rfl)
theorem dX1_makes_128 : decode cX1_makes 128 = .ok (.goto (-67), 3) := dk_167 255 189 (dk_at dksX1_makes_5 10 rfl rfl)
theorem dX1_makes_131 : decode cX1_makes 131 = .ok (.iload_n 3, 1) := dk_29 (dk_at dksX1_makes_5 13 rfl rfl)
theorem dX1_makes_132 : decode cX1_makes 132 = .ok (.ireturn, 1) := dk_172 (dk_at dksX1_makes_5 14 rfl rfl)
abbrev cX1_isOpen : ByteArray := prog_15_method_6_code
def yX1_isOpen : MethodName := ⟨RX1, "isOpen", "(LCrossingWords$Saying;I)Z"⟩
def dkwX1_isOpen_1 : List UInt8 := [180, 0, 22, 43, 180, 0, 85, 46, 162, 0, 7, 4, 167, 0, 4, 3, 172]
abbrev dktX1_isOpen_1 : List UInt8 := dkwX1_isOpen_1 ++ []
def dkwX1_isOpen_0 : List UInt8 := [28, 17, 39, 15, 159, 0, 33, 42, 180, 0, 19, 43, 180, 0, 85, 46, 28, 163, 0, 20, 28, 42]
abbrev dktX1_isOpen_0 : List UInt8 := dkwX1_isOpen_0 ++ dktX1_isOpen_1
theorem dksX1_isOpen_0 : cX1_isOpen.data.toList.drop 0 = dktX1_isOpen_0 := by decide +kernel
theorem dksX1_isOpen_1 : cX1_isOpen.data.toList.drop 22 = dktX1_isOpen_1 := dk_seg dksX1_isOpen_0 22 rfl rfl
theorem dX1_isOpen_0 : decode cX1_isOpen 0 = .ok (.iload_n 2, 1) := dk_28 (dk_at dksX1_isOpen_0 0 rfl rfl)
theorem dX1_isOpen_1 : decode cX1_isOpen 1 = .ok (.sipush 9999, 3) := dk_17 39 15 (dk_at dksX1_isOpen_0 1 rfl rfl)
theorem dX1_isOpen_4 : decode cX1_isOpen 4 = .ok (.if_icmp .eq 33, 3) := dk_159 0 33 (dk_at dksX1_isOpen_0 4 rfl rfl)
theorem dX1_isOpen_7 : decode cX1_isOpen 7 = .ok (.aload_n 0, 1) := dk_42 (dk_at dksX1_isOpen_0 7 rfl rfl)
theorem dX1_isOpen_8 : decode cX1_isOpen 8 = .ok (.getfield 19, 3) := dk_180 0 19 (dk_at dksX1_isOpen_0 8 rfl rfl)
theorem dX1_isOpen_11 : decode cX1_isOpen 11 = .ok (.aload_n 1, 1) := dk_43 (dk_at dksX1_isOpen_0 11 rfl rfl)
theorem dX1_isOpen_12 : decode cX1_isOpen 12 = .ok (.getfield 85, 3) := dk_180 0 85 (dk_at dksX1_isOpen_0 12 rfl rfl)
theorem dX1_isOpen_15 : decode cX1_isOpen 15 = .ok (.iaload, 1) := dk_46 (dk_at dksX1_isOpen_0 15 rfl rfl)
theorem dX1_isOpen_16 : decode cX1_isOpen 16 = .ok (.iload_n 2, 1) := dk_28 (dk_at dksX1_isOpen_0 16 rfl rfl)
theorem dX1_isOpen_17 : decode cX1_isOpen 17 = .ok (.if_icmp .gt 20, 3) := dk_163 0 20 (dk_at dksX1_isOpen_0 17 rfl rfl)
theorem dX1_isOpen_20 : decode cX1_isOpen 20 = .ok (.iload_n 2, 1) := dk_28 (dk_at dksX1_isOpen_0 20 rfl rfl)
theorem dX1_isOpen_21 : decode cX1_isOpen 21 = .ok (.aload_n 0, 1) := dk_42 (dk_at dksX1_isOpen_0 21 rfl rfl)
theorem dX1_isOpen_22 : decode cX1_isOpen 22 = .ok (.getfield 22, 3) := dk_180 0 22 (dk_at dksX1_isOpen_1 0 rfl rfl)
theorem dX1_isOpen_25 : decode cX1_isOpen 25 = .ok (.aload_n 1, 1) := dk_43 (dk_at dksX1_isOpen_1 3 rfl rfl)
theorem dX1_isOpen_26 : decode cX1_isOpen 26 = .ok (.getfield 85, 3) := dk_180 0 85 (dk_at dksX1_isOpen_1 4 rfl rfl)
theorem dX1_isOpen_29 : decode cX1_isOpen 29 = .ok (.iaload, 1) := dk_46 (dk_at dksX1_isOpen_1 7 rfl rfl)
theorem dX1_isOpen_30 : decode cX1_isOpen 30 = .ok (.if_icmp .ge 7, 3) := dk_162 0 7 (dk_at dksX1_isOpen_1 8 rfl rfl)
theorem dX1_isOpen_33 : decode cX1_isOpen 33 = .ok (.iconst 1, 1) := dk_4 (dk_at dksX1_isOpen_1 11 rfl rfl)
theorem dX1_isOpen_34 : decode cX1_isOpen 34 = .ok (.goto 4, 3) := dk_167 0 4 (dk_at dksX1_isOpen_1 12 rfl rfl)
theorem dX1_isOpen_37 : decode cX1_isOpen 37 = .ok (.iconst 0, 1) := dk_3 (dk_at dksX1_isOpen_1 15 rfl rfl)
theorem dX1_isOpen_38 : decode cX1_isOpen 38 = .ok (.ireturn, 1) := dk_172 (dk_at dksX1_isOpen_1 16 rfl rfl)
abbrev cX1_takes : ByteArray := prog_15_method_9_code
def yX1_takes : MethodName := ⟨RX1, "takes", "(IILCrossingWords$Saying;)V"⟩
def dkwX1_takes_1 : List UInt8 := [177]
abbrev dktX1_takes_1 : List UInt8 := dkwX1_takes_1 ++ []
def dkwX1_takes_0 : List UInt8 := [27, 42, 180, 0, 145, 161, 0, 4, 177, 42, 27, 181, 0, 145, 42, 28, 181, 0, 148, 42, 45, 181, 0, 151]
abbrev dktX1_takes_0 : List UInt8 := dkwX1_takes_0 ++ dktX1_takes_1
theorem dksX1_takes_0 : cX1_takes.data.toList.drop 0 = dktX1_takes_0 := by decide +kernel
theorem dksX1_takes_1 : cX1_takes.data.toList.drop 24 = dktX1_takes_1 := dk_seg dksX1_takes_0 24 rfl rfl
theorem dX1_takes_0 : decode cX1_takes 0 = .ok (.iload_n 1, 1) := dk_27 (dk_at dksX1_takes_0 0 rfl rfl)
theorem dX1_takes_1 : decode cX1_takes 1 = .ok (.aload_n 0, 1) := dk_42 (dk_at dksX1_takes_0 1 rfl rfl)
theorem dX1_takes_2 : decode cX1_takes 2 = .ok (.getfield 145, 3) := dk_180 0 145 (dk_at dksX1_takes_0 2 rfl rfl)
theorem dX1_takes_5 : decode cX1_takes 5 = .ok (.if_icmp .lt 4, 3) := dk_161 0 4 (dk_at dksX1_takes_0 5 rfl rfl)
theorem dX1_takes_8 : decode cX1_takes 8 = .ok (.return_, 1) := dk_177 (dk_at dksX1_takes_0 8 rfl rfl)
theorem dX1_takes_9 : decode cX1_takes 9 = .ok (.aload_n 0, 1) := dk_42 (dk_at dksX1_takes_0 9 rfl rfl)
theorem dX1_takes_10 : decode cX1_takes 10 = .ok (.iload_n 1, 1) := dk_27 (dk_at dksX1_takes_0 10 rfl rfl)
theorem dX1_takes_11 : decode cX1_takes 11 = .ok (.putfield 145, 3) := dk_181 0 145 (dk_at dksX1_takes_0 11 rfl rfl)
theorem dX1_takes_14 : decode cX1_takes 14 = .ok (.aload_n 0, 1) := dk_42 (dk_at dksX1_takes_0 14 rfl rfl)
theorem dX1_takes_15 : decode cX1_takes 15 = .ok (.iload_n 2, 1) := dk_28 (dk_at dksX1_takes_0 15 rfl rfl)
theorem dX1_takes_16 : decode cX1_takes 16 = .ok (.putfield 148, 3) := dk_181 0 148 (dk_at dksX1_takes_0 16 rfl rfl)
theorem dX1_takes_19 : decode cX1_takes 19 = .ok (.aload_n 0, 1) := dk_42 (dk_at dksX1_takes_0 19 rfl rfl)
theorem dX1_takes_20 : decode cX1_takes 20 = .ok (.aload_n 3, 1) := dk_45 (dk_at dksX1_takes_0 20 rfl rfl)
theorem dX1_takes_21 : decode cX1_takes 21 = .ok (.putfield 151, 3) := dk_181 0 151 (dk_at dksX1_takes_0 21 rfl rfl)
theorem dX1_takes_24 : decode cX1_takes 24 = .ok (.return_, 1) := dk_177 (dk_at dksX1_takes_1 0 rfl rfl)
abbrev cX1_silence : ByteArray := prog_15_method_8_code
def yX1_silence : MethodName := ⟨RX1, "silence", "(LCrossingWords$Saying;)I"⟩
def dkwX1_silence_5 : List UInt8 := [182, 0, 105, 28, 163, 0, 7, 17, 39, 15, 172, 132, 3, 1, 167, 255, 189, 28, 172]
abbrev dktX1_silence_5 : List UInt8 := dkwX1_silence_5 ++ []
def dkwX1_silence_4 : List UInt8 := [180, 0, 54, 29, 50, 43, 182, 0, 112, 153, 0, 25, 42, 42, 180, 0, 31, 180, 0, 54, 29, 50, 3]
abbrev dktX1_silence_4 : List UInt8 := dkwX1_silence_4 ++ dktX1_silence_5
def dkwX1_silence_3 : List UInt8 := [162, 0, 62, 42, 180, 0, 31, 180, 0, 54, 29, 50, 182, 0, 141, 153, 0, 41, 42, 180, 0, 31]
abbrev dktX1_silence_3 : List UInt8 := dkwX1_silence_3 ++ dktX1_silence_4
def dkwX1_silence_2 : List UInt8 := [42, 43, 28, 182, 0, 137, 154, 0, 7, 17, 39, 15, 172, 3, 62, 29, 42, 180, 0, 31, 180, 0, 51]
abbrev dktX1_silence_2 : List UInt8 := dkwX1_silence_2 ++ dktX1_silence_3
def dkwX1_silence_1 : List UInt8 := [160, 0, 7, 17, 39, 15, 172, 42, 43, 5, 182, 0, 105, 42, 180, 0, 92, 16, 8, 182, 0, 100, 96, 61]
abbrev dktX1_silence_1 : List UInt8 := dkwX1_silence_1 ++ dktX1_silence_2
def dkwX1_silence_0 : List UInt8 := [42, 180, 0, 92, 16, 8, 182, 0, 100, 2, 159, 0, 15, 42, 43, 5, 182, 0, 105, 17, 39, 15]
abbrev dktX1_silence_0 : List UInt8 := dkwX1_silence_0 ++ dktX1_silence_1
theorem dksX1_silence_0 : cX1_silence.data.toList.drop 0 = dktX1_silence_0 := by decide +kernel
theorem dksX1_silence_1 : cX1_silence.data.toList.drop 22 = dktX1_silence_1 := dk_seg dksX1_silence_0 22 rfl rfl
theorem dksX1_silence_2 : cX1_silence.data.toList.drop 46 = dktX1_silence_2 := dk_seg dksX1_silence_1 24 rfl rfl
theorem dksX1_silence_3 : cX1_silence.data.toList.drop 69 = dktX1_silence_3 := dk_seg dksX1_silence_2 23 rfl rfl
theorem dksX1_silence_4 : cX1_silence.data.toList.drop 91 = dktX1_silence_4 := dk_seg dksX1_silence_3 22 rfl rfl
theorem dksX1_silence_5 : cX1_silence.data.toList.drop 114 = dktX1_silence_5 := dk_seg dksX1_silence_4 23 rfl rfl
theorem dX1_silence_0 : decode cX1_silence 0 = .ok (.aload_n 0, 1) := dk_42 (dk_at dksX1_silence_0 0 rfl rfl)
theorem dX1_silence_1 : decode cX1_silence 1 = .ok (.getfield 92, 3) := dk_180 0 92 (dk_at dksX1_silence_0 1 rfl rfl)
theorem dX1_silence_4 : decode cX1_silence 4 = .ok (.bipush 8, 2) := dk_16 8 (dk_at dksX1_silence_0 4 rfl rfl)
theorem dX1_silence_6 : decode cX1_silence 6 = .ok (.invokevirtual 100, 3) := dk_182 0 100 (dk_at dksX1_silence_0 6 rfl rfl)
theorem dX1_silence_9 : decode cX1_silence 9 = .ok (.iconst (-1), 1) := dk_2 (dk_at dksX1_silence_0 9 rfl rfl)
theorem dX1_silence_10 : decode cX1_silence 10 = .ok (.if_icmp .eq 15, 3) := dk_159 0 15 (dk_at dksX1_silence_0 10 rfl rfl)
theorem dX1_silence_13 : decode cX1_silence 13 = .ok (.aload_n 0, 1) := dk_42 (dk_at dksX1_silence_0 13 rfl rfl)
theorem dX1_silence_14 : decode cX1_silence 14 = .ok (.aload_n 1, 1) := dk_43 (dk_at dksX1_silence_0 14 rfl rfl)
theorem dX1_silence_15 : decode cX1_silence 15 = .ok (.iconst 2, 1) := dk_5 (dk_at dksX1_silence_0 15 rfl rfl)
theorem dX1_silence_16 : decode cX1_silence 16 = .ok (.invokevirtual 105, 3) := dk_182 0 105 (dk_at dksX1_silence_0 16 rfl rfl)
theorem dX1_silence_19 : decode cX1_silence 19 = .ok (.sipush 9999, 3) := dk_17 39 15 (dk_at dksX1_silence_0 19 rfl rfl)
theorem dX1_silence_22 : decode cX1_silence 22 = .ok (.if_icmp .ne 7, 3) := dk_160 0 7 (dk_at dksX1_silence_1 0 rfl rfl)
theorem dX1_silence_25 : decode cX1_silence 25 = .ok (.sipush 9999, 3) := dk_17 39 15 (dk_at dksX1_silence_1 3 rfl rfl)
theorem dX1_silence_28 : decode cX1_silence 28 = .ok (.ireturn, 1) := dk_172 (dk_at dksX1_silence_1 6 rfl rfl)
theorem dX1_silence_29 : decode cX1_silence 29 = .ok (.aload_n 0, 1) := dk_42 (dk_at dksX1_silence_1 7 rfl rfl)
theorem dX1_silence_30 : decode cX1_silence 30 = .ok (.aload_n 1, 1) := dk_43 (dk_at dksX1_silence_1 8 rfl rfl)
theorem dX1_silence_31 : decode cX1_silence 31 = .ok (.iconst 2, 1) := dk_5 (dk_at dksX1_silence_1 9 rfl rfl)
theorem dX1_silence_32 : decode cX1_silence 32 = .ok (.invokevirtual 105, 3) := dk_182 0 105 (dk_at dksX1_silence_1 10 rfl rfl)
theorem dX1_silence_35 : decode cX1_silence 35 = .ok (.aload_n 0, 1) := dk_42 (dk_at dksX1_silence_1 13 rfl rfl)
theorem dX1_silence_36 : decode cX1_silence 36 = .ok (.getfield 92, 3) := dk_180 0 92 (dk_at dksX1_silence_1 14 rfl rfl)
theorem dX1_silence_39 : decode cX1_silence 39 = .ok (.bipush 8, 2) := dk_16 8 (dk_at dksX1_silence_1 17 rfl rfl)
theorem dX1_silence_41 : decode cX1_silence 41 = .ok (.invokevirtual 100, 3) := dk_182 0 100 (dk_at dksX1_silence_1 19 rfl rfl)
theorem dX1_silence_44 : decode cX1_silence 44 = .ok (.iadd, 1) := dk_96 (dk_at dksX1_silence_1 22 rfl rfl)
theorem dX1_silence_45 : decode cX1_silence 45 = .ok (.istore_n 2, 1) := dk_61 (dk_at dksX1_silence_1 23 rfl rfl)
theorem dX1_silence_46 : decode cX1_silence 46 = .ok (.aload_n 0, 1) := dk_42 (dk_at dksX1_silence_2 0 rfl rfl)
theorem dX1_silence_47 : decode cX1_silence 47 = .ok (.aload_n 1, 1) := dk_43 (dk_at dksX1_silence_2 1 rfl rfl)
theorem dX1_silence_48 : decode cX1_silence 48 = .ok (.iload_n 2, 1) := dk_28 (dk_at dksX1_silence_2 2 rfl rfl)
theorem dX1_silence_49 : decode cX1_silence 49 = .ok (.invokevirtual 137, 3) := dk_182 0 137 (dk_at dksX1_silence_2 3 rfl rfl)
theorem dX1_silence_52 : decode cX1_silence 52 = .ok (.ifCond .ne 7, 3) := dk_154 0 7 (dk_at dksX1_silence_2 6 rfl rfl)
theorem dX1_silence_55 : decode cX1_silence 55 = .ok (.sipush 9999, 3) := dk_17 39 15 (dk_at dksX1_silence_2 9 rfl rfl)
theorem dX1_silence_58 : decode cX1_silence 58 = .ok (.ireturn, 1) := dk_172 (dk_at dksX1_silence_2 12 rfl rfl)
theorem dX1_silence_59 : decode cX1_silence 59 = .ok (.iconst 0, 1) := dk_3 (dk_at dksX1_silence_2 13 rfl rfl)
theorem dX1_silence_60 : decode cX1_silence 60 = .ok (.istore_n 3, 1) := dk_62 (dk_at dksX1_silence_2 14 rfl rfl)
theorem dX1_silence_61 : decode cX1_silence 61 = .ok (.iload_n 3, 1) := dk_29 (dk_at dksX1_silence_2 15 rfl rfl)
theorem dX1_silence_62 : decode cX1_silence 62 = .ok (.aload_n 0, 1) := dk_42 (dk_at dksX1_silence_2 16 rfl rfl)
theorem dX1_silence_63 : decode cX1_silence 63 = .ok (.getfield 31, 3) := dk_180 0 31 (dk_at dksX1_silence_2 17 rfl rfl)
theorem dX1_silence_66 : decode cX1_silence 66 = .ok (.getfield 51, 3) := dk_180 0 51 (dk_at dksX1_silence_2 20 rfl rfl)
theorem dX1_silence_69 : decode cX1_silence 69 = .ok (.if_icmp .ge 62, 3) := dk_162 0 62 (dk_at dksX1_silence_3 0 rfl rfl)
theorem dX1_silence_72 : decode cX1_silence 72 = .ok (.aload_n 0, 1) := dk_42 (dk_at dksX1_silence_3 3 rfl rfl)
theorem dX1_silence_73 : decode cX1_silence 73 = .ok (.getfield 31, 3) := dk_180 0 31 (dk_at dksX1_silence_3 4 rfl rfl)
theorem dX1_silence_76 : decode cX1_silence 76 = .ok (.getfield 54, 3) := dk_180 0 54 (dk_at dksX1_silence_3 7 rfl rfl)
theorem dX1_silence_79 : decode cX1_silence 79 = .ok (.iload_n 3, 1) := dk_29 (dk_at dksX1_silence_3 10 rfl rfl)
theorem dX1_silence_80 : decode cX1_silence 80 = .ok (.aaload, 1) := dk_50 (dk_at dksX1_silence_3 11 rfl rfl)
theorem dX1_silence_81 : decode cX1_silence 81 = .ok (.invokevirtual 141, 3) := dk_182 0 141 (dk_at dksX1_silence_3 12 rfl rfl)
theorem dX1_silence_84 : decode cX1_silence 84 = .ok (.ifCond .eq 41, 3) := dk_153 0 41 (dk_at dksX1_silence_3 15 rfl rfl)
theorem dX1_silence_87 : decode cX1_silence 87 = .ok (.aload_n 0, 1) := dk_42 (dk_at dksX1_silence_3 18 rfl rfl)
theorem dX1_silence_88 : decode cX1_silence 88 = .ok (.getfield 31, 3) := dk_180 0 31 (dk_at dksX1_silence_3 19 rfl rfl)
theorem dX1_silence_91 : decode cX1_silence 91 = .ok (.getfield 54, 3) := dk_180 0 54 (dk_at dksX1_silence_4 0 rfl rfl)
theorem dX1_silence_94 : decode cX1_silence 94 = .ok (.iload_n 3, 1) := dk_29 (dk_at dksX1_silence_4 3 rfl rfl)
theorem dX1_silence_95 : decode cX1_silence 95 = .ok (.aaload, 1) := dk_50 (dk_at dksX1_silence_4 4 rfl rfl)
theorem dX1_silence_96 : decode cX1_silence 96 = .ok (.aload_n 1, 1) := dk_43 (dk_at dksX1_silence_4 5 rfl rfl)
theorem dX1_silence_97 : decode cX1_silence 97 = .ok (.invokevirtual 112, 3) := dk_182 0 112 (dk_at dksX1_silence_4 6 rfl rfl)
theorem dX1_silence_100 : decode cX1_silence 100 = .ok (.ifCond .eq 25, 3) := dk_153 0 25 (dk_at dksX1_silence_4 9 rfl rfl)
theorem dX1_silence_103 : decode cX1_silence 103 = .ok (.aload_n 0, 1) := dk_42 (dk_at dksX1_silence_4 12 rfl rfl)
theorem dX1_silence_104 : decode cX1_silence 104 = .ok (.aload_n 0, 1) := dk_42 (dk_at dksX1_silence_4 13 rfl rfl)
theorem dX1_silence_105 : decode cX1_silence 105 = .ok (.getfield 31, 3) := dk_180 0 31 (dk_at dksX1_silence_4 14 rfl rfl)
theorem dX1_silence_108 : decode cX1_silence 108 = .ok (.getfield 54, 3) := dk_180 0 54 (dk_at dksX1_silence_4 17 rfl rfl)
theorem dX1_silence_111 : decode cX1_silence 111 = .ok (.iload_n 3, 1) := dk_29 (dk_at dksX1_silence_4 20 rfl rfl)
theorem dX1_silence_112 : decode cX1_silence 112 = .ok (.aaload, 1) := dk_50 (dk_at dksX1_silence_4 21 rfl rfl)
theorem dX1_silence_113 : decode cX1_silence 113 = .ok (.iconst 0, 1) := dk_3 (dk_at dksX1_silence_4 22 rfl rfl)
theorem dX1_silence_114 : decode cX1_silence 114 = .ok (.invokevirtual 105, 3) := dk_182 0 105 (dk_at dksX1_silence_5 0 rfl rfl)
theorem dX1_silence_117 : decode cX1_silence 117 = .ok (.iload_n 2, 1) := dk_28 (dk_at dksX1_silence_5 3 rfl rfl)
theorem dX1_silence_118 : decode cX1_silence 118 = .ok (.if_icmp .gt 7, 3) := dk_163 0 7 (dk_at dksX1_silence_5 4 rfl rfl)
theorem dX1_silence_121 : decode cX1_silence 121 = .ok (.sipush 9999, 3) := dk_17 39 15 (dk_at dksX1_silence_5 7 rfl rfl)
theorem dX1_silence_124 : decode cX1_silence 124 = .ok (.ireturn, 1) := dk_172 (dk_at dksX1_silence_5 10 rfl rfl)
theorem dX1_silence_125 : decode cX1_silence 125 = .ok (.iinc 3 1, 3) := dk_132 3 1 (dk_at dksX1_silence_5 11 rfl rfl)
theorem dX1_silence_128 : decode cX1_silence 128 = .ok (.goto (-67), 3) := dk_167 255 189 (dk_at dksX1_silence_5 14 rfl rfl)
theorem dX1_silence_131 : decode cX1_silence 131 = .ok (.iload_n 2, 1) := dk_28 (dk_at dksX1_silence_5 17 rfl rfl)
theorem dX1_silence_132 : decode cX1_silence 132 = .ok (.ireturn, 1) := dk_172 (dk_at dksX1_silence_5 18 rfl rfl)
abbrev cX1_term : ByteArray := prog_15_method_12_code
def yX1_term : MethodName := ⟨RX1, "term", "(I)I"⟩
def dkwX1_term_3 : List UInt8 := [167, 0, 4, 2, 172]
abbrev dktX1_term_3 : List UInt8 := dkwX1_term_3 ++ []
def dkwX1_term_2 : List UInt8 := [180, 0, 151, 27, 182, 0, 178, 172, 42, 180, 0, 92, 16, 10, 182, 0, 100, 4, 160, 0, 7, 28]
abbrev dktX1_term_2 : List UInt8 := dkwX1_term_2 ++ dktX1_term_3
def dkwX1_term_1 : List UInt8 := [27, 182, 0, 176, 61, 28, 2, 159, 0, 15, 42, 180, 0, 92, 16, 10, 182, 0, 100, 154, 0, 12, 42]
abbrev dktX1_term_1 : List UInt8 := dkwX1_term_1 ++ dktX1_term_2
def dkwX1_term_0 : List UInt8 := [42, 180, 0, 148, 2, 160, 0, 7, 2, 167, 0, 19, 42, 180, 0, 31, 180, 0, 54, 42, 180, 0, 148, 50]
abbrev dktX1_term_0 : List UInt8 := dkwX1_term_0 ++ dktX1_term_1
theorem dksX1_term_0 : cX1_term.data.toList.drop 0 = dktX1_term_0 := by decide +kernel
theorem dksX1_term_1 : cX1_term.data.toList.drop 24 = dktX1_term_1 := dk_seg dksX1_term_0 24 rfl rfl
theorem dksX1_term_2 : cX1_term.data.toList.drop 47 = dktX1_term_2 := dk_seg dksX1_term_1 23 rfl rfl
theorem dksX1_term_3 : cX1_term.data.toList.drop 69 = dktX1_term_3 := dk_seg dksX1_term_2 22 rfl rfl
theorem dX1_term_0 : decode cX1_term 0 = .ok (.aload_n 0, 1) := dk_42 (dk_at dksX1_term_0 0 rfl rfl)
theorem dX1_term_1 : decode cX1_term 1 = .ok (.getfield 148, 3) := dk_180 0 148 (dk_at dksX1_term_0 1 rfl rfl)
theorem dX1_term_4 : decode cX1_term 4 = .ok (.iconst (-1), 1) := dk_2 (dk_at dksX1_term_0 4 rfl rfl)
theorem dX1_term_5 : decode cX1_term 5 = .ok (.if_icmp .ne 7, 3) := dk_160 0 7 (dk_at dksX1_term_0 5 rfl rfl)
theorem dX1_term_8 : decode cX1_term 8 = .ok (.iconst (-1), 1) := dk_2 (dk_at dksX1_term_0 8 rfl rfl)
theorem dX1_term_9 : decode cX1_term 9 = .ok (.goto 19, 3) := dk_167 0 19 (dk_at dksX1_term_0 9 rfl rfl)
theorem dX1_term_12 : decode cX1_term 12 = .ok (.aload_n 0, 1) := dk_42 (dk_at dksX1_term_0 12 rfl rfl)
theorem dX1_term_13 : decode cX1_term 13 = .ok (.getfield 31, 3) := dk_180 0 31 (dk_at dksX1_term_0 13 rfl rfl)
theorem dX1_term_16 : decode cX1_term 16 = .ok (.getfield 54, 3) := dk_180 0 54 (dk_at dksX1_term_0 16 rfl rfl)
theorem dX1_term_19 : decode cX1_term 19 = .ok (.aload_n 0, 1) := dk_42 (dk_at dksX1_term_0 19 rfl rfl)
theorem dX1_term_20 : decode cX1_term 20 = .ok (.getfield 148, 3) := dk_180 0 148 (dk_at dksX1_term_0 20 rfl rfl)
theorem dX1_term_23 : decode cX1_term 23 = .ok (.aaload, 1) := dk_50 (dk_at dksX1_term_0 23 rfl rfl)
theorem dX1_term_24 : decode cX1_term 24 = .ok (.iload_n 1, 1) := dk_27 (dk_at dksX1_term_1 0 rfl rfl)
theorem dX1_term_25 : decode cX1_term 25 = .ok (.invokevirtual 176, 3) := dk_182 0 176 (dk_at dksX1_term_1 1 rfl rfl)
theorem dX1_term_28 : decode cX1_term 28 = .ok (.istore_n 2, 1) := dk_61 (dk_at dksX1_term_1 4 rfl rfl)
theorem dX1_term_29 : decode cX1_term 29 = .ok (.iload_n 2, 1) := dk_28 (dk_at dksX1_term_1 5 rfl rfl)
theorem dX1_term_30 : decode cX1_term 30 = .ok (.iconst (-1), 1) := dk_2 (dk_at dksX1_term_1 6 rfl rfl)
theorem dX1_term_31 : decode cX1_term 31 = .ok (.if_icmp .eq 15, 3) := dk_159 0 15 (dk_at dksX1_term_1 7 rfl rfl)
theorem dX1_term_34 : decode cX1_term 34 = .ok (.aload_n 0, 1) := dk_42 (dk_at dksX1_term_1 10 rfl rfl)
theorem dX1_term_35 : decode cX1_term 35 = .ok (.getfield 92, 3) := dk_180 0 92 (dk_at dksX1_term_1 11 rfl rfl)
theorem dX1_term_38 : decode cX1_term 38 = .ok (.bipush 10, 2) := dk_16 10 (dk_at dksX1_term_1 14 rfl rfl)
theorem dX1_term_40 : decode cX1_term 40 = .ok (.invokevirtual 100, 3) := dk_182 0 100 (dk_at dksX1_term_1 16 rfl rfl)
theorem dX1_term_43 : decode cX1_term 43 = .ok (.ifCond .ne 12, 3) := dk_154 0 12 (dk_at dksX1_term_1 19 rfl rfl)
theorem dX1_term_46 : decode cX1_term 46 = .ok (.aload_n 0, 1) := dk_42 (dk_at dksX1_term_1 22 rfl rfl)
theorem dX1_term_47 : decode cX1_term 47 = .ok (.getfield 151, 3) := dk_180 0 151 (dk_at dksX1_term_2 0 rfl rfl)
theorem dX1_term_50 : decode cX1_term 50 = .ok (.iload_n 1, 1) := dk_27 (dk_at dksX1_term_2 3 rfl rfl)
theorem dX1_term_51 : decode cX1_term 51 = .ok (.invokevirtual 178, 3) := dk_182 0 178 (dk_at dksX1_term_2 4 rfl rfl)
theorem dX1_term_54 : decode cX1_term 54 = .ok (.ireturn, 1) := dk_172 (dk_at dksX1_term_2 7 rfl rfl)
theorem dX1_term_55 : decode cX1_term 55 = .ok (.aload_n 0, 1) := dk_42 (dk_at dksX1_term_2 8 rfl rfl)
theorem dX1_term_56 : decode cX1_term 56 = .ok (.getfield 92, 3) := dk_180 0 92 (dk_at dksX1_term_2 9 rfl rfl)
theorem dX1_term_59 : decode cX1_term 59 = .ok (.bipush 10, 2) := dk_16 10 (dk_at dksX1_term_2 12 rfl rfl)
theorem dX1_term_61 : decode cX1_term 61 = .ok (.invokevirtual 100, 3) := dk_182 0 100 (dk_at dksX1_term_2 14 rfl rfl)
theorem dX1_term_64 : decode cX1_term 64 = .ok (.iconst 1, 1) := dk_4 (dk_at dksX1_term_2 17 rfl rfl)
theorem dX1_term_65 : decode cX1_term 65 = .ok (.if_icmp .ne 7, 3) := dk_160 0 7 (dk_at dksX1_term_2 18 rfl rfl)
theorem dX1_term_68 : decode cX1_term 68 = .ok (.iload_n 2, 1) := dk_28 (dk_at dksX1_term_2 21 rfl rfl)
theorem dX1_term_69 : decode cX1_term 69 = .ok (.goto 4, 3) := dk_167 0 4 (dk_at dksX1_term_3 0 rfl rfl)
theorem dX1_term_72 : decode cX1_term 72 = .ok (.iconst (-1), 1) := dk_2 (dk_at dksX1_term_3 3 rfl rfl)
theorem dX1_term_73 : decode cX1_term 73 = .ok (.ireturn, 1) := dk_172 (dk_at dksX1_term_3 4 rfl rfl)
abbrev cX1_does : ByteArray := prog_15_method_16_code
def yX1_does : MethodName := ⟨RX1, "does", "(LCrossingWords$Saying;)I"⟩
def dkwX1_does_6 : List UInt8 := [21, 4, 162, 0, 8, 28, 16, 8, 128, 61, 28, 172]
abbrev dktX1_does_6 : List UInt8 := dkwX1_does_6 ++ []
def dkwX1_does_5 : List UInt8 := [160, 0, 34, 21, 4, 17, 39, 15, 159, 0, 26, 42, 43, 42, 180, 0, 92, 7, 182, 0, 100, 182, 0, 105]
abbrev dktX1_does_5 : List UInt8 := dkwX1_does_5 ++ dktX1_does_6
def dkwX1_does_4 : List UInt8 := [180, 0, 92, 45, 182, 0, 130, 182, 0, 105, 167, 0, 6, 17, 39, 15, 54, 4, 43, 182, 0, 109, 8]
abbrev dktX1_does_4 : List UInt8 := dkwX1_does_4 ++ dktX1_does_5
def dkwX1_does_3 : List UInt8 := [180, 0, 85, 160, 0, 7, 28, 7, 128, 61, 45, 42, 180, 0, 92, 182, 0, 163, 153, 0, 19, 42, 45, 42]
abbrev dktX1_does_3 : List UInt8 := dkwX1_does_3 ++ dktX1_does_4
def dkwX1_does_2 : List UInt8 := [182, 0, 198, 153, 0, 7, 28, 5, 128, 61, 42, 182, 0, 202, 153, 0, 18, 42, 180, 0, 148, 43]
abbrev dktX1_does_2 : List UInt8 := dkwX1_does_2 ++ dktX1_does_3
def dkwX1_does_1 : List UInt8 := [159, 0, 7, 4, 167, 0, 4, 3, 61, 43, 182, 0, 126, 78, 45, 199, 0, 5, 28, 172, 42, 43, 45]
abbrev dktX1_does_1 : List UInt8 := dkwX1_does_1 ++ dktX1_does_2
def dkwX1_does_0 : List UInt8 := [43, 42, 180, 0, 92, 182, 0, 134, 153, 0, 22, 42, 180, 0, 19, 43, 180, 0, 85, 46, 17, 39, 15]
abbrev dktX1_does_0 : List UInt8 := dkwX1_does_0 ++ dktX1_does_1
theorem dksX1_does_0 : cX1_does.data.toList.drop 0 = dktX1_does_0 := by decide +kernel
theorem dksX1_does_1 : cX1_does.data.toList.drop 23 = dktX1_does_1 := dk_seg dksX1_does_0 23 rfl rfl
theorem dksX1_does_2 : cX1_does.data.toList.drop 46 = dktX1_does_2 := dk_seg dksX1_does_1 23 rfl rfl
theorem dksX1_does_3 : cX1_does.data.toList.drop 68 = dktX1_does_3 := dk_seg dksX1_does_2 22 rfl rfl
theorem dksX1_does_4 : cX1_does.data.toList.drop 92 = dktX1_does_4 := dk_seg dksX1_does_3 24 rfl rfl
theorem dksX1_does_5 : cX1_does.data.toList.drop 115 = dktX1_does_5 := dk_seg dksX1_does_4 23 rfl rfl
theorem dksX1_does_6 : cX1_does.data.toList.drop 139 = dktX1_does_6 := dk_seg dksX1_does_5 24 rfl rfl
theorem dX1_does_0 : decode cX1_does 0 = .ok (.aload_n 1, 1) := dk_43 (dk_at dksX1_does_0 0 rfl rfl)
theorem dX1_does_1 : decode cX1_does 1 = .ok (.aload_n 0, 1) := dk_42 (dk_at dksX1_does_0 1 rfl rfl)
theorem dX1_does_2 : decode cX1_does 2 = .ok (.getfield 92, 3) := dk_180 0 92 (dk_at dksX1_does_0 2 rfl rfl)
theorem dX1_does_5 : decode cX1_does 5 = .ok (.invokevirtual 134, 3) := dk_182 0 134 (dk_at dksX1_does_0 5 rfl rfl)
theorem dX1_does_8 : decode cX1_does 8 = .ok (.ifCond .eq 22, 3) := dk_153 0 22 (dk_at dksX1_does_0 8 rfl rfl)
theorem dX1_does_11 : decode cX1_does 11 = .ok (.aload_n 0, 1) := dk_42 (dk_at dksX1_does_0 11 rfl rfl)
theorem dX1_does_12 : decode cX1_does 12 = .ok (.getfield 19, 3) := dk_180 0 19 (dk_at dksX1_does_0 12 rfl rfl)
theorem dX1_does_15 : decode cX1_does 15 = .ok (.aload_n 1, 1) := dk_43 (dk_at dksX1_does_0 15 rfl rfl)
theorem dX1_does_16 : decode cX1_does 16 = .ok (.getfield 85, 3) := dk_180 0 85 (dk_at dksX1_does_0 16 rfl rfl)
theorem dX1_does_19 : decode cX1_does 19 = .ok (.iaload, 1) := dk_46 (dk_at dksX1_does_0 19 rfl rfl)
theorem dX1_does_20 : decode cX1_does 20 = .ok (.sipush 9999, 3) := dk_17 39 15 (dk_at dksX1_does_0 20 rfl rfl)
theorem dX1_does_23 : decode cX1_does 23 = .ok (.if_icmp .eq 7, 3) := dk_159 0 7 (dk_at dksX1_does_1 0 rfl rfl)
theorem dX1_does_26 : decode cX1_does 26 = .ok (.iconst 1, 1) := dk_4 (dk_at dksX1_does_1 3 rfl rfl)
theorem dX1_does_27 : decode cX1_does 27 = .ok (.goto 4, 3) := dk_167 0 4 (dk_at dksX1_does_1 4 rfl rfl)
theorem dX1_does_30 : decode cX1_does 30 = .ok (.iconst 0, 1) := dk_3 (dk_at dksX1_does_1 7 rfl rfl)
theorem dX1_does_31 : decode cX1_does 31 = .ok (.istore_n 2, 1) := dk_61 (dk_at dksX1_does_1 8 rfl rfl)
theorem dX1_does_32 : decode cX1_does 32 = .ok (.aload_n 1, 1) := dk_43 (dk_at dksX1_does_1 9 rfl rfl)
theorem dX1_does_33 : decode cX1_does 33 = .ok (.invokevirtual 126, 3) := dk_182 0 126 (dk_at dksX1_does_1 10 rfl rfl)
theorem dX1_does_36 : decode cX1_does 36 = .ok (.astore_n 3, 1) := dk_78 (dk_at dksX1_does_1 13 rfl rfl)
theorem dX1_does_37 : decode cX1_does 37 = .ok (.aload_n 3, 1) := dk_45 (dk_at dksX1_does_1 14 rfl rfl)
theorem dX1_does_38 : decode cX1_does 38 = .ok (.ifnonnull 5, 3) := dk_199 0 5 (dk_at dksX1_does_1 15 rfl rfl)
theorem dX1_does_41 : decode cX1_does 41 = .ok (.iload_n 2, 1) := dk_28 (dk_at dksX1_does_1 18 rfl rfl)
theorem dX1_does_42 : decode cX1_does 42 = .ok (.ireturn, 1) := dk_172 (dk_at dksX1_does_1 19 rfl rfl)
theorem dX1_does_43 : decode cX1_does 43 = .ok (.aload_n 0, 1) := dk_42 (dk_at dksX1_does_1 20 rfl rfl)
theorem dX1_does_44 : decode cX1_does 44 = .ok (.aload_n 1, 1) := dk_43 (dk_at dksX1_does_1 21 rfl rfl)
theorem dX1_does_45 : decode cX1_does 45 = .ok (.aload_n 3, 1) := dk_45 (dk_at dksX1_does_1 22 rfl rfl)
theorem dX1_does_46 : decode cX1_does 46 = .ok (.invokevirtual 198, 3) := dk_182 0 198 (dk_at dksX1_does_2 0 rfl rfl)
theorem dX1_does_49 : decode cX1_does 49 = .ok (.ifCond .eq 7, 3) := dk_153 0 7 (dk_at dksX1_does_2 3 rfl rfl)
theorem dX1_does_52 : decode cX1_does 52 = .ok (.iload_n 2, 1) := dk_28 (dk_at dksX1_does_2 6 rfl rfl)
theorem dX1_does_53 : decode cX1_does 53 = .ok (.iconst 2, 1) := dk_5 (dk_at dksX1_does_2 7 rfl rfl)
theorem dX1_does_54 : decode cX1_does 54 = .ok (.ior, 1) := dk_128 (dk_at dksX1_does_2 8 rfl rfl)
theorem dX1_does_55 : decode cX1_does 55 = .ok (.istore_n 2, 1) := dk_61 (dk_at dksX1_does_2 9 rfl rfl)
theorem dX1_does_56 : decode cX1_does 56 = .ok (.aload_n 0, 1) := dk_42 (dk_at dksX1_does_2 10 rfl rfl)
theorem dX1_does_57 : decode cX1_does 57 = .ok (.invokevirtual 202, 3) := dk_182 0 202 (dk_at dksX1_does_2 11 rfl rfl)
theorem dX1_does_60 : decode cX1_does 60 = .ok (.ifCond .eq 18, 3) := dk_153 0 18 (dk_at dksX1_does_2 14 rfl rfl)
theorem dX1_does_63 : decode cX1_does 63 = .ok (.aload_n 0, 1) := dk_42 (dk_at dksX1_does_2 17 rfl rfl)
theorem dX1_does_64 : decode cX1_does 64 = .ok (.getfield 148, 3) := dk_180 0 148 (dk_at dksX1_does_2 18 rfl rfl)
theorem dX1_does_67 : decode cX1_does 67 = .ok (.aload_n 1, 1) := dk_43 (dk_at dksX1_does_2 21 rfl rfl)
theorem dX1_does_68 : decode cX1_does 68 = .ok (.getfield 85, 3) := dk_180 0 85 (dk_at dksX1_does_3 0 rfl rfl)
theorem dX1_does_71 : decode cX1_does 71 = .ok (.if_icmp .ne 7, 3) := dk_160 0 7 (dk_at dksX1_does_3 3 rfl rfl)
theorem dX1_does_74 : decode cX1_does 74 = .ok (.iload_n 2, 1) := dk_28 (dk_at dksX1_does_3 6 rfl rfl)
theorem dX1_does_75 : decode cX1_does 75 = .ok (.iconst 4, 1) := dk_7 (dk_at dksX1_does_3 7 rfl rfl)
theorem dX1_does_76 : decode cX1_does 76 = .ok (.ior, 1) := dk_128 (dk_at dksX1_does_3 8 rfl rfl)
theorem dX1_does_77 : decode cX1_does 77 = .ok (.istore_n 2, 1) := dk_61 (dk_at dksX1_does_3 9 rfl rfl)
theorem dX1_does_78 : decode cX1_does 78 = .ok (.aload_n 3, 1) := dk_45 (dk_at dksX1_does_3 10 rfl rfl)
theorem dX1_does_79 : decode cX1_does 79 = .ok (.aload_n 0, 1) := dk_42 (dk_at dksX1_does_3 11 rfl rfl)
theorem dX1_does_80 : decode cX1_does 80 = .ok (.getfield 92, 3) := dk_180 0 92 (dk_at dksX1_does_3 12 rfl rfl)
theorem dX1_does_83 : decode cX1_does 83 = .ok (.invokevirtual 163, 3) := dk_182 0 163 (dk_at dksX1_does_3 15 rfl rfl)
theorem dX1_does_86 : decode cX1_does 86 = .ok (.ifCond .eq 19, 3) := dk_153 0 19 (dk_at dksX1_does_3 18 rfl rfl)
theorem dX1_does_89 : decode cX1_does 89 = .ok (.aload_n 0, 1) := dk_42 (dk_at dksX1_does_3 21 rfl rfl)
theorem dX1_does_90 : decode cX1_does 90 = .ok (.aload_n 3, 1) := dk_45 (dk_at dksX1_does_3 22 rfl rfl)
theorem dX1_does_91 : decode cX1_does 91 = .ok (.aload_n 0, 1) := dk_42 (dk_at dksX1_does_3 23 rfl rfl)
theorem dX1_does_92 : decode cX1_does 92 = .ok (.getfield 92, 3) := dk_180 0 92 (dk_at dksX1_does_4 0 rfl rfl)
theorem dX1_does_95 : decode cX1_does 95 = .ok (.aload_n 3, 1) := dk_45 (dk_at dksX1_does_4 3 rfl rfl)
theorem dX1_does_96 : decode cX1_does 96 = .ok (.invokevirtual 130, 3) := dk_182 0 130 (dk_at dksX1_does_4 4 rfl rfl)
theorem dX1_does_99 : decode cX1_does 99 = .ok (.invokevirtual 105, 3) := dk_182 0 105 (dk_at dksX1_does_4 7 rfl rfl)
theorem dX1_does_102 : decode cX1_does 102 = .ok (.goto 6, 3) := dk_167 0 6 (dk_at dksX1_does_4 10 rfl rfl)
theorem dX1_does_105 : decode cX1_does 105 = .ok (.sipush 9999, 3) := dk_17 39 15 (dk_at dksX1_does_4 13 rfl rfl)
theorem dX1_does_108 : decode cX1_does 108 = .ok (.istore 4, 2) := dk_54 4 (dk_at dksX1_does_4 16 rfl rfl)
theorem dX1_does_110 : decode cX1_does 110 = .ok (.aload_n 1, 1) := dk_43 (dk_at dksX1_does_4 18 rfl rfl)
theorem dX1_does_111 : decode cX1_does 111 = .ok (.invokevirtual 109, 3) := dk_182 0 109 (dk_at dksX1_does_4 19 rfl rfl)
theorem dX1_does_114 : decode cX1_does 114 = .ok (.iconst 5, 1) := dk_8 (dk_at dksX1_does_4 22 rfl rfl)
theorem dX1_does_115 : decode cX1_does 115 = .ok (.if_icmp .ne 34, 3) := dk_160 0 34 (dk_at dksX1_does_5 0 rfl rfl)
theorem dX1_does_118 : decode cX1_does 118 = .ok (.iload 4, 2) := dk_21 4 (dk_at dksX1_does_5 3 rfl rfl)
theorem dX1_does_120 : decode cX1_does 120 = .ok (.sipush 9999, 3) := dk_17 39 15 (dk_at dksX1_does_5 5 rfl rfl)
theorem dX1_does_123 : decode cX1_does 123 = .ok (.if_icmp .eq 26, 3) := dk_159 0 26 (dk_at dksX1_does_5 8 rfl rfl)
theorem dX1_does_126 : decode cX1_does 126 = .ok (.aload_n 0, 1) := dk_42 (dk_at dksX1_does_5 11 rfl rfl)
theorem dX1_does_127 : decode cX1_does 127 = .ok (.aload_n 1, 1) := dk_43 (dk_at dksX1_does_5 12 rfl rfl)
theorem dX1_does_128 : decode cX1_does 128 = .ok (.aload_n 0, 1) := dk_42 (dk_at dksX1_does_5 13 rfl rfl)
theorem dX1_does_129 : decode cX1_does 129 = .ok (.getfield 92, 3) := dk_180 0 92 (dk_at dksX1_does_5 14 rfl rfl)
theorem dX1_does_132 : decode cX1_does 132 = .ok (.iconst 4, 1) := dk_7 (dk_at dksX1_does_5 17 rfl rfl)
theorem dX1_does_133 : decode cX1_does 133 = .ok (.invokevirtual 100, 3) := dk_182 0 100 (dk_at dksX1_does_5 18 rfl rfl)
theorem dX1_does_136 : decode cX1_does 136 = .ok (.invokevirtual 105, 3) := dk_182 0 105 (dk_at dksX1_does_5 21 rfl rfl)
theorem dX1_does_139 : decode cX1_does 139 = .ok (.iload 4, 2) := dk_21 4 (dk_at dksX1_does_6 0 rfl rfl)
theorem dX1_does_141 : decode cX1_does 141 = .ok (.if_icmp .ge 8, 3) := dk_162 0 8 (dk_at dksX1_does_6 2 rfl rfl)
theorem dX1_does_144 : decode cX1_does 144 = .ok (.iload_n 2, 1) := dk_28 (dk_at dksX1_does_6 5 rfl rfl)
theorem dX1_does_145 : decode cX1_does 145 = .ok (.bipush 8, 2) := dk_16 8 (dk_at dksX1_does_6 6 rfl rfl)
theorem dX1_does_147 : decode cX1_does 147 = .ok (.ior, 1) := dk_128 (dk_at dksX1_does_6 8 rfl rfl)
theorem dX1_does_148 : decode cX1_does 148 = .ok (.istore_n 2, 1) := dk_61 (dk_at dksX1_does_6 9 rfl rfl)
theorem dX1_does_149 : decode cX1_does 149 = .ok (.iload_n 2, 1) := dk_28 (dk_at dksX1_does_6 10 rfl rfl)
theorem dX1_does_150 : decode cX1_does 150 = .ok (.ireturn, 1) := dk_172 (dk_at dksX1_does_6 11 rfl rfl)
abbrev cX1_isEnd : ByteArray := prog_15_method_15_code
def yX1_isEnd : MethodName := ⟨RX1, "isEnd", "(LCrossingWords$Saying;LCrossingWords$Saying;)Z"⟩
def dkwX1_isEnd_8 : List UInt8 := [42, 180, 0, 22, 44, 180, 0, 85, 46, 160, 0, 5, 3, 172, 132, 5, 1, 167, 255, 164, 4, 172]
abbrev dktX1_isEnd_8 : List UInt8 := dkwX1_isEnd_8 ++ []
def dkwX1_isEnd_7 : List UInt8 := [54, 7, 21, 7, 153, 0, 34, 25, 6, 44, 182, 0, 112, 153, 0, 25, 42, 25, 6, 21, 4, 182, 0, 105]
abbrev dktX1_isEnd_7 : List UInt8 := dkwX1_isEnd_7 ++ dktX1_isEnd_8
def dkwX1_isEnd_6 : List UInt8 := [182, 0, 109, 8, 160, 0, 7, 4, 167, 0, 16, 3, 167, 0, 12, 25, 6, 42, 180, 0, 92, 182, 0, 122]
abbrev dktX1_isEnd_6 : List UInt8 := dkwX1_isEnd_6 ++ dktX1_isEnd_7
def dkwX1_isEnd_5 : List UInt8 := [180, 0, 85, 162, 0, 89, 42, 180, 0, 31, 180, 0, 54, 21, 5, 50, 58, 6, 29, 153, 0, 20, 25, 6]
abbrev dktX1_isEnd_5 : List UInt8 := dkwX1_isEnd_5 ++ dktX1_isEnd_6
def dkwX1_isEnd_4 : List UInt8 := [182, 0, 105, 42, 180, 0, 22, 44, 180, 0, 85, 46, 159, 0, 5, 3, 172, 3, 54, 5, 21, 5, 43]
abbrev dktX1_isEnd_4 : List UInt8 := dkwX1_isEnd_4 ++ dktX1_isEnd_5
def dkwX1_isEnd_3 : List UInt8 := [42, 180, 0, 92, 29, 153, 0, 7, 7, 167, 0, 4, 8, 182, 0, 100, 54, 4, 42, 43, 21, 4]
abbrev dktX1_isEnd_3 : List UInt8 := dkwX1_isEnd_3 ++ dktX1_isEnd_4
def dkwX1_isEnd_2 : List UInt8 := [167, 0, 4, 5, 160, 0, 18, 29, 154, 0, 16, 43, 42, 180, 0, 92, 182, 0, 122, 154, 0, 5, 3, 172]
abbrev dktX1_isEnd_2 : List UInt8 := dkwX1_isEnd_2 ++ dktX1_isEnd_3
def dkwX1_isEnd_1 : List UInt8 := [180, 0, 92, 182, 0, 134, 153, 0, 39, 42, 180, 0, 25, 44, 180, 0, 85, 46, 29, 153, 0, 7, 4]
abbrev dktX1_isEnd_1 : List UInt8 := dkwX1_isEnd_1 ++ dktX1_isEnd_2
def dkwX1_isEnd_0 : List UInt8 := [43, 182, 0, 109, 8, 160, 0, 7, 4, 167, 0, 4, 3, 62, 43, 44, 182, 0, 112, 153, 0, 50, 44, 42]
abbrev dktX1_isEnd_0 : List UInt8 := dkwX1_isEnd_0 ++ dktX1_isEnd_1
theorem dksX1_isEnd_0 : cX1_isEnd.data.toList.drop 0 = dktX1_isEnd_0 := by decide +kernel
theorem dksX1_isEnd_1 : cX1_isEnd.data.toList.drop 24 = dktX1_isEnd_1 := dk_seg dksX1_isEnd_0 24 rfl rfl
theorem dksX1_isEnd_2 : cX1_isEnd.data.toList.drop 47 = dktX1_isEnd_2 := dk_seg dksX1_isEnd_1 23 rfl rfl
theorem dksX1_isEnd_3 : cX1_isEnd.data.toList.drop 71 = dktX1_isEnd_3 := dk_seg dksX1_isEnd_2 24 rfl rfl
theorem dksX1_isEnd_4 : cX1_isEnd.data.toList.drop 93 = dktX1_isEnd_4 := dk_seg dksX1_isEnd_3 22 rfl rfl
theorem dksX1_isEnd_5 : cX1_isEnd.data.toList.drop 116 = dktX1_isEnd_5 := dk_seg dksX1_isEnd_4 23 rfl rfl
theorem dksX1_isEnd_6 : cX1_isEnd.data.toList.drop 140 = dktX1_isEnd_6 := dk_seg dksX1_isEnd_5 24 rfl rfl
theorem dksX1_isEnd_7 : cX1_isEnd.data.toList.drop 164 = dktX1_isEnd_7 := dk_seg dksX1_isEnd_6 24 rfl rfl
theorem dksX1_isEnd_8 : cX1_isEnd.data.toList.drop 188 = dktX1_isEnd_8 := dk_seg dksX1_isEnd_7 24 rfl rfl
theorem dX1_isEnd_0 : decode cX1_isEnd 0 = .ok (.aload_n 1, 1) := dk_43 (dk_at dksX1_isEnd_0 0 rfl rfl)
theorem dX1_isEnd_1 : decode cX1_isEnd 1 = .ok (.invokevirtual 109, 3) := dk_182 0 109 (dk_at dksX1_isEnd_0 1 rfl rfl)
theorem dX1_isEnd_4 : decode cX1_isEnd 4 = .ok (.iconst 5, 1) := dk_8 (dk_at dksX1_isEnd_0 4 rfl rfl)
theorem dX1_isEnd_5 : decode cX1_isEnd 5 = .ok (.if_icmp .ne 7, 3) := dk_160 0 7 (dk_at dksX1_isEnd_0 5 rfl rfl)
theorem dX1_isEnd_8 : decode cX1_isEnd 8 = .ok (.iconst 1, 1) := dk_4 (dk_at dksX1_isEnd_0 8 rfl rfl)
theorem dX1_isEnd_9 : decode cX1_isEnd 9 = .ok (.goto 4, 3) := dk_167 0 4 (dk_at dksX1_isEnd_0 9 rfl rfl)
theorem dX1_isEnd_12 : decode cX1_isEnd 12 = .ok (.iconst 0, 1) := dk_3 (dk_at dksX1_isEnd_0 12 rfl rfl)
theorem dX1_isEnd_13 : decode cX1_isEnd 13 = .ok (.istore_n 3, 1) := dk_62 (dk_at dksX1_isEnd_0 13 rfl rfl)
theorem dX1_isEnd_14 : decode cX1_isEnd 14 = .ok (.aload_n 1, 1) := dk_43 (dk_at dksX1_isEnd_0 14 rfl rfl)
theorem dX1_isEnd_15 : decode cX1_isEnd 15 = .ok (.aload_n 2, 1) := dk_44 (dk_at dksX1_isEnd_0 15 rfl rfl)
theorem dX1_isEnd_16 : decode cX1_isEnd 16 = .ok (.invokevirtual 112, 3) := dk_182 0 112 (dk_at dksX1_isEnd_0 16 rfl rfl)
theorem dX1_isEnd_19 : decode cX1_isEnd 19 = .ok (.ifCond .eq 50, 3) := dk_153 0 50 (dk_at dksX1_isEnd_0 19 rfl rfl)
theorem dX1_isEnd_22 : decode cX1_isEnd 22 = .ok (.aload_n 2, 1) := dk_44 (dk_at dksX1_isEnd_0 22 rfl rfl)
theorem dX1_isEnd_23 : decode cX1_isEnd 23 = .ok (.aload_n 0, 1) := dk_42 (dk_at dksX1_isEnd_0 23 rfl rfl)
theorem dX1_isEnd_24 : decode cX1_isEnd 24 = .ok (.getfield 92, 3) := dk_180 0 92 (dk_at dksX1_isEnd_1 0 rfl rfl)
theorem dX1_isEnd_27 : decode cX1_isEnd 27 = .ok (.invokevirtual 134, 3) := dk_182 0 134 (dk_at dksX1_isEnd_1 3 rfl rfl)
theorem dX1_isEnd_30 : decode cX1_isEnd 30 = .ok (.ifCond .eq 39, 3) := dk_153 0 39 (dk_at dksX1_isEnd_1 6 rfl rfl)
theorem dX1_isEnd_33 : decode cX1_isEnd 33 = .ok (.aload_n 0, 1) := dk_42 (dk_at dksX1_isEnd_1 9 rfl rfl)
theorem dX1_isEnd_34 : decode cX1_isEnd 34 = .ok (.getfield 25, 3) := dk_180 0 25 (dk_at dksX1_isEnd_1 10 rfl rfl)
theorem dX1_isEnd_37 : decode cX1_isEnd 37 = .ok (.aload_n 2, 1) := dk_44 (dk_at dksX1_isEnd_1 13 rfl rfl)
theorem dX1_isEnd_38 : decode cX1_isEnd 38 = .ok (.getfield 85, 3) := dk_180 0 85 (dk_at dksX1_isEnd_1 14 rfl rfl)
theorem dX1_isEnd_41 : decode cX1_isEnd 41 = .ok (.iaload, 1) := dk_46 (dk_at dksX1_isEnd_1 17 rfl rfl)
theorem dX1_isEnd_42 : decode cX1_isEnd 42 = .ok (.iload_n 3, 1) := dk_29 (dk_at dksX1_isEnd_1 18 rfl rfl)
theorem dX1_isEnd_43 : decode cX1_isEnd 43 = .ok (.ifCond .eq 7, 3) := dk_153 0 7 (dk_at dksX1_isEnd_1 19 rfl rfl)
theorem dX1_isEnd_46 : decode cX1_isEnd 46 = .ok (.iconst 1, 1) := dk_4 (dk_at dksX1_isEnd_1 22 rfl rfl)
theorem dX1_isEnd_47 : decode cX1_isEnd 47 = .ok (.goto 4, 3) := dk_167 0 4 (dk_at dksX1_isEnd_2 0 rfl rfl)
theorem dX1_isEnd_50 : decode cX1_isEnd 50 = .ok (.iconst 2, 1) := dk_5 (dk_at dksX1_isEnd_2 3 rfl rfl)
theorem dX1_isEnd_51 : decode cX1_isEnd 51 = .ok (.if_icmp .ne 18, 3) := dk_160 0 18 (dk_at dksX1_isEnd_2 4 rfl rfl)
theorem dX1_isEnd_54 : decode cX1_isEnd 54 = .ok (.iload_n 3, 1) := dk_29 (dk_at dksX1_isEnd_2 7 rfl rfl)
theorem dX1_isEnd_55 : decode cX1_isEnd 55 = .ok (.ifCond .ne 16, 3) := dk_154 0 16 (dk_at dksX1_isEnd_2 8 rfl rfl)
theorem dX1_isEnd_58 : decode cX1_isEnd 58 = .ok (.aload_n 1, 1) := dk_43 (dk_at dksX1_isEnd_2 11 rfl rfl)
theorem dX1_isEnd_59 : decode cX1_isEnd 59 = .ok (.aload_n 0, 1) := dk_42 (dk_at dksX1_isEnd_2 12 rfl rfl)
theorem dX1_isEnd_60 : decode cX1_isEnd 60 = .ok (.getfield 92, 3) := dk_180 0 92 (dk_at dksX1_isEnd_2 13 rfl rfl)
theorem dX1_isEnd_63 : decode cX1_isEnd 63 = .ok (.invokevirtual 122, 3) := dk_182 0 122 (dk_at dksX1_isEnd_2 16 rfl rfl)
theorem dX1_isEnd_66 : decode cX1_isEnd 66 = .ok (.ifCond .ne 5, 3) := dk_154 0 5 (dk_at dksX1_isEnd_2 19 rfl rfl)
theorem dX1_isEnd_69 : decode cX1_isEnd 69 = .ok (.iconst 0, 1) := dk_3 (dk_at dksX1_isEnd_2 22 rfl rfl)
theorem dX1_isEnd_70 : decode cX1_isEnd 70 = .ok (.ireturn, 1) := dk_172 (dk_at dksX1_isEnd_2 23 rfl rfl)
theorem dX1_isEnd_71 : decode cX1_isEnd 71 = .ok (.aload_n 0, 1) := dk_42 (dk_at dksX1_isEnd_3 0 rfl rfl)
theorem dX1_isEnd_72 : decode cX1_isEnd 72 = .ok (.getfield 92, 3) := dk_180 0 92 (dk_at dksX1_isEnd_3 1 rfl rfl)
theorem dX1_isEnd_75 : decode cX1_isEnd 75 = .ok (.iload_n 3, 1) := dk_29 (dk_at dksX1_isEnd_3 4 rfl rfl)
theorem dX1_isEnd_76 : decode cX1_isEnd 76 = .ok (.ifCond .eq 7, 3) := dk_153 0 7 (dk_at dksX1_isEnd_3 5 rfl rfl)
theorem dX1_isEnd_79 : decode cX1_isEnd 79 = .ok (.iconst 4, 1) := dk_7 (dk_at dksX1_isEnd_3 8 rfl rfl)
theorem dX1_isEnd_80 : decode cX1_isEnd 80 = .ok (.goto 4, 3) := dk_167 0 4 (dk_at dksX1_isEnd_3 9 rfl rfl)
theorem dX1_isEnd_83 : decode cX1_isEnd 83 = .ok (.iconst 5, 1) := dk_8 (dk_at dksX1_isEnd_3 12 rfl rfl)
theorem dX1_isEnd_84 : decode cX1_isEnd 84 = .ok (.invokevirtual 100, 3) := dk_182 0 100 (dk_at dksX1_isEnd_3 13 rfl rfl)
theorem dX1_isEnd_87 : decode cX1_isEnd 87 = .ok (.istore 4, 2) := dk_54 4 (dk_at dksX1_isEnd_3 16 rfl rfl)
theorem dX1_isEnd_89 : decode cX1_isEnd 89 = .ok (.aload_n 0, 1) := dk_42 (dk_at dksX1_isEnd_3 18 rfl rfl)
theorem dX1_isEnd_90 : decode cX1_isEnd 90 = .ok (.aload_n 1, 1) := dk_43 (dk_at dksX1_isEnd_3 19 rfl rfl)
theorem dX1_isEnd_91 : decode cX1_isEnd 91 = .ok (.iload 4, 2) := dk_21 4 (dk_at dksX1_isEnd_3 20 rfl rfl)
theorem dX1_isEnd_93 : decode cX1_isEnd 93 = .ok (.invokevirtual 105, 3) := dk_182 0 105 (dk_at dksX1_isEnd_4 0 rfl rfl)
theorem dX1_isEnd_96 : decode cX1_isEnd 96 = .ok (.aload_n 0, 1) := dk_42 (dk_at dksX1_isEnd_4 3 rfl rfl)
theorem dX1_isEnd_97 : decode cX1_isEnd 97 = .ok (.getfield 22, 3) := dk_180 0 22 (dk_at dksX1_isEnd_4 4 rfl rfl)
theorem dX1_isEnd_100 : decode cX1_isEnd 100 = .ok (.aload_n 2, 1) := dk_44 (dk_at dksX1_isEnd_4 7 rfl rfl)
theorem dX1_isEnd_101 : decode cX1_isEnd 101 = .ok (.getfield 85, 3) := dk_180 0 85 (dk_at dksX1_isEnd_4 8 rfl rfl)
theorem dX1_isEnd_104 : decode cX1_isEnd 104 = .ok (.iaload, 1) := dk_46 (dk_at dksX1_isEnd_4 11 rfl rfl)
theorem dX1_isEnd_105 : decode cX1_isEnd 105 = .ok (.if_icmp .eq 5, 3) := dk_159 0 5 (dk_at dksX1_isEnd_4 12 rfl rfl)
theorem dX1_isEnd_108 : decode cX1_isEnd 108 = .ok (.iconst 0, 1) := dk_3 (dk_at dksX1_isEnd_4 15 rfl rfl)
theorem dX1_isEnd_109 : decode cX1_isEnd 109 = .ok (.ireturn, 1) := dk_172 (dk_at dksX1_isEnd_4 16 rfl rfl)
theorem dX1_isEnd_110 : decode cX1_isEnd 110 = .ok (.iconst 0, 1) := dk_3 (dk_at dksX1_isEnd_4 17 rfl rfl)
theorem dX1_isEnd_111 : decode cX1_isEnd 111 = .ok (.istore 5, 2) := dk_54 5 (dk_at dksX1_isEnd_4 18 rfl rfl)
theorem dX1_isEnd_113 : decode cX1_isEnd 113 = .ok (.iload 5, 2) := dk_21 5 (dk_at dksX1_isEnd_4 20 rfl rfl)
theorem dX1_isEnd_115 : decode cX1_isEnd 115 = .ok (.aload_n 1, 1) := dk_43 (dk_at dksX1_isEnd_4 22 rfl rfl)
theorem dX1_isEnd_116 : decode cX1_isEnd 116 = .ok (.getfield 85, 3) := dk_180 0 85 (dk_at dksX1_isEnd_5 0 rfl rfl)
theorem dX1_isEnd_119 : decode cX1_isEnd 119 = .ok (.if_icmp .ge 89, 3) := dk_162 0 89 (dk_at dksX1_isEnd_5 3 rfl rfl)
theorem dX1_isEnd_122 : decode cX1_isEnd 122 = .ok (.aload_n 0, 1) := dk_42 (dk_at dksX1_isEnd_5 6 rfl rfl)
theorem dX1_isEnd_123 : decode cX1_isEnd 123 = .ok (.getfield 31, 3) := dk_180 0 31 (dk_at dksX1_isEnd_5 7 rfl rfl)
theorem dX1_isEnd_126 : decode cX1_isEnd 126 = .ok (.getfield 54, 3) := dk_180 0 54 (dk_at dksX1_isEnd_5 10 rfl rfl)
theorem dX1_isEnd_129 : decode cX1_isEnd 129 = .ok (.iload 5, 2) := dk_21 5 (dk_at dksX1_isEnd_5 13 rfl rfl)
theorem dX1_isEnd_131 : decode cX1_isEnd 131 = .ok (.aaload, 1) := dk_50 (dk_at dksX1_isEnd_5 15 rfl rfl)
theorem dX1_isEnd_132 : decode cX1_isEnd 132 = .ok (.astore 6, 2) := dk_58 6 (dk_at dksX1_isEnd_5 16 rfl rfl)
theorem dX1_isEnd_134 : decode cX1_isEnd 134 = .ok (.iload_n 3, 1) := dk_29 (dk_at dksX1_isEnd_5 18 rfl rfl)
theorem dX1_isEnd_135 : decode cX1_isEnd 135 = .ok (.ifCond .eq 20, 3) := dk_153 0 20 (dk_at dksX1_isEnd_5 19 rfl rfl)
theorem dX1_isEnd_138 : decode cX1_isEnd 138 = .ok (.aload 6, 2) := dk_25 6 (dk_at dksX1_isEnd_5 22 rfl rfl)
theorem dX1_isEnd_140 : decode cX1_isEnd 140 = .ok (.invokevirtual 109, 3) := dk_182 0 109 (dk_at dksX1_isEnd_6 0 rfl rfl)
theorem dX1_isEnd_143 : decode cX1_isEnd 143 = .ok (.iconst 5, 1) := dk_8 (dk_at dksX1_isEnd_6 3 rfl rfl)
theorem dX1_isEnd_144 : decode cX1_isEnd 144 = .ok (.if_icmp .ne 7, 3) := dk_160 0 7 (dk_at dksX1_isEnd_6 4 rfl rfl)
theorem dX1_isEnd_147 : decode cX1_isEnd 147 = .ok (.iconst 1, 1) := dk_4 (dk_at dksX1_isEnd_6 7 rfl rfl)
theorem dX1_isEnd_148 : decode cX1_isEnd 148 = .ok (.goto 16, 3) := dk_167 0 16 (dk_at dksX1_isEnd_6 8 rfl rfl)
theorem dX1_isEnd_151 : decode cX1_isEnd 151 = .ok (.iconst 0, 1) := dk_3 (dk_at dksX1_isEnd_6 11 rfl rfl)
theorem dX1_isEnd_152 : decode cX1_isEnd 152 = .ok (.goto 12, 3) := dk_167 0 12 (dk_at dksX1_isEnd_6 12 rfl rfl)
theorem dX1_isEnd_155 : decode cX1_isEnd 155 = .ok (.aload 6, 2) := dk_25 6 (dk_at dksX1_isEnd_6 15 rfl rfl)
theorem dX1_isEnd_157 : decode cX1_isEnd 157 = .ok (.aload_n 0, 1) := dk_42 (dk_at dksX1_isEnd_6 17 rfl rfl)
theorem dX1_isEnd_158 : decode cX1_isEnd 158 = .ok (.getfield 92, 3) := dk_180 0 92 (dk_at dksX1_isEnd_6 18 rfl rfl)
theorem dX1_isEnd_161 : decode cX1_isEnd 161 = .ok (.invokevirtual 122, 3) := dk_182 0 122 (dk_at dksX1_isEnd_6 21 rfl rfl)
theorem dX1_isEnd_164 : decode cX1_isEnd 164 = .ok (.istore 7, 2) := dk_54 7 (dk_at dksX1_isEnd_7 0 rfl rfl)
theorem dX1_isEnd_166 : decode cX1_isEnd 166 = .ok (.iload 7, 2) := dk_21 7 (dk_at dksX1_isEnd_7 2 rfl rfl)
theorem dX1_isEnd_168 : decode cX1_isEnd 168 = .ok (.ifCond .eq 34, 3) := dk_153 0 34 (dk_at dksX1_isEnd_7 4 rfl rfl)
theorem dX1_isEnd_171 : decode cX1_isEnd 171 = .ok (.aload 6, 2) := dk_25 6 (dk_at dksX1_isEnd_7 7 rfl rfl)
theorem dX1_isEnd_173 : decode cX1_isEnd 173 = .ok (.aload_n 2, 1) := dk_44 (dk_at dksX1_isEnd_7 9 rfl rfl)
theorem dX1_isEnd_174 : decode cX1_isEnd 174 = .ok (.invokevirtual 112, 3) := dk_182 0 112 (dk_at dksX1_isEnd_7 10 rfl rfl)
theorem dX1_isEnd_177 : decode cX1_isEnd 177 = .ok (.ifCond .eq 25, 3) := dk_153 0 25 (dk_at dksX1_isEnd_7 13 rfl rfl)
theorem dX1_isEnd_180 : decode cX1_isEnd 180 = .ok (.aload_n 0, 1) := dk_42 (dk_at dksX1_isEnd_7 16 rfl rfl)
theorem dX1_isEnd_181 : decode cX1_isEnd 181 = .ok (.aload 6, 2) := dk_25 6 (dk_at dksX1_isEnd_7 17 rfl rfl)
theorem dX1_isEnd_183 : decode cX1_isEnd 183 = .ok (.iload 4, 2) := dk_21 4 (dk_at dksX1_isEnd_7 19 rfl rfl)
theorem dX1_isEnd_185 : decode cX1_isEnd 185 = .ok (.invokevirtual 105, 3) := dk_182 0 105 (dk_at dksX1_isEnd_7 21 rfl rfl)
theorem dX1_isEnd_188 : decode cX1_isEnd 188 = .ok (.aload_n 0, 1) := dk_42 (dk_at dksX1_isEnd_8 0 rfl rfl)
theorem dX1_isEnd_189 : decode cX1_isEnd 189 = .ok (.getfield 22, 3) := dk_180 0 22 (dk_at dksX1_isEnd_8 1 rfl rfl)
theorem dX1_isEnd_192 : decode cX1_isEnd 192 = .ok (.aload_n 2, 1) := dk_44 (dk_at dksX1_isEnd_8 4 rfl rfl)
theorem dX1_isEnd_193 : decode cX1_isEnd 193 = .ok (.getfield 85, 3) := dk_180 0 85 (dk_at dksX1_isEnd_8 5 rfl rfl)
theorem dX1_isEnd_196 : decode cX1_isEnd 196 = .ok (.iaload, 1) := dk_46 (dk_at dksX1_isEnd_8 8 rfl rfl)
theorem dX1_isEnd_197 : decode cX1_isEnd 197 = .ok (.if_icmp .ne 5, 3) := dk_160 0 5 (dk_at dksX1_isEnd_8 9 rfl rfl)
theorem dX1_isEnd_200 : decode cX1_isEnd 200 = .ok (.iconst 0, 1) := dk_3 (dk_at dksX1_isEnd_8 12 rfl rfl)
theorem dX1_isEnd_201 : decode cX1_isEnd 201 = .ok (.ireturn, 1) := dk_172 (dk_at dksX1_isEnd_8 13 rfl rfl)
theorem dX1_isEnd_202 : decode cX1_isEnd 202 = .ok (.iinc 5 1, 3) := dk_132 5 1 (dk_at dksX1_isEnd_8 14 rfl rfl)
theorem dX1_isEnd_205 : decode cX1_isEnd 205 = .ok (.goto (-92), 3) := dk_167 255 164 (dk_at dksX1_isEnd_8 17 rfl rfl)
theorem dX1_isEnd_208 : decode cX1_isEnd 208 = .ok (.iconst 1, 1) := dk_4 (dk_at dksX1_isEnd_8 20 rfl rfl)
theorem dX1_isEnd_209 : decode cX1_isEnd 209 = .ok (.ireturn, 1) := dk_172 (dk_at dksX1_isEnd_8 21 rfl rfl)
abbrev cX1_can : ByteArray := prog_15_method_17_code
def yX1_can : MethodName := ⟨RX1, "can", "(II)I"⟩
def dkwX1_can_5 : List UInt8 := [25, 5, 4, 182, 0, 105, 28, 163, 0, 7, 29, 5, 128, 62, 132, 4, 1, 167, 255, 137, 29, 172]
abbrev dktX1_can_5 : List UInt8 := dkwX1_can_5 ++ []
def dkwX1_can_4 : List UInt8 := [28, 25, 5, 182, 0, 116, 164, 0, 7, 29, 4, 128, 62, 25, 5, 182, 0, 192, 27, 160, 0, 18, 42]
abbrev dktX1_can_4 : List UInt8 := dkwX1_can_4 ++ dktX1_can_5
def dkwX1_can_3 : List UInt8 := [160, 0, 37, 25, 5, 182, 0, 116, 2, 159, 0, 24, 42, 180, 0, 92, 16, 6, 182, 0, 100, 153, 0, 12]
abbrev dktX1_can_3 : List UInt8 := dkwX1_can_3 ++ dktX1_can_4
def dkwX1_can_2 : List UInt8 := [153, 0, 83, 42, 25, 5, 28, 182, 0, 137, 154, 0, 6, 167, 0, 70, 25, 5, 180, 0, 195, 27]
abbrev dktX1_can_2 : List UInt8 := dkwX1_can_2 ++ dktX1_can_3
def dkwX1_can_1 : List UInt8 := [162, 0, 113, 42, 180, 0, 31, 180, 0, 54, 21, 4, 50, 58, 5, 25, 5, 42, 180, 0, 92, 182, 0, 134]
abbrev dktX1_can_1 : List UInt8 := dkwX1_can_1 ++ dktX1_can_2
def dkwX1_can_0 : List UInt8 := [3, 62, 28, 42, 180, 0, 145, 161, 0, 5, 3, 172, 3, 54, 4, 21, 4, 42, 180, 0, 31, 180, 0, 51]
abbrev dktX1_can_0 : List UInt8 := dkwX1_can_0 ++ dktX1_can_1
theorem dksX1_can_0 : cX1_can.data.toList.drop 0 = dktX1_can_0 := by decide +kernel
theorem dksX1_can_1 : cX1_can.data.toList.drop 24 = dktX1_can_1 := dk_seg dksX1_can_0 24 rfl rfl
theorem dksX1_can_2 : cX1_can.data.toList.drop 48 = dktX1_can_2 := dk_seg dksX1_can_1 24 rfl rfl
theorem dksX1_can_3 : cX1_can.data.toList.drop 70 = dktX1_can_3 := dk_seg dksX1_can_2 22 rfl rfl
theorem dksX1_can_4 : cX1_can.data.toList.drop 94 = dktX1_can_4 := dk_seg dksX1_can_3 24 rfl rfl
theorem dksX1_can_5 : cX1_can.data.toList.drop 117 = dktX1_can_5 := dk_seg dksX1_can_4 23 rfl rfl
theorem dX1_can_0 : decode cX1_can 0 = .ok (.iconst 0, 1) := dk_3 (dk_at dksX1_can_0 0 rfl rfl)
theorem dX1_can_1 : decode cX1_can 1 = .ok (.istore_n 3, 1) := dk_62 (dk_at dksX1_can_0 1 rfl rfl)
theorem dX1_can_2 : decode cX1_can 2 = .ok (.iload_n 2, 1) := dk_28 (dk_at dksX1_can_0 2 rfl rfl)
theorem dX1_can_3 : decode cX1_can 3 = .ok (.aload_n 0, 1) := dk_42 (dk_at dksX1_can_0 3 rfl rfl)
theorem dX1_can_4 : decode cX1_can 4 = .ok (.getfield 145, 3) := dk_180 0 145 (dk_at dksX1_can_0 4 rfl rfl)
theorem dX1_can_7 : decode cX1_can 7 = .ok (.if_icmp .lt 5, 3) := dk_161 0 5 (dk_at dksX1_can_0 7 rfl rfl)
theorem dX1_can_10 : decode cX1_can 10 = .ok (.iconst 0, 1) := dk_3 (dk_at dksX1_can_0 10 rfl rfl)
theorem dX1_can_11 : decode cX1_can 11 = .ok (.ireturn, 1) := dk_172 (dk_at dksX1_can_0 11 rfl rfl)
theorem dX1_can_12 : decode cX1_can 12 = .ok (.iconst 0, 1) := dk_3 (dk_at dksX1_can_0 12 rfl rfl)
theorem dX1_can_13 : decode cX1_can 13 = .ok (.istore 4, 2) := dk_54 4 (dk_at dksX1_can_0 13 rfl rfl)
theorem dX1_can_15 : decode cX1_can 15 = .ok (.iload 4, 2) := dk_21 4 (dk_at dksX1_can_0 15 rfl rfl)
theorem dX1_can_17 : decode cX1_can 17 = .ok (.aload_n 0, 1) := dk_42 (dk_at dksX1_can_0 17 rfl rfl)
theorem dX1_can_18 : decode cX1_can 18 = .ok (.getfield 31, 3) := dk_180 0 31 (dk_at dksX1_can_0 18 rfl rfl)
theorem dX1_can_21 : decode cX1_can 21 = .ok (.getfield 51, 3) := dk_180 0 51 (dk_at dksX1_can_0 21 rfl rfl)
theorem dX1_can_24 : decode cX1_can 24 = .ok (.if_icmp .ge 113, 3) := dk_162 0 113 (dk_at dksX1_can_1 0 rfl rfl)
theorem dX1_can_27 : decode cX1_can 27 = .ok (.aload_n 0, 1) := dk_42 (dk_at dksX1_can_1 3 rfl rfl)
theorem dX1_can_28 : decode cX1_can 28 = .ok (.getfield 31, 3) := dk_180 0 31 (dk_at dksX1_can_1 4 rfl rfl)
theorem dX1_can_31 : decode cX1_can 31 = .ok (.getfield 54, 3) := dk_180 0 54 (dk_at dksX1_can_1 7 rfl rfl)
theorem dX1_can_34 : decode cX1_can 34 = .ok (.iload 4, 2) := dk_21 4 (dk_at dksX1_can_1 10 rfl rfl)
theorem dX1_can_36 : decode cX1_can 36 = .ok (.aaload, 1) := dk_50 (dk_at dksX1_can_1 12 rfl rfl)
theorem dX1_can_37 : decode cX1_can 37 = .ok (.astore 5, 2) := dk_58 5 (dk_at dksX1_can_1 13 rfl rfl)
theorem dX1_can_39 : decode cX1_can 39 = .ok (.aload 5, 2) := dk_25 5 (dk_at dksX1_can_1 15 rfl rfl)
theorem dX1_can_41 : decode cX1_can 41 = .ok (.aload_n 0, 1) := dk_42 (dk_at dksX1_can_1 17 rfl rfl)
theorem dX1_can_42 : decode cX1_can 42 = .ok (.getfield 92, 3) := dk_180 0 92 (dk_at dksX1_can_1 18 rfl rfl)
theorem dX1_can_45 : decode cX1_can 45 = .ok (.invokevirtual 134, 3) := dk_182 0 134 (dk_at dksX1_can_1 21 rfl rfl)
theorem dX1_can_48 : decode cX1_can 48 = .ok (.ifCond .eq 83, 3) := dk_153 0 83 (dk_at dksX1_can_2 0 rfl rfl)
theorem dX1_can_51 : decode cX1_can 51 = .ok (.aload_n 0, 1) := dk_42 (dk_at dksX1_can_2 3 rfl rfl)
theorem dX1_can_52 : decode cX1_can 52 = .ok (.aload 5, 2) := dk_25 5 (dk_at dksX1_can_2 4 rfl rfl)
theorem dX1_can_54 : decode cX1_can 54 = .ok (.iload_n 2, 1) := dk_28 (dk_at dksX1_can_2 6 rfl rfl)
theorem dX1_can_55 : decode cX1_can 55 = .ok (.invokevirtual 137, 3) := dk_182 0 137 (dk_at dksX1_can_2 7 rfl rfl)
theorem dX1_can_58 : decode cX1_can 58 = .ok (.ifCond .ne 6, 3) := dk_154 0 6 (dk_at dksX1_can_2 10 rfl rfl)
theorem dX1_can_61 : decode cX1_can 61 = .ok (.goto 70, 3) := dk_167 0 70 (dk_at dksX1_can_2 13 rfl rfl)
theorem dX1_can_64 : decode cX1_can 64 = .ok (.aload 5, 2) := dk_25 5 (dk_at dksX1_can_2 16 rfl rfl)
theorem dX1_can_66 : decode cX1_can 66 = .ok (.getfield 195, 3) := dk_180 0 195 (dk_at dksX1_can_2 18 rfl rfl)
theorem dX1_can_69 : decode cX1_can 69 = .ok (.iload_n 1, 1) := dk_27 (dk_at dksX1_can_2 21 rfl rfl)
theorem dX1_can_70 : decode cX1_can 70 = .ok (.if_icmp .ne 37, 3) := dk_160 0 37 (dk_at dksX1_can_3 0 rfl rfl)
theorem dX1_can_73 : decode cX1_can 73 = .ok (.aload 5, 2) := dk_25 5 (dk_at dksX1_can_3 3 rfl rfl)
theorem dX1_can_75 : decode cX1_can 75 = .ok (.invokevirtual 116, 3) := dk_182 0 116 (dk_at dksX1_can_3 5 rfl rfl)
theorem dX1_can_78 : decode cX1_can 78 = .ok (.iconst (-1), 1) := dk_2 (dk_at dksX1_can_3 8 rfl rfl)
theorem dX1_can_79 : decode cX1_can 79 = .ok (.if_icmp .eq 24, 3) := dk_159 0 24 (dk_at dksX1_can_3 9 rfl rfl)
theorem dX1_can_82 : decode cX1_can 82 = .ok (.aload_n 0, 1) := dk_42 (dk_at dksX1_can_3 12 rfl rfl)
theorem dX1_can_83 : decode cX1_can 83 = .ok (.getfield 92, 3) := dk_180 0 92 (dk_at dksX1_can_3 13 rfl rfl)
theorem dX1_can_86 : decode cX1_can 86 = .ok (.bipush 6, 2) := dk_16 6 (dk_at dksX1_can_3 16 rfl rfl)
theorem dX1_can_88 : decode cX1_can 88 = .ok (.invokevirtual 100, 3) := dk_182 0 100 (dk_at dksX1_can_3 18 rfl rfl)
theorem dX1_can_91 : decode cX1_can 91 = .ok (.ifCond .eq 12, 3) := dk_153 0 12 (dk_at dksX1_can_3 21 rfl rfl)
theorem dX1_can_94 : decode cX1_can 94 = .ok (.iload_n 2, 1) := dk_28 (dk_at dksX1_can_4 0 rfl rfl)
theorem dX1_can_95 : decode cX1_can 95 = .ok (.aload 5, 2) := dk_25 5 (dk_at dksX1_can_4 1 rfl rfl)
theorem dX1_can_97 : decode cX1_can 97 = .ok (.invokevirtual 116, 3) := dk_182 0 116 (dk_at dksX1_can_4 3 rfl rfl)
theorem dX1_can_100 : decode cX1_can 100 = .ok (.if_icmp .le 7, 3) := dk_164 0 7 (dk_at dksX1_can_4 6 rfl rfl)
theorem dX1_can_103 : decode cX1_can 103 = .ok (.iload_n 3, 1) := dk_29 (dk_at dksX1_can_4 9 rfl rfl)
theorem dX1_can_104 : decode cX1_can 104 = .ok (.iconst 1, 1) := dk_4 (dk_at dksX1_can_4 10 rfl rfl)
theorem dX1_can_105 : decode cX1_can 105 = .ok (.ior, 1) := dk_128 (dk_at dksX1_can_4 11 rfl rfl)
theorem dX1_can_106 : decode cX1_can 106 = .ok (.istore_n 3, 1) := dk_62 (dk_at dksX1_can_4 12 rfl rfl)
theorem dX1_can_107 : decode cX1_can 107 = .ok (.aload 5, 2) := dk_25 5 (dk_at dksX1_can_4 13 rfl rfl)
theorem dX1_can_109 : decode cX1_can 109 = .ok (.invokevirtual 192, 3) := dk_182 0 192 (dk_at dksX1_can_4 15 rfl rfl)
theorem dX1_can_112 : decode cX1_can 112 = .ok (.iload_n 1, 1) := dk_27 (dk_at dksX1_can_4 18 rfl rfl)
theorem dX1_can_113 : decode cX1_can 113 = .ok (.if_icmp .ne 18, 3) := dk_160 0 18 (dk_at dksX1_can_4 19 rfl rfl)
theorem dX1_can_116 : decode cX1_can 116 = .ok (.aload_n 0, 1) := dk_42 (dk_at dksX1_can_4 22 rfl rfl)
theorem dX1_can_117 : decode cX1_can 117 = .ok (.aload 5, 2) := dk_25 5 (dk_at dksX1_can_5 0 rfl rfl)
theorem dX1_can_119 : decode cX1_can 119 = .ok (.iconst 1, 1) := dk_4 (dk_at dksX1_can_5 2 rfl rfl)
theorem dX1_can_120 : decode cX1_can 120 = .ok (.invokevirtual 105, 3) := dk_182 0 105 (dk_at dksX1_can_5 3 rfl rfl)
theorem dX1_can_123 : decode cX1_can 123 = .ok (.iload_n 2, 1) := dk_28 (dk_at dksX1_can_5 6 rfl rfl)
theorem dX1_can_124 : decode cX1_can 124 = .ok (.if_icmp .gt 7, 3) := dk_163 0 7 (dk_at dksX1_can_5 7 rfl rfl)
theorem dX1_can_127 : decode cX1_can 127 = .ok (.iload_n 3, 1) := dk_29 (dk_at dksX1_can_5 10 rfl rfl)
theorem dX1_can_128 : decode cX1_can 128 = .ok (.iconst 2, 1) := dk_5 (dk_at dksX1_can_5 11 rfl rfl)
theorem dX1_can_129 : decode cX1_can 129 = .ok (.ior, 1) := dk_128 (dk_at dksX1_can_5 12 rfl rfl)
theorem dX1_can_130 : decode cX1_can 130 = .ok (.istore_n 3, 1) := dk_62 (dk_at dksX1_can_5 13 rfl rfl)
theorem dX1_can_131 : decode cX1_can 131 = .ok (.iinc 4 1, 3) := dk_132 4 1 (dk_at dksX1_can_5 14 rfl rfl)
theorem dX1_can_134 : decode cX1_can 134 = .ok (.goto (-119), 3) := dk_167 255 137 (dk_at dksX1_can_5 17 rfl rfl)
theorem dX1_can_137 : decode cX1_can 137 = .ok (.iload_n 3, 1) := dk_29 (dk_at dksX1_can_5 20 rfl rfl)
theorem dX1_can_138 : decode cX1_can 138 = .ok (.ireturn, 1) := dk_172 (dk_at dksX1_can_5 21 rfl rfl)
abbrev cX1_bears : ByteArray := prog_15_method_14_code
def yX1_bears : MethodName := ⟨RX1, "bears", "(I)I"⟩
def dkwX1_bears_1 : List UInt8 := [180, 0, 195, 172]
abbrev dktX1_bears_1 : List UInt8 := dkwX1_bears_1 ++ []
def dkwX1_bears_0 : List UInt8 := [27, 42, 182, 0, 189, 161, 0, 13, 42, 180, 0, 151, 182, 0, 192, 167, 0, 10, 42, 180, 0, 151]
abbrev dktX1_bears_0 : List UInt8 := dkwX1_bears_0 ++ dktX1_bears_1
theorem dksX1_bears_0 : cX1_bears.data.toList.drop 0 = dktX1_bears_0 := by decide +kernel
theorem dksX1_bears_1 : cX1_bears.data.toList.drop 22 = dktX1_bears_1 := dk_seg dksX1_bears_0 22 rfl rfl
theorem dX1_bears_0 : decode cX1_bears 0 = .ok (.iload_n 1, 1) := dk_27 (dk_at dksX1_bears_0 0 rfl rfl)
theorem dX1_bears_1 : decode cX1_bears 1 = .ok (.aload_n 0, 1) := dk_42 (dk_at dksX1_bears_0 1 rfl rfl)
theorem dX1_bears_2 : decode cX1_bears 2 = .ok (.invokevirtual 189, 3) := dk_182 0 189 (dk_at dksX1_bears_0 2 rfl rfl)
theorem dX1_bears_5 : decode cX1_bears 5 = .ok (.if_icmp .lt 13, 3) := dk_161 0 13 (dk_at dksX1_bears_0 5 rfl rfl)
theorem dX1_bears_8 : decode cX1_bears 8 = .ok (.aload_n 0, 1) := dk_42 (dk_at dksX1_bears_0 8 rfl rfl)
theorem dX1_bears_9 : decode cX1_bears 9 = .ok (.getfield 151, 3) := dk_180 0 151 (dk_at dksX1_bears_0 9 rfl rfl)
theorem dX1_bears_12 : decode cX1_bears 12 = .ok (.invokevirtual 192, 3) := dk_182 0 192 (dk_at dksX1_bears_0 12 rfl rfl)
theorem dX1_bears_15 : decode cX1_bears 15 = .ok (.goto 10, 3) := dk_167 0 10 (dk_at dksX1_bears_0 15 rfl rfl)
theorem dX1_bears_18 : decode cX1_bears 18 = .ok (.aload_n 0, 1) := dk_42 (dk_at dksX1_bears_0 18 rfl rfl)
theorem dX1_bears_19 : decode cX1_bears 19 = .ok (.getfield 151, 3) := dk_180 0 151 (dk_at dksX1_bears_0 19 rfl rfl)
theorem dX1_bears_22 : decode cX1_bears 22 = .ok (.getfield 195, 3) := dk_180 0 195 (dk_at dksX1_bears_1 0 rfl rfl)
theorem dX1_bears_25 : decode cX1_bears 25 = .ok (.ireturn, 1) := dk_172 (dk_at dksX1_bears_1 3 rfl rfl)
abbrev cX1_passesOn : ByteArray := prog_15_method_13_code
def yX1_passesOn : MethodName := ⟨RX1, "passesOn", "()I"⟩
def dkwX1_passesOn_5 : List UInt8 := [172]
abbrev dktX1_passesOn_5 : List UInt8 := dkwX1_passesOn_5 ++ []
def dkwX1_passesOn_4 : List UInt8 := [167, 255, 184, 27, 17, 39, 15, 160, 0, 9, 17, 39, 15, 167, 0, 11, 42, 180, 0, 145, 27, 184, 0, 186]
abbrev dktX1_passesOn_4 : List UInt8 := dkwX1_passesOn_4 ++ dktX1_passesOn_5
def dkwX1_passesOn_3 : List UInt8 := [16, 12, 182, 0, 100, 4, 160, 0, 7, 3, 167, 0, 4, 4, 182, 0, 105, 184, 0, 181, 60, 132, 2, 1]
abbrev dktX1_passesOn_3 : List UInt8 := dkwX1_passesOn_3 ++ dktX1_passesOn_4
def dkwX1_passesOn_2 : List UInt8 := [16, 7, 160, 0, 42, 45, 42, 180, 0, 151, 182, 0, 112, 153, 0, 31, 27, 42, 45, 42, 180, 0, 92]
abbrev dktX1_passesOn_2 : List UInt8 := dkwX1_passesOn_2 ++ dktX1_passesOn_3
def dkwX1_passesOn_1 : List UInt8 := [42, 180, 0, 31, 180, 0, 51, 162, 0, 67, 42, 180, 0, 31, 180, 0, 54, 28, 50, 78, 45, 182, 0, 109]
abbrev dktX1_passesOn_1 : List UInt8 := dkwX1_passesOn_1 ++ dktX1_passesOn_2
def dkwX1_passesOn_0 : List UInt8 := [42, 180, 0, 92, 16, 12, 182, 0, 100, 154, 0, 8, 42, 180, 0, 145, 172, 17, 39, 15, 60, 3, 61, 28]
abbrev dktX1_passesOn_0 : List UInt8 := dkwX1_passesOn_0 ++ dktX1_passesOn_1
theorem dksX1_passesOn_0 : cX1_passesOn.data.toList.drop 0 = dktX1_passesOn_0 := by decide +kernel
theorem dksX1_passesOn_1 : cX1_passesOn.data.toList.drop 24 = dktX1_passesOn_1 := dk_seg dksX1_passesOn_0 24 rfl rfl
theorem dksX1_passesOn_2 : cX1_passesOn.data.toList.drop 48 = dktX1_passesOn_2 := dk_seg dksX1_passesOn_1 24 rfl rfl
theorem dksX1_passesOn_3 : cX1_passesOn.data.toList.drop 71 = dktX1_passesOn_3 := dk_seg dksX1_passesOn_2 23 rfl rfl
theorem dksX1_passesOn_4 : cX1_passesOn.data.toList.drop 95 = dktX1_passesOn_4 := dk_seg dksX1_passesOn_3 24 rfl rfl
theorem dksX1_passesOn_5 : cX1_passesOn.data.toList.drop 119 = dktX1_passesOn_5 := dk_seg dksX1_passesOn_4 24 rfl rfl
theorem dX1_passesOn_0 : decode cX1_passesOn 0 = .ok (.aload_n 0, 1) := dk_42 (dk_at dksX1_passesOn_0 0 rfl rfl)
theorem dX1_passesOn_1 : decode cX1_passesOn 1 = .ok (.getfield 92, 3) := dk_180 0 92 (dk_at dksX1_passesOn_0 1 rfl rfl)
theorem dX1_passesOn_4 : decode cX1_passesOn 4 = .ok (.bipush 12, 2) := dk_16 12 (dk_at dksX1_passesOn_0 4 rfl rfl)
theorem dX1_passesOn_6 : decode cX1_passesOn 6 = .ok (.invokevirtual 100, 3) := dk_182 0 100 (dk_at dksX1_passesOn_0 6 rfl rfl)
theorem dX1_passesOn_9 : decode cX1_passesOn 9 = .ok (.ifCond .ne 8, 3) := dk_154 0 8 (dk_at dksX1_passesOn_0 9 rfl rfl)
theorem dX1_passesOn_12 : decode cX1_passesOn 12 = .ok (.aload_n 0, 1) := dk_42 (dk_at dksX1_passesOn_0 12 rfl rfl)
theorem dX1_passesOn_13 : decode cX1_passesOn 13 = .ok (.getfield 145, 3) := dk_180 0 145 (dk_at dksX1_passesOn_0 13 rfl rfl)
theorem dX1_passesOn_16 : decode cX1_passesOn 16 = .ok (.ireturn, 1) := dk_172 (dk_at dksX1_passesOn_0 16 rfl rfl)
theorem dX1_passesOn_17 : decode cX1_passesOn 17 = .ok (.sipush 9999, 3) := dk_17 39 15 (dk_at dksX1_passesOn_0 17 rfl rfl)
theorem dX1_passesOn_20 : decode cX1_passesOn 20 = .ok (.istore_n 1, 1) := dk_60 (dk_at dksX1_passesOn_0 20 rfl rfl)
theorem dX1_passesOn_21 : decode cX1_passesOn 21 = .ok (.iconst 0, 1) := dk_3 (dk_at dksX1_passesOn_0 21 rfl rfl)
theorem dX1_passesOn_22 : decode cX1_passesOn 22 = .ok (.istore_n 2, 1) := dk_61 (dk_at dksX1_passesOn_0 22 rfl rfl)
theorem dX1_passesOn_23 : decode cX1_passesOn 23 = .ok (.iload_n 2, 1) := dk_28 (dk_at dksX1_passesOn_0 23 rfl rfl)
theorem dX1_passesOn_24 : decode cX1_passesOn 24 = .ok (.aload_n 0, 1) := dk_42 (dk_at dksX1_passesOn_1 0 rfl rfl)
theorem dX1_passesOn_25 : decode cX1_passesOn 25 = .ok (.getfield 31, 3) := dk_180 0 31 (dk_at dksX1_passesOn_1 1 rfl rfl)
theorem dX1_passesOn_28 : decode cX1_passesOn 28 = .ok (.getfield 51, 3) := dk_180 0 51 (dk_at dksX1_passesOn_1 4 rfl rfl)
theorem dX1_passesOn_31 : decode cX1_passesOn 31 = .ok (.if_icmp .ge 67, 3) := dk_162 0 67 (dk_at dksX1_passesOn_1 7 rfl rfl)
theorem dX1_passesOn_34 : decode cX1_passesOn 34 = .ok (.aload_n 0, 1) := dk_42 (dk_at dksX1_passesOn_1 10 rfl rfl)
theorem dX1_passesOn_35 : decode cX1_passesOn 35 = .ok (.getfield 31, 3) := dk_180 0 31 (dk_at dksX1_passesOn_1 11 rfl rfl)
theorem dX1_passesOn_38 : decode cX1_passesOn 38 = .ok (.getfield 54, 3) := dk_180 0 54 (dk_at dksX1_passesOn_1 14 rfl rfl)
theorem dX1_passesOn_41 : decode cX1_passesOn 41 = .ok (.iload_n 2, 1) := dk_28 (dk_at dksX1_passesOn_1 17 rfl rfl)
theorem dX1_passesOn_42 : decode cX1_passesOn 42 = .ok (.aaload, 1) := dk_50 (dk_at dksX1_passesOn_1 18 rfl rfl)
theorem dX1_passesOn_43 : decode cX1_passesOn 43 = .ok (.astore_n 3, 1) := dk_78 (dk_at dksX1_passesOn_1 19 rfl rfl)
theorem dX1_passesOn_44 : decode cX1_passesOn 44 = .ok (.aload_n 3, 1) := dk_45 (dk_at dksX1_passesOn_1 20 rfl rfl)
theorem dX1_passesOn_45 : decode cX1_passesOn 45 = .ok (.invokevirtual 109, 3) := dk_182 0 109 (dk_at dksX1_passesOn_1 21 rfl rfl)
theorem dX1_passesOn_48 : decode cX1_passesOn 48 = .ok (.bipush 7, 2) := dk_16 7 (dk_at dksX1_passesOn_2 0 rfl rfl)
theorem dX1_passesOn_50 : decode cX1_passesOn 50 = .ok (.if_icmp .ne 42, 3) := dk_160 0 42 (dk_at dksX1_passesOn_2 2 rfl rfl)
theorem dX1_passesOn_53 : decode cX1_passesOn 53 = .ok (.aload_n 3, 1) := dk_45 (dk_at dksX1_passesOn_2 5 rfl rfl)
theorem dX1_passesOn_54 : decode cX1_passesOn 54 = .ok (.aload_n 0, 1) := dk_42 (dk_at dksX1_passesOn_2 6 rfl rfl)
theorem dX1_passesOn_55 : decode cX1_passesOn 55 = .ok (.getfield 151, 3) := dk_180 0 151 (dk_at dksX1_passesOn_2 7 rfl rfl)
theorem dX1_passesOn_58 : decode cX1_passesOn 58 = .ok (.invokevirtual 112, 3) := dk_182 0 112 (dk_at dksX1_passesOn_2 10 rfl rfl)
theorem dX1_passesOn_61 : decode cX1_passesOn 61 = .ok (.ifCond .eq 31, 3) := dk_153 0 31 (dk_at dksX1_passesOn_2 13 rfl rfl)
theorem dX1_passesOn_64 : decode cX1_passesOn 64 = .ok (.iload_n 1, 1) := dk_27 (dk_at dksX1_passesOn_2 16 rfl rfl)
theorem dX1_passesOn_65 : decode cX1_passesOn 65 = .ok (.aload_n 0, 1) := dk_42 (dk_at dksX1_passesOn_2 17 rfl rfl)
theorem dX1_passesOn_66 : decode cX1_passesOn 66 = .ok (.aload_n 3, 1) := dk_45 (dk_at dksX1_passesOn_2 18 rfl rfl)
theorem dX1_passesOn_67 : decode cX1_passesOn 67 = .ok (.aload_n 0, 1) := dk_42 (dk_at dksX1_passesOn_2 19 rfl rfl)
theorem dX1_passesOn_68 : decode cX1_passesOn 68 = .ok (.getfield 92, 3) := dk_180 0 92 (dk_at dksX1_passesOn_2 20 rfl rfl)
theorem dX1_passesOn_71 : decode cX1_passesOn 71 = .ok (.bipush 12, 2) := dk_16 12 (dk_at dksX1_passesOn_3 0 rfl rfl)
theorem dX1_passesOn_73 : decode cX1_passesOn 73 = .ok (.invokevirtual 100, 3) := dk_182 0 100 (dk_at dksX1_passesOn_3 2 rfl rfl)
theorem dX1_passesOn_76 : decode cX1_passesOn 76 = .ok (.iconst 1, 1) := dk_4 (dk_at dksX1_passesOn_3 5 rfl rfl)
theorem dX1_passesOn_77 : decode cX1_passesOn 77 = .ok (.if_icmp .ne 7, 3) := dk_160 0 7 (dk_at dksX1_passesOn_3 6 rfl rfl)
theorem dX1_passesOn_80 : decode cX1_passesOn 80 = .ok (.iconst 0, 1) := dk_3 (dk_at dksX1_passesOn_3 9 rfl rfl)
theorem dX1_passesOn_81 : decode cX1_passesOn 81 = .ok (.goto 4, 3) := dk_167 0 4 (dk_at dksX1_passesOn_3 10 rfl rfl)
theorem dX1_passesOn_84 : decode cX1_passesOn 84 = .ok (.iconst 1, 1) := dk_4 (dk_at dksX1_passesOn_3 13 rfl rfl)
theorem dX1_passesOn_85 : decode cX1_passesOn 85 = .ok (.invokevirtual 105, 3) := dk_182 0 105 (dk_at dksX1_passesOn_3 14 rfl rfl)
theorem dX1_passesOn_88 : decode cX1_passesOn 88 = .ok (.invokestatic 181, 3) := dk_184 0 181 (dk_at dksX1_passesOn_3 17 rfl rfl)
theorem dX1_passesOn_91 : decode cX1_passesOn 91 = .ok (.istore_n 1, 1) := dk_60 (dk_at dksX1_passesOn_3 20 rfl rfl)
theorem dX1_passesOn_92 : decode cX1_passesOn 92 = .ok (.iinc 2 1, 3) := dk_132 2 1 (dk_at dksX1_passesOn_3 21 rfl rfl)
theorem dX1_passesOn_95 : decode cX1_passesOn 95 = .ok (.goto (-72), 3) := dk_167 255 184 (dk_at dksX1_passesOn_4 0 rfl rfl)
theorem dX1_passesOn_98 : decode cX1_passesOn 98 = .ok (.iload_n 1, 1) := dk_27 (dk_at dksX1_passesOn_4 3 rfl rfl)
theorem dX1_passesOn_99 : decode cX1_passesOn 99 = .ok (.sipush 9999, 3) := dk_17 39 15 (dk_at dksX1_passesOn_4 4 rfl rfl)
theorem dX1_passesOn_102 : decode cX1_passesOn 102 = .ok (.if_icmp .ne 9, 3) := dk_160 0 9 (dk_at dksX1_passesOn_4 7 rfl rfl)
theorem dX1_passesOn_105 : decode cX1_passesOn 105 = .ok (.sipush 9999, 3) := dk_17 39 15 (dk_at dksX1_passesOn_4 10 rfl rfl)
theorem dX1_passesOn_108 : decode cX1_passesOn 108 = .ok (.goto 11, 3) := dk_167 0 11 (dk_at dksX1_passesOn_4 13 rfl rfl)
theorem dX1_passesOn_111 : decode cX1_passesOn 111 = .ok (.aload_n 0, 1) := dk_42 (dk_at dksX1_passesOn_4 16 rfl rfl)
theorem dX1_passesOn_112 : decode cX1_passesOn 112 = .ok (.getfield 145, 3) := dk_180 0 145 (dk_at dksX1_passesOn_4 17 rfl rfl)
theorem dX1_passesOn_115 : decode cX1_passesOn 115 = .ok (.iload_n 1, 1) := dk_27 (dk_at dksX1_passesOn_4 20 rfl rfl)
theorem dX1_passesOn_116 : decode cX1_passesOn 116 = .ok (.invokestatic 186, 3) := dk_184 0 186 (dk_at dksX1_passesOn_4 21 rfl rfl)
theorem dX1_passesOn_119 : decode cX1_passesOn 119 = .ok (.ireturn, 1) := dk_172 (dk_at dksX1_passesOn_5 0 rfl rfl)
theorem q96 : (Jvm.Cond.initialized "CrossingWords$Run") ∈ lw_all := lw_g (lw_at lw_m1 2 rfl) rfl
theorem q136 : (Jvm.Cond.instantiable "CrossingWords$Run" (11 : Nat)) ∈ lw_all := lw_g (lw_at lw_m1 42 rfl) rfl
theorem q138 : (Jvm.Cond.instanceMethod ({ cls := "CrossingWords$Run", name := "<init>", desc := "(LCrossingWords;)V" } : Jvm.MethodName)) ∈ lw_all := lw_g (lw_at lw_m1 44 rfl) rfl
theorem q139 : (Jvm.Cond.code ({ cls := "CrossingWords$Run", name := "<init>", desc := "(LCrossingWords;)V" } : Jvm.MethodName) prog_15_method_1_code (2 : Nat) (Option.none : Option Jvm.ClassFile.FieldType)) ∈ lw_all := lw_g (lw_at lw_m1 45 rfl) rfl
theorem q140 : (Jvm.Cond.methodLink "CrossingWords$Run" (9 : Nat) ({ cls := "java/lang/Object", name := "<init>", desc := "()V" } : Jvm.MethodName)) ∈ lw_all := lw_g (lw_at lw_m1 46 rfl) rfl
theorem q141 : (Jvm.Cond.fieldLink "CrossingWords$Run" (15 : Nat) "CrossingWords$Run" "hours" "[I") ∈ lw_all := lw_g (lw_at lw_m1 47 rfl) rfl
theorem q142 : (Jvm.Cond.fieldLink "CrossingWords$Run" (19 : Nat) "CrossingWords$Run" "from" "[I") ∈ lw_all := lw_g (lw_at lw_m1 48 rfl) rfl
theorem q144 : (Jvm.Cond.fieldLink "CrossingWords$Run" (22 : Nat) "CrossingWords$Run" "ends" "[I") ∈ lw_all := lw_g (lw_at lw_m1 50 rfl) rfl
theorem q146 : (Jvm.Cond.fieldLink "CrossingWords$Run" (25 : Nat) "CrossingWords$Run" "why" "[I") ∈ lw_all := lw_g (lw_at lw_m1 52 rfl) rfl
theorem q148 : (Jvm.Cond.fieldLink "CrossingWords$Run" (28 : Nat) "CrossingWords$Run" "digits" "[I") ∈ lw_all := lw_g (lw_at lw_m1 54 rfl) rfl
theorem q149 : (Jvm.Cond.fieldLink "CrossingWords$Run" (31 : Nat) "CrossingWords$Run" "own" "LCrossingWords$Case;") ∈ lw_all := lw_g (lw_at lw_m1 55 rfl) rfl
theorem q150 : (Jvm.Cond.fieldLink "CrossingWords$Run" (92 : Nat) "CrossingWords$Run" "rules" "LCrossingWords$Rules;") ∈ lw_all := lw_g (lw_at lw_m1 56 rfl) rfl
theorem q151 : (Jvm.Cond.fieldLink "CrossingWords$Run" (148 : Nat) "CrossingWords$Run" "yes" "I") ∈ lw_all := lw_g (lw_at lw_m1 57 rfl) rfl
theorem q153 : (Jvm.Cond.fieldLink "CrossingWords$Run" (145 : Nat) "CrossingWords$Run" "since" "I") ∈ lw_all := lw_g (lw_at lw_m1 59 rfl) rfl
theorem q155 : (Jvm.Cond.fieldLink "CrossingWords$Run" (151 : Nat) "CrossingWords$Run" "offer" "LCrossingWords$Saying;") ∈ lw_all := lw_g (lw_at lw_m1 61 rfl) rfl
theorem q157 : (Jvm.Cond.fieldLink "CrossingWords$Run" (3 : Nat) "CrossingWords$Run" "this$0" "LCrossingWords;") ∈ lw_all := lw_g (lw_at lw_m1 63 rfl) rfl
theorem q158 : (Jvm.Cond.laysFinal "CrossingWords$Run" "CrossingWords$Run" "hours" "[I") ∈ lw_all := lw_g (lw_at lw_m1 64 rfl) rfl
theorem q159 : (Jvm.Cond.soleField "CrossingWords$Run" "hours") ∈ lw_all := lw_g (lw_at lw_m1 65 rfl) rfl
theorem q160 : (Jvm.Cond.laysFinal "CrossingWords$Run" "CrossingWords$Run" "from" "[I") ∈ lw_all := lw_g (lw_at lw_m1 66 rfl) rfl
theorem q161 : (Jvm.Cond.soleField "CrossingWords$Run" "from") ∈ lw_all := lw_g (lw_at lw_m1 67 rfl) rfl
theorem q162 : (Jvm.Cond.laysFinal "CrossingWords$Run" "CrossingWords$Run" "ends" "[I") ∈ lw_all := lw_g (lw_at lw_m1 68 rfl) rfl
theorem q163 : (Jvm.Cond.soleField "CrossingWords$Run" "ends") ∈ lw_all := lw_g (lw_at lw_m1 69 rfl) rfl
theorem q164 : (Jvm.Cond.laysFinal "CrossingWords$Run" "CrossingWords$Run" "why" "[I") ∈ lw_all := lw_g (lw_at lw_m1 70 rfl) rfl
theorem q165 : (Jvm.Cond.soleField "CrossingWords$Run" "why") ∈ lw_all := lw_g (lw_at lw_m1 71 rfl) rfl
theorem q166 : (Jvm.Cond.laysFinal "CrossingWords$Run" "CrossingWords$Run" "digits" "[I") ∈ lw_all := lw_g (lw_at lw_m1 72 rfl) rfl
theorem q167 : (Jvm.Cond.soleField "CrossingWords$Run" "digits") ∈ lw_all := lw_g (lw_at lw_m1 73 rfl) rfl
theorem q168 : (Jvm.Cond.lays "CrossingWords$Run" "CrossingWords$Run" "own" "LCrossingWords$Case;") ∈ lw_all := lw_g (lw_at lw_m1 74 rfl) rfl
theorem q169 : (Jvm.Cond.soleField "CrossingWords$Run" "own") ∈ lw_all := lw_g (lw_at lw_m1 75 rfl) rfl
theorem q170 : (Jvm.Cond.lays "CrossingWords$Run" "CrossingWords$Run" "rules" "LCrossingWords$Rules;") ∈ lw_all := lw_g (lw_at lw_m1 76 rfl) rfl
theorem q171 : (Jvm.Cond.soleField "CrossingWords$Run" "rules") ∈ lw_all := lw_g (lw_at lw_m1 77 rfl) rfl
theorem q172 : (Jvm.Cond.lays "CrossingWords$Run" "CrossingWords$Run" "yes" "I") ∈ lw_all := lw_g (lw_at lw_m1 78 rfl) rfl
theorem q173 : (Jvm.Cond.soleField "CrossingWords$Run" "yes") ∈ lw_all := lw_g (lw_at lw_m1 79 rfl) rfl
theorem q174 : (Jvm.Cond.lays "CrossingWords$Run" "CrossingWords$Run" "since" "I") ∈ lw_all := lw_g (lw_at lw_m1 80 rfl) rfl
theorem q175 : (Jvm.Cond.soleField "CrossingWords$Run" "since") ∈ lw_all := lw_g (lw_at lw_m1 81 rfl) rfl
theorem q176 : (Jvm.Cond.lays "CrossingWords$Run" "CrossingWords$Run" "offer" "LCrossingWords$Saying;") ∈ lw_all := lw_g (lw_at lw_m1 82 rfl) rfl
theorem q177 : (Jvm.Cond.soleField "CrossingWords$Run" "offer") ∈ lw_all := lw_g (lw_at lw_m1 83 rfl) rfl
theorem q178 : (Jvm.Cond.laysFinal "CrossingWords$Run" "CrossingWords$Run" "this$0" "LCrossingWords;") ∈ lw_all := lw_g (lw_at lw_m1 84 rfl) rfl
theorem q179 : (Jvm.Cond.soleField "CrossingWords$Run" "this$0") ∈ lw_all := lw_g (lw_at lw_m1 85 rfl) rfl
theorem q180 : (Jvm.Cond.superclass "CrossingWords$Run" "java/lang/Object") ∈ lw_all := lw_g (lw_at lw_m1 86 rfl) rfl
theorem q280 : (Jvm.Cond.fieldLink "CrossingWords$Run" (54 : Nat) "CrossingWords$Case" "sayings" "[LCrossingWords$Saying;") ∈ lw_all := lw_g (lw_at lw_m1 186 rfl) rfl
theorem q284 : (Jvm.Cond.fieldLinkNest "CrossingWords$Run" (41 : Nat) "CrossingWords$Case" "askedOf" "[I" "CrossingWords") ∈ lw_tbl := lw_at lw_m1 190 rfl
theorem q286 : (Jvm.Cond.fieldLinkNest "CrossingWords$Run" (44 : Nat) "CrossingWords$Case" "askedWhat" "[I" "CrossingWords") ∈ lw_tbl := lw_at lw_m1 192 rfl
theorem q291 : (Jvm.Cond.fieldLink "CrossingWords$Run" (51 : Nat) "CrossingWords$Case" "many" "I") ∈ lw_all := lw_g (lw_at lw_m1 197 rfl) rfl
theorem q294 : (Jvm.Cond.fieldLink "CrossingWords$Run" (35 : Nat) "CrossingWords$Case" "asked" "I") ∈ lw_all := lw_g (lw_at lw_m1 200 rfl) rfl
theorem q447 : (Jvm.Cond.fieldLink "CrossingWords$Run" (85 : Nat) "CrossingWords$Saying" "index" "I") ∈ lw_all := lw_g (lw_at lw_m2 113 rfl) rfl
theorem q453 : (Jvm.Cond.fieldLink "CrossingWords$Run" (195 : Nat) "CrossingWords$Saying" "hand" "I") ∈ lw_all := lw_g (lw_at lw_m2 119 rfl) rfl
theorem q455 : (Jvm.Cond.fieldLink "CrossingWords$Run" (58 : Nat) "CrossingWords$Saying" "times" "LCrossingWords$Times;") ∈ lw_all := lw_g (lw_at lw_m2 121 rfl) rfl
theorem q694 : (Jvm.Cond.fieldLink "CrossingWords$Run" (74 : Nat) "CrossingWords$Span" "low" "I") ∈ lw_all := lw_g (lw_at lw_m3 120 rfl) rfl
theorem q713 : (Jvm.Cond.fieldLink "CrossingWords$Run" (70 : Nat) "CrossingWords$Times" "at" "LCrossingWords$Span;") ∈ lw_all := lw_g (lw_at lw_m3 139 rfl) rfl
theorem q716 : (Jvm.Cond.fieldLink "CrossingWords$Run" (79 : Nat) "CrossingWords$Times" "after" "LCrossingWords$Span;") ∈ lw_all := lw_g (lw_at lw_m3 142 rfl) rfl
theorem q719 : (Jvm.Cond.fieldLink "CrossingWords$Run" (82 : Nat) "CrossingWords$Times" "read" "LCrossingWords$Span;") ∈ lw_all := lw_g (lw_at lw_m3 145 rfl) rfl
theorem q724 : (Jvm.Cond.fieldLink "CrossingWords$Run" (64 : Nat) "CrossingWords$Times" "isLost" "Z") ∈ lw_all := lw_g (lw_at lw_m3 150 rfl) rfl
theorem q946 : (Jvm.Cond.instanceMethod ({ cls := "CrossingWords$Run", name := "lays", desc := "(LCrossingWords$Case;I)V" } : Jvm.MethodName)) ∈ lw_all := lw_g (lw_at lw_m4 132 rfl) rfl
theorem q947 : (Jvm.Cond.selects "CrossingWords$Run" ({ cls := "CrossingWords$Run", name := "lays", desc := "(LCrossingWords$Case;I)V" } : Jvm.MethodName) ({ cls := "CrossingWords$Run", name := "lays", desc := "(LCrossingWords$Case;I)V" } : Jvm.MethodName)) ∈ lw_all := lw_g (lw_at lw_m4 133 rfl) rfl
theorem q948 : (Jvm.Cond.code ({ cls := "CrossingWords$Run", name := "lays", desc := "(LCrossingWords$Case;I)V" } : Jvm.MethodName) prog_15_method_2_code (6 : Nat) (Option.none : Option Jvm.ClassFile.FieldType)) ∈ lw_all := lw_g (lw_at lw_m4 134 rfl) rfl
theorem q949 : (Jvm.Cond.methodLink "CrossingWords$Run" (47 : Nat) ({ cls := "CrossingWords$Case", name := "digit", desc := "(II)I" } : Jvm.MethodName)) ∈ lw_all := lw_g (lw_at lw_m4 135 rfl) rfl
theorem q954 : (Jvm.Cond.instanceMethod ({ cls := "CrossingWords$Run", name := "hour", desc := "(LCrossingWords$Saying;I)I" } : Jvm.MethodName)) ∈ lw_all := lw_g (lw_at lw_m4 140 rfl) rfl
theorem q955 : (Jvm.Cond.selects "CrossingWords$Run" ({ cls := "CrossingWords$Run", name := "hour", desc := "(LCrossingWords$Saying;I)I" } : Jvm.MethodName) ({ cls := "CrossingWords$Run", name := "hour", desc := "(LCrossingWords$Saying;I)I" } : Jvm.MethodName)) ∈ lw_all := lw_g (lw_at lw_m4 141 rfl) rfl
theorem q956 : (Jvm.Cond.code ({ cls := "CrossingWords$Run", name := "hour", desc := "(LCrossingWords$Saying;I)I" } : Jvm.MethodName) prog_15_method_3_code (3 : Nat) (Option.some Jvm.ClassFile.FieldType.int)) ∈ lw_all := lw_g (lw_at lw_m4 142 rfl) rfl
theorem q1004 : (Jvm.Cond.instanceMethod ({ cls := "CrossingWords$Run", name := "runs", desc := "(LCrossingWords$Case;LCrossingWords$Rules;I)V" } : Jvm.MethodName)) ∈ lw_all := lw_g (lw_at lw_m4 190 rfl) rfl
theorem q1005 : (Jvm.Cond.selects "CrossingWords$Run" ({ cls := "CrossingWords$Run", name := "runs", desc := "(LCrossingWords$Case;LCrossingWords$Rules;I)V" } : Jvm.MethodName) ({ cls := "CrossingWords$Run", name := "runs", desc := "(LCrossingWords$Case;LCrossingWords$Rules;I)V" } : Jvm.MethodName)) ∈ lw_all := lw_g (lw_at lw_m4 191 rfl) rfl
theorem q1006 : (Jvm.Cond.code ({ cls := "CrossingWords$Run", name := "runs", desc := "(LCrossingWords$Case;LCrossingWords$Rules;I)V" } : Jvm.MethodName) prog_15_method_10_code (5 : Nat) (Option.none : Option Jvm.ClassFile.FieldType)) ∈ lw_all := lw_g (lw_at lw_m4 192 rfl) rfl
theorem q1007 : (Jvm.Cond.methodLink "CrossingWords$Run" (155 : Nat) ({ cls := "CrossingWords$Run", name := "lays", desc := "(LCrossingWords$Case;I)V" } : Jvm.MethodName)) ∈ lw_all := lw_g (lw_at lw_m4 193 rfl) rfl
theorem q1008 : (Jvm.Cond.methodLink "CrossingWords$Run" (134 : Nat) ({ cls := "CrossingWords$Saying", name := "isOffer", desc := "(LCrossingWords$Rules;)Z" } : Jvm.MethodName)) ∈ lw_all := lw_g (lw_at lw_m4 194 rfl) rfl
theorem q1032 : (Jvm.Cond.methodLink "CrossingWords$Run" (159 : Nat) ({ cls := "CrossingWords$Run", name := "opens", desc := "(LCrossingWords$Saying;)V" } : Jvm.MethodName)) ∈ lw_all := lw_g (lw_at lw_m4 218 rfl) rfl
theorem q1033 : (Jvm.Cond.privateMethod ({ cls := "CrossingWords$Run", name := "opens", desc := "(LCrossingWords$Saying;)V" } : Jvm.MethodName)) ∈ lw_tbl := lw_at lw_m4 219 rfl
theorem q1034 : (Jvm.Cond.instanceMethod ({ cls := "CrossingWords$Run", name := "opens", desc := "(LCrossingWords$Saying;)V" } : Jvm.MethodName)) ∈ lw_all := lw_g (lw_at lw_m4 220 rfl) rfl
theorem q1035 : (Jvm.Cond.code ({ cls := "CrossingWords$Run", name := "opens", desc := "(LCrossingWords$Saying;)V" } : Jvm.MethodName) prog_15_method_5_code (6 : Nat) (Option.none : Option Jvm.ClassFile.FieldType)) ∈ lw_all := lw_g (lw_at lw_m4 221 rfl) rfl
theorem q1036 : (Jvm.Cond.methodLink "CrossingWords$Run" (88 : Nat) ({ cls := "CrossingWords$Saying", name := "given", desc := "()I" } : Jvm.MethodName)) ∈ lw_all := lw_g (lw_at lw_m4 222 rfl) rfl
theorem q1037 : (Jvm.Cond.methodLinkNest "CrossingWords$Run" (96 : Nat) ({ cls := "CrossingWords", name := "hasGiven", desc := "(ILCrossingWords$Rules;)Z" } : Jvm.MethodName) "CrossingWords") ∈ lw_tbl := lw_at lw_m4 223 rfl
theorem q1042 : (Jvm.Cond.instanceMethod ({ cls := "CrossingWords$Run", name := "isBargain", desc := "()Z" } : Jvm.MethodName)) ∈ lw_all := lw_g (lw_at lw_m4 228 rfl) rfl
theorem q1043 : (Jvm.Cond.selects "CrossingWords$Run" ({ cls := "CrossingWords$Run", name := "isBargain", desc := "()Z" } : Jvm.MethodName) ({ cls := "CrossingWords$Run", name := "isBargain", desc := "()Z" } : Jvm.MethodName)) ∈ lw_all := lw_g (lw_at lw_m4 229 rfl) rfl
theorem q1044 : (Jvm.Cond.code ({ cls := "CrossingWords$Run", name := "isBargain", desc := "()Z" } : Jvm.MethodName) prog_15_method_11_code (1 : Nat) (Option.some Jvm.ClassFile.FieldType.boolean)) ∈ lw_all := lw_g (lw_at lw_m4 230 rfl) rfl
theorem q1045 : (Jvm.Cond.methodLink "CrossingWords$Run" (100 : Nat) ({ cls := "CrossingWords$Rules", name := "at", desc := "(I)I" } : Jvm.MethodName)) ∈ lw_all := lw_g (lw_at lw_m4 231 rfl) rfl
theorem q1046 : (Jvm.Cond.methodLink "CrossingWords$Run" (105 : Nat) ({ cls := "CrossingWords$Run", name := "hour", desc := "(LCrossingWords$Saying;I)I" } : Jvm.MethodName)) ∈ lw_all := lw_g (lw_at lw_m4 232 rfl) rfl
theorem q1047 : (Jvm.Cond.methodLink "CrossingWords$Run" (109 : Nat) ({ cls := "CrossingWords$Saying", name := "kind", desc := "()I" } : Jvm.MethodName)) ∈ lw_all := lw_g (lw_at lw_m4 233 rfl) rfl
theorem q1048 : (Jvm.Cond.methodLink "CrossingWords$Run" (112 : Nat) ({ cls := "CrossingWords$Saying", name := "isSaid", desc := "(LCrossingWords$Saying;)Z" } : Jvm.MethodName)) ∈ lw_all := lw_g (lw_at lw_m4 234 rfl) rfl
theorem q1061 : (Jvm.Cond.methodLink "CrossingWords$Run" (116 : Nat) ({ cls := "CrossingWords$Saying", name := "hold", desc := "()I" } : Jvm.MethodName)) ∈ lw_all := lw_g (lw_at lw_m5 7 rfl) rfl
theorem q1062 : (Jvm.Cond.methodLink "CrossingWords$Run" (119 : Nat) ({ cls := "CrossingWords$Run", name := "ends", desc := "(III)V" } : Jvm.MethodName)) ∈ lw_all := lw_g (lw_at lw_m5 8 rfl) rfl
theorem q1063 : (Jvm.Cond.privateMethod ({ cls := "CrossingWords$Run", name := "ends", desc := "(III)V" } : Jvm.MethodName)) ∈ lw_tbl := lw_at lw_m5 9 rfl
theorem q1064 : (Jvm.Cond.instanceMethod ({ cls := "CrossingWords$Run", name := "ends", desc := "(III)V" } : Jvm.MethodName)) ∈ lw_all := lw_g (lw_at lw_m5 10 rfl) rfl
theorem q1065 : (Jvm.Cond.code ({ cls := "CrossingWords$Run", name := "ends", desc := "(III)V" } : Jvm.MethodName) prog_15_method_4_code (4 : Nat) (Option.none : Option Jvm.ClassFile.FieldType)) ∈ lw_all := lw_g (lw_at lw_m5 11 rfl) rfl
theorem q1066 : (Jvm.Cond.methodLink "CrossingWords$Run" (122 : Nat) ({ cls := "CrossingWords$Saying", name := "isNo", desc := "(LCrossingWords$Rules;)Z" } : Jvm.MethodName)) ∈ lw_all := lw_g (lw_at lw_m5 12 rfl) rfl
theorem q1082 : (Jvm.Cond.methodLink "CrossingWords$Run" (163 : Nat) ({ cls := "CrossingWords$Saying", name := "isYes", desc := "(LCrossingWords$Rules;)Z" } : Jvm.MethodName)) ∈ lw_all := lw_g (lw_at lw_m5 28 rfl) rfl
theorem q1104 : (Jvm.Cond.methodLink "CrossingWords$Run" (166 : Nat) ({ cls := "CrossingWords$Run", name := "makes", desc := "(LCrossingWords$Saying;)I" } : Jvm.MethodName)) ∈ lw_all := lw_g (lw_at lw_m5 50 rfl) rfl
theorem q1105 : (Jvm.Cond.privateMethod ({ cls := "CrossingWords$Run", name := "makes", desc := "(LCrossingWords$Saying;)I" } : Jvm.MethodName)) ∈ lw_tbl := lw_at lw_m5 51 rfl
theorem q1106 : (Jvm.Cond.instanceMethod ({ cls := "CrossingWords$Run", name := "makes", desc := "(LCrossingWords$Saying;)I" } : Jvm.MethodName)) ∈ lw_all := lw_g (lw_at lw_m5 52 rfl) rfl
theorem q1107 : (Jvm.Cond.code ({ cls := "CrossingWords$Run", name := "makes", desc := "(LCrossingWords$Saying;)I" } : Jvm.MethodName) prog_15_method_7_code (6 : Nat) (Option.some Jvm.ClassFile.FieldType.int)) ∈ lw_all := lw_g (lw_at lw_m5 53 rfl) rfl
theorem q1108 : (Jvm.Cond.methodLink "CrossingWords$Run" (126 : Nat) ({ cls := "CrossingWords$Saying", name := "said", desc := "()LCrossingWords$Saying;" } : Jvm.MethodName)) ∈ lw_all := lw_g (lw_at lw_m5 54 rfl) rfl
theorem q1109 : (Jvm.Cond.methodLink "CrossingWords$Run" (130 : Nat) ({ cls := "CrossingWords$Rules", name := "yesWhen", desc := "(LCrossingWords$Saying;)I" } : Jvm.MethodName)) ∈ lw_all := lw_g (lw_at lw_m5 55 rfl) rfl
theorem q1115 : (Jvm.Cond.methodLink "CrossingWords$Run" (137 : Nat) ({ cls := "CrossingWords$Run", name := "isOpen", desc := "(LCrossingWords$Saying;I)Z" } : Jvm.MethodName)) ∈ lw_all := lw_g (lw_at lw_m5 61 rfl) rfl
theorem q1116 : (Jvm.Cond.privateMethod ({ cls := "CrossingWords$Run", name := "isOpen", desc := "(LCrossingWords$Saying;I)Z" } : Jvm.MethodName)) ∈ lw_tbl := lw_at lw_m5 62 rfl
theorem q1117 : (Jvm.Cond.instanceMethod ({ cls := "CrossingWords$Run", name := "isOpen", desc := "(LCrossingWords$Saying;I)Z" } : Jvm.MethodName)) ∈ lw_all := lw_g (lw_at lw_m5 63 rfl) rfl
theorem q1118 : (Jvm.Cond.code ({ cls := "CrossingWords$Run", name := "isOpen", desc := "(LCrossingWords$Saying;I)Z" } : Jvm.MethodName) prog_15_method_6_code (3 : Nat) (Option.some Jvm.ClassFile.FieldType.boolean)) ∈ lw_all := lw_g (lw_at lw_m5 64 rfl) rfl
theorem q1119 : (Jvm.Cond.methodLink "CrossingWords$Run" (169 : Nat) ({ cls := "CrossingWords$Run", name := "takes", desc := "(IILCrossingWords$Saying;)V" } : Jvm.MethodName)) ∈ lw_all := lw_g (lw_at lw_m5 65 rfl) rfl
theorem q1120 : (Jvm.Cond.privateMethod ({ cls := "CrossingWords$Run", name := "takes", desc := "(IILCrossingWords$Saying;)V" } : Jvm.MethodName)) ∈ lw_tbl := lw_at lw_m5 66 rfl
theorem q1121 : (Jvm.Cond.instanceMethod ({ cls := "CrossingWords$Run", name := "takes", desc := "(IILCrossingWords$Saying;)V" } : Jvm.MethodName)) ∈ lw_all := lw_g (lw_at lw_m5 67 rfl) rfl
theorem q1122 : (Jvm.Cond.code ({ cls := "CrossingWords$Run", name := "takes", desc := "(IILCrossingWords$Saying;)V" } : Jvm.MethodName) prog_15_method_9_code (4 : Nat) (Option.none : Option Jvm.ClassFile.FieldType)) ∈ lw_all := lw_g (lw_at lw_m5 68 rfl) rfl
theorem q1123 : (Jvm.Cond.methodLink "CrossingWords$Run" (173 : Nat) ({ cls := "CrossingWords$Run", name := "silence", desc := "(LCrossingWords$Saying;)I" } : Jvm.MethodName)) ∈ lw_all := lw_g (lw_at lw_m5 69 rfl) rfl
theorem q1124 : (Jvm.Cond.privateMethod ({ cls := "CrossingWords$Run", name := "silence", desc := "(LCrossingWords$Saying;)I" } : Jvm.MethodName)) ∈ lw_tbl := lw_at lw_m5 70 rfl
theorem q1125 : (Jvm.Cond.instanceMethod ({ cls := "CrossingWords$Run", name := "silence", desc := "(LCrossingWords$Saying;)I" } : Jvm.MethodName)) ∈ lw_all := lw_g (lw_at lw_m5 71 rfl) rfl
theorem q1126 : (Jvm.Cond.code ({ cls := "CrossingWords$Run", name := "silence", desc := "(LCrossingWords$Saying;)I" } : Jvm.MethodName) prog_15_method_8_code (4 : Nat) (Option.some Jvm.ClassFile.FieldType.int)) ∈ lw_all := lw_g (lw_at lw_m5 72 rfl) rfl
theorem q1127 : (Jvm.Cond.methodLink "CrossingWords$Run" (141 : Nat) ({ cls := "CrossingWords$Saying", name := "answers", desc := "()Z" } : Jvm.MethodName)) ∈ lw_all := lw_g (lw_at lw_m5 73 rfl) rfl
theorem q1144 : (Jvm.Cond.instanceMethod ({ cls := "CrossingWords$Run", name := "term", desc := "(I)I" } : Jvm.MethodName)) ∈ lw_all := lw_g (lw_at lw_m5 90 rfl) rfl
theorem q1145 : (Jvm.Cond.selects "CrossingWords$Run" ({ cls := "CrossingWords$Run", name := "term", desc := "(I)I" } : Jvm.MethodName) ({ cls := "CrossingWords$Run", name := "term", desc := "(I)I" } : Jvm.MethodName)) ∈ lw_all := lw_g (lw_at lw_m5 91 rfl) rfl
theorem q1146 : (Jvm.Cond.code ({ cls := "CrossingWords$Run", name := "term", desc := "(I)I" } : Jvm.MethodName) prog_15_method_12_code (3 : Nat) (Option.some Jvm.ClassFile.FieldType.int)) ∈ lw_all := lw_g (lw_at lw_m5 92 rfl) rfl
theorem q1147 : (Jvm.Cond.methodLink "CrossingWords$Run" (176 : Nat) ({ cls := "CrossingWords$Saying", name := "own", desc := "(I)I" } : Jvm.MethodName)) ∈ lw_all := lw_g (lw_at lw_m5 93 rfl) rfl
theorem q1148 : (Jvm.Cond.methodLink "CrossingWords$Run" (178 : Nat) ({ cls := "CrossingWords$Saying", name := "term", desc := "(I)I" } : Jvm.MethodName)) ∈ lw_all := lw_g (lw_at lw_m5 94 rfl) rfl
theorem q1183 : (Jvm.Cond.instanceMethod ({ cls := "CrossingWords$Run", name := "does", desc := "(LCrossingWords$Saying;)I" } : Jvm.MethodName)) ∈ lw_all := lw_g (lw_at lw_m5 129 rfl) rfl
theorem q1184 : (Jvm.Cond.selects "CrossingWords$Run" ({ cls := "CrossingWords$Run", name := "does", desc := "(LCrossingWords$Saying;)I" } : Jvm.MethodName) ({ cls := "CrossingWords$Run", name := "does", desc := "(LCrossingWords$Saying;)I" } : Jvm.MethodName)) ∈ lw_all := lw_g (lw_at lw_m5 130 rfl) rfl
theorem q1185 : (Jvm.Cond.code ({ cls := "CrossingWords$Run", name := "does", desc := "(LCrossingWords$Saying;)I" } : Jvm.MethodName) prog_15_method_16_code (5 : Nat) (Option.some Jvm.ClassFile.FieldType.int)) ∈ lw_all := lw_g (lw_at lw_m5 131 rfl) rfl
theorem q1186 : (Jvm.Cond.methodLink "CrossingWords$Run" (198 : Nat) ({ cls := "CrossingWords$Run", name := "isEnd", desc := "(LCrossingWords$Saying;LCrossingWords$Saying;)Z" } : Jvm.MethodName)) ∈ lw_all := lw_g (lw_at lw_m5 132 rfl) rfl
theorem q1187 : (Jvm.Cond.privateMethod ({ cls := "CrossingWords$Run", name := "isEnd", desc := "(LCrossingWords$Saying;LCrossingWords$Saying;)Z" } : Jvm.MethodName)) ∈ lw_tbl := lw_at lw_m5 133 rfl
theorem q1188 : (Jvm.Cond.instanceMethod ({ cls := "CrossingWords$Run", name := "isEnd", desc := "(LCrossingWords$Saying;LCrossingWords$Saying;)Z" } : Jvm.MethodName)) ∈ lw_all := lw_g (lw_at lw_m5 134 rfl) rfl
theorem q1189 : (Jvm.Cond.code ({ cls := "CrossingWords$Run", name := "isEnd", desc := "(LCrossingWords$Saying;LCrossingWords$Saying;)Z" } : Jvm.MethodName) prog_15_method_15_code (8 : Nat) (Option.some Jvm.ClassFile.FieldType.boolean)) ∈ lw_all := lw_g (lw_at lw_m5 135 rfl) rfl
theorem q1190 : (Jvm.Cond.methodLink "CrossingWords$Run" (202 : Nat) ({ cls := "CrossingWords$Run", name := "isBargain", desc := "()Z" } : Jvm.MethodName)) ∈ lw_all := lw_g (lw_at lw_m5 136 rfl) rfl
theorem q1199 : (Jvm.Cond.instanceMethod ({ cls := "CrossingWords$Run", name := "can", desc := "(II)I" } : Jvm.MethodName)) ∈ lw_all := lw_g (lw_at lw_m5 145 rfl) rfl
theorem q1200 : (Jvm.Cond.selects "CrossingWords$Run" ({ cls := "CrossingWords$Run", name := "can", desc := "(II)I" } : Jvm.MethodName) ({ cls := "CrossingWords$Run", name := "can", desc := "(II)I" } : Jvm.MethodName)) ∈ lw_all := lw_g (lw_at lw_m5 146 rfl) rfl
theorem q1201 : (Jvm.Cond.code ({ cls := "CrossingWords$Run", name := "can", desc := "(II)I" } : Jvm.MethodName) prog_15_method_17_code (6 : Nat) (Option.some Jvm.ClassFile.FieldType.int)) ∈ lw_all := lw_g (lw_at lw_m5 147 rfl) rfl
theorem q1202 : (Jvm.Cond.methodLink "CrossingWords$Run" (192 : Nat) ({ cls := "CrossingWords$Saying", name := "to", desc := "()I" } : Jvm.MethodName)) ∈ lw_all := lw_g (lw_at lw_m5 148 rfl) rfl
theorem q1297 : (Jvm.Cond.instanceMethod ({ cls := "CrossingWords$Run", name := "bears", desc := "(I)I" } : Jvm.MethodName)) ∈ lw_all := lw_g (lw_at lw_m6 3 rfl) rfl
theorem q1298 : (Jvm.Cond.selects "CrossingWords$Run" ({ cls := "CrossingWords$Run", name := "bears", desc := "(I)I" } : Jvm.MethodName) ({ cls := "CrossingWords$Run", name := "bears", desc := "(I)I" } : Jvm.MethodName)) ∈ lw_all := lw_g (lw_at lw_m6 4 rfl) rfl
theorem q1299 : (Jvm.Cond.code ({ cls := "CrossingWords$Run", name := "bears", desc := "(I)I" } : Jvm.MethodName) prog_15_method_14_code (2 : Nat) (Option.some Jvm.ClassFile.FieldType.int)) ∈ lw_all := lw_g (lw_at lw_m6 5 rfl) rfl
theorem q1300 : (Jvm.Cond.methodLink "CrossingWords$Run" (189 : Nat) ({ cls := "CrossingWords$Run", name := "passesOn", desc := "()I" } : Jvm.MethodName)) ∈ lw_all := lw_g (lw_at lw_m6 6 rfl) rfl
theorem q1301 : (Jvm.Cond.privateMethod ({ cls := "CrossingWords$Run", name := "passesOn", desc := "()I" } : Jvm.MethodName)) ∈ lw_tbl := lw_at lw_m6 7 rfl
theorem q1302 : (Jvm.Cond.instanceMethod ({ cls := "CrossingWords$Run", name := "passesOn", desc := "()I" } : Jvm.MethodName)) ∈ lw_all := lw_g (lw_at lw_m6 8 rfl) rfl
theorem q1303 : (Jvm.Cond.code ({ cls := "CrossingWords$Run", name := "passesOn", desc := "()I" } : Jvm.MethodName) prog_15_method_13_code (4 : Nat) (Option.some Jvm.ClassFile.FieldType.int)) ∈ lw_all := lw_g (lw_at lw_m6 9 rfl) rfl
theorem q1304 : (Jvm.Cond.methodLink "CrossingWords$Run" (181 : Nat) ({ cls := "java/lang/Math", name := "min", desc := "(II)I" } : Jvm.MethodName)) ∈ lw_all := lw_g (lw_at lw_m6 10 rfl) rfl
theorem q1305 : (Jvm.Cond.methodLink "CrossingWords$Run" (186 : Nat) ({ cls := "java/lang/Math", name := "max", desc := "(II)I" } : Jvm.MethodName)) ∈ lw_all := lw_g (lw_at lw_m6 11 rfl) rfl
theorem in_X1 : ∀ w ∈ wsX10, w ∈ lw_all := lw_in wsX10 [158, 160, 162, 164, 166, 168, 170, 172, 174, 176, 178] (by decide +kernel) (by decide +kernel)
/-! CrossingWords$Reader -/
set_option maxRecDepth 100000
def RX3 : String := "CrossingWords$Reader"
abbrev cX3_init : ByteArray := prog_13_method_1_code
def yX3_init : MethodName := ⟨RX3, "<init>", "([BI)V"⟩
def dkwX3_init_0 : List UInt8 := [42, 183, 0, 3, 42, 43, 181, 0, 9, 42, 28, 181, 0, 15, 42, 182, 0, 19, 177]
abbrev dktX3_init_0 : List UInt8 := dkwX3_init_0 ++ []
theorem dksX3_init_0 : cX3_init.data.toList.drop 0 = dktX3_init_0 := by decide +kernel
theorem dX3_init_0 : decode cX3_init 0 = .ok (.aload_n 0, 1) := dk_42 (dk_at dksX3_init_0 0 rfl rfl)
theorem dX3_init_1 : decode cX3_init 1 = .ok (.invokespecial 3, 3) := dk_183 0 3 (dk_at dksX3_init_0 1 rfl rfl)
theorem dX3_init_4 : decode cX3_init 4 = .ok (.aload_n 0, 1) := dk_42 (dk_at dksX3_init_0 4 rfl rfl)
theorem dX3_init_5 : decode cX3_init 5 = .ok (.aload_n 1, 1) := dk_43 (dk_at dksX3_init_0 5 rfl rfl)
theorem dX3_init_6 : decode cX3_init 6 = .ok (.putfield 9, 3) := dk_181 0 9 (dk_at dksX3_init_0 6 rfl rfl)
theorem dX3_init_9 : decode cX3_init 9 = .ok (.aload_n 0, 1) := dk_42 (dk_at dksX3_init_0 9 rfl rfl)
theorem dX3_init_10 : decode cX3_init 10 = .ok (.iload_n 2, 1) := dk_28 (dk_at dksX3_init_0 10 rfl rfl)
theorem dX3_init_11 : decode cX3_init 11 = .ok (.putfield 15, 3) := dk_181 0 15 (dk_at dksX3_init_0 11 rfl rfl)
theorem dX3_init_14 : decode cX3_init 14 = .ok (.aload_n 0, 1) := dk_42 (dk_at dksX3_init_0 14 rfl rfl)
theorem dX3_init_15 : decode cX3_init 15 = .ok (.invokevirtual 19, 3) := dk_182 0 19 (dk_at dksX3_init_0 15 rfl rfl)
theorem dX3_init_18 : decode cX3_init 18 = .ok (.return_, 1) := dk_177 (dk_at dksX3_init_0 18 rfl rfl)
abbrev cX3_look : ByteArray := prog_13_method_4_code
def yX3_look : MethodName := ⟨RX3, "look", "()V"⟩
def dkwX3_look_13 : List UInt8 := [180, 0, 9, 42, 180, 0, 22, 51, 133, 181, 0, 28, 42, 89, 180, 0, 25, 4, 96, 181, 0, 25, 177]
abbrev dktX3_look_13 : List UInt8 := dkwX3_look_13 ++ []
def dkwX3_look_12 : List UInt8 := [100, 7, 164, 0, 42, 42, 20, 0, 39, 181, 0, 28, 167, 0, 32, 42, 6, 181, 0, 32, 42, 42]
abbrev dktX3_look_12 : List UInt8 := dkwX3_look_12 ++ dktX3_look_13
def dkwX3_look_11 : List UInt8 := [181, 0, 28, 42, 89, 180, 0, 25, 4, 96, 181, 0, 25, 167, 255, 195, 42, 180, 0, 25, 42, 180, 0, 22]
abbrev dktX3_look_11 : List UInt8 := dkwX3_look_11 ++ dktX3_look_12
def dkwX3_look_10 : List UInt8 := [20, 0, 44, 42, 180, 0, 28, 105, 42, 180, 0, 9, 42, 180, 0, 25, 51, 133, 97, 20, 0, 46, 101]
abbrev dktX3_look_10 : List UInt8 := dkwX3_look_10 ++ dktX3_look_11
def dkwX3_look_9 : List UInt8 := [180, 0, 25, 182, 0, 41, 153, 0, 56, 42, 180, 0, 25, 42, 180, 0, 22, 100, 7, 162, 0, 30, 42]
abbrev dktX3_look_9 : List UInt8 := dkwX3_look_9 ++ dktX3_look_10
def dkwX3_look_8 : List UInt8 := [181, 0, 28, 167, 0, 135, 42, 42, 180, 0, 22, 182, 0, 41, 153, 0, 95, 42, 5, 181, 0, 32, 42, 42]
abbrev dktX3_look_8 : List UInt8 := dkwX3_look_8 ++ dktX3_look_9
def dkwX3_look_7 : List UInt8 := [181, 0, 25, 167, 255, 193, 42, 180, 0, 25, 42, 180, 0, 22, 100, 16, 7, 164, 0, 145, 42, 20, 0, 39]
abbrev dktX3_look_7 : List UInt8 := dkwX3_look_7 ++ dktX3_look_8
def dkwX3_look_6 : List UInt8 := [180, 0, 25, 51, 133, 129, 167, 0, 6, 20, 0, 39, 181, 0, 28, 42, 89, 180, 0, 25, 4, 96]
abbrev dktX3_look_6 : List UInt8 := dkwX3_look_6 ++ dktX3_look_7
def dkwX3_look_5 : List UInt8 := [42, 180, 0, 22, 100, 16, 7, 162, 0, 24, 42, 180, 0, 28, 16, 8, 121, 42, 180, 0, 9, 42]
abbrev dktX3_look_5 : List UInt8 := dkwX3_look_5 ++ dktX3_look_6
def dkwX3_look_4 : List UInt8 := [153, 0, 98, 42, 4, 181, 0, 32, 42, 42, 180, 0, 25, 182, 0, 35, 153, 0, 58, 42, 42, 180, 0, 25]
abbrev dktX3_look_4 : List UInt8 := dkwX3_look_4 ++ dktX3_look_5
def dkwX3_look_3 : List UInt8 := [180, 0, 15, 160, 0, 11, 42, 3, 181, 0, 32, 167, 0, 241, 42, 42, 180, 0, 22, 182, 0, 35]
abbrev dktX3_look_3 : List UInt8 := dkwX3_look_3 ++ dktX3_look_4
def dkwX3_look_2 : List UInt8 := [181, 0, 22, 167, 255, 207, 42, 42, 180, 0, 22, 181, 0, 25, 42, 9, 181, 0, 28, 42, 180, 0, 22, 42]
abbrev dktX3_look_2 : List UInt8 := dkwX3_look_2 ++ dktX3_look_3
def dkwX3_look_1 : List UInt8 := [159, 0, 17, 42, 180, 0, 9, 42, 180, 0, 22, 51, 16, 10, 160, 0, 16, 42, 89, 180, 0, 22, 4, 96]
abbrev dktX3_look_1 : List UInt8 := dkwX3_look_1 ++ dktX3_look_2
def dkwX3_look_0 : List UInt8 := [42, 180, 0, 22, 42, 180, 0, 15, 162, 0, 44, 42, 180, 0, 9, 42, 180, 0, 22, 51, 16, 32]
abbrev dktX3_look_0 : List UInt8 := dkwX3_look_0 ++ dktX3_look_1
theorem dksX3_look_0 : cX3_look.data.toList.drop 0 = dktX3_look_0 := by decide +kernel
theorem dksX3_look_1 : cX3_look.data.toList.drop 22 = dktX3_look_1 := dk_seg dksX3_look_0 22 rfl rfl
theorem dksX3_look_2 : cX3_look.data.toList.drop 46 = dktX3_look_2 := dk_seg dksX3_look_1 24 rfl rfl
theorem dksX3_look_3 : cX3_look.data.toList.drop 70 = dktX3_look_3 := dk_seg dksX3_look_2 24 rfl rfl
theorem dksX3_look_4 : cX3_look.data.toList.drop 92 = dktX3_look_4 := dk_seg dksX3_look_3 22 rfl rfl
theorem dksX3_look_5 : cX3_look.data.toList.drop 116 = dktX3_look_5 := dk_seg dksX3_look_4 24 rfl rfl
theorem dksX3_look_6 : cX3_look.data.toList.drop 138 = dktX3_look_6 := dk_seg dksX3_look_5 22 rfl rfl
theorem dksX3_look_7 : cX3_look.data.toList.drop 160 = dktX3_look_7 := dk_seg dksX3_look_6 22 rfl rfl
theorem dksX3_look_8 : cX3_look.data.toList.drop 184 = dktX3_look_8 := dk_seg dksX3_look_7 24 rfl rfl
theorem dksX3_look_9 : cX3_look.data.toList.drop 208 = dktX3_look_9 := dk_seg dksX3_look_8 24 rfl rfl
theorem dksX3_look_10 : cX3_look.data.toList.drop 231 = dktX3_look_10 := dk_seg dksX3_look_9 23 rfl rfl
theorem dksX3_look_11 : cX3_look.data.toList.drop 254 = dktX3_look_11 := dk_seg dksX3_look_10 23 rfl rfl
theorem dksX3_look_12 : cX3_look.data.toList.drop 278 = dktX3_look_12 := dk_seg dksX3_look_11 24 rfl rfl
theorem dksX3_look_13 : cX3_look.data.toList.drop 300 = dktX3_look_13 := dk_seg dksX3_look_12 22 rfl rfl
theorem dX3_look_0 : decode cX3_look 0 = .ok (.aload_n 0, 1) := dk_42 (dk_at dksX3_look_0 0 rfl rfl)
theorem dX3_look_1 : decode cX3_look 1 = .ok (.getfield 22, 3) := dk_180 0 22 (dk_at dksX3_look_0 1 rfl rfl)
theorem dX3_look_4 : decode cX3_look 4 = .ok (.aload_n 0, 1) := dk_42 (dk_at dksX3_look_0 4 rfl rfl)
theorem dX3_look_5 : decode cX3_look 5 = .ok (.getfield 15, 3) := dk_180 0 15 (dk_at dksX3_look_0 5 rfl rfl)
theorem dX3_look_8 : decode cX3_look 8 = .ok (.if_icmp .ge 44, 3) := dk_162 0 44 (dk_at dksX3_look_0 8 rfl rfl)
theorem dX3_look_11 : decode cX3_look 11 = .ok (.aload_n 0, 1) := dk_42 (dk_at dksX3_look_0 11 rfl rfl)
theorem dX3_look_12 : decode cX3_look 12 = .ok (.getfield 9, 3) := dk_180 0 9 (dk_at dksX3_look_0 12 rfl rfl)
theorem dX3_look_15 : decode cX3_look 15 = .ok (.aload_n 0, 1) := dk_42 (dk_at dksX3_look_0 15 rfl rfl)
theorem dX3_look_16 : decode cX3_look 16 = .ok (.getfield 22, 3) := dk_180 0 22 (dk_at dksX3_look_0 16 rfl rfl)
theorem dX3_look_19 : decode cX3_look 19 = .ok (.baload, 1) := dk_51 (dk_at dksX3_look_0 19 rfl rfl)
theorem dX3_look_20 : decode cX3_look 20 = .ok (.bipush 32, 2) := dk_16 32 (dk_at dksX3_look_0 20 rfl rfl)
theorem dX3_look_22 : decode cX3_look 22 = .ok (.if_icmp .eq 17, 3) := dk_159 0 17 (dk_at dksX3_look_1 0 rfl rfl)
theorem dX3_look_25 : decode cX3_look 25 = .ok (.aload_n 0, 1) := dk_42 (dk_at dksX3_look_1 3 rfl rfl)
theorem dX3_look_26 : decode cX3_look 26 = .ok (.getfield 9, 3) := dk_180 0 9 (dk_at dksX3_look_1 4 rfl rfl)
theorem dX3_look_29 : decode cX3_look 29 = .ok (.aload_n 0, 1) := dk_42 (dk_at dksX3_look_1 7 rfl rfl)
theorem dX3_look_30 : decode cX3_look 30 = .ok (.getfield 22, 3) := dk_180 0 22 (dk_at dksX3_look_1 8 rfl rfl)
theorem dX3_look_33 : decode cX3_look 33 = .ok (.baload, 1) := dk_51 (dk_at dksX3_look_1 11 rfl rfl)
theorem dX3_look_34 : decode cX3_look 34 = .ok (.bipush 10, 2) := dk_16 10 (dk_at dksX3_look_1 12 rfl rfl)
theorem dX3_look_36 : decode cX3_look 36 = .ok (.if_icmp .ne 16, 3) := dk_160 0 16 (dk_at dksX3_look_1 14 rfl rfl)
theorem dX3_look_39 : decode cX3_look 39 = .ok (.aload_n 0, 1) := dk_42 (dk_at dksX3_look_1 17 rfl rfl)
theorem dX3_look_40 : decode cX3_look 40 = .ok (.dup, 1) := dk_89 (dk_at dksX3_look_1 18 rfl rfl)
theorem dX3_look_41 : decode cX3_look 41 = .ok (.getfield 22, 3) := dk_180 0 22 (dk_at dksX3_look_1 19 rfl rfl)
theorem dX3_look_44 : decode cX3_look 44 = .ok (.iconst 1, 1) := dk_4 (dk_at dksX3_look_1 22 rfl rfl)
theorem dX3_look_45 : decode cX3_look 45 = .ok (.iadd, 1) := dk_96 (dk_at dksX3_look_1 23 rfl rfl)
theorem dX3_look_46 : decode cX3_look 46 = .ok (.putfield 22, 3) := dk_181 0 22 (dk_at dksX3_look_2 0 rfl rfl)
theorem dX3_look_49 : decode cX3_look 49 = .ok (.goto (-49), 3) := dk_167 255 207 (dk_at dksX3_look_2 3 rfl rfl)
theorem dX3_look_52 : decode cX3_look 52 = .ok (.aload_n 0, 1) := dk_42 (dk_at dksX3_look_2 6 rfl rfl)
theorem dX3_look_53 : decode cX3_look 53 = .ok (.aload_n 0, 1) := dk_42 (dk_at dksX3_look_2 7 rfl rfl)
theorem dX3_look_54 : decode cX3_look 54 = .ok (.getfield 22, 3) := dk_180 0 22 (dk_at dksX3_look_2 8 rfl rfl)
theorem dX3_look_57 : decode cX3_look 57 = .ok (.putfield 25, 3) := dk_181 0 25 (dk_at dksX3_look_2 11 rfl rfl)
theorem dX3_look_60 : decode cX3_look 60 = .ok (.aload_n 0, 1) := dk_42 (dk_at dksX3_look_2 14 rfl rfl)
theorem dX3_look_61 : decode cX3_look 61 = .ok (.lconst 0, 1) := dk_9 (dk_at dksX3_look_2 15 rfl rfl)
theorem dX3_look_62 : decode cX3_look 62 = .ok (.putfield 28, 3) := dk_181 0 28 (dk_at dksX3_look_2 16 rfl rfl)
theorem dX3_look_65 : decode cX3_look 65 = .ok (.aload_n 0, 1) := dk_42 (dk_at dksX3_look_2 19 rfl rfl)
theorem dX3_look_66 : decode cX3_look 66 = .ok (.getfield 22, 3) := dk_180 0 22 (dk_at dksX3_look_2 20 rfl rfl)
theorem dX3_look_69 : decode cX3_look 69 = .ok (.aload_n 0, 1) := dk_42 (dk_at dksX3_look_2 23 rfl rfl)
theorem dX3_look_70 : decode cX3_look 70 = .ok (.getfield 15, 3) := dk_180 0 15 (dk_at dksX3_look_3 0 rfl rfl)
theorem dX3_look_73 : decode cX3_look 73 = .ok (.if_icmp .ne 11, 3) := dk_160 0 11 (dk_at dksX3_look_3 3 rfl rfl)
theorem dX3_look_76 : decode cX3_look 76 = .ok (.aload_n 0, 1) := dk_42 (dk_at dksX3_look_3 6 rfl rfl)
theorem dX3_look_77 : decode cX3_look 77 = .ok (.iconst 0, 1) := dk_3 (dk_at dksX3_look_3 7 rfl rfl)
theorem dX3_look_78 : decode cX3_look 78 = .ok (.putfield 32, 3) := dk_181 0 32 (dk_at dksX3_look_3 8 rfl rfl)
theorem dX3_look_81 : decode cX3_look 81 = .ok (.goto 241, 3) := dk_167 0 241 (dk_at dksX3_look_3 11 rfl rfl)
theorem dX3_look_84 : decode cX3_look 84 = .ok (.aload_n 0, 1) := dk_42 (dk_at dksX3_look_3 14 rfl rfl)
theorem dX3_look_85 : decode cX3_look 85 = .ok (.aload_n 0, 1) := dk_42 (dk_at dksX3_look_3 15 rfl rfl)
theorem dX3_look_86 : decode cX3_look 86 = .ok (.getfield 22, 3) := dk_180 0 22 (dk_at dksX3_look_3 16 rfl rfl)
theorem dX3_look_89 : decode cX3_look 89 = .ok (.invokevirtual 35, 3) := dk_182 0 35 (dk_at dksX3_look_3 19 rfl rfl)
theorem dX3_look_92 : decode cX3_look 92 = .ok (.ifCond .eq 98, 3) := dk_153 0 98 (dk_at dksX3_look_4 0 rfl rfl)
theorem dX3_look_95 : decode cX3_look 95 = .ok (.aload_n 0, 1) := dk_42 (dk_at dksX3_look_4 3 rfl rfl)
theorem dX3_look_96 : decode cX3_look 96 = .ok (.iconst 1, 1) := dk_4 (dk_at dksX3_look_4 4 rfl rfl)
theorem dX3_look_97 : decode cX3_look 97 = .ok (.putfield 32, 3) := dk_181 0 32 (dk_at dksX3_look_4 5 rfl rfl)
theorem dX3_look_100 : decode cX3_look 100 = .ok (.aload_n 0, 1) := dk_42 (dk_at dksX3_look_4 8 rfl rfl)
theorem dX3_look_101 : decode cX3_look 101 = .ok (.aload_n 0, 1) := dk_42 (dk_at dksX3_look_4 9 rfl rfl)
theorem dX3_look_102 : decode cX3_look 102 = .ok (.getfield 25, 3) := dk_180 0 25 (dk_at dksX3_look_4 10 rfl rfl)
theorem dX3_look_105 : decode cX3_look 105 = .ok (.invokevirtual 35, 3) := dk_182 0 35 (dk_at dksX3_look_4 13 rfl rfl)
theorem dX3_look_108 : decode cX3_look 108 = .ok (.ifCond .eq 58, 3) := dk_153 0 58 (dk_at dksX3_look_4 16 rfl rfl)
theorem dX3_look_111 : decode cX3_look 111 = .ok (.aload_n 0, 1) := dk_42 (dk_at dksX3_look_4 19 rfl rfl)
theorem dX3_look_112 : decode cX3_look 112 = .ok (.aload_n 0, 1) := dk_42 (dk_at dksX3_look_4 20 rfl rfl)
theorem dX3_look_113 : decode cX3_look 113 = .ok (.getfield 25, 3) := dk_180 0 25 (dk_at dksX3_look_4 21 rfl rfl)
theorem dX3_look_116 : decode cX3_look 116 = .ok (.aload_n 0, 1) := dk_42 (dk_at dksX3_look_5 0 rfl rfl)
theorem dX3_look_117 : decode cX3_look 117 = .ok (.getfield 22, 3) := dk_180 0 22 (dk_at dksX3_look_5 1 rfl rfl)
theorem dX3_look_120 : decode cX3_look 120 = .ok (.isub, 1) := dk_100 (dk_at dksX3_look_5 4 rfl rfl)
theorem dX3_look_121 : decode cX3_look 121 = .ok (.bipush 7, 2) := dk_16 7 (dk_at dksX3_look_5 5 rfl rfl)
theorem dX3_look_123 : decode cX3_look 123 = .ok (.if_icmp .ge 24, 3) := dk_162 0 24 (dk_at dksX3_look_5 7 rfl rfl)
theorem dX3_look_126 : decode cX3_look 126 = .ok (.aload_n 0, 1) := dk_42 (dk_at dksX3_look_5 10 rfl rfl)
theorem dX3_look_127 : decode cX3_look 127 = .ok (.getfield 28, 3) := dk_180 0 28 (dk_at dksX3_look_5 11 rfl rfl)
theorem dX3_look_130 : decode cX3_look 130 = .ok (.bipush 8, 2) := dk_16 8 (dk_at dksX3_look_5 14 rfl rfl)
theorem dX3_look_132 : decode cX3_look 132 = .ok (.lshl, 1) := dk_121 (dk_at dksX3_look_5 16 rfl rfl)
theorem dX3_look_133 : decode cX3_look 133 = .ok (.aload_n 0, 1) := dk_42 (dk_at dksX3_look_5 17 rfl rfl)
theorem dX3_look_134 : decode cX3_look 134 = .ok (.getfield 9, 3) := dk_180 0 9 (dk_at dksX3_look_5 18 rfl rfl)
theorem dX3_look_137 : decode cX3_look 137 = .ok (.aload_n 0, 1) := dk_42 (dk_at dksX3_look_5 21 rfl rfl)
theorem dX3_look_138 : decode cX3_look 138 = .ok (.getfield 25, 3) := dk_180 0 25 (dk_at dksX3_look_6 0 rfl rfl)
theorem dX3_look_141 : decode cX3_look 141 = .ok (.baload, 1) := dk_51 (dk_at dksX3_look_6 3 rfl rfl)
theorem dX3_look_142 : decode cX3_look 142 = .ok (.i2l, 1) := dk_133 (dk_at dksX3_look_6 4 rfl rfl)
theorem dX3_look_143 : decode cX3_look 143 = .ok (.lor, 1) := dk_129 (dk_at dksX3_look_6 5 rfl rfl)
theorem dX3_look_144 : decode cX3_look 144 = .ok (.goto 6, 3) := dk_167 0 6 (dk_at dksX3_look_6 6 rfl rfl)
theorem dX3_look_147 : decode cX3_look 147 = .ok (.ldc2_w 39, 3) := dk_20 0 39 (dk_at dksX3_look_6 9 rfl rfl)
theorem dX3_look_150 : decode cX3_look 150 = .ok (.putfield 28, 3) := dk_181 0 28 (dk_at dksX3_look_6 12 rfl rfl)
theorem dX3_look_153 : decode cX3_look 153 = .ok (.aload_n 0, 1) := dk_42 (dk_at dksX3_look_6 15 rfl rfl)
theorem dX3_look_154 : decode cX3_look 154 = .ok (.dup, 1) := dk_89 (dk_at dksX3_look_6 16 rfl rfl)
theorem dX3_look_155 : decode cX3_look 155 = .ok (.getfield 25, 3) := dk_180 0 25 (dk_at dksX3_look_6 17 rfl rfl)
theorem dX3_look_158 : decode cX3_look 158 = .ok (.iconst 1, 1) := dk_4 (dk_at dksX3_look_6 20 rfl rfl)
theorem dX3_look_159 : decode cX3_look 159 = .ok (.iadd, 1) := dk_96 (dk_at dksX3_look_6 21 rfl rfl)
theorem dX3_look_160 : decode cX3_look 160 = .ok (.putfield 25, 3) := dk_181 0 25 (dk_at dksX3_look_7 0 rfl rfl)
theorem dX3_look_163 : decode cX3_look 163 = .ok (.goto (-63), 3) := dk_167 255 193 (dk_at dksX3_look_7 3 rfl rfl)
theorem dX3_look_166 : decode cX3_look 166 = .ok (.aload_n 0, 1) := dk_42 (dk_at dksX3_look_7 6 rfl rfl)
theorem dX3_look_167 : decode cX3_look 167 = .ok (.getfield 25, 3) := dk_180 0 25 (dk_at dksX3_look_7 7 rfl rfl)
theorem dX3_look_170 : decode cX3_look 170 = .ok (.aload_n 0, 1) := dk_42 (dk_at dksX3_look_7 10 rfl rfl)
theorem dX3_look_171 : decode cX3_look 171 = .ok (.getfield 22, 3) := dk_180 0 22 (dk_at dksX3_look_7 11 rfl rfl)
theorem dX3_look_174 : decode cX3_look 174 = .ok (.isub, 1) := dk_100 (dk_at dksX3_look_7 14 rfl rfl)
theorem dX3_look_175 : decode cX3_look 175 = .ok (.bipush 7, 2) := dk_16 7 (dk_at dksX3_look_7 15 rfl rfl)
theorem dX3_look_177 : decode cX3_look 177 = .ok (.if_icmp .le 145, 3) := dk_164 0 145 (dk_at dksX3_look_7 17 rfl rfl)
theorem dX3_look_180 : decode cX3_look 180 = .ok (.aload_n 0, 1) := dk_42 (dk_at dksX3_look_7 20 rfl rfl)
theorem dX3_look_181 : decode cX3_look 181 = .ok (.ldc2_w 39, 3) := dk_20 0 39 (dk_at dksX3_look_7 21 rfl rfl)
theorem dX3_look_184 : decode cX3_look 184 = .ok (.putfield 28, 3) := dk_181 0 28 (dk_at dksX3_look_8 0 rfl rfl)
theorem dX3_look_187 : decode cX3_look 187 = .ok (.goto 135, 3) := dk_167 0 135 (dk_at dksX3_look_8 3 rfl rfl)
theorem dX3_look_190 : decode cX3_look 190 = .ok (.aload_n 0, 1) := dk_42 (dk_at dksX3_look_8 6 rfl rfl)
theorem dX3_look_191 : decode cX3_look 191 = .ok (.aload_n 0, 1) := dk_42 (dk_at dksX3_look_8 7 rfl rfl)
theorem dX3_look_192 : decode cX3_look 192 = .ok (.getfield 22, 3) := dk_180 0 22 (dk_at dksX3_look_8 8 rfl rfl)
theorem dX3_look_195 : decode cX3_look 195 = .ok (.invokevirtual 41, 3) := dk_182 0 41 (dk_at dksX3_look_8 11 rfl rfl)
theorem dX3_look_198 : decode cX3_look 198 = .ok (.ifCond .eq 95, 3) := dk_153 0 95 (dk_at dksX3_look_8 14 rfl rfl)
theorem dX3_look_201 : decode cX3_look 201 = .ok (.aload_n 0, 1) := dk_42 (dk_at dksX3_look_8 17 rfl rfl)
theorem dX3_look_202 : decode cX3_look 202 = .ok (.iconst 2, 1) := dk_5 (dk_at dksX3_look_8 18 rfl rfl)
theorem dX3_look_203 : decode cX3_look 203 = .ok (.putfield 32, 3) := dk_181 0 32 (dk_at dksX3_look_8 19 rfl rfl)
theorem dX3_look_206 : decode cX3_look 206 = .ok (.aload_n 0, 1) := dk_42 (dk_at dksX3_look_8 22 rfl rfl)
theorem dX3_look_207 : decode cX3_look 207 = .ok (.aload_n 0, 1) := dk_42 (dk_at dksX3_look_8 23 rfl rfl)
theorem dX3_look_208 : decode cX3_look 208 = .ok (.getfield 25, 3) := dk_180 0 25 (dk_at dksX3_look_9 0 rfl rfl)
theorem dX3_look_211 : decode cX3_look 211 = .ok (.invokevirtual 41, 3) := dk_182 0 41 (dk_at dksX3_look_9 3 rfl rfl)
theorem dX3_look_214 : decode cX3_look 214 = .ok (.ifCond .eq 56, 3) := dk_153 0 56 (dk_at dksX3_look_9 6 rfl rfl)
theorem dX3_look_217 : decode cX3_look 217 = .ok (.aload_n 0, 1) := dk_42 (dk_at dksX3_look_9 9 rfl rfl)
theorem dX3_look_218 : decode cX3_look 218 = .ok (.getfield 25, 3) := dk_180 0 25 (dk_at dksX3_look_9 10 rfl rfl)
theorem dX3_look_221 : decode cX3_look 221 = .ok (.aload_n 0, 1) := dk_42 (dk_at dksX3_look_9 13 rfl rfl)
theorem dX3_look_222 : decode cX3_look 222 = .ok (.getfield 22, 3) := dk_180 0 22 (dk_at dksX3_look_9 14 rfl rfl)
theorem dX3_look_225 : decode cX3_look 225 = .ok (.isub, 1) := dk_100 (dk_at dksX3_look_9 17 rfl rfl)
theorem dX3_look_226 : decode cX3_look 226 = .ok (.iconst 4, 1) := dk_7 (dk_at dksX3_look_9 18 rfl rfl)
theorem dX3_look_227 : decode cX3_look 227 = .ok (.if_icmp .ge 30, 3) := dk_162 0 30 (dk_at dksX3_look_9 19 rfl rfl)
theorem dX3_look_230 : decode cX3_look 230 = .ok (.aload_n 0, 1) := dk_42 (dk_at dksX3_look_9 22 rfl rfl)
theorem dX3_look_231 : decode cX3_look 231 = .ok (.ldc2_w 44, 3) := dk_20 0 44 (dk_at dksX3_look_10 0 rfl rfl)
theorem dX3_look_234 : decode cX3_look 234 = .ok (.aload_n 0, 1) := dk_42 (dk_at dksX3_look_10 3 rfl rfl)
theorem dX3_look_235 : decode cX3_look 235 = .ok (.getfield 28, 3) := dk_180 0 28 (dk_at dksX3_look_10 4 rfl rfl)
theorem dX3_look_238 : decode cX3_look 238 = .ok (.lmul, 1) := dk_105 (dk_at dksX3_look_10 7 rfl rfl)
theorem dX3_look_239 : decode cX3_look 239 = .ok (.aload_n 0, 1) := dk_42 (dk_at dksX3_look_10 8 rfl rfl)
theorem dX3_look_240 : decode cX3_look 240 = .ok (.getfield 9, 3) := dk_180 0 9 (dk_at dksX3_look_10 9 rfl rfl)
theorem dX3_look_243 : decode cX3_look 243 = .ok (.aload_n 0, 1) := dk_42 (dk_at dksX3_look_10 12 rfl rfl)
theorem dX3_look_244 : decode cX3_look 244 = .ok (.getfield 25, 3) := dk_180 0 25 (dk_at dksX3_look_10 13 rfl rfl)
theorem dX3_look_247 : decode cX3_look 247 = .ok (.baload, 1) := dk_51 (dk_at dksX3_look_10 16 rfl rfl)
theorem dX3_look_248 : decode cX3_look 248 = .ok (.i2l, 1) := dk_133 (dk_at dksX3_look_10 17 rfl rfl)
theorem dX3_look_249 : decode cX3_look 249 = .ok (.ladd, 1) := dk_97 (dk_at dksX3_look_10 18 rfl rfl)
theorem dX3_look_250 : decode cX3_look 250 = .ok (.ldc2_w 46, 3) := dk_20 0 46 (dk_at dksX3_look_10 19 rfl rfl)
theorem dX3_look_253 : decode cX3_look 253 = .ok (.lsub, 1) := dk_101 (dk_at dksX3_look_10 22 rfl rfl)
theorem dX3_look_254 : decode cX3_look 254 = .ok (.putfield 28, 3) := dk_181 0 28 (dk_at dksX3_look_11 0 rfl rfl)
theorem dX3_look_257 : decode cX3_look 257 = .ok (.aload_n 0, 1) := dk_42 (dk_at dksX3_look_11 3 rfl rfl)
theorem dX3_look_258 : decode cX3_look 258 = .ok (.dup, 1) := dk_89 (dk_at dksX3_look_11 4 rfl rfl)
theorem dX3_look_259 : decode cX3_look 259 = .ok (.getfield 25, 3) := dk_180 0 25 (dk_at dksX3_look_11 5 rfl rfl)
theorem dX3_look_262 : decode cX3_look 262 = .ok (.iconst 1, 1) := dk_4 (dk_at dksX3_look_11 8 rfl rfl)
theorem dX3_look_263 : decode cX3_look 263 = .ok (.iadd, 1) := dk_96 (dk_at dksX3_look_11 9 rfl rfl)
theorem dX3_look_264 : decode cX3_look 264 = .ok (.putfield 25, 3) := dk_181 0 25 (dk_at dksX3_look_11 10 rfl rfl)
theorem dX3_look_267 : decode cX3_look 267 = .ok (.goto (-61), 3) := dk_167 255 195 (dk_at dksX3_look_11 13 rfl rfl)
theorem dX3_look_270 : decode cX3_look 270 = .ok (.aload_n 0, 1) := dk_42 (dk_at dksX3_look_11 16 rfl rfl)
theorem dX3_look_271 : decode cX3_look 271 = .ok (.getfield 25, 3) := dk_180 0 25 (dk_at dksX3_look_11 17 rfl rfl)
theorem dX3_look_274 : decode cX3_look 274 = .ok (.aload_n 0, 1) := dk_42 (dk_at dksX3_look_11 20 rfl rfl)
theorem dX3_look_275 : decode cX3_look 275 = .ok (.getfield 22, 3) := dk_180 0 22 (dk_at dksX3_look_11 21 rfl rfl)
theorem dX3_look_278 : decode cX3_look 278 = .ok (.isub, 1) := dk_100 (dk_at dksX3_look_12 0 rfl rfl)
theorem dX3_look_279 : decode cX3_look 279 = .ok (.iconst 4, 1) := dk_7 (dk_at dksX3_look_12 1 rfl rfl)
theorem dX3_look_280 : decode cX3_look 280 = .ok (.if_icmp .le 42, 3) := dk_164 0 42 (dk_at dksX3_look_12 2 rfl rfl)
theorem dX3_look_283 : decode cX3_look 283 = .ok (.aload_n 0, 1) := dk_42 (dk_at dksX3_look_12 5 rfl rfl)
theorem dX3_look_284 : decode cX3_look 284 = .ok (.ldc2_w 39, 3) := dk_20 0 39 (dk_at dksX3_look_12 6 rfl rfl)
theorem dX3_look_287 : decode cX3_look 287 = .ok (.putfield 28, 3) := dk_181 0 28 (dk_at dksX3_look_12 9 rfl rfl)
theorem dX3_look_290 : decode cX3_look 290 = .ok (.goto 32, 3) := dk_167 0 32 (dk_at dksX3_look_12 12 rfl rfl)
theorem dX3_look_293 : decode cX3_look 293 = .ok (.aload_n 0, 1) := dk_42 (dk_at dksX3_look_12 15 rfl rfl)
theorem dX3_look_294 : decode cX3_look 294 = .ok (.iconst 3, 1) := dk_6 (dk_at dksX3_look_12 16 rfl rfl)
theorem dX3_look_295 : decode cX3_look 295 = .ok (.putfield 32, 3) := dk_181 0 32 (dk_at dksX3_look_12 17 rfl rfl)
theorem dX3_look_298 : decode cX3_look 298 = .ok (.aload_n 0, 1) := dk_42 (dk_at dksX3_look_12 20 rfl rfl)
theorem dX3_look_299 : decode cX3_look 299 = .ok (.aload_n 0, 1) := dk_42 (dk_at dksX3_look_12 21 rfl rfl)
theorem dX3_look_300 : decode cX3_look 300 = .ok (.getfield 9, 3) := dk_180 0 9 (dk_at dksX3_look_13 0 rfl rfl)
theorem dX3_look_303 : decode cX3_look 303 = .ok (.aload_n 0, 1) := dk_42 (dk_at dksX3_look_13 3 rfl rfl)
theorem dX3_look_304 : decode cX3_look 304 = .ok (.getfield 22, 3) := dk_180 0 22 (dk_at dksX3_look_13 4 rfl rfl)
theorem dX3_look_307 : decode cX3_look 307 = .ok (.baload, 1) := dk_51 (dk_at dksX3_look_13 7 rfl rfl)
theorem dX3_look_308 : decode cX3_look 308 = .ok (.i2l, 1) := dk_133 (dk_at dksX3_look_13 8 rfl rfl)
theorem dX3_look_309 : decode cX3_look 309 = .ok (.putfield 28, 3) := dk_181 0 28 (dk_at dksX3_look_13 9 rfl rfl)
theorem dX3_look_312 : decode cX3_look 312 = .ok (.aload_n 0, 1) := dk_42 (dk_at dksX3_look_13 12 rfl rfl)
theorem dX3_look_313 : decode cX3_look 313 = .ok (.dup, 1) := dk_89 (dk_at dksX3_look_13 13 rfl rfl)
theorem dX3_look_314 : decode cX3_look 314 = .ok (.getfield 25, 3) := dk_180 0 25 (dk_at dksX3_look_13 14 rfl rfl)
theorem dX3_look_317 : decode cX3_look 317 = .ok (.iconst 1, 1) := dk_4 (dk_at dksX3_look_13 17 rfl rfl)
theorem dX3_look_318 : decode cX3_look 318 = .ok (.iadd, 1) := dk_96 (dk_at dksX3_look_13 18 rfl rfl)
theorem dX3_look_319 : decode cX3_look 319 = .ok (.putfield 25, 3) := dk_181 0 25 (dk_at dksX3_look_13 19 rfl rfl)
theorem dX3_look_322 : decode cX3_look 322 = .ok (.return_, 1) := dk_177 (dk_at dksX3_look_13 22 rfl rfl)
abbrev cX3_isLetter : ByteArray := prog_13_method_2_code
def yX3_isLetter : MethodName := ⟨RX3, "isLetter", "(I)Z"⟩
def dkwX3_isLetter_1 : List UInt8 := [51, 16, 122, 163, 0, 7, 4, 167, 0, 4, 3, 172]
abbrev dktX3_isLetter_1 : List UInt8 := dkwX3_isLetter_1 ++ []
def dkwX3_isLetter_0 : List UInt8 := [27, 42, 180, 0, 15, 162, 0, 29, 42, 180, 0, 9, 27, 51, 16, 97, 161, 0, 18, 42, 180, 0, 9, 27]
abbrev dktX3_isLetter_0 : List UInt8 := dkwX3_isLetter_0 ++ dktX3_isLetter_1
theorem dksX3_isLetter_0 : cX3_isLetter.data.toList.drop 0 = dktX3_isLetter_0 := by decide +kernel
theorem dksX3_isLetter_1 : cX3_isLetter.data.toList.drop 24 = dktX3_isLetter_1 := dk_seg dksX3_isLetter_0 24 rfl rfl
theorem dX3_isLetter_0 : decode cX3_isLetter 0 = .ok (.iload_n 1, 1) := dk_27 (dk_at dksX3_isLetter_0 0 rfl rfl)
theorem dX3_isLetter_1 : decode cX3_isLetter 1 = .ok (.aload_n 0, 1) := dk_42 (dk_at dksX3_isLetter_0 1 rfl rfl)
theorem dX3_isLetter_2 : decode cX3_isLetter 2 = .ok (.getfield 15, 3) := dk_180 0 15 (dk_at dksX3_isLetter_0 2 rfl rfl)
theorem dX3_isLetter_5 : decode cX3_isLetter 5 = .ok (.if_icmp .ge 29, 3) := dk_162 0 29 (dk_at dksX3_isLetter_0 5 rfl rfl)
theorem dX3_isLetter_8 : decode cX3_isLetter 8 = .ok (.aload_n 0, 1) := dk_42 (dk_at dksX3_isLetter_0 8 rfl rfl)
theorem dX3_isLetter_9 : decode cX3_isLetter 9 = .ok (.getfield 9, 3) := dk_180 0 9 (dk_at dksX3_isLetter_0 9 rfl rfl)
theorem dX3_isLetter_12 : decode cX3_isLetter 12 = .ok (.iload_n 1, 1) := dk_27 (dk_at dksX3_isLetter_0 12 rfl rfl)
theorem dX3_isLetter_13 : decode cX3_isLetter 13 = .ok (.baload, 1) := dk_51 (dk_at dksX3_isLetter_0 13 rfl rfl)
theorem dX3_isLetter_14 : decode cX3_isLetter 14 = .ok (.bipush 97, 2) := dk_16 97 (dk_at dksX3_isLetter_0 14 rfl rfl)
theorem dX3_isLetter_16 : decode cX3_isLetter 16 = .ok (.if_icmp .lt 18, 3) := dk_161 0 18 (dk_at dksX3_isLetter_0 16 rfl rfl)
theorem dX3_isLetter_19 : decode cX3_isLetter 19 = .ok (.aload_n 0, 1) := dk_42 (dk_at dksX3_isLetter_0 19 rfl rfl)
theorem dX3_isLetter_20 : decode cX3_isLetter 20 = .ok (.getfield 9, 3) := dk_180 0 9 (dk_at dksX3_isLetter_0 20 rfl rfl)
theorem dX3_isLetter_23 : decode cX3_isLetter 23 = .ok (.iload_n 1, 1) := dk_27 (dk_at dksX3_isLetter_0 23 rfl rfl)
theorem dX3_isLetter_24 : decode cX3_isLetter 24 = .ok (.baload, 1) := dk_51 (dk_at dksX3_isLetter_1 0 rfl rfl)
theorem dX3_isLetter_25 : decode cX3_isLetter 25 = .ok (.bipush 122, 2) := dk_16 122 (dk_at dksX3_isLetter_1 1 rfl rfl)
theorem dX3_isLetter_27 : decode cX3_isLetter 27 = .ok (.if_icmp .gt 7, 3) := dk_163 0 7 (dk_at dksX3_isLetter_1 3 rfl rfl)
theorem dX3_isLetter_30 : decode cX3_isLetter 30 = .ok (.iconst 1, 1) := dk_4 (dk_at dksX3_isLetter_1 6 rfl rfl)
theorem dX3_isLetter_31 : decode cX3_isLetter 31 = .ok (.goto 4, 3) := dk_167 0 4 (dk_at dksX3_isLetter_1 7 rfl rfl)
theorem dX3_isLetter_34 : decode cX3_isLetter 34 = .ok (.iconst 0, 1) := dk_3 (dk_at dksX3_isLetter_1 10 rfl rfl)
theorem dX3_isLetter_35 : decode cX3_isLetter 35 = .ok (.ireturn, 1) := dk_172 (dk_at dksX3_isLetter_1 11 rfl rfl)
abbrev cX3_isDigit : ByteArray := prog_13_method_3_code
def yX3_isDigit : MethodName := ⟨RX3, "isDigit", "(I)Z"⟩
def dkwX3_isDigit_1 : List UInt8 := [51, 16, 57, 163, 0, 7, 4, 167, 0, 4, 3, 172]
abbrev dktX3_isDigit_1 : List UInt8 := dkwX3_isDigit_1 ++ []
def dkwX3_isDigit_0 : List UInt8 := [27, 42, 180, 0, 15, 162, 0, 29, 42, 180, 0, 9, 27, 51, 16, 48, 161, 0, 18, 42, 180, 0, 9, 27]
abbrev dktX3_isDigit_0 : List UInt8 := dkwX3_isDigit_0 ++ dktX3_isDigit_1
theorem dksX3_isDigit_0 : cX3_isDigit.data.toList.drop 0 = dktX3_isDigit_0 := by decide +kernel
theorem dksX3_isDigit_1 : cX3_isDigit.data.toList.drop 24 = dktX3_isDigit_1 := dk_seg dksX3_isDigit_0 24 rfl rfl
theorem dX3_isDigit_0 : decode cX3_isDigit 0 = .ok (.iload_n 1, 1) := dk_27 (dk_at dksX3_isDigit_0 0 rfl rfl)
theorem dX3_isDigit_1 : decode cX3_isDigit 1 = .ok (.aload_n 0, 1) := dk_42 (dk_at dksX3_isDigit_0 1 rfl rfl)
theorem dX3_isDigit_2 : decode cX3_isDigit 2 = .ok (.getfield 15, 3) := dk_180 0 15 (dk_at dksX3_isDigit_0 2 rfl rfl)
theorem dX3_isDigit_5 : decode cX3_isDigit 5 = .ok (.if_icmp .ge 29, 3) := dk_162 0 29 (dk_at dksX3_isDigit_0 5 rfl rfl)
theorem dX3_isDigit_8 : decode cX3_isDigit 8 = .ok (.aload_n 0, 1) := dk_42 (dk_at dksX3_isDigit_0 8 rfl rfl)
theorem dX3_isDigit_9 : decode cX3_isDigit 9 = .ok (.getfield 9, 3) := dk_180 0 9 (dk_at dksX3_isDigit_0 9 rfl rfl)
theorem dX3_isDigit_12 : decode cX3_isDigit 12 = .ok (.iload_n 1, 1) := dk_27 (dk_at dksX3_isDigit_0 12 rfl rfl)
theorem dX3_isDigit_13 : decode cX3_isDigit 13 = .ok (.baload, 1) := dk_51 (dk_at dksX3_isDigit_0 13 rfl rfl)
theorem dX3_isDigit_14 : decode cX3_isDigit 14 = .ok (.bipush 48, 2) := dk_16 48 (dk_at dksX3_isDigit_0 14 rfl rfl)
theorem dX3_isDigit_16 : decode cX3_isDigit 16 = .ok (.if_icmp .lt 18, 3) := dk_161 0 18 (dk_at dksX3_isDigit_0 16 rfl rfl)
theorem dX3_isDigit_19 : decode cX3_isDigit 19 = .ok (.aload_n 0, 1) := dk_42 (dk_at dksX3_isDigit_0 19 rfl rfl)
theorem dX3_isDigit_20 : decode cX3_isDigit 20 = .ok (.getfield 9, 3) := dk_180 0 9 (dk_at dksX3_isDigit_0 20 rfl rfl)
theorem dX3_isDigit_23 : decode cX3_isDigit 23 = .ok (.iload_n 1, 1) := dk_27 (dk_at dksX3_isDigit_0 23 rfl rfl)
theorem dX3_isDigit_24 : decode cX3_isDigit 24 = .ok (.baload, 1) := dk_51 (dk_at dksX3_isDigit_1 0 rfl rfl)
theorem dX3_isDigit_25 : decode cX3_isDigit 25 = .ok (.bipush 57, 2) := dk_16 57 (dk_at dksX3_isDigit_1 1 rfl rfl)
theorem dX3_isDigit_27 : decode cX3_isDigit 27 = .ok (.if_icmp .gt 7, 3) := dk_163 0 7 (dk_at dksX3_isDigit_1 3 rfl rfl)
theorem dX3_isDigit_30 : decode cX3_isDigit 30 = .ok (.iconst 1, 1) := dk_4 (dk_at dksX3_isDigit_1 6 rfl rfl)
theorem dX3_isDigit_31 : decode cX3_isDigit 31 = .ok (.goto 4, 3) := dk_167 0 4 (dk_at dksX3_isDigit_1 7 rfl rfl)
theorem dX3_isDigit_34 : decode cX3_isDigit 34 = .ok (.iconst 0, 1) := dk_3 (dk_at dksX3_isDigit_1 10 rfl rfl)
theorem dX3_isDigit_35 : decode cX3_isDigit 35 = .ok (.ireturn, 1) := dk_172 (dk_at dksX3_isDigit_1 11 rfl rfl)
abbrev cX3_reads : ByteArray := prog_13_method_14_code
def yX3_reads : MethodName := ⟨RX3, "reads", "()Z"⟩
def dkwX3_reads_2 : List UInt8 := [153, 0, 7, 4, 167, 0, 4, 3, 172]
abbrev dktX3_reads_2 : List UInt8 := dkwX3_reads_2 ++ []
def dkwX3_reads_1 : List UInt8 := [181, 0, 48, 167, 255, 230, 42, 182, 0, 77, 167, 255, 223, 42, 180, 0, 48, 154, 0, 14, 42, 182, 0, 80]
abbrev dktX3_reads_1 : List UInt8 := dkwX3_reads_1 ++ dktX3_reads_2
def dkwX3_reads_0 : List UInt8 := [42, 180, 0, 48, 154, 0, 32, 42, 180, 0, 32, 153, 0, 25, 42, 182, 0, 73, 154, 0, 11, 42, 4]
abbrev dktX3_reads_0 : List UInt8 := dkwX3_reads_0 ++ dktX3_reads_1
theorem dksX3_reads_0 : cX3_reads.data.toList.drop 0 = dktX3_reads_0 := by decide +kernel
theorem dksX3_reads_1 : cX3_reads.data.toList.drop 23 = dktX3_reads_1 := dk_seg dksX3_reads_0 23 rfl rfl
theorem dksX3_reads_2 : cX3_reads.data.toList.drop 47 = dktX3_reads_2 := dk_seg dksX3_reads_1 24 rfl rfl
theorem dX3_reads_0 : decode cX3_reads 0 = .ok (.aload_n 0, 1) := dk_42 (dk_at dksX3_reads_0 0 rfl rfl)
theorem dX3_reads_1 : decode cX3_reads 1 = .ok (.getfield 48, 3) := dk_180 0 48 (dk_at dksX3_reads_0 1 rfl rfl)
theorem dX3_reads_4 : decode cX3_reads 4 = .ok (.ifCond .ne 32, 3) := dk_154 0 32 (dk_at dksX3_reads_0 4 rfl rfl)
theorem dX3_reads_7 : decode cX3_reads 7 = .ok (.aload_n 0, 1) := dk_42 (dk_at dksX3_reads_0 7 rfl rfl)
theorem dX3_reads_8 : decode cX3_reads 8 = .ok (.getfield 32, 3) := dk_180 0 32 (dk_at dksX3_reads_0 8 rfl rfl)
theorem dX3_reads_11 : decode cX3_reads 11 = .ok (.ifCond .eq 25, 3) := dk_153 0 25 (dk_at dksX3_reads_0 11 rfl rfl)
theorem dX3_reads_14 : decode cX3_reads 14 = .ok (.aload_n 0, 1) := dk_42 (dk_at dksX3_reads_0 14 rfl rfl)
theorem dX3_reads_15 : decode cX3_reads 15 = .ok (.invokevirtual 73, 3) := dk_182 0 73 (dk_at dksX3_reads_0 15 rfl rfl)
theorem dX3_reads_18 : decode cX3_reads 18 = .ok (.ifCond .ne 11, 3) := dk_154 0 11 (dk_at dksX3_reads_0 18 rfl rfl)
theorem dX3_reads_21 : decode cX3_reads 21 = .ok (.aload_n 0, 1) := dk_42 (dk_at dksX3_reads_0 21 rfl rfl)
theorem dX3_reads_22 : decode cX3_reads 22 = .ok (.iconst 1, 1) := dk_4 (dk_at dksX3_reads_0 22 rfl rfl)
theorem dX3_reads_23 : decode cX3_reads 23 = .ok (.putfield 48, 3) := dk_181 0 48 (dk_at dksX3_reads_1 0 rfl rfl)
theorem dX3_reads_26 : decode cX3_reads 26 = .ok (.goto (-26), 3) := dk_167 255 230 (dk_at dksX3_reads_1 3 rfl rfl)
theorem dX3_reads_29 : decode cX3_reads 29 = .ok (.aload_n 0, 1) := dk_42 (dk_at dksX3_reads_1 6 rfl rfl)
theorem dX3_reads_30 : decode cX3_reads 30 = .ok (.invokevirtual 77, 3) := dk_182 0 77 (dk_at dksX3_reads_1 7 rfl rfl)
theorem dX3_reads_33 : decode cX3_reads 33 = .ok (.goto (-33), 3) := dk_167 255 223 (dk_at dksX3_reads_1 10 rfl rfl)
theorem dX3_reads_36 : decode cX3_reads 36 = .ok (.aload_n 0, 1) := dk_42 (dk_at dksX3_reads_1 13 rfl rfl)
theorem dX3_reads_37 : decode cX3_reads 37 = .ok (.getfield 48, 3) := dk_180 0 48 (dk_at dksX3_reads_1 14 rfl rfl)
theorem dX3_reads_40 : decode cX3_reads 40 = .ok (.ifCond .ne 14, 3) := dk_154 0 14 (dk_at dksX3_reads_1 17 rfl rfl)
theorem dX3_reads_43 : decode cX3_reads 43 = .ok (.aload_n 0, 1) := dk_42 (dk_at dksX3_reads_1 20 rfl rfl)
theorem dX3_reads_44 : decode cX3_reads 44 = .ok (.invokevirtual 80, 3) := dk_182 0 80 (dk_at dksX3_reads_1 21 rfl rfl)
theorem dX3_reads_47 : decode cX3_reads 47 = .ok (.ifCond .eq 7, 3) := dk_153 0 7 (dk_at dksX3_reads_2 0 rfl rfl)
theorem dX3_reads_50 : decode cX3_reads 50 = .ok (.iconst 1, 1) := dk_4 (dk_at dksX3_reads_2 3 rfl rfl)
theorem dX3_reads_51 : decode cX3_reads 51 = .ok (.goto 4, 3) := dk_167 0 4 (dk_at dksX3_reads_2 4 rfl rfl)
theorem dX3_reads_54 : decode cX3_reads 54 = .ok (.iconst 0, 1) := dk_3 (dk_at dksX3_reads_2 7 rfl rfl)
theorem dX3_reads_55 : decode cX3_reads 55 = .ok (.ireturn, 1) := dk_172 (dk_at dksX3_reads_2 8 rfl rfl)
abbrev cX3_name : ByteArray := prog_13_method_10_code
def yX3_name : MethodName := ⟨RX3, "name", "([J)I"⟩
def dkwX3_name_0 : List UInt8 := [42, 43, 182, 0, 63, 61, 28, 2, 160, 0, 8, 42, 4, 181, 0, 48, 3, 28, 184, 0, 67, 172]
abbrev dktX3_name_0 : List UInt8 := dkwX3_name_0 ++ []
theorem dksX3_name_0 : cX3_name.data.toList.drop 0 = dktX3_name_0 := by decide +kernel
theorem dX3_name_0 : decode cX3_name 0 = .ok (.aload_n 0, 1) := dk_42 (dk_at dksX3_name_0 0 rfl rfl)
theorem dX3_name_1 : decode cX3_name 1 = .ok (.aload_n 1, 1) := dk_43 (dk_at dksX3_name_0 1 rfl rfl)
theorem dX3_name_2 : decode cX3_name 2 = .ok (.invokevirtual 63, 3) := dk_182 0 63 (dk_at dksX3_name_0 2 rfl rfl)
theorem dX3_name_5 : decode cX3_name 5 = .ok (.istore_n 2, 1) := dk_61 (dk_at dksX3_name_0 5 rfl rfl)
theorem dX3_name_6 : decode cX3_name 6 = .ok (.iload_n 2, 1) := dk_28 (dk_at dksX3_name_0 6 rfl rfl)
theorem dX3_name_7 : decode cX3_name 7 = .ok (.iconst (-1), 1) := dk_2 (dk_at dksX3_name_0 7 rfl rfl)
theorem dX3_name_8 : decode cX3_name 8 = .ok (.if_icmp .ne 8, 3) := dk_160 0 8 (dk_at dksX3_name_0 8 rfl rfl)
theorem dX3_name_11 : decode cX3_name 11 = .ok (.aload_n 0, 1) := dk_42 (dk_at dksX3_name_0 11 rfl rfl)
theorem dX3_name_12 : decode cX3_name 12 = .ok (.iconst 1, 1) := dk_4 (dk_at dksX3_name_0 12 rfl rfl)
theorem dX3_name_13 : decode cX3_name 13 = .ok (.putfield 48, 3) := dk_181 0 48 (dk_at dksX3_name_0 13 rfl rfl)
theorem dX3_name_16 : decode cX3_name 16 = .ok (.iconst 0, 1) := dk_3 (dk_at dksX3_name_0 16 rfl rfl)
theorem dX3_name_17 : decode cX3_name 17 = .ok (.iload_n 2, 1) := dk_28 (dk_at dksX3_name_0 17 rfl rfl)
theorem dX3_name_18 : decode cX3_name 18 = .ok (.invokestatic 67, 3) := dk_184 0 67 (dk_at dksX3_name_0 18 rfl rfl)
theorem dX3_name_21 : decode cX3_name 21 = .ok (.ireturn, 1) := dk_172 (dk_at dksX3_name_0 21 rfl rfl)
abbrev cX3_maybe : ByteArray := prog_13_method_9_code
def yX3_maybe : MethodName := ⟨RX3, "maybe", "([J)I"⟩
def dkwX3_maybe_1 : List UInt8 := [167, 0, 4, 2, 61, 28, 2, 159, 0, 7, 42, 182, 0, 52, 28, 172]
abbrev dktX3_maybe_1 : List UInt8 := dkwX3_maybe_1 ++ []
def dkwX3_maybe_0 : List UInt8 := [42, 180, 0, 48, 154, 0, 22, 42, 180, 0, 32, 4, 160, 0, 14, 43, 42, 180, 0, 28, 184, 0, 59]
abbrev dktX3_maybe_0 : List UInt8 := dkwX3_maybe_0 ++ dktX3_maybe_1
theorem dksX3_maybe_0 : cX3_maybe.data.toList.drop 0 = dktX3_maybe_0 := by decide +kernel
theorem dksX3_maybe_1 : cX3_maybe.data.toList.drop 23 = dktX3_maybe_1 := dk_seg dksX3_maybe_0 23 rfl rfl
theorem dX3_maybe_0 : decode cX3_maybe 0 = .ok (.aload_n 0, 1) := dk_42 (dk_at dksX3_maybe_0 0 rfl rfl)
theorem dX3_maybe_1 : decode cX3_maybe 1 = .ok (.getfield 48, 3) := dk_180 0 48 (dk_at dksX3_maybe_0 1 rfl rfl)
theorem dX3_maybe_4 : decode cX3_maybe 4 = .ok (.ifCond .ne 22, 3) := dk_154 0 22 (dk_at dksX3_maybe_0 4 rfl rfl)
theorem dX3_maybe_7 : decode cX3_maybe 7 = .ok (.aload_n 0, 1) := dk_42 (dk_at dksX3_maybe_0 7 rfl rfl)
theorem dX3_maybe_8 : decode cX3_maybe 8 = .ok (.getfield 32, 3) := dk_180 0 32 (dk_at dksX3_maybe_0 8 rfl rfl)
theorem dX3_maybe_11 : decode cX3_maybe 11 = .ok (.iconst 1, 1) := dk_4 (dk_at dksX3_maybe_0 11 rfl rfl)
theorem dX3_maybe_12 : decode cX3_maybe 12 = .ok (.if_icmp .ne 14, 3) := dk_160 0 14 (dk_at dksX3_maybe_0 12 rfl rfl)
theorem dX3_maybe_15 : decode cX3_maybe 15 = .ok (.aload_n 1, 1) := dk_43 (dk_at dksX3_maybe_0 15 rfl rfl)
theorem dX3_maybe_16 : decode cX3_maybe 16 = .ok (.aload_n 0, 1) := dk_42 (dk_at dksX3_maybe_0 16 rfl rfl)
theorem dX3_maybe_17 : decode cX3_maybe 17 = .ok (.getfield 28, 3) := dk_180 0 28 (dk_at dksX3_maybe_0 17 rfl rfl)
theorem dX3_maybe_20 : decode cX3_maybe 20 = .ok (.invokestatic 59, 3) := dk_184 0 59 (dk_at dksX3_maybe_0 20 rfl rfl)
theorem dX3_maybe_23 : decode cX3_maybe 23 = .ok (.goto 4, 3) := dk_167 0 4 (dk_at dksX3_maybe_1 0 rfl rfl)
theorem dX3_maybe_26 : decode cX3_maybe 26 = .ok (.iconst (-1), 1) := dk_2 (dk_at dksX3_maybe_1 3 rfl rfl)
theorem dX3_maybe_27 : decode cX3_maybe 27 = .ok (.istore_n 2, 1) := dk_61 (dk_at dksX3_maybe_1 4 rfl rfl)
theorem dX3_maybe_28 : decode cX3_maybe 28 = .ok (.iload_n 2, 1) := dk_28 (dk_at dksX3_maybe_1 5 rfl rfl)
theorem dX3_maybe_29 : decode cX3_maybe 29 = .ok (.iconst (-1), 1) := dk_2 (dk_at dksX3_maybe_1 6 rfl rfl)
theorem dX3_maybe_30 : decode cX3_maybe 30 = .ok (.if_icmp .eq 7, 3) := dk_159 0 7 (dk_at dksX3_maybe_1 7 rfl rfl)
theorem dX3_maybe_33 : decode cX3_maybe 33 = .ok (.aload_n 0, 1) := dk_42 (dk_at dksX3_maybe_1 10 rfl rfl)
theorem dX3_maybe_34 : decode cX3_maybe 34 = .ok (.invokevirtual 52, 3) := dk_182 0 52 (dk_at dksX3_maybe_1 11 rfl rfl)
theorem dX3_maybe_37 : decode cX3_maybe 37 = .ok (.iload_n 2, 1) := dk_28 (dk_at dksX3_maybe_1 14 rfl rfl)
theorem dX3_maybe_38 : decode cX3_maybe 38 = .ok (.ireturn, 1) := dk_172 (dk_at dksX3_maybe_1 15 rfl rfl)
abbrev cX3_pass : ByteArray := prog_13_method_5_code
def yX3_pass : MethodName := ⟨RX3, "pass", "()V"⟩
def dkwX3_pass_0 : List UInt8 := [42, 42, 180, 0, 25, 181, 0, 22, 42, 182, 0, 19, 177]
abbrev dktX3_pass_0 : List UInt8 := dkwX3_pass_0 ++ []
theorem dksX3_pass_0 : cX3_pass.data.toList.drop 0 = dktX3_pass_0 := by decide +kernel
theorem dX3_pass_0 : decode cX3_pass 0 = .ok (.aload_n 0, 1) := dk_42 (dk_at dksX3_pass_0 0 rfl rfl)
theorem dX3_pass_1 : decode cX3_pass 1 = .ok (.aload_n 0, 1) := dk_42 (dk_at dksX3_pass_0 1 rfl rfl)
theorem dX3_pass_2 : decode cX3_pass 2 = .ok (.getfield 25, 3) := dk_180 0 25 (dk_at dksX3_pass_0 2 rfl rfl)
theorem dX3_pass_5 : decode cX3_pass 5 = .ok (.putfield 22, 3) := dk_181 0 22 (dk_at dksX3_pass_0 5 rfl rfl)
theorem dX3_pass_8 : decode cX3_pass 8 = .ok (.aload_n 0, 1) := dk_42 (dk_at dksX3_pass_0 8 rfl rfl)
theorem dX3_pass_9 : decode cX3_pass 9 = .ok (.invokevirtual 19, 3) := dk_182 0 19 (dk_at dksX3_pass_0 9 rfl rfl)
theorem dX3_pass_12 : decode cX3_pass 12 = .ok (.return_, 1) := dk_177 (dk_at dksX3_pass_0 12 rfl rfl)
abbrev cX3_number : ByteArray := prog_13_method_8_code
def yX3_number : MethodName := ⟨RX3, "number", "(II)I"⟩
def dkwX3_number_2 : List UInt8 := [172]
abbrev dktX3_number_2 : List UInt8 := dkwX3_number_2 ++ []
def dkwX3_number_1 : List UInt8 := [184, 0, 55, 154, 0, 10, 42, 4, 181, 0, 48, 27, 172, 42, 180, 0, 28, 136, 62, 42, 182, 0, 52, 29]
abbrev dktX3_number_1 : List UInt8 := dkwX3_number_1 ++ dktX3_number_2
def dkwX3_number_0 : List UInt8 := [42, 180, 0, 48, 154, 0, 24, 42, 180, 0, 32, 5, 160, 0, 16, 42, 180, 0, 28, 136, 27, 28]
abbrev dktX3_number_0 : List UInt8 := dkwX3_number_0 ++ dktX3_number_1
theorem dksX3_number_0 : cX3_number.data.toList.drop 0 = dktX3_number_0 := by decide +kernel
theorem dksX3_number_1 : cX3_number.data.toList.drop 22 = dktX3_number_1 := dk_seg dksX3_number_0 22 rfl rfl
theorem dksX3_number_2 : cX3_number.data.toList.drop 46 = dktX3_number_2 := dk_seg dksX3_number_1 24 rfl rfl
theorem dX3_number_0 : decode cX3_number 0 = .ok (.aload_n 0, 1) := dk_42 (dk_at dksX3_number_0 0 rfl rfl)
theorem dX3_number_1 : decode cX3_number 1 = .ok (.getfield 48, 3) := dk_180 0 48 (dk_at dksX3_number_0 1 rfl rfl)
theorem dX3_number_4 : decode cX3_number 4 = .ok (.ifCond .ne 24, 3) := dk_154 0 24 (dk_at dksX3_number_0 4 rfl rfl)
theorem dX3_number_7 : decode cX3_number 7 = .ok (.aload_n 0, 1) := dk_42 (dk_at dksX3_number_0 7 rfl rfl)
theorem dX3_number_8 : decode cX3_number 8 = .ok (.getfield 32, 3) := dk_180 0 32 (dk_at dksX3_number_0 8 rfl rfl)
theorem dX3_number_11 : decode cX3_number 11 = .ok (.iconst 2, 1) := dk_5 (dk_at dksX3_number_0 11 rfl rfl)
theorem dX3_number_12 : decode cX3_number 12 = .ok (.if_icmp .ne 16, 3) := dk_160 0 16 (dk_at dksX3_number_0 12 rfl rfl)
theorem dX3_number_15 : decode cX3_number 15 = .ok (.aload_n 0, 1) := dk_42 (dk_at dksX3_number_0 15 rfl rfl)
theorem dX3_number_16 : decode cX3_number 16 = .ok (.getfield 28, 3) := dk_180 0 28 (dk_at dksX3_number_0 16 rfl rfl)
theorem dX3_number_19 : decode cX3_number 19 = .ok (.l2i, 1) := dk_136 (dk_at dksX3_number_0 19 rfl rfl)
theorem dX3_number_20 : decode cX3_number 20 = .ok (.iload_n 1, 1) := dk_27 (dk_at dksX3_number_0 20 rfl rfl)
theorem dX3_number_21 : decode cX3_number 21 = .ok (.iload_n 2, 1) := dk_28 (dk_at dksX3_number_0 21 rfl rfl)
theorem dX3_number_22 : decode cX3_number 22 = .ok (.invokestatic 55, 3) := dk_184 0 55 (dk_at dksX3_number_1 0 rfl rfl)
theorem dX3_number_25 : decode cX3_number 25 = .ok (.ifCond .ne 10, 3) := dk_154 0 10 (dk_at dksX3_number_1 3 rfl rfl)
theorem dX3_number_28 : decode cX3_number 28 = .ok (.aload_n 0, 1) := dk_42 (dk_at dksX3_number_1 6 rfl rfl)
theorem dX3_number_29 : decode cX3_number 29 = .ok (.iconst 1, 1) := dk_4 (dk_at dksX3_number_1 7 rfl rfl)
theorem dX3_number_30 : decode cX3_number 30 = .ok (.putfield 48, 3) := dk_181 0 48 (dk_at dksX3_number_1 8 rfl rfl)
theorem dX3_number_33 : decode cX3_number 33 = .ok (.iload_n 1, 1) := dk_27 (dk_at dksX3_number_1 11 rfl rfl)
theorem dX3_number_34 : decode cX3_number 34 = .ok (.ireturn, 1) := dk_172 (dk_at dksX3_number_1 12 rfl rfl)
theorem dX3_number_35 : decode cX3_number 35 = .ok (.aload_n 0, 1) := dk_42 (dk_at dksX3_number_1 13 rfl rfl)
theorem dX3_number_36 : decode cX3_number 36 = .ok (.getfield 28, 3) := dk_180 0 28 (dk_at dksX3_number_1 14 rfl rfl)
theorem dX3_number_39 : decode cX3_number 39 = .ok (.l2i, 1) := dk_136 (dk_at dksX3_number_1 17 rfl rfl)
theorem dX3_number_40 : decode cX3_number 40 = .ok (.istore_n 3, 1) := dk_62 (dk_at dksX3_number_1 18 rfl rfl)
theorem dX3_number_41 : decode cX3_number 41 = .ok (.aload_n 0, 1) := dk_42 (dk_at dksX3_number_1 19 rfl rfl)
theorem dX3_number_42 : decode cX3_number 42 = .ok (.invokevirtual 52, 3) := dk_182 0 52 (dk_at dksX3_number_1 20 rfl rfl)
theorem dX3_number_45 : decode cX3_number 45 = .ok (.iload_n 3, 1) := dk_29 (dk_at dksX3_number_1 23 rfl rfl)
theorem dX3_number_46 : decode cX3_number 46 = .ok (.ireturn, 1) := dk_172 (dk_at dksX3_number_2 0 rfl rfl)
abbrev cX3_takes : ByteArray := prog_13_method_6_code
def yX3_takes : MethodName := ⟨RX3, "takes", "(J)Z"⟩
def dkwX3_takes_1 : List UInt8 := [3, 172, 42, 182, 0, 52, 4, 172]
abbrev dktX3_takes_1 : List UInt8 := dkwX3_takes_1 ++ []
def dkwX3_takes_0 : List UInt8 := [42, 180, 0, 48, 154, 0, 20, 42, 180, 0, 32, 4, 160, 0, 12, 42, 180, 0, 28, 31, 148, 153, 0, 5]
abbrev dktX3_takes_0 : List UInt8 := dkwX3_takes_0 ++ dktX3_takes_1
theorem dksX3_takes_0 : cX3_takes.data.toList.drop 0 = dktX3_takes_0 := by decide +kernel
theorem dksX3_takes_1 : cX3_takes.data.toList.drop 24 = dktX3_takes_1 := dk_seg dksX3_takes_0 24 rfl rfl
theorem dX3_takes_0 : decode cX3_takes 0 = .ok (.aload_n 0, 1) := dk_42 (dk_at dksX3_takes_0 0 rfl rfl)
theorem dX3_takes_1 : decode cX3_takes 1 = .ok (.getfield 48, 3) := dk_180 0 48 (dk_at dksX3_takes_0 1 rfl rfl)
theorem dX3_takes_4 : decode cX3_takes 4 = .ok (.ifCond .ne 20, 3) := dk_154 0 20 (dk_at dksX3_takes_0 4 rfl rfl)
theorem dX3_takes_7 : decode cX3_takes 7 = .ok (.aload_n 0, 1) := dk_42 (dk_at dksX3_takes_0 7 rfl rfl)
theorem dX3_takes_8 : decode cX3_takes 8 = .ok (.getfield 32, 3) := dk_180 0 32 (dk_at dksX3_takes_0 8 rfl rfl)
theorem dX3_takes_11 : decode cX3_takes 11 = .ok (.iconst 1, 1) := dk_4 (dk_at dksX3_takes_0 11 rfl rfl)
theorem dX3_takes_12 : decode cX3_takes 12 = .ok (.if_icmp .ne 12, 3) := dk_160 0 12 (dk_at dksX3_takes_0 12 rfl rfl)
theorem dX3_takes_15 : decode cX3_takes 15 = .ok (.aload_n 0, 1) := dk_42 (dk_at dksX3_takes_0 15 rfl rfl)
theorem dX3_takes_16 : decode cX3_takes 16 = .ok (.getfield 28, 3) := dk_180 0 28 (dk_at dksX3_takes_0 16 rfl rfl)
theorem dX3_takes_19 : decode cX3_takes 19 = .ok (.lload_n 1, 1) := dk_31 (dk_at dksX3_takes_0 19 rfl rfl)
theorem dX3_takes_20 : decode cX3_takes 20 = .ok (.lcmp, 1) := dk_148 (dk_at dksX3_takes_0 20 rfl rfl)
theorem dX3_takes_21 : decode cX3_takes 21 = .ok (.ifCond .eq 5, 3) := dk_153 0 5 (dk_at dksX3_takes_0 21 rfl rfl)
theorem dX3_takes_24 : decode cX3_takes 24 = .ok (.iconst 0, 1) := dk_3 (dk_at dksX3_takes_1 0 rfl rfl)
theorem dX3_takes_25 : decode cX3_takes 25 = .ok (.ireturn, 1) := dk_172 (dk_at dksX3_takes_1 1 rfl rfl)
theorem dX3_takes_26 : decode cX3_takes 26 = .ok (.aload_n 0, 1) := dk_42 (dk_at dksX3_takes_1 2 rfl rfl)
theorem dX3_takes_27 : decode cX3_takes 27 = .ok (.invokevirtual 52, 3) := dk_182 0 52 (dk_at dksX3_takes_1 3 rfl rfl)
theorem dX3_takes_30 : decode cX3_takes 30 = .ok (.iconst 1, 1) := dk_4 (dk_at dksX3_takes_1 6 rfl rfl)
theorem dX3_takes_31 : decode cX3_takes 31 = .ok (.ireturn, 1) := dk_172 (dk_at dksX3_takes_1 7 rfl rfl)
abbrev cX3_needs : ByteArray := prog_13_method_7_code
def yX3_needs : MethodName := ⟨RX3, "needs", "(IJ)V"⟩
def dkwX3_needs_1 : List UInt8 := [42, 4, 181, 0, 48, 167, 0, 7, 42, 182, 0, 52, 177]
abbrev dktX3_needs_1 : List UInt8 := dkwX3_needs_1 ++ []
def dkwX3_needs_0 : List UInt8 := [42, 180, 0, 48, 154, 0, 20, 42, 180, 0, 32, 27, 160, 0, 12, 42, 180, 0, 28, 32, 148, 153, 0, 11]
abbrev dktX3_needs_0 : List UInt8 := dkwX3_needs_0 ++ dktX3_needs_1
theorem dksX3_needs_0 : cX3_needs.data.toList.drop 0 = dktX3_needs_0 := by decide +kernel
theorem dksX3_needs_1 : cX3_needs.data.toList.drop 24 = dktX3_needs_1 := dk_seg dksX3_needs_0 24 rfl rfl
theorem dX3_needs_0 : decode cX3_needs 0 = .ok (.aload_n 0, 1) := dk_42 (dk_at dksX3_needs_0 0 rfl rfl)
theorem dX3_needs_1 : decode cX3_needs 1 = .ok (.getfield 48, 3) := dk_180 0 48 (dk_at dksX3_needs_0 1 rfl rfl)
theorem dX3_needs_4 : decode cX3_needs 4 = .ok (.ifCond .ne 20, 3) := dk_154 0 20 (dk_at dksX3_needs_0 4 rfl rfl)
theorem dX3_needs_7 : decode cX3_needs 7 = .ok (.aload_n 0, 1) := dk_42 (dk_at dksX3_needs_0 7 rfl rfl)
theorem dX3_needs_8 : decode cX3_needs 8 = .ok (.getfield 32, 3) := dk_180 0 32 (dk_at dksX3_needs_0 8 rfl rfl)
theorem dX3_needs_11 : decode cX3_needs 11 = .ok (.iload_n 1, 1) := dk_27 (dk_at dksX3_needs_0 11 rfl rfl)
theorem dX3_needs_12 : decode cX3_needs 12 = .ok (.if_icmp .ne 12, 3) := dk_160 0 12 (dk_at dksX3_needs_0 12 rfl rfl)
theorem dX3_needs_15 : decode cX3_needs 15 = .ok (.aload_n 0, 1) := dk_42 (dk_at dksX3_needs_0 15 rfl rfl)
theorem dX3_needs_16 : decode cX3_needs 16 = .ok (.getfield 28, 3) := dk_180 0 28 (dk_at dksX3_needs_0 16 rfl rfl)
theorem dX3_needs_19 : decode cX3_needs 19 = .ok (.lload_n 2, 1) := dk_32 (dk_at dksX3_needs_0 19 rfl rfl)
theorem dX3_needs_20 : decode cX3_needs 20 = .ok (.lcmp, 1) := dk_148 (dk_at dksX3_needs_0 20 rfl rfl)
theorem dX3_needs_21 : decode cX3_needs 21 = .ok (.ifCond .eq 11, 3) := dk_153 0 11 (dk_at dksX3_needs_0 21 rfl rfl)
theorem dX3_needs_24 : decode cX3_needs 24 = .ok (.aload_n 0, 1) := dk_42 (dk_at dksX3_needs_1 0 rfl rfl)
theorem dX3_needs_25 : decode cX3_needs 25 = .ok (.iconst 1, 1) := dk_4 (dk_at dksX3_needs_1 1 rfl rfl)
theorem dX3_needs_26 : decode cX3_needs 26 = .ok (.putfield 48, 3) := dk_181 0 48 (dk_at dksX3_needs_1 2 rfl rfl)
theorem dX3_needs_29 : decode cX3_needs 29 = .ok (.goto 7, 3) := dk_167 0 7 (dk_at dksX3_needs_1 5 rfl rfl)
theorem dX3_needs_32 : decode cX3_needs 32 = .ok (.aload_n 0, 1) := dk_42 (dk_at dksX3_needs_1 8 rfl rfl)
theorem dX3_needs_33 : decode cX3_needs 33 = .ok (.invokevirtual 52, 3) := dk_182 0 52 (dk_at dksX3_needs_1 9 rfl rfl)
theorem dX3_needs_36 : decode cX3_needs 36 = .ok (.return_, 1) := dk_177 (dk_at dksX3_needs_1 12 rfl rfl)
abbrev cX3_place : ByteArray := prog_13_method_15_code
def yX3_place : MethodName := ⟨RX3, "place", "()I"⟩
theorem dX3_place_0 : decode cX3_place 0 = .ok (.aload_n 0, 1) := by decide +kernel
theorem dX3_place_1 : decode cX3_place 1 = .ok (.getfield 22, 3) := by decide +kernel
theorem dX3_place_4 : decode cX3_place 4 = .ok (.ireturn, 1) := by decide +kernel
theorem q98 : (Jvm.Cond.initialized "CrossingWords$Reader") ∈ lw_all := lw_g (lw_at lw_m1 4 rfl) rfl
theorem q253 : (Jvm.Cond.instanceMethod ({ cls := "CrossingWords$Reader", name := "<init>", desc := "([BI)V" } : Jvm.MethodName)) ∈ lw_all := lw_g (lw_at lw_m1 159 rfl) rfl
theorem q254 : (Jvm.Cond.code ({ cls := "CrossingWords$Reader", name := "<init>", desc := "([BI)V" } : Jvm.MethodName) prog_13_method_1_code (3 : Nat) (Option.none : Option Jvm.ClassFile.FieldType)) ∈ lw_all := lw_g (lw_at lw_m1 160 rfl) rfl
theorem q255 : (Jvm.Cond.methodLink "CrossingWords$Reader" (3 : Nat) ({ cls := "java/lang/Object", name := "<init>", desc := "()V" } : Jvm.MethodName)) ∈ lw_all := lw_g (lw_at lw_m1 161 rfl) rfl
theorem q256 : (Jvm.Cond.methodLink "CrossingWords$Reader" (19 : Nat) ({ cls := "CrossingWords$Reader", name := "look", desc := "()V" } : Jvm.MethodName)) ∈ lw_all := lw_g (lw_at lw_m1 162 rfl) rfl
theorem q257 : (Jvm.Cond.privateMethod ({ cls := "CrossingWords$Reader", name := "look", desc := "()V" } : Jvm.MethodName)) ∈ lw_tbl := lw_at lw_m1 163 rfl
theorem q258 : (Jvm.Cond.instanceMethod ({ cls := "CrossingWords$Reader", name := "look", desc := "()V" } : Jvm.MethodName)) ∈ lw_all := lw_g (lw_at lw_m1 164 rfl) rfl
theorem q259 : (Jvm.Cond.code ({ cls := "CrossingWords$Reader", name := "look", desc := "()V" } : Jvm.MethodName) prog_13_method_4_code (1 : Nat) (Option.none : Option Jvm.ClassFile.FieldType)) ∈ lw_all := lw_g (lw_at lw_m1 165 rfl) rfl
theorem q260 : (Jvm.Cond.methodLink "CrossingWords$Reader" (35 : Nat) ({ cls := "CrossingWords$Reader", name := "isLetter", desc := "(I)Z" } : Jvm.MethodName)) ∈ lw_all := lw_g (lw_at lw_m1 166 rfl) rfl
theorem q261 : (Jvm.Cond.privateMethod ({ cls := "CrossingWords$Reader", name := "isLetter", desc := "(I)Z" } : Jvm.MethodName)) ∈ lw_tbl := lw_at lw_m1 167 rfl
theorem q262 : (Jvm.Cond.instanceMethod ({ cls := "CrossingWords$Reader", name := "isLetter", desc := "(I)Z" } : Jvm.MethodName)) ∈ lw_all := lw_g (lw_at lw_m1 168 rfl) rfl
theorem q263 : (Jvm.Cond.code ({ cls := "CrossingWords$Reader", name := "isLetter", desc := "(I)Z" } : Jvm.MethodName) prog_13_method_2_code (2 : Nat) (Option.some Jvm.ClassFile.FieldType.boolean)) ∈ lw_all := lw_g (lw_at lw_m1 169 rfl) rfl
theorem q264 : (Jvm.Cond.constantLong "CrossingWords$Reader" (39 : Nat) (-1 : Int64)) ∈ lw_all := lw_g (lw_at lw_m1 170 rfl) rfl
theorem q265 : (Jvm.Cond.methodLink "CrossingWords$Reader" (41 : Nat) ({ cls := "CrossingWords$Reader", name := "isDigit", desc := "(I)Z" } : Jvm.MethodName)) ∈ lw_all := lw_g (lw_at lw_m1 171 rfl) rfl
theorem q266 : (Jvm.Cond.privateMethod ({ cls := "CrossingWords$Reader", name := "isDigit", desc := "(I)Z" } : Jvm.MethodName)) ∈ lw_tbl := lw_at lw_m1 172 rfl
theorem q267 : (Jvm.Cond.instanceMethod ({ cls := "CrossingWords$Reader", name := "isDigit", desc := "(I)Z" } : Jvm.MethodName)) ∈ lw_all := lw_g (lw_at lw_m1 173 rfl) rfl
theorem q268 : (Jvm.Cond.code ({ cls := "CrossingWords$Reader", name := "isDigit", desc := "(I)Z" } : Jvm.MethodName) prog_13_method_3_code (2 : Nat) (Option.some Jvm.ClassFile.FieldType.boolean)) ∈ lw_all := lw_g (lw_at lw_m1 174 rfl) rfl
theorem q269 : (Jvm.Cond.constantLong "CrossingWords$Reader" (44 : Nat) (10 : Int64)) ∈ lw_all := lw_g (lw_at lw_m1 175 rfl) rfl
theorem q270 : (Jvm.Cond.constantLong "CrossingWords$Reader" (46 : Nat) (48 : Int64)) ∈ lw_all := lw_g (lw_at lw_m1 176 rfl) rfl
theorem q336 : (Jvm.Cond.fieldLink "CrossingWords$Reader" (9 : Nat) "CrossingWords$Reader" "text" "[B") ∈ lw_all := lw_g (lw_at lw_m2 2 rfl) rfl
theorem q337 : (Jvm.Cond.fieldLink "CrossingWords$Reader" (15 : Nat) "CrossingWords$Reader" "size" "I") ∈ lw_all := lw_g (lw_at lw_m2 3 rfl) rfl
theorem q338 : (Jvm.Cond.fieldLink "CrossingWords$Reader" (22 : Nat) "CrossingWords$Reader" "at" "I") ∈ lw_all := lw_g (lw_at lw_m2 4 rfl) rfl
theorem q339 : (Jvm.Cond.fieldLink "CrossingWords$Reader" (25 : Nat) "CrossingWords$Reader" "end" "I") ∈ lw_all := lw_g (lw_at lw_m2 5 rfl) rfl
theorem q340 : (Jvm.Cond.fieldLink "CrossingWords$Reader" (32 : Nat) "CrossingWords$Reader" "kind" "I") ∈ lw_all := lw_g (lw_at lw_m2 6 rfl) rfl
theorem q343 : (Jvm.Cond.fieldLink "CrossingWords$Reader" (28 : Nat) "CrossingWords$Reader" "word" "J") ∈ lw_all := lw_g (lw_at lw_m2 9 rfl) rfl
theorem q348 : (Jvm.Cond.fieldLink "CrossingWords$Reader" (48 : Nat) "CrossingWords$Reader" "wrong" "Z") ∈ lw_all := lw_g (lw_at lw_m2 14 rfl) rfl
theorem q356 : (Jvm.Cond.soleField "CrossingWords$Reader" "text") ∈ lw_all := lw_g (lw_at lw_m2 22 rfl) rfl
theorem q358 : (Jvm.Cond.soleField "CrossingWords$Reader" "size") ∈ lw_all := lw_g (lw_at lw_m2 24 rfl) rfl
theorem q360 : (Jvm.Cond.soleField "CrossingWords$Reader" "at") ∈ lw_all := lw_g (lw_at lw_m2 26 rfl) rfl
theorem q362 : (Jvm.Cond.soleField "CrossingWords$Reader" "end") ∈ lw_all := lw_g (lw_at lw_m2 28 rfl) rfl
theorem q364 : (Jvm.Cond.soleField "CrossingWords$Reader" "kind") ∈ lw_all := lw_g (lw_at lw_m2 30 rfl) rfl
theorem q366 : (Jvm.Cond.soleField "CrossingWords$Reader" "word") ∈ lw_all := lw_g (lw_at lw_m2 32 rfl) rfl
theorem q368 : (Jvm.Cond.soleField "CrossingWords$Reader" "wrong") ∈ lw_all := lw_g (lw_at lw_m2 34 rfl) rfl
theorem q375 : (Jvm.Cond.instanceMethod ({ cls := "CrossingWords$Reader", name := "reads", desc := "()Z" } : Jvm.MethodName)) ∈ lw_all := lw_g (lw_at lw_m2 41 rfl) rfl
theorem q376 : (Jvm.Cond.sameMethod "CrossingWords$Reader" "CrossingWords$Reader" "reads" "()Z") ∈ lw_all := lw_g (lw_at lw_m2 42 rfl) rfl
theorem q379 : (Jvm.Cond.code ({ cls := "CrossingWords$Reader", name := "reads", desc := "()Z" } : Jvm.MethodName) prog_13_method_14_code (1 : Nat) (Option.some Jvm.ClassFile.FieldType.boolean)) ∈ lw_all := lw_g (lw_at lw_m2 45 rfl) rfl
theorem q380 : (Jvm.Cond.methodLink "CrossingWords$Reader" (73 : Nat) ({ cls := "CrossingWords$Reader", name := "hasRoom", desc := "()Z" } : Jvm.MethodName)) ∈ lw_all := lw_g (lw_at lw_m2 46 rfl) rfl
theorem q381 : (Jvm.Cond.declares ({ cls := "CrossingWords$Reader", name := "hasRoom", desc := "()Z" } : Jvm.MethodName)) ∈ lw_tbl := lw_at lw_m2 47 rfl
theorem q382 : (Jvm.Cond.sameMethod "CrossingWords$Reader" "CrossingWords$Reader" "hasRoom" "()Z") ∈ lw_all := lw_g (lw_at lw_m2 48 rfl) rfl
theorem q389 : (Jvm.Cond.methodLink "CrossingWords$Reader" (77 : Nat) ({ cls := "CrossingWords$Reader", name := "statement", desc := "()V" } : Jvm.MethodName)) ∈ lw_all := lw_g (lw_at lw_m2 55 rfl) rfl
theorem q390 : (Jvm.Cond.declares ({ cls := "CrossingWords$Reader", name := "statement", desc := "()V" } : Jvm.MethodName)) ∈ lw_tbl := lw_at lw_m2 56 rfl
theorem q391 : (Jvm.Cond.sameMethod "CrossingWords$Reader" "CrossingWords$Reader" "statement" "()V") ∈ lw_all := lw_g (lw_at lw_m2 57 rfl) rfl
theorem q399 : (Jvm.Cond.declares ({ cls := "CrossingWords$Reader", name := "name", desc := "([J)I" } : Jvm.MethodName)) ∈ lw_tbl := lw_at lw_m2 65 rfl
theorem q401 : (Jvm.Cond.instanceMethod ({ cls := "CrossingWords$Reader", name := "name", desc := "([J)I" } : Jvm.MethodName)) ∈ lw_all := lw_g (lw_at lw_m2 67 rfl) rfl
theorem q402 : (Jvm.Cond.code ({ cls := "CrossingWords$Reader", name := "name", desc := "([J)I" } : Jvm.MethodName) prog_13_method_10_code (3 : Nat) (Option.some Jvm.ClassFile.FieldType.int)) ∈ lw_all := lw_g (lw_at lw_m2 68 rfl) rfl
theorem q403 : (Jvm.Cond.methodLink "CrossingWords$Reader" (63 : Nat) ({ cls := "CrossingWords$Reader", name := "maybe", desc := "([J)I" } : Jvm.MethodName)) ∈ lw_all := lw_g (lw_at lw_m2 69 rfl) rfl
theorem q404 : (Jvm.Cond.instanceMethod ({ cls := "CrossingWords$Reader", name := "maybe", desc := "([J)I" } : Jvm.MethodName)) ∈ lw_all := lw_g (lw_at lw_m2 70 rfl) rfl
theorem q405 : (Jvm.Cond.sameMethod "CrossingWords$Reader" "CrossingWords$Reader" "maybe" "([J)I") ∈ lw_all := lw_g (lw_at lw_m2 71 rfl) rfl
theorem q408 : (Jvm.Cond.code ({ cls := "CrossingWords$Reader", name := "maybe", desc := "([J)I" } : Jvm.MethodName) prog_13_method_9_code (3 : Nat) (Option.some Jvm.ClassFile.FieldType.int)) ∈ lw_all := lw_g (lw_at lw_m2 74 rfl) rfl
theorem q409 : (Jvm.Cond.methodLinkNest "CrossingWords$Reader" (59 : Nat) ({ cls := "CrossingWords", name := "find", desc := "([JJ)I" } : Jvm.MethodName) "CrossingWords") ∈ lw_tbl := lw_at lw_m2 75 rfl
theorem q412 : (Jvm.Cond.methodLink "CrossingWords$Reader" (52 : Nat) ({ cls := "CrossingWords$Reader", name := "pass", desc := "()V" } : Jvm.MethodName)) ∈ lw_all := lw_g (lw_at lw_m2 78 rfl) rfl
theorem q413 : (Jvm.Cond.instanceMethod ({ cls := "CrossingWords$Reader", name := "pass", desc := "()V" } : Jvm.MethodName)) ∈ lw_all := lw_g (lw_at lw_m2 79 rfl) rfl
theorem q414 : (Jvm.Cond.sameMethod "CrossingWords$Reader" "CrossingWords$Reader" "pass" "()V") ∈ lw_all := lw_g (lw_at lw_m2 80 rfl) rfl
theorem q417 : (Jvm.Cond.code ({ cls := "CrossingWords$Reader", name := "pass", desc := "()V" } : Jvm.MethodName) prog_13_method_5_code (1 : Nat) (Option.none : Option Jvm.ClassFile.FieldType)) ∈ lw_all := lw_g (lw_at lw_m2 83 rfl) rfl
theorem q418 : (Jvm.Cond.methodLink "CrossingWords$Reader" (67 : Nat) ({ cls := "java/lang/Math", name := "max", desc := "(II)I" } : Jvm.MethodName)) ∈ lw_all := lw_g (lw_at lw_m2 84 rfl) rfl
theorem q434 : (Jvm.Cond.declares ({ cls := "CrossingWords$Reader", name := "pass", desc := "()V" } : Jvm.MethodName)) ∈ lw_tbl := lw_at lw_m2 100 rfl
theorem q479 : (Jvm.Cond.declares ({ cls := "CrossingWords$Reader", name := "maybe", desc := "([J)I" } : Jvm.MethodName)) ∈ lw_tbl := lw_at lw_m2 145 rfl
theorem q483 : (Jvm.Cond.declares ({ cls := "CrossingWords$Reader", name := "number", desc := "(II)I" } : Jvm.MethodName)) ∈ lw_tbl := lw_at lw_m2 149 rfl
theorem q485 : (Jvm.Cond.instanceMethod ({ cls := "CrossingWords$Reader", name := "number", desc := "(II)I" } : Jvm.MethodName)) ∈ lw_all := lw_g (lw_at lw_m2 151 rfl) rfl
theorem q486 : (Jvm.Cond.code ({ cls := "CrossingWords$Reader", name := "number", desc := "(II)I" } : Jvm.MethodName) prog_13_method_8_code (4 : Nat) (Option.some Jvm.ClassFile.FieldType.int)) ∈ lw_all := lw_g (lw_at lw_m2 152 rfl) rfl
theorem q487 : (Jvm.Cond.methodLinkNest "CrossingWords$Reader" (55 : Nat) ({ cls := "CrossingWords", name := "isIn", desc := "(III)Z" } : Jvm.MethodName) "CrossingWords") ∈ lw_tbl := lw_at lw_m2 153 rfl
theorem q514 : (Jvm.Cond.declares ({ cls := "CrossingWords$Reader", name := "takes", desc := "(J)Z" } : Jvm.MethodName)) ∈ lw_tbl := lw_at lw_m2 180 rfl
theorem q516 : (Jvm.Cond.instanceMethod ({ cls := "CrossingWords$Reader", name := "takes", desc := "(J)Z" } : Jvm.MethodName)) ∈ lw_all := lw_g (lw_at lw_m2 182 rfl) rfl
theorem q517 : (Jvm.Cond.code ({ cls := "CrossingWords$Reader", name := "takes", desc := "(J)Z" } : Jvm.MethodName) prog_13_method_6_code (3 : Nat) (Option.some Jvm.ClassFile.FieldType.boolean)) ∈ lw_all := lw_g (lw_at lw_m2 183 rfl) rfl
theorem q674 : (Jvm.Cond.declares ({ cls := "CrossingWords$Reader", name := "needs", desc := "(IJ)V" } : Jvm.MethodName)) ∈ lw_tbl := lw_at lw_m3 100 rfl
theorem q676 : (Jvm.Cond.instanceMethod ({ cls := "CrossingWords$Reader", name := "needs", desc := "(IJ)V" } : Jvm.MethodName)) ∈ lw_all := lw_g (lw_at lw_m3 102 rfl) rfl
theorem q677 : (Jvm.Cond.code ({ cls := "CrossingWords$Reader", name := "needs", desc := "(IJ)V" } : Jvm.MethodName) prog_13_method_7_code (4 : Nat) (Option.none : Option Jvm.ClassFile.FieldType)) ∈ lw_all := lw_g (lw_at lw_m3 103 rfl) rfl
theorem q784 : (Jvm.Cond.methodLink "CrossingWords$Reader" (80 : Nat) ({ cls := "CrossingWords$Reader", name := "isWhole", desc := "()Z" } : Jvm.MethodName)) ∈ lw_all := lw_g (lw_at lw_m3 210 rfl) rfl
theorem q785 : (Jvm.Cond.declares ({ cls := "CrossingWords$Reader", name := "isWhole", desc := "()Z" } : Jvm.MethodName)) ∈ lw_tbl := lw_at lw_m3 211 rfl
theorem q786 : (Jvm.Cond.sameMethod "CrossingWords$Reader" "CrossingWords$Reader" "isWhole" "()Z") ∈ lw_all := lw_g (lw_at lw_m3 212 rfl) rfl
theorem q794 : (Jvm.Cond.instanceMethod ({ cls := "CrossingWords$Reader", name := "place", desc := "()I" } : Jvm.MethodName)) ∈ lw_all := lw_g (lw_at lw_m3 220 rfl) rfl
theorem q795 : (Jvm.Cond.sameMethod "CrossingWords$Reader" "CrossingWords$Reader" "place" "()I") ∈ lw_all := lw_g (lw_at lw_m3 221 rfl) rfl
theorem q798 : (Jvm.Cond.code ({ cls := "CrossingWords$Reader", name := "place", desc := "()I" } : Jvm.MethodName) prog_13_method_15_code (1 : Nat) (Option.some Jvm.ClassFile.FieldType.int)) ∈ lw_all := lw_g (lw_at lw_m3 224 rfl) rfl
theorem q1934 : (Jvm.Cond.sameMethod "CrossingWords$Reader" "CrossingWords$Reader" "look" "()V") ∈ lw_all := lw_g (lw_at lw_m8 160 rfl) rfl
theorem q1935 : (Jvm.Cond.sameMethod "CrossingWords$Reader" "CrossingWords$Reader" "isLetter" "(I)Z") ∈ lw_all := lw_g (lw_at lw_m8 161 rfl) rfl
theorem q1936 : (Jvm.Cond.sameMethod "CrossingWords$Reader" "CrossingWords$Reader" "isDigit" "(I)Z") ∈ lw_all := lw_g (lw_at lw_m8 162 rfl) rfl
/-! CrossingWords$CaseReader -/
set_option maxRecDepth 100000
def RX4 : String := "CrossingWords$CaseReader"
def TX4 : u_T := fun k => match k with
  | 0 => ("CrossingWords$Reader", "text", "[B", true)
  | 1 => ("CrossingWords$Reader", "size", "I", true)
  | 2 => ("CrossingWords$Reader", "at", "I", false)
  | 3 => ("CrossingWords$Reader", "end", "I", false)
  | 4 => ("CrossingWords$Reader", "kind", "I", false)
  | 5 => ("CrossingWords$Reader", "word", "J", false)
  | 6 => ("CrossingWords$Reader", "wrong", "Z", false)
  | 7 => ("CrossingWords$CaseReader", "own", "LCrossingWords$Case;", true)
  | 8 => ("CrossingWords$CaseReader", "cases", "I", true)
  | _ => ("CrossingWords$CaseReader", "had", "I", true)
def tyX4 : Nat → FieldType := fun k => match k with
  | 0 => .array .byte
  | 1 => .int
  | 2 => .int
  | 3 => .int
  | 4 => .int
  | 5 => .long
  | 6 => .boolean
  | 7 => .object "CrossingWords$Case"
  | 8 => .int
  | _ => .int
abbrev wsX40 : List Cond := u_ws RX4 TX4 10
theorem nmX4 : ∀ a, a < 10 → ∀ b, b < 10 → a ≠ b → (TX4 a).2.1 ≠ (TX4 b).2.1 := by decide +kernel
theorem tyX4_ok : ∀ k, k < 10 → parseFieldDescriptor (TX4 k).2.2.1 = some (tyX4 k) := by decide +kernel
abbrev cX4_init : ByteArray := prog_7_method_1_code
def yX4_init : MethodName := ⟨RX4, "<init>", "([BILCrossingWords$Case;I)V"⟩
def dkwX4_init_1 : List UInt8 := [198, 0, 11, 42, 180, 0, 14, 45, 182, 0, 24, 42, 42, 180, 0, 14, 180, 0, 28, 181, 0, 31, 177]
abbrev dktX4_init_1 : List UInt8 := dkwX4_init_1 ++ []
def dkwX4_init_0 : List UInt8 := [42, 43, 28, 183, 0, 3, 42, 187, 0, 9, 89, 183, 0, 11, 181, 0, 14, 42, 21, 4, 181, 0, 20, 45]
abbrev dktX4_init_0 : List UInt8 := dkwX4_init_0 ++ dktX4_init_1
theorem dksX4_init_0 : cX4_init.data.toList.drop 0 = dktX4_init_0 := by decide +kernel
theorem dksX4_init_1 : cX4_init.data.toList.drop 24 = dktX4_init_1 := dk_seg dksX4_init_0 24 rfl rfl
theorem dX4_init_0 : decode cX4_init 0 = .ok (.aload_n 0, 1) := dk_42 (dk_at dksX4_init_0 0 rfl rfl)
theorem dX4_init_1 : decode cX4_init 1 = .ok (.aload_n 1, 1) := dk_43 (dk_at dksX4_init_0 1 rfl rfl)
theorem dX4_init_2 : decode cX4_init 2 = .ok (.iload_n 2, 1) := dk_28 (dk_at dksX4_init_0 2 rfl rfl)
theorem dX4_init_3 : decode cX4_init 3 = .ok (.invokespecial 3, 3) := dk_183 0 3 (dk_at dksX4_init_0 3 rfl rfl)
theorem dX4_init_6 : decode cX4_init 6 = .ok (.aload_n 0, 1) := dk_42 (dk_at dksX4_init_0 6 rfl rfl)
theorem dX4_init_7 : decode cX4_init 7 = .ok (.new 9, 3) := dk_187 0 9 (dk_at dksX4_init_0 7 rfl rfl)
theorem dX4_init_10 : decode cX4_init 10 = .ok (.dup, 1) := dk_89 (dk_at dksX4_init_0 10 rfl rfl)
theorem dX4_init_11 : decode cX4_init 11 = .ok (.invokespecial 11, 3) := dk_183 0 11 (dk_at dksX4_init_0 11 rfl rfl)
theorem dX4_init_14 : decode cX4_init 14 = .ok (.putfield 14, 3) := dk_181 0 14 (dk_at dksX4_init_0 14 rfl rfl)
theorem dX4_init_17 : decode cX4_init 17 = .ok (.aload_n 0, 1) := dk_42 (dk_at dksX4_init_0 17 rfl rfl)
theorem dX4_init_18 : decode cX4_init 18 = .ok (.iload 4, 2) := dk_21 4 (dk_at dksX4_init_0 18 rfl rfl)
theorem dX4_init_20 : decode cX4_init 20 = .ok (.putfield 20, 3) := dk_181 0 20 (dk_at dksX4_init_0 20 rfl rfl)
theorem dX4_init_23 : decode cX4_init 23 = .ok (.aload_n 3, 1) := dk_45 (dk_at dksX4_init_0 23 rfl rfl)
theorem dX4_init_24 : decode cX4_init 24 = .ok (.ifnull 11, 3) := dk_198 0 11 (dk_at dksX4_init_1 0 rfl rfl)
theorem dX4_init_27 : decode cX4_init 27 = .ok (.aload_n 0, 1) := dk_42 (dk_at dksX4_init_1 3 rfl rfl)
theorem dX4_init_28 : decode cX4_init 28 = .ok (.getfield 14, 3) := dk_180 0 14 (dk_at dksX4_init_1 4 rfl rfl)
theorem dX4_init_31 : decode cX4_init 31 = .ok (.aload_n 3, 1) := dk_45 (dk_at dksX4_init_1 7 rfl rfl)
theorem dX4_init_32 : decode cX4_init 32 = .ok (.invokevirtual 24, 3) := dk_182 0 24 (dk_at dksX4_init_1 8 rfl rfl)
theorem dX4_init_35 : decode cX4_init 35 = .ok (.aload_n 0, 1) := dk_42 (dk_at dksX4_init_1 11 rfl rfl)
theorem dX4_init_36 : decode cX4_init 36 = .ok (.aload_n 0, 1) := dk_42 (dk_at dksX4_init_1 12 rfl rfl)
theorem dX4_init_37 : decode cX4_init 37 = .ok (.getfield 14, 3) := dk_180 0 14 (dk_at dksX4_init_1 13 rfl rfl)
theorem dX4_init_40 : decode cX4_init 40 = .ok (.getfield 28, 3) := dk_180 0 28 (dk_at dksX4_init_1 16 rfl rfl)
theorem dX4_init_43 : decode cX4_init 43 = .ok (.putfield 31, 3) := dk_181 0 31 (dk_at dksX4_init_1 19 rfl rfl)
theorem dX4_init_46 : decode cX4_init 46 = .ok (.return_, 1) := dk_177 (dk_at dksX4_init_1 22 rfl rfl)
abbrev cX4_hasRoom : ByteArray := prog_7_method_2_code
def yX4_hasRoom : MethodName := ⟨RX4, "hasRoom", "()Z"⟩
def dkwX4_hasRoom_0 : List UInt8 := [42, 180, 0, 14, 180, 0, 28, 16, 12, 162, 0, 7, 4, 167, 0, 4, 3, 172]
abbrev dktX4_hasRoom_0 : List UInt8 := dkwX4_hasRoom_0 ++ []
theorem dksX4_hasRoom_0 : cX4_hasRoom.data.toList.drop 0 = dktX4_hasRoom_0 := by decide +kernel
theorem dX4_hasRoom_0 : decode cX4_hasRoom 0 = .ok (.aload_n 0, 1) := dk_42 (dk_at dksX4_hasRoom_0 0 rfl rfl)
theorem dX4_hasRoom_1 : decode cX4_hasRoom 1 = .ok (.getfield 14, 3) := dk_180 0 14 (dk_at dksX4_hasRoom_0 1 rfl rfl)
theorem dX4_hasRoom_4 : decode cX4_hasRoom 4 = .ok (.getfield 28, 3) := dk_180 0 28 (dk_at dksX4_hasRoom_0 4 rfl rfl)
theorem dX4_hasRoom_7 : decode cX4_hasRoom 7 = .ok (.bipush 12, 2) := dk_16 12 (dk_at dksX4_hasRoom_0 7 rfl rfl)
theorem dX4_hasRoom_9 : decode cX4_hasRoom 9 = .ok (.if_icmp .ge 7, 3) := dk_162 0 7 (dk_at dksX4_hasRoom_0 9 rfl rfl)
theorem dX4_hasRoom_12 : decode cX4_hasRoom 12 = .ok (.iconst 1, 1) := dk_4 (dk_at dksX4_hasRoom_0 12 rfl rfl)
theorem dX4_hasRoom_13 : decode cX4_hasRoom 13 = .ok (.goto 4, 3) := dk_167 0 4 (dk_at dksX4_hasRoom_0 13 rfl rfl)
theorem dX4_hasRoom_16 : decode cX4_hasRoom 16 = .ok (.iconst 0, 1) := dk_3 (dk_at dksX4_hasRoom_0 16 rfl rfl)
theorem dX4_hasRoom_17 : decode cX4_hasRoom 17 = .ok (.ireturn, 1) := dk_172 (dk_at dksX4_hasRoom_0 17 rfl rfl)
abbrev cX4_statement : ByteArray := prog_7_method_4_code
def yX4_statement : MethodName := ⟨RX4, "statement", "()V"⟩
def dkwX4_statement_3 : List UInt8 := [42, 180, 0, 14, 45, 182, 0, 71, 177]
abbrev dktX4_statement_3 : List UInt8 := dkwX4_statement_3 ++ []
def dkwX4_statement_2 : List UInt8 := [58, 4, 42, 6, 20, 0, 56, 182, 0, 58, 42, 180, 0, 62, 153, 0, 4, 177, 45, 25, 4, 181, 0, 66]
abbrev dktX4_statement_2 : List UInt8 := dkwX4_statement_2 ++ dktX4_statement_3
def dkwX4_statement_1 : List UInt8 := [160, 0, 12, 42, 27, 28, 182, 0, 45, 167, 0, 9, 42, 27, 28, 182, 0, 49, 78, 42, 182, 0, 52]
abbrev dktX4_statement_1 : List UInt8 := dkwX4_statement_1 ++ dktX4_statement_2
def dkwX4_statement_0 : List UInt8 := [42, 178, 0, 34, 182, 0, 38, 60, 42, 178, 0, 42, 182, 0, 38, 61, 27, 153, 0, 8, 27, 4]
abbrev dktX4_statement_0 : List UInt8 := dkwX4_statement_0 ++ dktX4_statement_1
theorem dksX4_statement_0 : cX4_statement.data.toList.drop 0 = dktX4_statement_0 := by decide +kernel
theorem dksX4_statement_1 : cX4_statement.data.toList.drop 22 = dktX4_statement_1 := dk_seg dksX4_statement_0 22 rfl rfl
theorem dksX4_statement_2 : cX4_statement.data.toList.drop 45 = dktX4_statement_2 := dk_seg dksX4_statement_1 23 rfl rfl
theorem dksX4_statement_3 : cX4_statement.data.toList.drop 69 = dktX4_statement_3 := dk_seg dksX4_statement_2 24 rfl rfl
theorem dX4_statement_0 : decode cX4_statement 0 = .ok (.aload_n 0, 1) := dk_42 (dk_at dksX4_statement_0 0 rfl rfl)
theorem dX4_statement_1 : decode cX4_statement 1 = .ok (.getstatic 34, 3) := dk_178 0 34 (dk_at dksX4_statement_0 1 rfl rfl)
theorem dX4_statement_4 : decode cX4_statement 4 = .ok (.invokevirtual 38, 3) := dk_182 0 38 (dk_at dksX4_statement_0 4 rfl rfl)
theorem dX4_statement_7 : decode cX4_statement 7 = .ok (.istore_n 1, 1) := dk_60 (dk_at dksX4_statement_0 7 rfl rfl)
theorem dX4_statement_8 : decode cX4_statement 8 = .ok (.aload_n 0, 1) := dk_42 (dk_at dksX4_statement_0 8 rfl rfl)
theorem dX4_statement_9 : decode cX4_statement 9 = .ok (.getstatic 42, 3) := dk_178 0 42 (dk_at dksX4_statement_0 9 rfl rfl)
theorem dX4_statement_12 : decode cX4_statement 12 = .ok (.invokevirtual 38, 3) := dk_182 0 38 (dk_at dksX4_statement_0 12 rfl rfl)
theorem dX4_statement_15 : decode cX4_statement 15 = .ok (.istore_n 2, 1) := dk_61 (dk_at dksX4_statement_0 15 rfl rfl)
theorem dX4_statement_16 : decode cX4_statement 16 = .ok (.iload_n 1, 1) := dk_27 (dk_at dksX4_statement_0 16 rfl rfl)
theorem dX4_statement_17 : decode cX4_statement 17 = .ok (.ifCond .eq 8, 3) := dk_153 0 8 (dk_at dksX4_statement_0 17 rfl rfl)
theorem dX4_statement_20 : decode cX4_statement 20 = .ok (.iload_n 1, 1) := dk_27 (dk_at dksX4_statement_0 20 rfl rfl)
theorem dX4_statement_21 : decode cX4_statement 21 = .ok (.iconst 1, 1) := dk_4 (dk_at dksX4_statement_0 21 rfl rfl)
theorem dX4_statement_22 : decode cX4_statement 22 = .ok (.if_icmp .ne 12, 3) := dk_160 0 12 (dk_at dksX4_statement_1 0 rfl rfl)
theorem dX4_statement_25 : decode cX4_statement 25 = .ok (.aload_n 0, 1) := dk_42 (dk_at dksX4_statement_1 3 rfl rfl)
theorem dX4_statement_26 : decode cX4_statement 26 = .ok (.iload_n 1, 1) := dk_27 (dk_at dksX4_statement_1 4 rfl rfl)
theorem dX4_statement_27 : decode cX4_statement 27 = .ok (.iload_n 2, 1) := dk_28 (dk_at dksX4_statement_1 5 rfl rfl)
theorem dX4_statement_28 : decode cX4_statement 28 = .ok (.invokevirtual 45, 3) := dk_182 0 45 (dk_at dksX4_statement_1 6 rfl rfl)
theorem dX4_statement_31 : decode cX4_statement 31 = .ok (.goto 9, 3) := dk_167 0 9 (dk_at dksX4_statement_1 9 rfl rfl)
theorem dX4_statement_34 : decode cX4_statement 34 = .ok (.aload_n 0, 1) := dk_42 (dk_at dksX4_statement_1 12 rfl rfl)
theorem dX4_statement_35 : decode cX4_statement 35 = .ok (.iload_n 1, 1) := dk_27 (dk_at dksX4_statement_1 13 rfl rfl)
theorem dX4_statement_36 : decode cX4_statement 36 = .ok (.iload_n 2, 1) := dk_28 (dk_at dksX4_statement_1 14 rfl rfl)
theorem dX4_statement_37 : decode cX4_statement 37 = .ok (.invokevirtual 49, 3) := dk_182 0 49 (dk_at dksX4_statement_1 15 rfl rfl)
theorem dX4_statement_40 : decode cX4_statement 40 = .ok (.astore_n 3, 1) := dk_78 (dk_at dksX4_statement_1 18 rfl rfl)
theorem dX4_statement_41 : decode cX4_statement 41 = .ok (.aload_n 0, 1) := dk_42 (dk_at dksX4_statement_1 19 rfl rfl)
theorem dX4_statement_42 : decode cX4_statement 42 = .ok (.invokevirtual 52, 3) := dk_182 0 52 (dk_at dksX4_statement_1 20 rfl rfl)
theorem dX4_statement_45 : decode cX4_statement 45 = .ok (.astore 4, 2) := dk_58 4 (dk_at dksX4_statement_2 0 rfl rfl)
theorem dX4_statement_47 : decode cX4_statement 47 = .ok (.aload_n 0, 1) := dk_42 (dk_at dksX4_statement_2 2 rfl rfl)
theorem dX4_statement_48 : decode cX4_statement 48 = .ok (.iconst 3, 1) := dk_6 (dk_at dksX4_statement_2 3 rfl rfl)
theorem dX4_statement_49 : decode cX4_statement 49 = .ok (.ldc2_w 56, 3) := dk_20 0 56 (dk_at dksX4_statement_2 4 rfl rfl)
theorem dX4_statement_52 : decode cX4_statement 52 = .ok (.invokevirtual 58, 3) := dk_182 0 58 (dk_at dksX4_statement_2 7 rfl rfl)
theorem dX4_statement_55 : decode cX4_statement 55 = .ok (.aload_n 0, 1) := dk_42 (dk_at dksX4_statement_2 10 rfl rfl)
theorem dX4_statement_56 : decode cX4_statement 56 = .ok (.getfield 62, 3) := dk_180 0 62 (dk_at dksX4_statement_2 11 rfl rfl)
theorem dX4_statement_59 : decode cX4_statement 59 = .ok (.ifCond .eq 4, 3) := dk_153 0 4 (dk_at dksX4_statement_2 14 rfl rfl)
theorem dX4_statement_62 : decode cX4_statement 62 = .ok (.return_, 1) := dk_177 (dk_at dksX4_statement_2 17 rfl rfl)
theorem dX4_statement_63 : decode cX4_statement 63 = .ok (.aload_n 3, 1) := dk_45 (dk_at dksX4_statement_2 18 rfl rfl)
theorem dX4_statement_64 : decode cX4_statement 64 = .ok (.aload 4, 2) := dk_25 4 (dk_at dksX4_statement_2 19 rfl rfl)
theorem dX4_statement_66 : decode cX4_statement 66 = .ok (.putfield 66, 3) := dk_181 0 66 (dk_at dksX4_statement_2 21 rfl rfl)
theorem dX4_statement_69 : decode cX4_statement 69 = .ok (.aload_n 0, 1) := dk_42 (dk_at dksX4_statement_3 0 rfl rfl)
theorem dX4_statement_70 : decode cX4_statement 70 = .ok (.getfield 14, 3) := dk_180 0 14 (dk_at dksX4_statement_3 1 rfl rfl)
theorem dX4_statement_73 : decode cX4_statement 73 = .ok (.aload_n 3, 1) := dk_45 (dk_at dksX4_statement_3 4 rfl rfl)
theorem dX4_statement_74 : decode cX4_statement 74 = .ok (.invokevirtual 71, 3) := dk_182 0 71 (dk_at dksX4_statement_3 5 rfl rfl)
theorem dX4_statement_77 : decode cX4_statement 77 = .ok (.return_, 1) := dk_177 (dk_at dksX4_statement_3 8 rfl rfl)
abbrev cX4_opens : ByteArray := prog_7_method_5_code
def yX4_opens : MethodName := ⟨RX4, "opens", "(II)LCrossingWords$Saying;"⟩
def dkwX4_opens_4 : List UInt8 := [182, 0, 101, 181, 0, 111, 25, 4, 176]
abbrev dktX4_opens_4 : List UInt8 := dkwX4_opens_4 ++ []
def dkwX4_opens_3 : List UInt8 := [181, 0, 105, 42, 178, 0, 108, 182, 0, 97, 153, 0, 19, 25, 4, 42, 3, 42, 180, 0, 20, 4, 100]
abbrev dktX4_opens_3 : List UInt8 := dkwX4_opens_3 ++ dktX4_opens_4
def dkwX4_opens_2 : List UInt8 := [58, 4, 42, 178, 0, 93, 182, 0, 97, 153, 0, 16, 25, 4, 42, 3, 17, 7, 207, 182, 0, 101]
abbrev dktX4_opens_2 : List UInt8 := dkwX4_opens_2 ++ dktX4_opens_3
def dkwX4_opens_1 : List UInt8 := [183, 0, 81, 176, 187, 0, 84, 89, 42, 180, 0, 14, 180, 0, 28, 28, 29, 42, 182, 0, 86, 183, 0, 90]
abbrev dktX4_opens_1 : List UInt8 := dkwX4_opens_1 ++ dktX4_opens_2
def dkwX4_opens_0 : List UInt8 := [42, 28, 182, 0, 75, 62, 27, 4, 160, 0, 20, 187, 0, 79, 89, 42, 180, 0, 14, 180, 0, 28, 28, 29]
abbrev dktX4_opens_0 : List UInt8 := dkwX4_opens_0 ++ dktX4_opens_1
theorem dksX4_opens_0 : cX4_opens.data.toList.drop 0 = dktX4_opens_0 := by decide +kernel
theorem dksX4_opens_1 : cX4_opens.data.toList.drop 24 = dktX4_opens_1 := dk_seg dksX4_opens_0 24 rfl rfl
theorem dksX4_opens_2 : cX4_opens.data.toList.drop 48 = dktX4_opens_2 := dk_seg dksX4_opens_1 24 rfl rfl
theorem dksX4_opens_3 : cX4_opens.data.toList.drop 70 = dktX4_opens_3 := dk_seg dksX4_opens_2 22 rfl rfl
theorem dksX4_opens_4 : cX4_opens.data.toList.drop 93 = dktX4_opens_4 := dk_seg dksX4_opens_3 23 rfl rfl
theorem dX4_opens_0 : decode cX4_opens 0 = .ok (.aload_n 0, 1) := dk_42 (dk_at dksX4_opens_0 0 rfl rfl)
theorem dX4_opens_1 : decode cX4_opens 1 = .ok (.iload_n 2, 1) := dk_28 (dk_at dksX4_opens_0 1 rfl rfl)
theorem dX4_opens_2 : decode cX4_opens 2 = .ok (.invokevirtual 75, 3) := dk_182 0 75 (dk_at dksX4_opens_0 2 rfl rfl)
theorem dX4_opens_5 : decode cX4_opens 5 = .ok (.istore_n 3, 1) := dk_62 (dk_at dksX4_opens_0 5 rfl rfl)
theorem dX4_opens_6 : decode cX4_opens 6 = .ok (.iload_n 1, 1) := dk_27 (dk_at dksX4_opens_0 6 rfl rfl)
theorem dX4_opens_7 : decode cX4_opens 7 = .ok (.iconst 1, 1) := dk_4 (dk_at dksX4_opens_0 7 rfl rfl)
theorem dX4_opens_8 : decode cX4_opens 8 = .ok (.if_icmp .ne 20, 3) := dk_160 0 20 (dk_at dksX4_opens_0 8 rfl rfl)
theorem dX4_opens_11 : decode cX4_opens 11 = .ok (.new 79, 3) := dk_187 0 79 (dk_at dksX4_opens_0 11 rfl rfl)
theorem dX4_opens_14 : decode cX4_opens 14 = .ok (.dup, 1) := dk_89 (dk_at dksX4_opens_0 14 rfl rfl)
theorem dX4_opens_15 : decode cX4_opens 15 = .ok (.aload_n 0, 1) := dk_42 (dk_at dksX4_opens_0 15 rfl rfl)
theorem dX4_opens_16 : decode cX4_opens 16 = .ok (.getfield 14, 3) := dk_180 0 14 (dk_at dksX4_opens_0 16 rfl rfl)
theorem dX4_opens_19 : decode cX4_opens 19 = .ok (.getfield 28, 3) := dk_180 0 28 (dk_at dksX4_opens_0 19 rfl rfl)
theorem dX4_opens_22 : decode cX4_opens 22 = .ok (.iload_n 2, 1) := dk_28 (dk_at dksX4_opens_0 22 rfl rfl)
theorem dX4_opens_23 : decode cX4_opens 23 = .ok (.iload_n 3, 1) := dk_29 (dk_at dksX4_opens_0 23 rfl rfl)
theorem dX4_opens_24 : decode cX4_opens 24 = .ok (.invokespecial 81, 3) := dk_183 0 81 (dk_at dksX4_opens_1 0 rfl rfl)
theorem dX4_opens_27 : decode cX4_opens 27 = .ok (.areturn, 1) := dk_176 (dk_at dksX4_opens_1 3 rfl rfl)
theorem dX4_opens_28 : decode cX4_opens 28 = .ok (.new 84, 3) := dk_187 0 84 (dk_at dksX4_opens_1 4 rfl rfl)
theorem dX4_opens_31 : decode cX4_opens 31 = .ok (.dup, 1) := dk_89 (dk_at dksX4_opens_1 7 rfl rfl)
theorem dX4_opens_32 : decode cX4_opens 32 = .ok (.aload_n 0, 1) := dk_42 (dk_at dksX4_opens_1 8 rfl rfl)
theorem dX4_opens_33 : decode cX4_opens 33 = .ok (.getfield 14, 3) := dk_180 0 14 (dk_at dksX4_opens_1 9 rfl rfl)
theorem dX4_opens_36 : decode cX4_opens 36 = .ok (.getfield 28, 3) := dk_180 0 28 (dk_at dksX4_opens_1 12 rfl rfl)
theorem dX4_opens_39 : decode cX4_opens 39 = .ok (.iload_n 2, 1) := dk_28 (dk_at dksX4_opens_1 15 rfl rfl)
theorem dX4_opens_40 : decode cX4_opens 40 = .ok (.iload_n 3, 1) := dk_29 (dk_at dksX4_opens_1 16 rfl rfl)
theorem dX4_opens_41 : decode cX4_opens 41 = .ok (.aload_n 0, 1) := dk_42 (dk_at dksX4_opens_1 17 rfl rfl)
theorem dX4_opens_42 : decode cX4_opens 42 = .ok (.invokevirtual 86, 3) := dk_182 0 86 (dk_at dksX4_opens_1 18 rfl rfl)
theorem dX4_opens_45 : decode cX4_opens 45 = .ok (.invokespecial 90, 3) := dk_183 0 90 (dk_at dksX4_opens_1 21 rfl rfl)
theorem dX4_opens_48 : decode cX4_opens 48 = .ok (.astore 4, 2) := dk_58 4 (dk_at dksX4_opens_2 0 rfl rfl)
theorem dX4_opens_50 : decode cX4_opens 50 = .ok (.aload_n 0, 1) := dk_42 (dk_at dksX4_opens_2 2 rfl rfl)
theorem dX4_opens_51 : decode cX4_opens 51 = .ok (.getstatic 93, 3) := dk_178 0 93 (dk_at dksX4_opens_2 3 rfl rfl)
theorem dX4_opens_54 : decode cX4_opens 54 = .ok (.invokevirtual 97, 3) := dk_182 0 97 (dk_at dksX4_opens_2 6 rfl rfl)
theorem dX4_opens_57 : decode cX4_opens 57 = .ok (.ifCond .eq 16, 3) := dk_153 0 16 (dk_at dksX4_opens_2 9 rfl rfl)
theorem dX4_opens_60 : decode cX4_opens 60 = .ok (.aload 4, 2) := dk_25 4 (dk_at dksX4_opens_2 12 rfl rfl)
theorem dX4_opens_62 : decode cX4_opens 62 = .ok (.aload_n 0, 1) := dk_42 (dk_at dksX4_opens_2 14 rfl rfl)
theorem dX4_opens_63 : decode cX4_opens 63 = .ok (.iconst 0, 1) := dk_3 (dk_at dksX4_opens_2 15 rfl rfl)
theorem dX4_opens_64 : decode cX4_opens 64 = .ok (.sipush 1999, 3) := dk_17 7 207 (dk_at dksX4_opens_2 16 rfl rfl)
theorem dX4_opens_67 : decode cX4_opens 67 = .ok (.invokevirtual 101, 3) := dk_182 0 101 (dk_at dksX4_opens_2 19 rfl rfl)
theorem dX4_opens_70 : decode cX4_opens 70 = .ok (.putfield 105, 3) := dk_181 0 105 (dk_at dksX4_opens_3 0 rfl rfl)
theorem dX4_opens_73 : decode cX4_opens 73 = .ok (.aload_n 0, 1) := dk_42 (dk_at dksX4_opens_3 3 rfl rfl)
theorem dX4_opens_74 : decode cX4_opens 74 = .ok (.getstatic 108, 3) := dk_178 0 108 (dk_at dksX4_opens_3 4 rfl rfl)
theorem dX4_opens_77 : decode cX4_opens 77 = .ok (.invokevirtual 97, 3) := dk_182 0 97 (dk_at dksX4_opens_3 7 rfl rfl)
theorem dX4_opens_80 : decode cX4_opens 80 = .ok (.ifCond .eq 19, 3) := dk_153 0 19 (dk_at dksX4_opens_3 10 rfl rfl)
theorem dX4_opens_83 : decode cX4_opens 83 = .ok (.aload 4, 2) := dk_25 4 (dk_at dksX4_opens_3 13 rfl rfl)
theorem dX4_opens_85 : decode cX4_opens 85 = .ok (.aload_n 0, 1) := dk_42 (dk_at dksX4_opens_3 15 rfl rfl)
theorem dX4_opens_86 : decode cX4_opens 86 = .ok (.iconst 0, 1) := dk_3 (dk_at dksX4_opens_3 16 rfl rfl)
theorem dX4_opens_87 : decode cX4_opens 87 = .ok (.aload_n 0, 1) := dk_42 (dk_at dksX4_opens_3 17 rfl rfl)
theorem dX4_opens_88 : decode cX4_opens 88 = .ok (.getfield 20, 3) := dk_180 0 20 (dk_at dksX4_opens_3 18 rfl rfl)
theorem dX4_opens_91 : decode cX4_opens 91 = .ok (.iconst 1, 1) := dk_4 (dk_at dksX4_opens_3 21 rfl rfl)
theorem dX4_opens_92 : decode cX4_opens 92 = .ok (.isub, 1) := dk_100 (dk_at dksX4_opens_3 22 rfl rfl)
theorem dX4_opens_93 : decode cX4_opens 93 = .ok (.invokevirtual 101, 3) := dk_182 0 101 (dk_at dksX4_opens_4 0 rfl rfl)
theorem dX4_opens_96 : decode cX4_opens 96 = .ok (.putfield 111, 3) := dk_181 0 111 (dk_at dksX4_opens_4 3 rfl rfl)
theorem dX4_opens_99 : decode cX4_opens 99 = .ok (.aload 4, 2) := dk_25 4 (dk_at dksX4_opens_4 6 rfl rfl)
theorem dX4_opens_101 : decode cX4_opens 101 = .ok (.areturn, 1) := dk_176 (dk_at dksX4_opens_4 8 rfl rfl)
abbrev cX4_kindOfHand : ByteArray := prog_7_method_6_code
def yX4_kindOfHand : MethodName := ⟨RX4, "kindOfHand", "(I)I"⟩
def dkwX4_kindOfHand_2 : List UInt8 := [172, 42, 182, 0, 124, 28, 172]
abbrev dktX4_kindOfHand_2 : List UInt8 := dkwX4_kindOfHand_2 ++ []
def dkwX4_kindOfHand_1 : List UInt8 := [184, 0, 120, 167, 0, 4, 2, 61, 28, 2, 159, 0, 8, 28, 27, 160, 0, 10, 42, 4, 181, 0, 62, 3]
abbrev dktX4_kindOfHand_1 : List UInt8 := dkwX4_kindOfHand_1 ++ dktX4_kindOfHand_2
def dkwX4_kindOfHand_0 : List UInt8 := [42, 180, 0, 62, 154, 0, 24, 42, 180, 0, 114, 4, 160, 0, 16, 178, 0, 42, 42, 180, 0, 117]
abbrev dktX4_kindOfHand_0 : List UInt8 := dkwX4_kindOfHand_0 ++ dktX4_kindOfHand_1
theorem dksX4_kindOfHand_0 : cX4_kindOfHand.data.toList.drop 0 = dktX4_kindOfHand_0 := by decide +kernel
theorem dksX4_kindOfHand_1 : cX4_kindOfHand.data.toList.drop 22 = dktX4_kindOfHand_1 := dk_seg dksX4_kindOfHand_0 22 rfl rfl
theorem dksX4_kindOfHand_2 : cX4_kindOfHand.data.toList.drop 46 = dktX4_kindOfHand_2 := dk_seg dksX4_kindOfHand_1 24 rfl rfl
theorem dX4_kindOfHand_0 : decode cX4_kindOfHand 0 = .ok (.aload_n 0, 1) := dk_42 (dk_at dksX4_kindOfHand_0 0 rfl rfl)
theorem dX4_kindOfHand_1 : decode cX4_kindOfHand 1 = .ok (.getfield 62, 3) := dk_180 0 62 (dk_at dksX4_kindOfHand_0 1 rfl rfl)
theorem dX4_kindOfHand_4 : decode cX4_kindOfHand 4 = .ok (.ifCond .ne 24, 3) := dk_154 0 24 (dk_at dksX4_kindOfHand_0 4 rfl rfl)
theorem dX4_kindOfHand_7 : decode cX4_kindOfHand 7 = .ok (.aload_n 0, 1) := dk_42 (dk_at dksX4_kindOfHand_0 7 rfl rfl)
theorem dX4_kindOfHand_8 : decode cX4_kindOfHand 8 = .ok (.getfield 114, 3) := dk_180 0 114 (dk_at dksX4_kindOfHand_0 8 rfl rfl)
theorem dX4_kindOfHand_11 : decode cX4_kindOfHand 11 = .ok (.iconst 1, 1) := dk_4 (dk_at dksX4_kindOfHand_0 11 rfl rfl)
theorem dX4_kindOfHand_12 : decode cX4_kindOfHand 12 = .ok (.if_icmp .ne 16, 3) := dk_160 0 16 (dk_at dksX4_kindOfHand_0 12 rfl rfl)
theorem dX4_kindOfHand_15 : decode cX4_kindOfHand 15 = .ok (.getstatic 42, 3) := dk_178 0 42 (dk_at dksX4_kindOfHand_0 15 rfl rfl)
theorem dX4_kindOfHand_18 : decode cX4_kindOfHand 18 = .ok (.aload_n 0, 1) := dk_42 (dk_at dksX4_kindOfHand_0 18 rfl rfl)
theorem dX4_kindOfHand_19 : decode cX4_kindOfHand 19 = .ok (.getfield 117, 3) := dk_180 0 117 (dk_at dksX4_kindOfHand_0 19 rfl rfl)
theorem dX4_kindOfHand_22 : decode cX4_kindOfHand 22 = .ok (.invokestatic 120, 3) := dk_184 0 120 (dk_at dksX4_kindOfHand_1 0 rfl rfl)
theorem dX4_kindOfHand_25 : decode cX4_kindOfHand 25 = .ok (.goto 4, 3) := dk_167 0 4 (dk_at dksX4_kindOfHand_1 3 rfl rfl)
theorem dX4_kindOfHand_28 : decode cX4_kindOfHand 28 = .ok (.iconst (-1), 1) := dk_2 (dk_at dksX4_kindOfHand_1 6 rfl rfl)
theorem dX4_kindOfHand_29 : decode cX4_kindOfHand 29 = .ok (.istore_n 2, 1) := dk_61 (dk_at dksX4_kindOfHand_1 7 rfl rfl)
theorem dX4_kindOfHand_30 : decode cX4_kindOfHand 30 = .ok (.iload_n 2, 1) := dk_28 (dk_at dksX4_kindOfHand_1 8 rfl rfl)
theorem dX4_kindOfHand_31 : decode cX4_kindOfHand 31 = .ok (.iconst (-1), 1) := dk_2 (dk_at dksX4_kindOfHand_1 9 rfl rfl)
theorem dX4_kindOfHand_32 : decode cX4_kindOfHand 32 = .ok (.if_icmp .eq 8, 3) := dk_159 0 8 (dk_at dksX4_kindOfHand_1 10 rfl rfl)
theorem dX4_kindOfHand_35 : decode cX4_kindOfHand 35 = .ok (.iload_n 2, 1) := dk_28 (dk_at dksX4_kindOfHand_1 13 rfl rfl)
theorem dX4_kindOfHand_36 : decode cX4_kindOfHand 36 = .ok (.iload_n 1, 1) := dk_27 (dk_at dksX4_kindOfHand_1 14 rfl rfl)
theorem dX4_kindOfHand_37 : decode cX4_kindOfHand 37 = .ok (.if_icmp .ne 10, 3) := dk_160 0 10 (dk_at dksX4_kindOfHand_1 15 rfl rfl)
theorem dX4_kindOfHand_40 : decode cX4_kindOfHand 40 = .ok (.aload_n 0, 1) := dk_42 (dk_at dksX4_kindOfHand_1 18 rfl rfl)
theorem dX4_kindOfHand_41 : decode cX4_kindOfHand 41 = .ok (.iconst 1, 1) := dk_4 (dk_at dksX4_kindOfHand_1 19 rfl rfl)
theorem dX4_kindOfHand_42 : decode cX4_kindOfHand 42 = .ok (.putfield 62, 3) := dk_181 0 62 (dk_at dksX4_kindOfHand_1 20 rfl rfl)
theorem dX4_kindOfHand_45 : decode cX4_kindOfHand 45 = .ok (.iconst 0, 1) := dk_3 (dk_at dksX4_kindOfHand_1 23 rfl rfl)
theorem dX4_kindOfHand_46 : decode cX4_kindOfHand 46 = .ok (.ireturn, 1) := dk_172 (dk_at dksX4_kindOfHand_2 0 rfl rfl)
theorem dX4_kindOfHand_47 : decode cX4_kindOfHand 47 = .ok (.aload_n 0, 1) := dk_42 (dk_at dksX4_kindOfHand_2 1 rfl rfl)
theorem dX4_kindOfHand_48 : decode cX4_kindOfHand 48 = .ok (.invokevirtual 124, 3) := dk_182 0 124 (dk_at dksX4_kindOfHand_2 2 rfl rfl)
theorem dX4_kindOfHand_51 : decode cX4_kindOfHand 51 = .ok (.iload_n 2, 1) := dk_28 (dk_at dksX4_kindOfHand_2 5 rfl rfl)
theorem dX4_kindOfHand_52 : decode cX4_kindOfHand 52 = .ok (.ireturn, 1) := dk_172 (dk_at dksX4_kindOfHand_2 6 rfl rfl)
abbrev cX4_terms : ByteArray := prog_7_method_7_code
def yX4_terms : MethodName := ⟨RX4, "terms", "()[I"⟩
def dkwX4_terms_2 : List UInt8 := [42, 178, 0, 127, 182, 0, 130, 61, 167, 255, 232, 43, 176]
abbrev dktX4_terms_2 : List UInt8 := dkwX4_terms_2 ++ []
def dkwX4_terms_1 : List UInt8 := [42, 178, 0, 127, 182, 0, 130, 61, 28, 2, 159, 0, 25, 43, 28, 42, 3, 17, 3, 231, 182, 0, 101, 79]
abbrev dktX4_terms_1 : List UInt8 := dkwX4_terms_1 ++ dktX4_terms_2
def dkwX4_terms_0 : List UInt8 := [8, 188, 10, 89, 3, 2, 79, 89, 4, 2, 79, 89, 5, 2, 79, 89, 6, 2, 79, 89, 7, 2, 79, 76]
abbrev dktX4_terms_0 : List UInt8 := dkwX4_terms_0 ++ dktX4_terms_1
theorem dksX4_terms_0 : cX4_terms.data.toList.drop 0 = dktX4_terms_0 := by decide +kernel
theorem dksX4_terms_1 : cX4_terms.data.toList.drop 24 = dktX4_terms_1 := dk_seg dksX4_terms_0 24 rfl rfl
theorem dksX4_terms_2 : cX4_terms.data.toList.drop 48 = dktX4_terms_2 := dk_seg dksX4_terms_1 24 rfl rfl
theorem dX4_terms_0 : decode cX4_terms 0 = .ok (.iconst 5, 1) := dk_8 (dk_at dksX4_terms_0 0 rfl rfl)
theorem dX4_terms_1 : decode cX4_terms 1 = .ok (.newarray .int, 2) := dk_188_10 (dk_at dksX4_terms_0 1 rfl rfl)
theorem dX4_terms_3 : decode cX4_terms 3 = .ok (.dup, 1) := dk_89 (dk_at dksX4_terms_0 3 rfl rfl)
theorem dX4_terms_4 : decode cX4_terms 4 = .ok (.iconst 0, 1) := dk_3 (dk_at dksX4_terms_0 4 rfl rfl)
theorem dX4_terms_5 : decode cX4_terms 5 = .ok (.iconst (-1), 1) := dk_2 (dk_at dksX4_terms_0 5 rfl rfl)
theorem dX4_terms_6 : decode cX4_terms 6 = .ok (.iastore, 1) := dk_79 (dk_at dksX4_terms_0 6 rfl rfl)
theorem dX4_terms_7 : decode cX4_terms 7 = .ok (.dup, 1) := dk_89 (dk_at dksX4_terms_0 7 rfl rfl)
theorem dX4_terms_8 : decode cX4_terms 8 = .ok (.iconst 1, 1) := dk_4 (dk_at dksX4_terms_0 8 rfl rfl)
theorem dX4_terms_9 : decode cX4_terms 9 = .ok (.iconst (-1), 1) := dk_2 (dk_at dksX4_terms_0 9 rfl rfl)
theorem dX4_terms_10 : decode cX4_terms 10 = .ok (.iastore, 1) := dk_79 (dk_at dksX4_terms_0 10 rfl rfl)
theorem dX4_terms_11 : decode cX4_terms 11 = .ok (.dup, 1) := dk_89 (dk_at dksX4_terms_0 11 rfl rfl)
theorem dX4_terms_12 : decode cX4_terms 12 = .ok (.iconst 2, 1) := dk_5 (dk_at dksX4_terms_0 12 rfl rfl)
theorem dX4_terms_13 : decode cX4_terms 13 = .ok (.iconst (-1), 1) := dk_2 (dk_at dksX4_terms_0 13 rfl rfl)
theorem dX4_terms_14 : decode cX4_terms 14 = .ok (.iastore, 1) := dk_79 (dk_at dksX4_terms_0 14 rfl rfl)
theorem dX4_terms_15 : decode cX4_terms 15 = .ok (.dup, 1) := dk_89 (dk_at dksX4_terms_0 15 rfl rfl)
theorem dX4_terms_16 : decode cX4_terms 16 = .ok (.iconst 3, 1) := dk_6 (dk_at dksX4_terms_0 16 rfl rfl)
theorem dX4_terms_17 : decode cX4_terms 17 = .ok (.iconst (-1), 1) := dk_2 (dk_at dksX4_terms_0 17 rfl rfl)
theorem dX4_terms_18 : decode cX4_terms 18 = .ok (.iastore, 1) := dk_79 (dk_at dksX4_terms_0 18 rfl rfl)
theorem dX4_terms_19 : decode cX4_terms 19 = .ok (.dup, 1) := dk_89 (dk_at dksX4_terms_0 19 rfl rfl)
theorem dX4_terms_20 : decode cX4_terms 20 = .ok (.iconst 4, 1) := dk_7 (dk_at dksX4_terms_0 20 rfl rfl)
theorem dX4_terms_21 : decode cX4_terms 21 = .ok (.iconst (-1), 1) := dk_2 (dk_at dksX4_terms_0 21 rfl rfl)
theorem dX4_terms_22 : decode cX4_terms 22 = .ok (.iastore, 1) := dk_79 (dk_at dksX4_terms_0 22 rfl rfl)
theorem dX4_terms_23 : decode cX4_terms 23 = .ok (.astore_n 1, 1) := dk_76 (dk_at dksX4_terms_0 23 rfl rfl)
theorem dX4_terms_24 : decode cX4_terms 24 = .ok (.aload_n 0, 1) := dk_42 (dk_at dksX4_terms_1 0 rfl rfl)
theorem dX4_terms_25 : decode cX4_terms 25 = .ok (.getstatic 127, 3) := dk_178 0 127 (dk_at dksX4_terms_1 1 rfl rfl)
theorem dX4_terms_28 : decode cX4_terms 28 = .ok (.invokevirtual 130, 3) := dk_182 0 130 (dk_at dksX4_terms_1 4 rfl rfl)
theorem dX4_terms_31 : decode cX4_terms 31 = .ok (.istore_n 2, 1) := dk_61 (dk_at dksX4_terms_1 7 rfl rfl)
theorem dX4_terms_32 : decode cX4_terms 32 = .ok (.iload_n 2, 1) := dk_28 (dk_at dksX4_terms_1 8 rfl rfl)
theorem dX4_terms_33 : decode cX4_terms 33 = .ok (.iconst (-1), 1) := dk_2 (dk_at dksX4_terms_1 9 rfl rfl)
theorem dX4_terms_34 : decode cX4_terms 34 = .ok (.if_icmp .eq 25, 3) := dk_159 0 25 (dk_at dksX4_terms_1 10 rfl rfl)
theorem dX4_terms_37 : decode cX4_terms 37 = .ok (.aload_n 1, 1) := dk_43 (dk_at dksX4_terms_1 13 rfl rfl)
theorem dX4_terms_38 : decode cX4_terms 38 = .ok (.iload_n 2, 1) := dk_28 (dk_at dksX4_terms_1 14 rfl rfl)
theorem dX4_terms_39 : decode cX4_terms 39 = .ok (.aload_n 0, 1) := dk_42 (dk_at dksX4_terms_1 15 rfl rfl)
theorem dX4_terms_40 : decode cX4_terms 40 = .ok (.iconst 0, 1) := dk_3 (dk_at dksX4_terms_1 16 rfl rfl)
theorem dX4_terms_41 : decode cX4_terms 41 = .ok (.sipush 999, 3) := dk_17 3 231 (dk_at dksX4_terms_1 17 rfl rfl)
theorem dX4_terms_44 : decode cX4_terms 44 = .ok (.invokevirtual 101, 3) := dk_182 0 101 (dk_at dksX4_terms_1 20 rfl rfl)
theorem dX4_terms_47 : decode cX4_terms 47 = .ok (.iastore, 1) := dk_79 (dk_at dksX4_terms_1 23 rfl rfl)
theorem dX4_terms_48 : decode cX4_terms 48 = .ok (.aload_n 0, 1) := dk_42 (dk_at dksX4_terms_2 0 rfl rfl)
theorem dX4_terms_49 : decode cX4_terms 49 = .ok (.getstatic 127, 3) := dk_178 0 127 (dk_at dksX4_terms_2 1 rfl rfl)
theorem dX4_terms_52 : decode cX4_terms 52 = .ok (.invokevirtual 130, 3) := dk_182 0 130 (dk_at dksX4_terms_2 4 rfl rfl)
theorem dX4_terms_55 : decode cX4_terms 55 = .ok (.istore_n 2, 1) := dk_61 (dk_at dksX4_terms_2 7 rfl rfl)
theorem dX4_terms_56 : decode cX4_terms 56 = .ok (.goto (-24), 3) := dk_167 255 232 (dk_at dksX4_terms_2 8 rfl rfl)
theorem dX4_terms_59 : decode cX4_terms 59 = .ok (.aload_n 1, 1) := dk_43 (dk_at dksX4_terms_2 11 rfl rfl)
theorem dX4_terms_60 : decode cX4_terms 60 = .ok (.areturn, 1) := dk_176 (dk_at dksX4_terms_2 12 rfl rfl)
abbrev cX4_answers : ByteArray := prog_7_method_10_code
def yX4_answers : MethodName := ⟨RX4, "answers", "(II)LCrossingWords$Saying;"⟩
def dkwX4_answers_5 : List UInt8 := [89, 21, 4, 28, 45, 183, 0, 180, 176]
abbrev dktX4_answers_5 : List UInt8 := dkwX4_answers_5 ++ []
def dkwX4_answers_4 : List UInt8 := [89, 21, 4, 28, 45, 183, 0, 174, 176, 187, 0, 175, 89, 21, 4, 28, 45, 183, 0, 177, 176, 187, 0, 178]
abbrev dktX4_answers_4 : List UInt8 := dkwX4_answers_4 ++ dktX4_answers_5
def dkwX4_answers_3 : List UInt8 := [89, 21, 4, 28, 45, 183, 0, 166, 176, 187, 0, 169, 89, 21, 4, 28, 45, 183, 0, 171, 176, 187, 0, 172]
abbrev dktX4_answers_3 : List UInt8 := dkwX4_answers_3 ++ dktX4_answers_4
def dkwX4_answers_2 : List UInt8 := [42, 178, 0, 157, 182, 0, 97, 153, 0, 14, 42, 21, 4, 28, 45, 182, 0, 160, 167, 0, 14, 187, 0, 164]
abbrev dktX4_answers_2 : List UInt8 := dkwX4_answers_2 ++ dktX4_answers_3
def dkwX4_answers_1 : List UInt8 := [170, 0, 0, 0, 0, 0, 104, 0, 0, 0, 2, 0, 0, 0, 6, 0, 0, 0, 35, 0, 0, 0, 104, 0, 0, 0, 68, 0, 0, 0, 80, 0, 0, 0, 92]
abbrev dktX4_answers_1 : List UInt8 := dkwX4_answers_1 ++ dktX4_answers_2
def dkwX4_answers_0 : List UInt8 := [42, 27, 28, 182, 0, 154, 78, 42, 180, 0, 14, 180, 0, 28, 54, 4, 27]
abbrev dktX4_answers_0 : List UInt8 := dkwX4_answers_0 ++ dktX4_answers_1
theorem dksX4_answers_0 : cX4_answers.data.toList.drop 0 = dktX4_answers_0 := by decide +kernel
theorem dksX4_answers_1 : cX4_answers.data.toList.drop 17 = dktX4_answers_1 := dk_seg dksX4_answers_0 17 rfl rfl
theorem dksX4_answers_2 : cX4_answers.data.toList.drop 52 = dktX4_answers_2 := dk_seg dksX4_answers_1 35 rfl rfl
theorem dksX4_answers_3 : cX4_answers.data.toList.drop 76 = dktX4_answers_3 := dk_seg dksX4_answers_2 24 rfl rfl
theorem dksX4_answers_4 : cX4_answers.data.toList.drop 100 = dktX4_answers_4 := dk_seg dksX4_answers_3 24 rfl rfl
theorem dksX4_answers_5 : cX4_answers.data.toList.drop 124 = dktX4_answers_5 := dk_seg dksX4_answers_4 24 rfl rfl
theorem dX4_answers_0 : decode cX4_answers 0 = .ok (.aload_n 0, 1) := dk_42 (dk_at dksX4_answers_0 0 rfl rfl)
theorem dX4_answers_1 : decode cX4_answers 1 = .ok (.iload_n 1, 1) := dk_27 (dk_at dksX4_answers_0 1 rfl rfl)
theorem dX4_answers_2 : decode cX4_answers 2 = .ok (.iload_n 2, 1) := dk_28 (dk_at dksX4_answers_0 2 rfl rfl)
theorem dX4_answers_3 : decode cX4_answers 3 = .ok (.invokevirtual 154, 3) := dk_182 0 154 (dk_at dksX4_answers_0 3 rfl rfl)
theorem dX4_answers_6 : decode cX4_answers 6 = .ok (.astore_n 3, 1) := dk_78 (dk_at dksX4_answers_0 6 rfl rfl)
theorem dX4_answers_7 : decode cX4_answers 7 = .ok (.aload_n 0, 1) := dk_42 (dk_at dksX4_answers_0 7 rfl rfl)
theorem dX4_answers_8 : decode cX4_answers 8 = .ok (.getfield 14, 3) := dk_180 0 14 (dk_at dksX4_answers_0 8 rfl rfl)
theorem dX4_answers_11 : decode cX4_answers 11 = .ok (.getfield 28, 3) := dk_180 0 28 (dk_at dksX4_answers_0 11 rfl rfl)
theorem dX4_answers_14 : decode cX4_answers 14 = .ok (.istore 4, 2) := dk_54 4 (dk_at dksX4_answers_0 14 rfl rfl)
theorem dX4_answers_16 : decode cX4_answers 16 = .ok (.iload_n 1, 1) := dk_27 (dk_at dksX4_answers_0 16 rfl rfl)
theorem dX4_answers_17 : decode cX4_answers 17 = .ok (.tableswitch 104 2 6 #[35, 104, 68, 80, 92], 35) := by decide +kernel
theorem dX4_answers_52 : decode cX4_answers 52 = .ok (.aload_n 0, 1) := dk_42 (dk_at dksX4_answers_2 0 rfl rfl)
theorem dX4_answers_53 : decode cX4_answers 53 = .ok (.getstatic 157, 3) := dk_178 0 157 (dk_at dksX4_answers_2 1 rfl rfl)
theorem dX4_answers_56 : decode cX4_answers 56 = .ok (.invokevirtual 97, 3) := dk_182 0 97 (dk_at dksX4_answers_2 4 rfl rfl)
theorem dX4_answers_59 : decode cX4_answers 59 = .ok (.ifCond .eq 14, 3) := dk_153 0 14 (dk_at dksX4_answers_2 7 rfl rfl)
theorem dX4_answers_62 : decode cX4_answers 62 = .ok (.aload_n 0, 1) := dk_42 (dk_at dksX4_answers_2 10 rfl rfl)
theorem dX4_answers_63 : decode cX4_answers 63 = .ok (.iload 4, 2) := dk_21 4 (dk_at dksX4_answers_2 11 rfl rfl)
theorem dX4_answers_65 : decode cX4_answers 65 = .ok (.iload_n 2, 1) := dk_28 (dk_at dksX4_answers_2 13 rfl rfl)
theorem dX4_answers_66 : decode cX4_answers 66 = .ok (.aload_n 3, 1) := dk_45 (dk_at dksX4_answers_2 14 rfl rfl)
theorem dX4_answers_67 : decode cX4_answers 67 = .ok (.invokevirtual 160, 3) := dk_182 0 160 (dk_at dksX4_answers_2 15 rfl rfl)
theorem dX4_answers_70 : decode cX4_answers 70 = .ok (.goto 14, 3) := dk_167 0 14 (dk_at dksX4_answers_2 18 rfl rfl)
theorem dX4_answers_73 : decode cX4_answers 73 = .ok (.new 164, 3) := dk_187 0 164 (dk_at dksX4_answers_2 21 rfl rfl)
theorem dX4_answers_76 : decode cX4_answers 76 = .ok (.dup, 1) := dk_89 (dk_at dksX4_answers_3 0 rfl rfl)
theorem dX4_answers_77 : decode cX4_answers 77 = .ok (.iload 4, 2) := dk_21 4 (dk_at dksX4_answers_3 1 rfl rfl)
theorem dX4_answers_79 : decode cX4_answers 79 = .ok (.iload_n 2, 1) := dk_28 (dk_at dksX4_answers_3 3 rfl rfl)
theorem dX4_answers_80 : decode cX4_answers 80 = .ok (.aload_n 3, 1) := dk_45 (dk_at dksX4_answers_3 4 rfl rfl)
theorem dX4_answers_81 : decode cX4_answers 81 = .ok (.invokespecial 166, 3) := dk_183 0 166 (dk_at dksX4_answers_3 5 rfl rfl)
theorem dX4_answers_84 : decode cX4_answers 84 = .ok (.areturn, 1) := dk_176 (dk_at dksX4_answers_3 8 rfl rfl)
theorem dX4_answers_85 : decode cX4_answers 85 = .ok (.new 169, 3) := dk_187 0 169 (dk_at dksX4_answers_3 9 rfl rfl)
theorem dX4_answers_88 : decode cX4_answers 88 = .ok (.dup, 1) := dk_89 (dk_at dksX4_answers_3 12 rfl rfl)
theorem dX4_answers_89 : decode cX4_answers 89 = .ok (.iload 4, 2) := dk_21 4 (dk_at dksX4_answers_3 13 rfl rfl)
theorem dX4_answers_91 : decode cX4_answers 91 = .ok (.iload_n 2, 1) := dk_28 (dk_at dksX4_answers_3 15 rfl rfl)
theorem dX4_answers_92 : decode cX4_answers 92 = .ok (.aload_n 3, 1) := dk_45 (dk_at dksX4_answers_3 16 rfl rfl)
theorem dX4_answers_93 : decode cX4_answers 93 = .ok (.invokespecial 171, 3) := dk_183 0 171 (dk_at dksX4_answers_3 17 rfl rfl)
theorem dX4_answers_96 : decode cX4_answers 96 = .ok (.areturn, 1) := dk_176 (dk_at dksX4_answers_3 20 rfl rfl)
theorem dX4_answers_97 : decode cX4_answers 97 = .ok (.new 172, 3) := dk_187 0 172 (dk_at dksX4_answers_3 21 rfl rfl)
theorem dX4_answers_100 : decode cX4_answers 100 = .ok (.dup, 1) := dk_89 (dk_at dksX4_answers_4 0 rfl rfl)
theorem dX4_answers_101 : decode cX4_answers 101 = .ok (.iload 4, 2) := dk_21 4 (dk_at dksX4_answers_4 1 rfl rfl)
theorem dX4_answers_103 : decode cX4_answers 103 = .ok (.iload_n 2, 1) := dk_28 (dk_at dksX4_answers_4 3 rfl rfl)
theorem dX4_answers_104 : decode cX4_answers 104 = .ok (.aload_n 3, 1) := dk_45 (dk_at dksX4_answers_4 4 rfl rfl)
theorem dX4_answers_105 : decode cX4_answers 105 = .ok (.invokespecial 174, 3) := dk_183 0 174 (dk_at dksX4_answers_4 5 rfl rfl)
theorem dX4_answers_108 : decode cX4_answers 108 = .ok (.areturn, 1) := dk_176 (dk_at dksX4_answers_4 8 rfl rfl)
theorem dX4_answers_109 : decode cX4_answers 109 = .ok (.new 175, 3) := dk_187 0 175 (dk_at dksX4_answers_4 9 rfl rfl)
theorem dX4_answers_112 : decode cX4_answers 112 = .ok (.dup, 1) := dk_89 (dk_at dksX4_answers_4 12 rfl rfl)
theorem dX4_answers_113 : decode cX4_answers 113 = .ok (.iload 4, 2) := dk_21 4 (dk_at dksX4_answers_4 13 rfl rfl)
theorem dX4_answers_115 : decode cX4_answers 115 = .ok (.iload_n 2, 1) := dk_28 (dk_at dksX4_answers_4 15 rfl rfl)
theorem dX4_answers_116 : decode cX4_answers 116 = .ok (.aload_n 3, 1) := dk_45 (dk_at dksX4_answers_4 16 rfl rfl)
theorem dX4_answers_117 : decode cX4_answers 117 = .ok (.invokespecial 177, 3) := dk_183 0 177 (dk_at dksX4_answers_4 17 rfl rfl)
theorem dX4_answers_120 : decode cX4_answers 120 = .ok (.areturn, 1) := dk_176 (dk_at dksX4_answers_4 20 rfl rfl)
theorem dX4_answers_121 : decode cX4_answers 121 = .ok (.new 178, 3) := dk_187 0 178 (dk_at dksX4_answers_4 21 rfl rfl)
theorem dX4_answers_124 : decode cX4_answers 124 = .ok (.dup, 1) := dk_89 (dk_at dksX4_answers_5 0 rfl rfl)
theorem dX4_answers_125 : decode cX4_answers 125 = .ok (.iload 4, 2) := dk_21 4 (dk_at dksX4_answers_5 1 rfl rfl)
theorem dX4_answers_127 : decode cX4_answers 127 = .ok (.iload_n 2, 1) := dk_28 (dk_at dksX4_answers_5 3 rfl rfl)
theorem dX4_answers_128 : decode cX4_answers 128 = .ok (.aload_n 3, 1) := dk_45 (dk_at dksX4_answers_5 4 rfl rfl)
theorem dX4_answers_129 : decode cX4_answers 129 = .ok (.invokespecial 180, 3) := dk_183 0 180 (dk_at dksX4_answers_5 5 rfl rfl)
theorem dX4_answers_132 : decode cX4_answers 132 = .ok (.areturn, 1) := dk_176 (dk_at dksX4_answers_5 8 rfl rfl)
abbrev cX4_said : ByteArray := prog_7_method_9_code
def yX4_said : MethodName := ⟨RX4, "said", "(II)LCrossingWords$Saying;"⟩
def dkwX4_said_3 : List UInt8 := [180, 0, 146, 42, 180, 0, 117, 136, 50, 78, 42, 182, 0, 124, 45, 176]
abbrev dktX4_said_3 : List UInt8 := dkwX4_said_3 ++ []
def dkwX4_said_2 : List UInt8 := [42, 180, 0, 117, 136, 50, 182, 0, 150, 154, 0, 10, 42, 4, 181, 0, 62, 1, 176, 42, 180, 0, 14]
abbrev dktX4_said_2 : List UInt8 := dkwX4_said_2 ++ dktX4_said_3
def dkwX4_said_1 : List UInt8 := [180, 0, 14, 180, 0, 28, 4, 100, 184, 0, 142, 153, 0, 25, 42, 27, 28, 42, 180, 0, 14, 180, 0, 146]
abbrev dktX4_said_1 : List UInt8 := dkwX4_said_1 ++ dktX4_said_2
def dkwX4_said_0 : List UInt8 := [42, 180, 0, 62, 154, 0, 54, 42, 180, 0, 114, 5, 160, 0, 46, 42, 180, 0, 117, 136, 3, 42]
abbrev dktX4_said_0 : List UInt8 := dkwX4_said_0 ++ dktX4_said_1
theorem dksX4_said_0 : cX4_said.data.toList.drop 0 = dktX4_said_0 := by decide +kernel
theorem dksX4_said_1 : cX4_said.data.toList.drop 22 = dktX4_said_1 := dk_seg dksX4_said_0 22 rfl rfl
theorem dksX4_said_2 : cX4_said.data.toList.drop 46 = dktX4_said_2 := dk_seg dksX4_said_1 24 rfl rfl
theorem dksX4_said_3 : cX4_said.data.toList.drop 69 = dktX4_said_3 := dk_seg dksX4_said_2 23 rfl rfl
theorem dX4_said_0 : decode cX4_said 0 = .ok (.aload_n 0, 1) := dk_42 (dk_at dksX4_said_0 0 rfl rfl)
theorem dX4_said_1 : decode cX4_said 1 = .ok (.getfield 62, 3) := dk_180 0 62 (dk_at dksX4_said_0 1 rfl rfl)
theorem dX4_said_4 : decode cX4_said 4 = .ok (.ifCond .ne 54, 3) := dk_154 0 54 (dk_at dksX4_said_0 4 rfl rfl)
theorem dX4_said_7 : decode cX4_said 7 = .ok (.aload_n 0, 1) := dk_42 (dk_at dksX4_said_0 7 rfl rfl)
theorem dX4_said_8 : decode cX4_said 8 = .ok (.getfield 114, 3) := dk_180 0 114 (dk_at dksX4_said_0 8 rfl rfl)
theorem dX4_said_11 : decode cX4_said 11 = .ok (.iconst 2, 1) := dk_5 (dk_at dksX4_said_0 11 rfl rfl)
theorem dX4_said_12 : decode cX4_said 12 = .ok (.if_icmp .ne 46, 3) := dk_160 0 46 (dk_at dksX4_said_0 12 rfl rfl)
theorem dX4_said_15 : decode cX4_said 15 = .ok (.aload_n 0, 1) := dk_42 (dk_at dksX4_said_0 15 rfl rfl)
theorem dX4_said_16 : decode cX4_said 16 = .ok (.getfield 117, 3) := dk_180 0 117 (dk_at dksX4_said_0 16 rfl rfl)
theorem dX4_said_19 : decode cX4_said 19 = .ok (.l2i, 1) := dk_136 (dk_at dksX4_said_0 19 rfl rfl)
theorem dX4_said_20 : decode cX4_said 20 = .ok (.iconst 0, 1) := dk_3 (dk_at dksX4_said_0 20 rfl rfl)
theorem dX4_said_21 : decode cX4_said 21 = .ok (.aload_n 0, 1) := dk_42 (dk_at dksX4_said_0 21 rfl rfl)
theorem dX4_said_22 : decode cX4_said 22 = .ok (.getfield 14, 3) := dk_180 0 14 (dk_at dksX4_said_1 0 rfl rfl)
theorem dX4_said_25 : decode cX4_said 25 = .ok (.getfield 28, 3) := dk_180 0 28 (dk_at dksX4_said_1 3 rfl rfl)
theorem dX4_said_28 : decode cX4_said 28 = .ok (.iconst 1, 1) := dk_4 (dk_at dksX4_said_1 6 rfl rfl)
theorem dX4_said_29 : decode cX4_said 29 = .ok (.isub, 1) := dk_100 (dk_at dksX4_said_1 7 rfl rfl)
theorem dX4_said_30 : decode cX4_said 30 = .ok (.invokestatic 142, 3) := dk_184 0 142 (dk_at dksX4_said_1 8 rfl rfl)
theorem dX4_said_33 : decode cX4_said 33 = .ok (.ifCond .eq 25, 3) := dk_153 0 25 (dk_at dksX4_said_1 11 rfl rfl)
theorem dX4_said_36 : decode cX4_said 36 = .ok (.aload_n 0, 1) := dk_42 (dk_at dksX4_said_1 14 rfl rfl)
theorem dX4_said_37 : decode cX4_said 37 = .ok (.iload_n 1, 1) := dk_27 (dk_at dksX4_said_1 15 rfl rfl)
theorem dX4_said_38 : decode cX4_said 38 = .ok (.iload_n 2, 1) := dk_28 (dk_at dksX4_said_1 16 rfl rfl)
theorem dX4_said_39 : decode cX4_said 39 = .ok (.aload_n 0, 1) := dk_42 (dk_at dksX4_said_1 17 rfl rfl)
theorem dX4_said_40 : decode cX4_said 40 = .ok (.getfield 14, 3) := dk_180 0 14 (dk_at dksX4_said_1 18 rfl rfl)
theorem dX4_said_43 : decode cX4_said 43 = .ok (.getfield 146, 3) := dk_180 0 146 (dk_at dksX4_said_1 21 rfl rfl)
theorem dX4_said_46 : decode cX4_said 46 = .ok (.aload_n 0, 1) := dk_42 (dk_at dksX4_said_2 0 rfl rfl)
theorem dX4_said_47 : decode cX4_said 47 = .ok (.getfield 117, 3) := dk_180 0 117 (dk_at dksX4_said_2 1 rfl rfl)
theorem dX4_said_50 : decode cX4_said 50 = .ok (.l2i, 1) := dk_136 (dk_at dksX4_said_2 4 rfl rfl)
theorem dX4_said_51 : decode cX4_said 51 = .ok (.aaload, 1) := dk_50 (dk_at dksX4_said_2 5 rfl rfl)
theorem dX4_said_52 : decode cX4_said 52 = .ok (.invokevirtual 150, 3) := dk_182 0 150 (dk_at dksX4_said_2 6 rfl rfl)
theorem dX4_said_55 : decode cX4_said 55 = .ok (.ifCond .ne 10, 3) := dk_154 0 10 (dk_at dksX4_said_2 9 rfl rfl)
theorem dX4_said_58 : decode cX4_said 58 = .ok (.aload_n 0, 1) := dk_42 (dk_at dksX4_said_2 12 rfl rfl)
theorem dX4_said_59 : decode cX4_said 59 = .ok (.iconst 1, 1) := dk_4 (dk_at dksX4_said_2 13 rfl rfl)
theorem dX4_said_60 : decode cX4_said 60 = .ok (.putfield 62, 3) := dk_181 0 62 (dk_at dksX4_said_2 14 rfl rfl)
theorem dX4_said_63 : decode cX4_said 63 = .ok (.aconst_null, 1) := dk_1 (dk_at dksX4_said_2 17 rfl rfl)
theorem dX4_said_64 : decode cX4_said 64 = .ok (.areturn, 1) := dk_176 (dk_at dksX4_said_2 18 rfl rfl)
theorem dX4_said_65 : decode cX4_said 65 = .ok (.aload_n 0, 1) := dk_42 (dk_at dksX4_said_2 19 rfl rfl)
theorem dX4_said_66 : decode cX4_said 66 = .ok (.getfield 14, 3) := dk_180 0 14 (dk_at dksX4_said_2 20 rfl rfl)
theorem dX4_said_69 : decode cX4_said 69 = .ok (.getfield 146, 3) := dk_180 0 146 (dk_at dksX4_said_3 0 rfl rfl)
theorem dX4_said_72 : decode cX4_said 72 = .ok (.aload_n 0, 1) := dk_42 (dk_at dksX4_said_3 3 rfl rfl)
theorem dX4_said_73 : decode cX4_said 73 = .ok (.getfield 117, 3) := dk_180 0 117 (dk_at dksX4_said_3 4 rfl rfl)
theorem dX4_said_76 : decode cX4_said 76 = .ok (.l2i, 1) := dk_136 (dk_at dksX4_said_3 7 rfl rfl)
theorem dX4_said_77 : decode cX4_said 77 = .ok (.aaload, 1) := dk_50 (dk_at dksX4_said_3 8 rfl rfl)
theorem dX4_said_78 : decode cX4_said 78 = .ok (.astore_n 3, 1) := dk_78 (dk_at dksX4_said_3 9 rfl rfl)
theorem dX4_said_79 : decode cX4_said 79 = .ok (.aload_n 0, 1) := dk_42 (dk_at dksX4_said_3 10 rfl rfl)
theorem dX4_said_80 : decode cX4_said 80 = .ok (.invokevirtual 124, 3) := dk_182 0 124 (dk_at dksX4_said_3 11 rfl rfl)
theorem dX4_said_83 : decode cX4_said 83 = .ok (.aload_n 3, 1) := dk_45 (dk_at dksX4_said_3 14 rfl rfl)
theorem dX4_said_84 : decode cX4_said 84 = .ok (.areturn, 1) := dk_176 (dk_at dksX4_said_3 15 rfl rfl)
abbrev cX4_maySay : ByteArray := prog_7_method_8_code
def yX4_maySay : MethodName := ⟨RX4, "maySay", "(IILCrossingWords$Saying;)Z"⟩
def dkwX4_maySay_3 : List UInt8 := [160, 0, 18, 167, 0, 11, 45, 182, 0, 139, 28, 160, 0, 7, 4, 167, 0, 4, 3, 172]
abbrev dktX4_maySay_3 : List UInt8 := dkwX4_maySay_3 ++ []
def dkwX4_maySay_2 : List UInt8 := [4, 167, 0, 4, 3, 172, 21, 4, 153, 0, 32, 27, 16, 7, 160, 0, 14, 45, 180, 0, 136, 28]
abbrev dktX4_maySay_2 : List UInt8 := dkwX4_maySay_2 ++ dktX4_maySay_3
def dkwX4_maySay_1 : List UInt8 := [160, 0, 30, 45, 180, 0, 136, 28, 160, 0, 20, 21, 4, 154, 0, 11, 45, 182, 0, 133, 5, 160, 0, 7]
abbrev dktX4_maySay_1 : List UInt8 := dkwX4_maySay_1 ++ dktX4_maySay_2
def dkwX4_maySay_0 : List UInt8 := [45, 182, 0, 133, 153, 0, 11, 45, 182, 0, 133, 6, 160, 0, 7, 4, 167, 0, 4, 3, 54, 4, 27, 8]
abbrev dktX4_maySay_0 : List UInt8 := dkwX4_maySay_0 ++ dktX4_maySay_1
theorem dksX4_maySay_0 : cX4_maySay.data.toList.drop 0 = dktX4_maySay_0 := by decide +kernel
theorem dksX4_maySay_1 : cX4_maySay.data.toList.drop 24 = dktX4_maySay_1 := dk_seg dksX4_maySay_0 24 rfl rfl
theorem dksX4_maySay_2 : cX4_maySay.data.toList.drop 48 = dktX4_maySay_2 := dk_seg dksX4_maySay_1 24 rfl rfl
theorem dksX4_maySay_3 : cX4_maySay.data.toList.drop 70 = dktX4_maySay_3 := dk_seg dksX4_maySay_2 22 rfl rfl
theorem dX4_maySay_0 : decode cX4_maySay 0 = .ok (.aload_n 3, 1) := dk_45 (dk_at dksX4_maySay_0 0 rfl rfl)
theorem dX4_maySay_1 : decode cX4_maySay 1 = .ok (.invokevirtual 133, 3) := dk_182 0 133 (dk_at dksX4_maySay_0 1 rfl rfl)
theorem dX4_maySay_4 : decode cX4_maySay 4 = .ok (.ifCond .eq 11, 3) := dk_153 0 11 (dk_at dksX4_maySay_0 4 rfl rfl)
theorem dX4_maySay_7 : decode cX4_maySay 7 = .ok (.aload_n 3, 1) := dk_45 (dk_at dksX4_maySay_0 7 rfl rfl)
theorem dX4_maySay_8 : decode cX4_maySay 8 = .ok (.invokevirtual 133, 3) := dk_182 0 133 (dk_at dksX4_maySay_0 8 rfl rfl)
theorem dX4_maySay_11 : decode cX4_maySay 11 = .ok (.iconst 3, 1) := dk_6 (dk_at dksX4_maySay_0 11 rfl rfl)
theorem dX4_maySay_12 : decode cX4_maySay 12 = .ok (.if_icmp .ne 7, 3) := dk_160 0 7 (dk_at dksX4_maySay_0 12 rfl rfl)
theorem dX4_maySay_15 : decode cX4_maySay 15 = .ok (.iconst 1, 1) := dk_4 (dk_at dksX4_maySay_0 15 rfl rfl)
theorem dX4_maySay_16 : decode cX4_maySay 16 = .ok (.goto 4, 3) := dk_167 0 4 (dk_at dksX4_maySay_0 16 rfl rfl)
theorem dX4_maySay_19 : decode cX4_maySay 19 = .ok (.iconst 0, 1) := dk_3 (dk_at dksX4_maySay_0 19 rfl rfl)
theorem dX4_maySay_20 : decode cX4_maySay 20 = .ok (.istore 4, 2) := dk_54 4 (dk_at dksX4_maySay_0 20 rfl rfl)
theorem dX4_maySay_22 : decode cX4_maySay 22 = .ok (.iload_n 1, 1) := dk_27 (dk_at dksX4_maySay_0 22 rfl rfl)
theorem dX4_maySay_23 : decode cX4_maySay 23 = .ok (.iconst 5, 1) := dk_8 (dk_at dksX4_maySay_0 23 rfl rfl)
theorem dX4_maySay_24 : decode cX4_maySay 24 = .ok (.if_icmp .ne 30, 3) := dk_160 0 30 (dk_at dksX4_maySay_1 0 rfl rfl)
theorem dX4_maySay_27 : decode cX4_maySay 27 = .ok (.aload_n 3, 1) := dk_45 (dk_at dksX4_maySay_1 3 rfl rfl)
theorem dX4_maySay_28 : decode cX4_maySay 28 = .ok (.getfield 136, 3) := dk_180 0 136 (dk_at dksX4_maySay_1 4 rfl rfl)
theorem dX4_maySay_31 : decode cX4_maySay 31 = .ok (.iload_n 2, 1) := dk_28 (dk_at dksX4_maySay_1 7 rfl rfl)
theorem dX4_maySay_32 : decode cX4_maySay 32 = .ok (.if_icmp .ne 20, 3) := dk_160 0 20 (dk_at dksX4_maySay_1 8 rfl rfl)
theorem dX4_maySay_35 : decode cX4_maySay 35 = .ok (.iload 4, 2) := dk_21 4 (dk_at dksX4_maySay_1 11 rfl rfl)
theorem dX4_maySay_37 : decode cX4_maySay 37 = .ok (.ifCond .ne 11, 3) := dk_154 0 11 (dk_at dksX4_maySay_1 13 rfl rfl)
theorem dX4_maySay_40 : decode cX4_maySay 40 = .ok (.aload_n 3, 1) := dk_45 (dk_at dksX4_maySay_1 16 rfl rfl)
theorem dX4_maySay_41 : decode cX4_maySay 41 = .ok (.invokevirtual 133, 3) := dk_182 0 133 (dk_at dksX4_maySay_1 17 rfl rfl)
theorem dX4_maySay_44 : decode cX4_maySay 44 = .ok (.iconst 2, 1) := dk_5 (dk_at dksX4_maySay_1 20 rfl rfl)
theorem dX4_maySay_45 : decode cX4_maySay 45 = .ok (.if_icmp .ne 7, 3) := dk_160 0 7 (dk_at dksX4_maySay_1 21 rfl rfl)
theorem dX4_maySay_48 : decode cX4_maySay 48 = .ok (.iconst 1, 1) := dk_4 (dk_at dksX4_maySay_2 0 rfl rfl)
theorem dX4_maySay_49 : decode cX4_maySay 49 = .ok (.goto 4, 3) := dk_167 0 4 (dk_at dksX4_maySay_2 1 rfl rfl)
theorem dX4_maySay_52 : decode cX4_maySay 52 = .ok (.iconst 0, 1) := dk_3 (dk_at dksX4_maySay_2 4 rfl rfl)
theorem dX4_maySay_53 : decode cX4_maySay 53 = .ok (.ireturn, 1) := dk_172 (dk_at dksX4_maySay_2 5 rfl rfl)
theorem dX4_maySay_54 : decode cX4_maySay 54 = .ok (.iload 4, 2) := dk_21 4 (dk_at dksX4_maySay_2 6 rfl rfl)
theorem dX4_maySay_56 : decode cX4_maySay 56 = .ok (.ifCond .eq 32, 3) := dk_153 0 32 (dk_at dksX4_maySay_2 8 rfl rfl)
theorem dX4_maySay_59 : decode cX4_maySay 59 = .ok (.iload_n 1, 1) := dk_27 (dk_at dksX4_maySay_2 11 rfl rfl)
theorem dX4_maySay_60 : decode cX4_maySay 60 = .ok (.bipush 7, 2) := dk_16 7 (dk_at dksX4_maySay_2 12 rfl rfl)
theorem dX4_maySay_62 : decode cX4_maySay 62 = .ok (.if_icmp .ne 14, 3) := dk_160 0 14 (dk_at dksX4_maySay_2 14 rfl rfl)
theorem dX4_maySay_65 : decode cX4_maySay 65 = .ok (.aload_n 3, 1) := dk_45 (dk_at dksX4_maySay_2 17 rfl rfl)
theorem dX4_maySay_66 : decode cX4_maySay 66 = .ok (.getfield 136, 3) := dk_180 0 136 (dk_at dksX4_maySay_2 18 rfl rfl)
theorem dX4_maySay_69 : decode cX4_maySay 69 = .ok (.iload_n 2, 1) := dk_28 (dk_at dksX4_maySay_2 21 rfl rfl)
theorem dX4_maySay_70 : decode cX4_maySay 70 = .ok (.if_icmp .ne 18, 3) := dk_160 0 18 (dk_at dksX4_maySay_3 0 rfl rfl)
theorem dX4_maySay_73 : decode cX4_maySay 73 = .ok (.goto 11, 3) := dk_167 0 11 (dk_at dksX4_maySay_3 3 rfl rfl)
theorem dX4_maySay_76 : decode cX4_maySay 76 = .ok (.aload_n 3, 1) := dk_45 (dk_at dksX4_maySay_3 6 rfl rfl)
theorem dX4_maySay_77 : decode cX4_maySay 77 = .ok (.invokevirtual 139, 3) := dk_182 0 139 (dk_at dksX4_maySay_3 7 rfl rfl)
theorem dX4_maySay_80 : decode cX4_maySay 80 = .ok (.iload_n 2, 1) := dk_28 (dk_at dksX4_maySay_3 10 rfl rfl)
theorem dX4_maySay_81 : decode cX4_maySay 81 = .ok (.if_icmp .ne 7, 3) := dk_160 0 7 (dk_at dksX4_maySay_3 11 rfl rfl)
theorem dX4_maySay_84 : decode cX4_maySay 84 = .ok (.iconst 1, 1) := dk_4 (dk_at dksX4_maySay_3 14 rfl rfl)
theorem dX4_maySay_85 : decode cX4_maySay 85 = .ok (.goto 4, 3) := dk_167 0 4 (dk_at dksX4_maySay_3 15 rfl rfl)
theorem dX4_maySay_88 : decode cX4_maySay 88 = .ok (.iconst 0, 1) := dk_3 (dk_at dksX4_maySay_3 18 rfl rfl)
theorem dX4_maySay_89 : decode cX4_maySay 89 = .ok (.ireturn, 1) := dk_172 (dk_at dksX4_maySay_3 19 rfl rfl)
abbrev cX4_but : ByteArray := prog_7_method_11_code
def yX4_but : MethodName := ⟨RX4, "but", "(IILCrossingWords$Saying;)LCrossingWords$Saying;"⟩
def dkwX4_but_2 : List UInt8 := [183, 0, 183, 176]
abbrev dktX4_but_2 : List UInt8 := dkwX4_but_2 ++ []
def dkwX4_but_1 : List UInt8 := [184, 0, 120, 2, 160, 0, 8, 42, 4, 181, 0, 62, 187, 0, 181, 89, 27, 28, 45, 42, 182, 0, 86]
abbrev dktX4_but_1 : List UInt8 := dkwX4_but_1 ++ dktX4_but_2
def dkwX4_but_0 : List UInt8 := [42, 180, 0, 62, 154, 0, 25, 42, 180, 0, 114, 4, 160, 0, 17, 178, 0, 127, 42, 180, 0, 117]
abbrev dktX4_but_0 : List UInt8 := dkwX4_but_0 ++ dktX4_but_1
theorem dksX4_but_0 : cX4_but.data.toList.drop 0 = dktX4_but_0 := by decide +kernel
theorem dksX4_but_1 : cX4_but.data.toList.drop 22 = dktX4_but_1 := dk_seg dksX4_but_0 22 rfl rfl
theorem dksX4_but_2 : cX4_but.data.toList.drop 45 = dktX4_but_2 := dk_seg dksX4_but_1 23 rfl rfl
theorem dX4_but_0 : decode cX4_but 0 = .ok (.aload_n 0, 1) := dk_42 (dk_at dksX4_but_0 0 rfl rfl)
theorem dX4_but_1 : decode cX4_but 1 = .ok (.getfield 62, 3) := dk_180 0 62 (dk_at dksX4_but_0 1 rfl rfl)
theorem dX4_but_4 : decode cX4_but 4 = .ok (.ifCond .ne 25, 3) := dk_154 0 25 (dk_at dksX4_but_0 4 rfl rfl)
theorem dX4_but_7 : decode cX4_but 7 = .ok (.aload_n 0, 1) := dk_42 (dk_at dksX4_but_0 7 rfl rfl)
theorem dX4_but_8 : decode cX4_but 8 = .ok (.getfield 114, 3) := dk_180 0 114 (dk_at dksX4_but_0 8 rfl rfl)
theorem dX4_but_11 : decode cX4_but 11 = .ok (.iconst 1, 1) := dk_4 (dk_at dksX4_but_0 11 rfl rfl)
theorem dX4_but_12 : decode cX4_but 12 = .ok (.if_icmp .ne 17, 3) := dk_160 0 17 (dk_at dksX4_but_0 12 rfl rfl)
theorem dX4_but_15 : decode cX4_but 15 = .ok (.getstatic 127, 3) := dk_178 0 127 (dk_at dksX4_but_0 15 rfl rfl)
theorem dX4_but_18 : decode cX4_but 18 = .ok (.aload_n 0, 1) := dk_42 (dk_at dksX4_but_0 18 rfl rfl)
theorem dX4_but_19 : decode cX4_but 19 = .ok (.getfield 117, 3) := dk_180 0 117 (dk_at dksX4_but_0 19 rfl rfl)
theorem dX4_but_22 : decode cX4_but 22 = .ok (.invokestatic 120, 3) := dk_184 0 120 (dk_at dksX4_but_1 0 rfl rfl)
theorem dX4_but_25 : decode cX4_but 25 = .ok (.iconst (-1), 1) := dk_2 (dk_at dksX4_but_1 3 rfl rfl)
theorem dX4_but_26 : decode cX4_but 26 = .ok (.if_icmp .ne 8, 3) := dk_160 0 8 (dk_at dksX4_but_1 4 rfl rfl)
theorem dX4_but_29 : decode cX4_but 29 = .ok (.aload_n 0, 1) := dk_42 (dk_at dksX4_but_1 7 rfl rfl)
theorem dX4_but_30 : decode cX4_but 30 = .ok (.iconst 1, 1) := dk_4 (dk_at dksX4_but_1 8 rfl rfl)
theorem dX4_but_31 : decode cX4_but 31 = .ok (.putfield 62, 3) := dk_181 0 62 (dk_at dksX4_but_1 9 rfl rfl)
theorem dX4_but_34 : decode cX4_but 34 = .ok (.new 181, 3) := dk_187 0 181 (dk_at dksX4_but_1 12 rfl rfl)
theorem dX4_but_37 : decode cX4_but 37 = .ok (.dup, 1) := dk_89 (dk_at dksX4_but_1 15 rfl rfl)
theorem dX4_but_38 : decode cX4_but 38 = .ok (.iload_n 1, 1) := dk_27 (dk_at dksX4_but_1 16 rfl rfl)
theorem dX4_but_39 : decode cX4_but 39 = .ok (.iload_n 2, 1) := dk_28 (dk_at dksX4_but_1 17 rfl rfl)
theorem dX4_but_40 : decode cX4_but 40 = .ok (.aload_n 3, 1) := dk_45 (dk_at dksX4_but_1 18 rfl rfl)
theorem dX4_but_41 : decode cX4_but 41 = .ok (.aload_n 0, 1) := dk_42 (dk_at dksX4_but_1 19 rfl rfl)
theorem dX4_but_42 : decode cX4_but 42 = .ok (.invokevirtual 86, 3) := dk_182 0 86 (dk_at dksX4_but_1 20 rfl rfl)
theorem dX4_but_45 : decode cX4_but 45 = .ok (.invokespecial 183, 3) := dk_183 0 183 (dk_at dksX4_but_2 0 rfl rfl)
theorem dX4_but_48 : decode cX4_but 48 = .ok (.areturn, 1) := dk_176 (dk_at dksX4_but_2 3 rfl rfl)
abbrev cX4_times : ByteArray := prog_7_method_13_code
def yX4_times : MethodName := ⟨RX4, "times", "()LCrossingWords$Times;"⟩
def dkwX4_times_4 : List UInt8 := [89, 27, 44, 45, 25, 4, 42, 178, 0, 224, 182, 0, 97, 3, 183, 0, 215, 176]
abbrev dktX4_times_4 : List UInt8 := dkwX4_times_4 ++ []
def dkwX4_times_3 : List UInt8 := [182, 0, 97, 153, 0, 13, 42, 17, 3, 231, 182, 0, 205, 167, 0, 6, 178, 0, 211, 58, 4, 187, 0, 209]
abbrev dktX4_times_3 : List UInt8 := dkwX4_times_3 ++ dktX4_times_4
def dkwX4_times_2 : List UInt8 := [183, 0, 215, 176, 42, 4, 178, 0, 218, 182, 0, 58, 42, 17, 3, 231, 182, 0, 205, 78, 42, 178, 0, 221]
abbrev dktX4_times_2 : List UInt8 := dkwX4_times_2 ++ dktX4_times_3
def dkwX4_times_1 : List UInt8 := [27, 5, 159, 0, 8, 27, 6, 160, 0, 21, 187, 0, 209, 89, 27, 44, 178, 0, 211, 178, 0, 211, 3, 3]
abbrev dktX4_times_1 : List UInt8 := dkwX4_times_1 ++ dktX4_times_2
def dkwX4_times_0 : List UInt8 := [42, 178, 0, 199, 182, 0, 38, 60, 42, 4, 178, 0, 202, 182, 0, 58, 42, 17, 7, 207, 182, 0, 205, 77]
abbrev dktX4_times_0 : List UInt8 := dkwX4_times_0 ++ dktX4_times_1
theorem dksX4_times_0 : cX4_times.data.toList.drop 0 = dktX4_times_0 := by decide +kernel
theorem dksX4_times_1 : cX4_times.data.toList.drop 24 = dktX4_times_1 := dk_seg dksX4_times_0 24 rfl rfl
theorem dksX4_times_2 : cX4_times.data.toList.drop 48 = dktX4_times_2 := dk_seg dksX4_times_1 24 rfl rfl
theorem dksX4_times_3 : cX4_times.data.toList.drop 72 = dktX4_times_3 := dk_seg dksX4_times_2 24 rfl rfl
theorem dksX4_times_4 : cX4_times.data.toList.drop 96 = dktX4_times_4 := dk_seg dksX4_times_3 24 rfl rfl
theorem dX4_times_0 : decode cX4_times 0 = .ok (.aload_n 0, 1) := dk_42 (dk_at dksX4_times_0 0 rfl rfl)
theorem dX4_times_1 : decode cX4_times 1 = .ok (.getstatic 199, 3) := dk_178 0 199 (dk_at dksX4_times_0 1 rfl rfl)
theorem dX4_times_4 : decode cX4_times 4 = .ok (.invokevirtual 38, 3) := dk_182 0 38 (dk_at dksX4_times_0 4 rfl rfl)
theorem dX4_times_7 : decode cX4_times 7 = .ok (.istore_n 1, 1) := dk_60 (dk_at dksX4_times_0 7 rfl rfl)
theorem dX4_times_8 : decode cX4_times 8 = .ok (.aload_n 0, 1) := dk_42 (dk_at dksX4_times_0 8 rfl rfl)
theorem dX4_times_9 : decode cX4_times 9 = .ok (.iconst 1, 1) := dk_4 (dk_at dksX4_times_0 9 rfl rfl)
theorem dX4_times_10 : decode cX4_times 10 = .ok (.getstatic 202, 3) := dk_178 0 202 (dk_at dksX4_times_0 10 rfl rfl)
theorem dX4_times_13 : decode cX4_times 13 = .ok (.invokevirtual 58, 3) := dk_182 0 58 (dk_at dksX4_times_0 13 rfl rfl)
theorem dX4_times_16 : decode cX4_times 16 = .ok (.aload_n 0, 1) := dk_42 (dk_at dksX4_times_0 16 rfl rfl)
theorem dX4_times_17 : decode cX4_times 17 = .ok (.sipush 1999, 3) := dk_17 7 207 (dk_at dksX4_times_0 17 rfl rfl)
theorem dX4_times_20 : decode cX4_times 20 = .ok (.invokevirtual 205, 3) := dk_182 0 205 (dk_at dksX4_times_0 20 rfl rfl)
theorem dX4_times_23 : decode cX4_times 23 = .ok (.astore_n 2, 1) := dk_77 (dk_at dksX4_times_0 23 rfl rfl)
theorem dX4_times_24 : decode cX4_times 24 = .ok (.iload_n 1, 1) := dk_27 (dk_at dksX4_times_1 0 rfl rfl)
theorem dX4_times_25 : decode cX4_times 25 = .ok (.iconst 2, 1) := dk_5 (dk_at dksX4_times_1 1 rfl rfl)
theorem dX4_times_26 : decode cX4_times 26 = .ok (.if_icmp .eq 8, 3) := dk_159 0 8 (dk_at dksX4_times_1 2 rfl rfl)
theorem dX4_times_29 : decode cX4_times 29 = .ok (.iload_n 1, 1) := dk_27 (dk_at dksX4_times_1 5 rfl rfl)
theorem dX4_times_30 : decode cX4_times 30 = .ok (.iconst 3, 1) := dk_6 (dk_at dksX4_times_1 6 rfl rfl)
theorem dX4_times_31 : decode cX4_times 31 = .ok (.if_icmp .ne 21, 3) := dk_160 0 21 (dk_at dksX4_times_1 7 rfl rfl)
theorem dX4_times_34 : decode cX4_times 34 = .ok (.new 209, 3) := dk_187 0 209 (dk_at dksX4_times_1 10 rfl rfl)
theorem dX4_times_37 : decode cX4_times 37 = .ok (.dup, 1) := dk_89 (dk_at dksX4_times_1 13 rfl rfl)
theorem dX4_times_38 : decode cX4_times 38 = .ok (.iload_n 1, 1) := dk_27 (dk_at dksX4_times_1 14 rfl rfl)
theorem dX4_times_39 : decode cX4_times 39 = .ok (.aload_n 2, 1) := dk_44 (dk_at dksX4_times_1 15 rfl rfl)
theorem dX4_times_40 : decode cX4_times 40 = .ok (.getstatic 211, 3) := dk_178 0 211 (dk_at dksX4_times_1 16 rfl rfl)
theorem dX4_times_43 : decode cX4_times 43 = .ok (.getstatic 211, 3) := dk_178 0 211 (dk_at dksX4_times_1 19 rfl rfl)
theorem dX4_times_46 : decode cX4_times 46 = .ok (.iconst 0, 1) := dk_3 (dk_at dksX4_times_1 22 rfl rfl)
theorem dX4_times_47 : decode cX4_times 47 = .ok (.iconst 0, 1) := dk_3 (dk_at dksX4_times_1 23 rfl rfl)
theorem dX4_times_48 : decode cX4_times 48 = .ok (.invokespecial 215, 3) := dk_183 0 215 (dk_at dksX4_times_2 0 rfl rfl)
theorem dX4_times_51 : decode cX4_times 51 = .ok (.areturn, 1) := dk_176 (dk_at dksX4_times_2 3 rfl rfl)
theorem dX4_times_52 : decode cX4_times 52 = .ok (.aload_n 0, 1) := dk_42 (dk_at dksX4_times_2 4 rfl rfl)
theorem dX4_times_53 : decode cX4_times 53 = .ok (.iconst 1, 1) := dk_4 (dk_at dksX4_times_2 5 rfl rfl)
theorem dX4_times_54 : decode cX4_times 54 = .ok (.getstatic 218, 3) := dk_178 0 218 (dk_at dksX4_times_2 6 rfl rfl)
theorem dX4_times_57 : decode cX4_times 57 = .ok (.invokevirtual 58, 3) := dk_182 0 58 (dk_at dksX4_times_2 9 rfl rfl)
theorem dX4_times_60 : decode cX4_times 60 = .ok (.aload_n 0, 1) := dk_42 (dk_at dksX4_times_2 12 rfl rfl)
theorem dX4_times_61 : decode cX4_times 61 = .ok (.sipush 999, 3) := dk_17 3 231 (dk_at dksX4_times_2 13 rfl rfl)
theorem dX4_times_64 : decode cX4_times 64 = .ok (.invokevirtual 205, 3) := dk_182 0 205 (dk_at dksX4_times_2 16 rfl rfl)
theorem dX4_times_67 : decode cX4_times 67 = .ok (.astore_n 3, 1) := dk_78 (dk_at dksX4_times_2 19 rfl rfl)
theorem dX4_times_68 : decode cX4_times 68 = .ok (.aload_n 0, 1) := dk_42 (dk_at dksX4_times_2 20 rfl rfl)
theorem dX4_times_69 : decode cX4_times 69 = .ok (.getstatic 221, 3) := dk_178 0 221 (dk_at dksX4_times_2 21 rfl rfl)
theorem dX4_times_72 : decode cX4_times 72 = .ok (.invokevirtual 97, 3) := dk_182 0 97 (dk_at dksX4_times_3 0 rfl rfl)
theorem dX4_times_75 : decode cX4_times 75 = .ok (.ifCond .eq 13, 3) := dk_153 0 13 (dk_at dksX4_times_3 3 rfl rfl)
theorem dX4_times_78 : decode cX4_times 78 = .ok (.aload_n 0, 1) := dk_42 (dk_at dksX4_times_3 6 rfl rfl)
theorem dX4_times_79 : decode cX4_times 79 = .ok (.sipush 999, 3) := dk_17 3 231 (dk_at dksX4_times_3 7 rfl rfl)
theorem dX4_times_82 : decode cX4_times 82 = .ok (.invokevirtual 205, 3) := dk_182 0 205 (dk_at dksX4_times_3 10 rfl rfl)
theorem dX4_times_85 : decode cX4_times 85 = .ok (.goto 6, 3) := dk_167 0 6 (dk_at dksX4_times_3 13 rfl rfl)
theorem dX4_times_88 : decode cX4_times 88 = .ok (.getstatic 211, 3) := dk_178 0 211 (dk_at dksX4_times_3 16 rfl rfl)
theorem dX4_times_91 : decode cX4_times 91 = .ok (.astore 4, 2) := dk_58 4 (dk_at dksX4_times_3 19 rfl rfl)
theorem dX4_times_93 : decode cX4_times 93 = .ok (.new 209, 3) := dk_187 0 209 (dk_at dksX4_times_3 21 rfl rfl)
theorem dX4_times_96 : decode cX4_times 96 = .ok (.dup, 1) := dk_89 (dk_at dksX4_times_4 0 rfl rfl)
theorem dX4_times_97 : decode cX4_times 97 = .ok (.iload_n 1, 1) := dk_27 (dk_at dksX4_times_4 1 rfl rfl)
theorem dX4_times_98 : decode cX4_times 98 = .ok (.aload_n 2, 1) := dk_44 (dk_at dksX4_times_4 2 rfl rfl)
theorem dX4_times_99 : decode cX4_times 99 = .ok (.aload_n 3, 1) := dk_45 (dk_at dksX4_times_4 3 rfl rfl)
theorem dX4_times_100 : decode cX4_times 100 = .ok (.aload 4, 2) := dk_25 4 (dk_at dksX4_times_4 4 rfl rfl)
theorem dX4_times_102 : decode cX4_times 102 = .ok (.aload_n 0, 1) := dk_42 (dk_at dksX4_times_4 6 rfl rfl)
theorem dX4_times_103 : decode cX4_times 103 = .ok (.getstatic 224, 3) := dk_178 0 224 (dk_at dksX4_times_4 7 rfl rfl)
theorem dX4_times_106 : decode cX4_times 106 = .ok (.invokevirtual 97, 3) := dk_182 0 97 (dk_at dksX4_times_4 10 rfl rfl)
theorem dX4_times_109 : decode cX4_times 109 = .ok (.iconst 0, 1) := dk_3 (dk_at dksX4_times_4 13 rfl rfl)
theorem dX4_times_110 : decode cX4_times 110 = .ok (.invokespecial 215, 3) := dk_183 0 215 (dk_at dksX4_times_4 14 rfl rfl)
theorem dX4_times_113 : decode cX4_times 113 = .ok (.areturn, 1) := dk_176 (dk_at dksX4_times_4 17 rfl rfl)
abbrev cX4_span : ByteArray := prog_7_method_12_code
def yX4_span : MethodName := ⟨RX4, "span", "(I)LCrossingWords$Span;"⟩
def dkwX4_span_1 : List UInt8 := [27, 28, 16, 15, 96, 184, 0, 191, 182, 0, 101, 167, 0, 4, 28, 183, 0, 196, 176]
abbrev dktX4_span_1 : List UInt8 := dkwX4_span_1 ++ []
def dkwX4_span_0 : List UInt8 := [42, 3, 27, 182, 0, 101, 61, 187, 0, 186, 89, 28, 42, 178, 0, 188, 182, 0, 97, 153, 0, 19, 42, 28]
abbrev dktX4_span_0 : List UInt8 := dkwX4_span_0 ++ dktX4_span_1
theorem dksX4_span_0 : cX4_span.data.toList.drop 0 = dktX4_span_0 := by decide +kernel
theorem dksX4_span_1 : cX4_span.data.toList.drop 24 = dktX4_span_1 := dk_seg dksX4_span_0 24 rfl rfl
theorem dX4_span_0 : decode cX4_span 0 = .ok (.aload_n 0, 1) := dk_42 (dk_at dksX4_span_0 0 rfl rfl)
theorem dX4_span_1 : decode cX4_span 1 = .ok (.iconst 0, 1) := dk_3 (dk_at dksX4_span_0 1 rfl rfl)
theorem dX4_span_2 : decode cX4_span 2 = .ok (.iload_n 1, 1) := dk_27 (dk_at dksX4_span_0 2 rfl rfl)
theorem dX4_span_3 : decode cX4_span 3 = .ok (.invokevirtual 101, 3) := dk_182 0 101 (dk_at dksX4_span_0 3 rfl rfl)
theorem dX4_span_6 : decode cX4_span 6 = .ok (.istore_n 2, 1) := dk_61 (dk_at dksX4_span_0 6 rfl rfl)
theorem dX4_span_7 : decode cX4_span 7 = .ok (.new 186, 3) := dk_187 0 186 (dk_at dksX4_span_0 7 rfl rfl)
theorem dX4_span_10 : decode cX4_span 10 = .ok (.dup, 1) := dk_89 (dk_at dksX4_span_0 10 rfl rfl)
theorem dX4_span_11 : decode cX4_span 11 = .ok (.iload_n 2, 1) := dk_28 (dk_at dksX4_span_0 11 rfl rfl)
theorem dX4_span_12 : decode cX4_span 12 = .ok (.aload_n 0, 1) := dk_42 (dk_at dksX4_span_0 12 rfl rfl)
theorem dX4_span_13 : decode cX4_span 13 = .ok (.getstatic 188, 3) := dk_178 0 188 (dk_at dksX4_span_0 13 rfl rfl)
theorem dX4_span_16 : decode cX4_span 16 = .ok (.invokevirtual 97, 3) := dk_182 0 97 (dk_at dksX4_span_0 16 rfl rfl)
theorem dX4_span_19 : decode cX4_span 19 = .ok (.ifCond .eq 19, 3) := dk_153 0 19 (dk_at dksX4_span_0 19 rfl rfl)
theorem dX4_span_22 : decode cX4_span 22 = .ok (.aload_n 0, 1) := dk_42 (dk_at dksX4_span_0 22 rfl rfl)
theorem dX4_span_23 : decode cX4_span 23 = .ok (.iload_n 2, 1) := dk_28 (dk_at dksX4_span_0 23 rfl rfl)
theorem dX4_span_24 : decode cX4_span 24 = .ok (.iload_n 1, 1) := dk_27 (dk_at dksX4_span_1 0 rfl rfl)
theorem dX4_span_25 : decode cX4_span 25 = .ok (.iload_n 2, 1) := dk_28 (dk_at dksX4_span_1 1 rfl rfl)
theorem dX4_span_26 : decode cX4_span 26 = .ok (.bipush 15, 2) := dk_16 15 (dk_at dksX4_span_1 2 rfl rfl)
theorem dX4_span_28 : decode cX4_span 28 = .ok (.iadd, 1) := dk_96 (dk_at dksX4_span_1 4 rfl rfl)
theorem dX4_span_29 : decode cX4_span 29 = .ok (.invokestatic 191, 3) := dk_184 0 191 (dk_at dksX4_span_1 5 rfl rfl)
theorem dX4_span_32 : decode cX4_span 32 = .ok (.invokevirtual 101, 3) := dk_182 0 101 (dk_at dksX4_span_1 8 rfl rfl)
theorem dX4_span_35 : decode cX4_span 35 = .ok (.goto 4, 3) := dk_167 0 4 (dk_at dksX4_span_1 11 rfl rfl)
theorem dX4_span_38 : decode cX4_span 38 = .ok (.iload_n 2, 1) := dk_28 (dk_at dksX4_span_1 14 rfl rfl)
theorem dX4_span_39 : decode cX4_span 39 = .ok (.invokespecial 196, 3) := dk_183 0 196 (dk_at dksX4_span_1 15 rfl rfl)
theorem dX4_span_42 : decode cX4_span 42 = .ok (.areturn, 1) := dk_176 (dk_at dksX4_span_1 18 rfl rfl)
abbrev cX4_isWhole : ByteArray := prog_7_method_3_code
def yX4_isWhole : MethodName := ⟨RX4, "isWhole", "()Z"⟩
def dkwX4_isWhole_0 : List UInt8 := [42, 180, 0, 14, 180, 0, 28, 42, 180, 0, 31, 164, 0, 7, 4, 167, 0, 4, 3, 172]
abbrev dktX4_isWhole_0 : List UInt8 := dkwX4_isWhole_0 ++ []
theorem dksX4_isWhole_0 : cX4_isWhole.data.toList.drop 0 = dktX4_isWhole_0 := by decide +kernel
theorem dX4_isWhole_0 : decode cX4_isWhole 0 = .ok (.aload_n 0, 1) := dk_42 (dk_at dksX4_isWhole_0 0 rfl rfl)
theorem dX4_isWhole_1 : decode cX4_isWhole 1 = .ok (.getfield 14, 3) := dk_180 0 14 (dk_at dksX4_isWhole_0 1 rfl rfl)
theorem dX4_isWhole_4 : decode cX4_isWhole 4 = .ok (.getfield 28, 3) := dk_180 0 28 (dk_at dksX4_isWhole_0 4 rfl rfl)
theorem dX4_isWhole_7 : decode cX4_isWhole 7 = .ok (.aload_n 0, 1) := dk_42 (dk_at dksX4_isWhole_0 7 rfl rfl)
theorem dX4_isWhole_8 : decode cX4_isWhole 8 = .ok (.getfield 31, 3) := dk_180 0 31 (dk_at dksX4_isWhole_0 8 rfl rfl)
theorem dX4_isWhole_11 : decode cX4_isWhole 11 = .ok (.if_icmp .le 7, 3) := dk_164 0 7 (dk_at dksX4_isWhole_0 11 rfl rfl)
theorem dX4_isWhole_14 : decode cX4_isWhole 14 = .ok (.iconst 1, 1) := dk_4 (dk_at dksX4_isWhole_0 14 rfl rfl)
theorem dX4_isWhole_15 : decode cX4_isWhole 15 = .ok (.goto 4, 3) := dk_167 0 4 (dk_at dksX4_isWhole_0 15 rfl rfl)
theorem dX4_isWhole_18 : decode cX4_isWhole 18 = .ok (.iconst 0, 1) := dk_3 (dk_at dksX4_isWhole_0 18 rfl rfl)
theorem dX4_isWhole_19 : decode cX4_isWhole 19 = .ok (.ireturn, 1) := dk_172 (dk_at dksX4_isWhole_0 19 rfl rfl)
theorem q99 : (Jvm.Cond.initialized "CrossingWords$CaseReader") ∈ lw_all := lw_g (lw_at lw_m1 5 rfl) rfl
theorem q248 : (Jvm.Cond.instantiable "CrossingWords$CaseReader" (10 : Nat)) ∈ lw_all := lw_g (lw_at lw_m1 154 rfl) rfl
theorem q250 : (Jvm.Cond.instanceMethod ({ cls := "CrossingWords$CaseReader", name := "<init>", desc := "([BILCrossingWords$Case;I)V" } : Jvm.MethodName)) ∈ lw_all := lw_g (lw_at lw_m1 156 rfl) rfl
theorem q251 : (Jvm.Cond.code ({ cls := "CrossingWords$CaseReader", name := "<init>", desc := "([BILCrossingWords$Case;I)V" } : Jvm.MethodName) prog_7_method_1_code (5 : Nat) (Option.none : Option Jvm.ClassFile.FieldType)) ∈ lw_all := lw_g (lw_at lw_m1 157 rfl) rfl
theorem q252 : (Jvm.Cond.methodLink "CrossingWords$CaseReader" (3 : Nat) ({ cls := "CrossingWords$Reader", name := "<init>", desc := "([BI)V" } : Jvm.MethodName)) ∈ lw_all := lw_g (lw_at lw_m1 158 rfl) rfl
theorem q271 : (Jvm.Cond.classLink "CrossingWords$CaseReader" (9 : Nat) "CrossingWords$Case") ∈ lw_all := lw_g (lw_at lw_m1 177 rfl) rfl
theorem q273 : (Jvm.Cond.methodLinkNest "CrossingWords$CaseReader" (11 : Nat) ({ cls := "CrossingWords$Case", name := "<init>", desc := "()V" } : Jvm.MethodName) "CrossingWords") ∈ lw_tbl := lw_at lw_m1 179 rfl
theorem q281 : (Jvm.Cond.fieldLink "CrossingWords$CaseReader" (146 : Nat) "CrossingWords$Case" "sayings" "[LCrossingWords$Saying;") ∈ lw_all := lw_g (lw_at lw_m1 187 rfl) rfl
theorem q289 : (Jvm.Cond.fieldLink "CrossingWords$CaseReader" (28 : Nat) "CrossingWords$Case" "many" "I") ∈ lw_all := lw_g (lw_at lw_m1 195 rfl) rfl
theorem q312 : (Jvm.Cond.methodLink "CrossingWords$CaseReader" (24 : Nat) ({ cls := "CrossingWords$Case", name := "is", desc := "(LCrossingWords$Case;)V" } : Jvm.MethodName)) ∈ lw_all := lw_g (lw_at lw_m1 218 rfl) rfl
theorem q332 : (Jvm.Cond.fieldLink "CrossingWords$CaseReader" (14 : Nat) "CrossingWords$CaseReader" "own" "LCrossingWords$Case;") ∈ lw_all := lw_g (lw_at lw_m1 238 rfl) rfl
theorem q334 : (Jvm.Cond.fieldLink "CrossingWords$CaseReader" (20 : Nat) "CrossingWords$CaseReader" "cases" "I") ∈ lw_all := lw_g (lw_at lw_m2 0 rfl) rfl
theorem q335 : (Jvm.Cond.fieldLink "CrossingWords$CaseReader" (31 : Nat) "CrossingWords$CaseReader" "had" "I") ∈ lw_all := lw_g (lw_at lw_m2 1 rfl) rfl
theorem q341 : (Jvm.Cond.fieldLink "CrossingWords$CaseReader" (114 : Nat) "CrossingWords$CaseReader" "kind" "I") ∈ lw_all := lw_g (lw_at lw_m2 7 rfl) rfl
theorem q342 : (Jvm.Cond.sameField "CrossingWords$CaseReader" "CrossingWords$Reader" "kind" "I") ∈ lw_all := lw_g (lw_at lw_m2 8 rfl) rfl
theorem q344 : (Jvm.Cond.fieldLink "CrossingWords$CaseReader" (117 : Nat) "CrossingWords$CaseReader" "word" "J") ∈ lw_all := lw_g (lw_at lw_m2 10 rfl) rfl
theorem q345 : (Jvm.Cond.sameField "CrossingWords$CaseReader" "CrossingWords$Reader" "word" "J") ∈ lw_all := lw_g (lw_at lw_m2 11 rfl) rfl
theorem q346 : (Jvm.Cond.fieldLink "CrossingWords$CaseReader" (62 : Nat) "CrossingWords$CaseReader" "wrong" "Z") ∈ lw_all := lw_g (lw_at lw_m2 12 rfl) rfl
theorem q347 : (Jvm.Cond.sameField "CrossingWords$CaseReader" "CrossingWords$Reader" "wrong" "Z") ∈ lw_all := lw_g (lw_at lw_m2 13 rfl) rfl
theorem q349 : (Jvm.Cond.laysFinal "CrossingWords$CaseReader" "CrossingWords$CaseReader" "own" "LCrossingWords$Case;") ∈ lw_all := lw_g (lw_at lw_m2 15 rfl) rfl
theorem q350 : (Jvm.Cond.soleField "CrossingWords$CaseReader" "own") ∈ lw_all := lw_g (lw_at lw_m2 16 rfl) rfl
theorem q351 : (Jvm.Cond.laysFinal "CrossingWords$CaseReader" "CrossingWords$CaseReader" "cases" "I") ∈ lw_all := lw_g (lw_at lw_m2 17 rfl) rfl
theorem q352 : (Jvm.Cond.soleField "CrossingWords$CaseReader" "cases") ∈ lw_all := lw_g (lw_at lw_m2 18 rfl) rfl
theorem q353 : (Jvm.Cond.laysFinal "CrossingWords$CaseReader" "CrossingWords$CaseReader" "had" "I") ∈ lw_all := lw_g (lw_at lw_m2 19 rfl) rfl
theorem q354 : (Jvm.Cond.soleField "CrossingWords$CaseReader" "had") ∈ lw_all := lw_g (lw_at lw_m2 20 rfl) rfl
theorem q355 : (Jvm.Cond.laysFinal "CrossingWords$CaseReader" "CrossingWords$Reader" "text" "[B") ∈ lw_all := lw_g (lw_at lw_m2 21 rfl) rfl
theorem q357 : (Jvm.Cond.laysFinal "CrossingWords$CaseReader" "CrossingWords$Reader" "size" "I") ∈ lw_all := lw_g (lw_at lw_m2 23 rfl) rfl
theorem q359 : (Jvm.Cond.lays "CrossingWords$CaseReader" "CrossingWords$Reader" "at" "I") ∈ lw_all := lw_g (lw_at lw_m2 25 rfl) rfl
theorem q361 : (Jvm.Cond.lays "CrossingWords$CaseReader" "CrossingWords$Reader" "end" "I") ∈ lw_all := lw_g (lw_at lw_m2 27 rfl) rfl
theorem q363 : (Jvm.Cond.lays "CrossingWords$CaseReader" "CrossingWords$Reader" "kind" "I") ∈ lw_all := lw_g (lw_at lw_m2 29 rfl) rfl
theorem q365 : (Jvm.Cond.lays "CrossingWords$CaseReader" "CrossingWords$Reader" "word" "J") ∈ lw_all := lw_g (lw_at lw_m2 31 rfl) rfl
theorem q367 : (Jvm.Cond.lays "CrossingWords$CaseReader" "CrossingWords$Reader" "wrong" "Z") ∈ lw_all := lw_g (lw_at lw_m2 33 rfl) rfl
theorem q369 : (Jvm.Cond.superclass "CrossingWords$CaseReader" "CrossingWords$Reader") ∈ lw_all := lw_g (lw_at lw_m2 35 rfl) rfl
theorem q377 : (Jvm.Cond.selects "CrossingWords$CaseReader" ({ cls := "CrossingWords$Reader", name := "reads", desc := "()Z" } : Jvm.MethodName) ({ cls := "CrossingWords$Reader", name := "reads", desc := "()Z" } : Jvm.MethodName)) ∈ lw_all := lw_g (lw_at lw_m2 43 rfl) rfl
theorem q383 : (Jvm.Cond.selects "CrossingWords$CaseReader" ({ cls := "CrossingWords$Reader", name := "hasRoom", desc := "()Z" } : Jvm.MethodName) ({ cls := "CrossingWords$CaseReader", name := "hasRoom", desc := "()Z" } : Jvm.MethodName)) ∈ lw_all := lw_g (lw_at lw_m2 49 rfl) rfl
theorem q384 : (Jvm.Cond.instanceMethod ({ cls := "CrossingWords$CaseReader", name := "hasRoom", desc := "()Z" } : Jvm.MethodName)) ∈ lw_all := lw_g (lw_at lw_m2 50 rfl) rfl
theorem q385 : (Jvm.Cond.code ({ cls := "CrossingWords$CaseReader", name := "hasRoom", desc := "()Z" } : Jvm.MethodName) prog_7_method_2_code (1 : Nat) (Option.some Jvm.ClassFile.FieldType.boolean)) ∈ lw_all := lw_g (lw_at lw_m2 51 rfl) rfl
theorem q392 : (Jvm.Cond.selects "CrossingWords$CaseReader" ({ cls := "CrossingWords$Reader", name := "statement", desc := "()V" } : Jvm.MethodName) ({ cls := "CrossingWords$CaseReader", name := "statement", desc := "()V" } : Jvm.MethodName)) ∈ lw_all := lw_g (lw_at lw_m2 58 rfl) rfl
theorem q393 : (Jvm.Cond.instanceMethod ({ cls := "CrossingWords$CaseReader", name := "statement", desc := "()V" } : Jvm.MethodName)) ∈ lw_all := lw_g (lw_at lw_m2 59 rfl) rfl
theorem q394 : (Jvm.Cond.code ({ cls := "CrossingWords$CaseReader", name := "statement", desc := "()V" } : Jvm.MethodName) prog_7_method_4_code (5 : Nat) (Option.none : Option Jvm.ClassFile.FieldType)) ∈ lw_all := lw_g (lw_at lw_m2 60 rfl) rfl
theorem q395 : (Jvm.Cond.fieldLinkNest "CrossingWords$CaseReader" (34 : Nat) "CrossingWords" "KINDS" "[J" "CrossingWords") ∈ lw_tbl := lw_at lw_m2 61 rfl
theorem q397 : (Jvm.Cond.methodLink "CrossingWords$CaseReader" (38 : Nat) ({ cls := "CrossingWords$CaseReader", name := "name", desc := "([J)I" } : Jvm.MethodName)) ∈ lw_all := lw_g (lw_at lw_m2 63 rfl) rfl
theorem q398 : (Jvm.Cond.sameMethod "CrossingWords$CaseReader" "CrossingWords$Reader" "name" "([J)I") ∈ lw_all := lw_g (lw_at lw_m2 64 rfl) rfl
theorem q400 : (Jvm.Cond.selects "CrossingWords$CaseReader" ({ cls := "CrossingWords$CaseReader", name := "name", desc := "([J)I" } : Jvm.MethodName) ({ cls := "CrossingWords$Reader", name := "name", desc := "([J)I" } : Jvm.MethodName)) ∈ lw_all := lw_g (lw_at lw_m2 66 rfl) rfl
theorem q406 : (Jvm.Cond.selects "CrossingWords$CaseReader" ({ cls := "CrossingWords$Reader", name := "maybe", desc := "([J)I" } : Jvm.MethodName) ({ cls := "CrossingWords$Reader", name := "maybe", desc := "([J)I" } : Jvm.MethodName)) ∈ lw_all := lw_g (lw_at lw_m2 72 rfl) rfl
theorem q415 : (Jvm.Cond.selects "CrossingWords$CaseReader" ({ cls := "CrossingWords$Reader", name := "pass", desc := "()V" } : Jvm.MethodName) ({ cls := "CrossingWords$Reader", name := "pass", desc := "()V" } : Jvm.MethodName)) ∈ lw_all := lw_g (lw_at lw_m2 81 rfl) rfl
theorem q421 : (Jvm.Cond.fieldLinkNest "CrossingWords$CaseReader" (42 : Nat) "CrossingWords" "HAND_NAMES" "[J" "CrossingWords") ∈ lw_tbl := lw_at lw_m2 87 rfl
theorem q423 : (Jvm.Cond.methodLink "CrossingWords$CaseReader" (45 : Nat) ({ cls := "CrossingWords$CaseReader", name := "opens", desc := "(II)LCrossingWords$Saying;" } : Jvm.MethodName)) ∈ lw_all := lw_g (lw_at lw_m2 89 rfl) rfl
theorem q424 : (Jvm.Cond.privateMethod ({ cls := "CrossingWords$CaseReader", name := "opens", desc := "(II)LCrossingWords$Saying;" } : Jvm.MethodName)) ∈ lw_tbl := lw_at lw_m2 90 rfl
theorem q425 : (Jvm.Cond.instanceMethod ({ cls := "CrossingWords$CaseReader", name := "opens", desc := "(II)LCrossingWords$Saying;" } : Jvm.MethodName)) ∈ lw_all := lw_g (lw_at lw_m2 91 rfl) rfl
theorem q426 : (Jvm.Cond.code ({ cls := "CrossingWords$CaseReader", name := "opens", desc := "(II)LCrossingWords$Saying;" } : Jvm.MethodName) prog_7_method_5_code (5 : Nat) (Option.some (Jvm.ClassFile.FieldType.object "CrossingWords$Saying"))) ∈ lw_all := lw_g (lw_at lw_m2 92 rfl) rfl
theorem q427 : (Jvm.Cond.methodLink "CrossingWords$CaseReader" (75 : Nat) ({ cls := "CrossingWords$CaseReader", name := "kindOfHand", desc := "(I)I" } : Jvm.MethodName)) ∈ lw_all := lw_g (lw_at lw_m2 93 rfl) rfl
theorem q428 : (Jvm.Cond.privateMethod ({ cls := "CrossingWords$CaseReader", name := "kindOfHand", desc := "(I)I" } : Jvm.MethodName)) ∈ lw_tbl := lw_at lw_m2 94 rfl
theorem q429 : (Jvm.Cond.instanceMethod ({ cls := "CrossingWords$CaseReader", name := "kindOfHand", desc := "(I)I" } : Jvm.MethodName)) ∈ lw_all := lw_g (lw_at lw_m2 95 rfl) rfl
theorem q430 : (Jvm.Cond.code ({ cls := "CrossingWords$CaseReader", name := "kindOfHand", desc := "(I)I" } : Jvm.MethodName) prog_7_method_6_code (3 : Nat) (Option.some Jvm.ClassFile.FieldType.int)) ∈ lw_all := lw_g (lw_at lw_m2 96 rfl) rfl
theorem q431 : (Jvm.Cond.methodLinkNest "CrossingWords$CaseReader" (120 : Nat) ({ cls := "CrossingWords", name := "find", desc := "([JJ)I" } : Jvm.MethodName) "CrossingWords") ∈ lw_tbl := lw_at lw_m2 97 rfl
theorem q432 : (Jvm.Cond.methodLink "CrossingWords$CaseReader" (124 : Nat) ({ cls := "CrossingWords$CaseReader", name := "pass", desc := "()V" } : Jvm.MethodName)) ∈ lw_all := lw_g (lw_at lw_m2 98 rfl) rfl
theorem q433 : (Jvm.Cond.sameMethod "CrossingWords$CaseReader" "CrossingWords$Reader" "pass" "()V") ∈ lw_all := lw_g (lw_at lw_m2 99 rfl) rfl
theorem q435 : (Jvm.Cond.selects "CrossingWords$CaseReader" ({ cls := "CrossingWords$CaseReader", name := "pass", desc := "()V" } : Jvm.MethodName) ({ cls := "CrossingWords$Reader", name := "pass", desc := "()V" } : Jvm.MethodName)) ∈ lw_all := lw_g (lw_at lw_m2 101 rfl) rfl
theorem q436 : (Jvm.Cond.classLink "CrossingWords$CaseReader" (79 : Nat) "CrossingWords$Ask") ∈ lw_all := lw_g (lw_at lw_m2 102 rfl) rfl
theorem q438 : (Jvm.Cond.methodLink "CrossingWords$CaseReader" (81 : Nat) ({ cls := "CrossingWords$Ask", name := "<init>", desc := "(III)V" } : Jvm.MethodName)) ∈ lw_all := lw_g (lw_at lw_m2 104 rfl) rfl
theorem q452 : (Jvm.Cond.fieldLink "CrossingWords$CaseReader" (136 : Nat) "CrossingWords$Saying" "hand" "I") ∈ lw_all := lw_g (lw_at lw_m2 118 rfl) rfl
theorem q457 : (Jvm.Cond.fieldLink "CrossingWords$CaseReader" (66 : Nat) "CrossingWords$Saying" "times" "LCrossingWords$Times;") ∈ lw_all := lw_g (lw_at lw_m2 123 rfl) rfl
theorem q469 : (Jvm.Cond.classLink "CrossingWords$CaseReader" (84 : Nat) "CrossingWords$Offer") ∈ lw_all := lw_g (lw_at lw_m2 135 rfl) rfl
theorem q471 : (Jvm.Cond.methodLink "CrossingWords$CaseReader" (86 : Nat) ({ cls := "CrossingWords$CaseReader", name := "terms", desc := "()[I" } : Jvm.MethodName)) ∈ lw_all := lw_g (lw_at lw_m2 137 rfl) rfl
theorem q472 : (Jvm.Cond.privateMethod ({ cls := "CrossingWords$CaseReader", name := "terms", desc := "()[I" } : Jvm.MethodName)) ∈ lw_tbl := lw_at lw_m2 138 rfl
theorem q473 : (Jvm.Cond.instanceMethod ({ cls := "CrossingWords$CaseReader", name := "terms", desc := "()[I" } : Jvm.MethodName)) ∈ lw_all := lw_g (lw_at lw_m2 139 rfl) rfl
theorem q474 : (Jvm.Cond.code ({ cls := "CrossingWords$CaseReader", name := "terms", desc := "()[I" } : Jvm.MethodName) prog_7_method_7_code (3 : Nat) (Option.some (Jvm.ClassFile.FieldType.array Jvm.ClassFile.FieldType.int))) ∈ lw_all := lw_g (lw_at lw_m2 140 rfl) rfl
theorem q475 : (Jvm.Cond.fieldLinkNest "CrossingWords$CaseReader" (127 : Nat) "CrossingWords" "TERM_NAMES" "[J" "CrossingWords") ∈ lw_tbl := lw_at lw_m2 141 rfl
theorem q477 : (Jvm.Cond.methodLink "CrossingWords$CaseReader" (130 : Nat) ({ cls := "CrossingWords$CaseReader", name := "maybe", desc := "([J)I" } : Jvm.MethodName)) ∈ lw_all := lw_g (lw_at lw_m2 143 rfl) rfl
theorem q478 : (Jvm.Cond.sameMethod "CrossingWords$CaseReader" "CrossingWords$Reader" "maybe" "([J)I") ∈ lw_all := lw_g (lw_at lw_m2 144 rfl) rfl
theorem q480 : (Jvm.Cond.selects "CrossingWords$CaseReader" ({ cls := "CrossingWords$CaseReader", name := "maybe", desc := "([J)I" } : Jvm.MethodName) ({ cls := "CrossingWords$Reader", name := "maybe", desc := "([J)I" } : Jvm.MethodName)) ∈ lw_all := lw_g (lw_at lw_m2 146 rfl) rfl
theorem q481 : (Jvm.Cond.methodLink "CrossingWords$CaseReader" (101 : Nat) ({ cls := "CrossingWords$CaseReader", name := "number", desc := "(II)I" } : Jvm.MethodName)) ∈ lw_all := lw_g (lw_at lw_m2 147 rfl) rfl
theorem q482 : (Jvm.Cond.sameMethod "CrossingWords$CaseReader" "CrossingWords$Reader" "number" "(II)I") ∈ lw_all := lw_g (lw_at lw_m2 148 rfl) rfl
theorem q484 : (Jvm.Cond.selects "CrossingWords$CaseReader" ({ cls := "CrossingWords$CaseReader", name := "number", desc := "(II)I" } : Jvm.MethodName) ({ cls := "CrossingWords$Reader", name := "number", desc := "(II)I" } : Jvm.MethodName)) ∈ lw_all := lw_g (lw_at lw_m2 150 rfl) rfl
theorem q488 : (Jvm.Cond.methodLink "CrossingWords$CaseReader" (90 : Nat) ({ cls := "CrossingWords$Offer", name := "<init>", desc := "(III[I)V" } : Jvm.MethodName)) ∈ lw_all := lw_g (lw_at lw_m2 154 rfl) rfl
theorem q495 : (Jvm.Cond.fieldLink "CrossingWords$CaseReader" (105 : Nat) "CrossingWords$Offer" "hold" "I") ∈ lw_all := lw_g (lw_at lw_m2 161 rfl) rfl
theorem q497 : (Jvm.Cond.fieldLink "CrossingWords$CaseReader" (111 : Nat) "CrossingWords$Offer" "given" "I") ∈ lw_all := lw_g (lw_at lw_m2 163 rfl) rfl
theorem q510 : (Jvm.Cond.fieldLinkNest "CrossingWords$CaseReader" (93 : Nat) "CrossingWords" "HOLD" "J" "CrossingWords") ∈ lw_tbl := lw_at lw_m2 176 rfl
theorem q512 : (Jvm.Cond.methodLink "CrossingWords$CaseReader" (97 : Nat) ({ cls := "CrossingWords$CaseReader", name := "takes", desc := "(J)Z" } : Jvm.MethodName)) ∈ lw_all := lw_g (lw_at lw_m2 178 rfl) rfl
theorem q513 : (Jvm.Cond.sameMethod "CrossingWords$CaseReader" "CrossingWords$Reader" "takes" "(J)Z") ∈ lw_all := lw_g (lw_at lw_m2 179 rfl) rfl
theorem q515 : (Jvm.Cond.selects "CrossingWords$CaseReader" ({ cls := "CrossingWords$CaseReader", name := "takes", desc := "(J)Z" } : Jvm.MethodName) ({ cls := "CrossingWords$Reader", name := "takes", desc := "(J)Z" } : Jvm.MethodName)) ∈ lw_all := lw_g (lw_at lw_m2 181 rfl) rfl
theorem q518 : (Jvm.Cond.fieldLinkNest "CrossingWords$CaseReader" (108 : Nat) "CrossingWords" "GIVEN" "J" "CrossingWords") ∈ lw_tbl := lw_at lw_m2 184 rfl
theorem q520 : (Jvm.Cond.methodLink "CrossingWords$CaseReader" (49 : Nat) ({ cls := "CrossingWords$CaseReader", name := "answers", desc := "(II)LCrossingWords$Saying;" } : Jvm.MethodName)) ∈ lw_all := lw_g (lw_at lw_m2 186 rfl) rfl
theorem q521 : (Jvm.Cond.privateMethod ({ cls := "CrossingWords$CaseReader", name := "answers", desc := "(II)LCrossingWords$Saying;" } : Jvm.MethodName)) ∈ lw_tbl := lw_at lw_m2 187 rfl
theorem q522 : (Jvm.Cond.instanceMethod ({ cls := "CrossingWords$CaseReader", name := "answers", desc := "(II)LCrossingWords$Saying;" } : Jvm.MethodName)) ∈ lw_all := lw_g (lw_at lw_m2 188 rfl) rfl
theorem q523 : (Jvm.Cond.code ({ cls := "CrossingWords$CaseReader", name := "answers", desc := "(II)LCrossingWords$Saying;" } : Jvm.MethodName) prog_7_method_10_code (5 : Nat) (Option.some (Jvm.ClassFile.FieldType.object "CrossingWords$Saying"))) ∈ lw_all := lw_g (lw_at lw_m2 189 rfl) rfl
theorem q524 : (Jvm.Cond.methodLink "CrossingWords$CaseReader" (154 : Nat) ({ cls := "CrossingWords$CaseReader", name := "said", desc := "(II)LCrossingWords$Saying;" } : Jvm.MethodName)) ∈ lw_all := lw_g (lw_at lw_m2 190 rfl) rfl
theorem q525 : (Jvm.Cond.privateMethod ({ cls := "CrossingWords$CaseReader", name := "said", desc := "(II)LCrossingWords$Saying;" } : Jvm.MethodName)) ∈ lw_tbl := lw_at lw_m2 191 rfl
theorem q526 : (Jvm.Cond.instanceMethod ({ cls := "CrossingWords$CaseReader", name := "said", desc := "(II)LCrossingWords$Saying;" } : Jvm.MethodName)) ∈ lw_all := lw_g (lw_at lw_m2 192 rfl) rfl
theorem q527 : (Jvm.Cond.code ({ cls := "CrossingWords$CaseReader", name := "said", desc := "(II)LCrossingWords$Saying;" } : Jvm.MethodName) prog_7_method_9_code (4 : Nat) (Option.some (Jvm.ClassFile.FieldType.object "CrossingWords$Saying"))) ∈ lw_all := lw_g (lw_at lw_m2 193 rfl) rfl
theorem q528 : (Jvm.Cond.methodLinkNest "CrossingWords$CaseReader" (142 : Nat) ({ cls := "CrossingWords", name := "isIn", desc := "(III)Z" } : Jvm.MethodName) "CrossingWords") ∈ lw_tbl := lw_at lw_m2 194 rfl
theorem q529 : (Jvm.Cond.methodLink "CrossingWords$CaseReader" (150 : Nat) ({ cls := "CrossingWords$CaseReader", name := "maySay", desc := "(IILCrossingWords$Saying;)Z" } : Jvm.MethodName)) ∈ lw_all := lw_g (lw_at lw_m2 195 rfl) rfl
theorem q530 : (Jvm.Cond.privateMethod ({ cls := "CrossingWords$CaseReader", name := "maySay", desc := "(IILCrossingWords$Saying;)Z" } : Jvm.MethodName)) ∈ lw_tbl := lw_at lw_m2 196 rfl
theorem q531 : (Jvm.Cond.instanceMethod ({ cls := "CrossingWords$CaseReader", name := "maySay", desc := "(IILCrossingWords$Saying;)Z" } : Jvm.MethodName)) ∈ lw_all := lw_g (lw_at lw_m2 197 rfl) rfl
theorem q532 : (Jvm.Cond.code ({ cls := "CrossingWords$CaseReader", name := "maySay", desc := "(IILCrossingWords$Saying;)Z" } : Jvm.MethodName) prog_7_method_8_code (5 : Nat) (Option.some Jvm.ClassFile.FieldType.boolean)) ∈ lw_all := lw_g (lw_at lw_m2 198 rfl) rfl
theorem q533 : (Jvm.Cond.methodLink "CrossingWords$CaseReader" (133 : Nat) ({ cls := "CrossingWords$Saying", name := "kind", desc := "()I" } : Jvm.MethodName)) ∈ lw_all := lw_g (lw_at lw_m2 199 rfl) rfl
theorem q560 : (Jvm.Cond.methodLink "CrossingWords$CaseReader" (139 : Nat) ({ cls := "CrossingWords$Saying", name := "to", desc := "()I" } : Jvm.MethodName)) ∈ lw_all := lw_g (lw_at lw_m2 226 rfl) rfl
theorem q584 : (Jvm.Cond.fieldLinkNest "CrossingWords$CaseReader" (157 : Nat) "CrossingWords" "BUT_WORD" "J" "CrossingWords") ∈ lw_tbl := lw_at lw_m3 10 rfl
theorem q586 : (Jvm.Cond.methodLink "CrossingWords$CaseReader" (160 : Nat) ({ cls := "CrossingWords$CaseReader", name := "but", desc := "(IILCrossingWords$Saying;)LCrossingWords$Saying;" } : Jvm.MethodName)) ∈ lw_all := lw_g (lw_at lw_m3 12 rfl) rfl
theorem q587 : (Jvm.Cond.privateMethod ({ cls := "CrossingWords$CaseReader", name := "but", desc := "(IILCrossingWords$Saying;)LCrossingWords$Saying;" } : Jvm.MethodName)) ∈ lw_tbl := lw_at lw_m3 13 rfl
theorem q588 : (Jvm.Cond.instanceMethod ({ cls := "CrossingWords$CaseReader", name := "but", desc := "(IILCrossingWords$Saying;)LCrossingWords$Saying;" } : Jvm.MethodName)) ∈ lw_all := lw_g (lw_at lw_m3 14 rfl) rfl
theorem q589 : (Jvm.Cond.code ({ cls := "CrossingWords$CaseReader", name := "but", desc := "(IILCrossingWords$Saying;)LCrossingWords$Saying;" } : Jvm.MethodName) prog_7_method_11_code (4 : Nat) (Option.some (Jvm.ClassFile.FieldType.object "CrossingWords$Saying"))) ∈ lw_all := lw_g (lw_at lw_m3 15 rfl) rfl
theorem q590 : (Jvm.Cond.classLink "CrossingWords$CaseReader" (181 : Nat) "CrossingWords$But") ∈ lw_all := lw_g (lw_at lw_m3 16 rfl) rfl
theorem q592 : (Jvm.Cond.methodLink "CrossingWords$CaseReader" (183 : Nat) ({ cls := "CrossingWords$But", name := "<init>", desc := "(IILCrossingWords$Saying;[I)V" } : Jvm.MethodName)) ∈ lw_all := lw_g (lw_at lw_m3 18 rfl) rfl
theorem q612 : (Jvm.Cond.classLink "CrossingWords$CaseReader" (164 : Nat) "CrossingWords$Yes") ∈ lw_all := lw_g (lw_at lw_m3 38 rfl) rfl
theorem q614 : (Jvm.Cond.methodLink "CrossingWords$CaseReader" (166 : Nat) ({ cls := "CrossingWords$Yes", name := "<init>", desc := "(IILCrossingWords$Saying;)V" } : Jvm.MethodName)) ∈ lw_all := lw_g (lw_at lw_m3 40 rfl) rfl
theorem q620 : (Jvm.Cond.classLink "CrossingWords$CaseReader" (169 : Nat) "CrossingWords$No") ∈ lw_all := lw_g (lw_at lw_m3 46 rfl) rfl
theorem q622 : (Jvm.Cond.methodLink "CrossingWords$CaseReader" (171 : Nat) ({ cls := "CrossingWords$No", name := "<init>", desc := "(IILCrossingWords$Saying;)V" } : Jvm.MethodName)) ∈ lw_all := lw_g (lw_at lw_m3 48 rfl) rfl
theorem q631 : (Jvm.Cond.classLink "CrossingWords$CaseReader" (172 : Nat) "CrossingWords$Back") ∈ lw_all := lw_g (lw_at lw_m3 57 rfl) rfl
theorem q633 : (Jvm.Cond.methodLink "CrossingWords$CaseReader" (174 : Nat) ({ cls := "CrossingWords$Back", name := "<init>", desc := "(IILCrossingWords$Saying;)V" } : Jvm.MethodName)) ∈ lw_all := lw_g (lw_at lw_m3 59 rfl) rfl
theorem q642 : (Jvm.Cond.classLink "CrossingWords$CaseReader" (175 : Nat) "CrossingWords$Deed") ∈ lw_all := lw_g (lw_at lw_m3 68 rfl) rfl
theorem q644 : (Jvm.Cond.methodLink "CrossingWords$CaseReader" (177 : Nat) ({ cls := "CrossingWords$Deed", name := "<init>", desc := "(IILCrossingWords$Saying;)V" } : Jvm.MethodName)) ∈ lw_all := lw_g (lw_at lw_m3 70 rfl) rfl
theorem q653 : (Jvm.Cond.classLink "CrossingWords$CaseReader" (178 : Nat) "CrossingWords$Send") ∈ lw_all := lw_g (lw_at lw_m3 79 rfl) rfl
theorem q655 : (Jvm.Cond.methodLink "CrossingWords$CaseReader" (180 : Nat) ({ cls := "CrossingWords$Send", name := "<init>", desc := "(IILCrossingWords$Saying;)V" } : Jvm.MethodName)) ∈ lw_all := lw_g (lw_at lw_m3 81 rfl) rfl
theorem q664 : (Jvm.Cond.methodLink "CrossingWords$CaseReader" (52 : Nat) ({ cls := "CrossingWords$CaseReader", name := "times", desc := "()LCrossingWords$Times;" } : Jvm.MethodName)) ∈ lw_all := lw_g (lw_at lw_m3 90 rfl) rfl
theorem q665 : (Jvm.Cond.privateMethod ({ cls := "CrossingWords$CaseReader", name := "times", desc := "()LCrossingWords$Times;" } : Jvm.MethodName)) ∈ lw_tbl := lw_at lw_m3 91 rfl
theorem q666 : (Jvm.Cond.instanceMethod ({ cls := "CrossingWords$CaseReader", name := "times", desc := "()LCrossingWords$Times;" } : Jvm.MethodName)) ∈ lw_all := lw_g (lw_at lw_m3 92 rfl) rfl
theorem q667 : (Jvm.Cond.code ({ cls := "CrossingWords$CaseReader", name := "times", desc := "()LCrossingWords$Times;" } : Jvm.MethodName) prog_7_method_13_code (5 : Nat) (Option.some (Jvm.ClassFile.FieldType.object "CrossingWords$Times"))) ∈ lw_all := lw_g (lw_at lw_m3 93 rfl) rfl
theorem q668 : (Jvm.Cond.fieldLinkNest "CrossingWords$CaseReader" (199 : Nat) "CrossingWords" "WAYS" "[J" "CrossingWords") ∈ lw_tbl := lw_at lw_m3 94 rfl
theorem q670 : (Jvm.Cond.fieldLinkNest "CrossingWords$CaseReader" (202 : Nat) "CrossingWords" "AT" "J" "CrossingWords") ∈ lw_tbl := lw_at lw_m3 96 rfl
theorem q672 : (Jvm.Cond.methodLink "CrossingWords$CaseReader" (58 : Nat) ({ cls := "CrossingWords$CaseReader", name := "needs", desc := "(IJ)V" } : Jvm.MethodName)) ∈ lw_all := lw_g (lw_at lw_m3 98 rfl) rfl
theorem q673 : (Jvm.Cond.sameMethod "CrossingWords$CaseReader" "CrossingWords$Reader" "needs" "(IJ)V") ∈ lw_all := lw_g (lw_at lw_m3 99 rfl) rfl
theorem q675 : (Jvm.Cond.selects "CrossingWords$CaseReader" ({ cls := "CrossingWords$CaseReader", name := "needs", desc := "(IJ)V" } : Jvm.MethodName) ({ cls := "CrossingWords$Reader", name := "needs", desc := "(IJ)V" } : Jvm.MethodName)) ∈ lw_all := lw_g (lw_at lw_m3 101 rfl) rfl
theorem q678 : (Jvm.Cond.methodLink "CrossingWords$CaseReader" (205 : Nat) ({ cls := "CrossingWords$CaseReader", name := "span", desc := "(I)LCrossingWords$Span;" } : Jvm.MethodName)) ∈ lw_all := lw_g (lw_at lw_m3 104 rfl) rfl
theorem q679 : (Jvm.Cond.privateMethod ({ cls := "CrossingWords$CaseReader", name := "span", desc := "(I)LCrossingWords$Span;" } : Jvm.MethodName)) ∈ lw_tbl := lw_at lw_m3 105 rfl
theorem q680 : (Jvm.Cond.instanceMethod ({ cls := "CrossingWords$CaseReader", name := "span", desc := "(I)LCrossingWords$Span;" } : Jvm.MethodName)) ∈ lw_all := lw_g (lw_at lw_m3 106 rfl) rfl
theorem q681 : (Jvm.Cond.code ({ cls := "CrossingWords$CaseReader", name := "span", desc := "(I)LCrossingWords$Span;" } : Jvm.MethodName) prog_7_method_12_code (3 : Nat) (Option.some (Jvm.ClassFile.FieldType.object "CrossingWords$Span"))) ∈ lw_all := lw_g (lw_at lw_m3 107 rfl) rfl
theorem q682 : (Jvm.Cond.classLink "CrossingWords$CaseReader" (186 : Nat) "CrossingWords$Span") ∈ lw_all := lw_g (lw_at lw_m3 108 rfl) rfl
theorem q684 : (Jvm.Cond.fieldLinkNest "CrossingWords$CaseReader" (188 : Nat) "CrossingWords" "TO" "J" "CrossingWords") ∈ lw_tbl := lw_at lw_m3 110 rfl
theorem q686 : (Jvm.Cond.methodLink "CrossingWords$CaseReader" (191 : Nat) ({ cls := "java/lang/Math", name := "min", desc := "(II)I" } : Jvm.MethodName)) ∈ lw_all := lw_g (lw_at lw_m3 112 rfl) rfl
theorem q689 : (Jvm.Cond.methodLink "CrossingWords$CaseReader" (196 : Nat) ({ cls := "CrossingWords$Span", name := "<init>", desc := "(II)V" } : Jvm.MethodName)) ∈ lw_all := lw_g (lw_at lw_m3 115 rfl) rfl
theorem q701 : (Jvm.Cond.classLink "CrossingWords$CaseReader" (209 : Nat) "CrossingWords$Times") ∈ lw_all := lw_g (lw_at lw_m3 127 rfl) rfl
theorem q703 : (Jvm.Cond.fieldLinkNest "CrossingWords$CaseReader" (211 : Nat) "CrossingWords" "AT_ONCE" "LCrossingWords$Span;" "CrossingWords") ∈ lw_tbl := lw_at lw_m3 129 rfl
theorem q705 : (Jvm.Cond.methodLink "CrossingWords$CaseReader" (215 : Nat) ({ cls := "CrossingWords$Times", name := "<init>", desc := "(ILCrossingWords$Span;LCrossingWords$Span;LCrossingWords$Span;ZZ)V" } : Jvm.MethodName)) ∈ lw_all := lw_g (lw_at lw_m3 131 rfl) rfl
theorem q738 : (Jvm.Cond.fieldLinkNest "CrossingWords$CaseReader" (218 : Nat) "CrossingWords" "AFTER" "J" "CrossingWords") ∈ lw_tbl := lw_at lw_m3 164 rfl
theorem q740 : (Jvm.Cond.fieldLinkNest "CrossingWords$CaseReader" (221 : Nat) "CrossingWords" "READ_WORD" "J" "CrossingWords") ∈ lw_tbl := lw_at lw_m3 166 rfl
theorem q742 : (Jvm.Cond.fieldLinkNest "CrossingWords$CaseReader" (224 : Nat) "CrossingWords" "LOST" "J" "CrossingWords") ∈ lw_tbl := lw_at lw_m3 168 rfl
theorem q744 : (Jvm.Cond.constantLong "CrossingWords$CaseReader" (56 : Nat) (59 : Int64)) ∈ lw_all := lw_g (lw_at lw_m3 170 rfl) rfl
theorem q745 : (Jvm.Cond.methodLink "CrossingWords$CaseReader" (71 : Nat) ({ cls := "CrossingWords$Case", name := "adds", desc := "(LCrossingWords$Saying;)V" } : Jvm.MethodName)) ∈ lw_all := lw_g (lw_at lw_m3 171 rfl) rfl
theorem q787 : (Jvm.Cond.selects "CrossingWords$CaseReader" ({ cls := "CrossingWords$Reader", name := "isWhole", desc := "()Z" } : Jvm.MethodName) ({ cls := "CrossingWords$CaseReader", name := "isWhole", desc := "()Z" } : Jvm.MethodName)) ∈ lw_all := lw_g (lw_at lw_m3 213 rfl) rfl
theorem q788 : (Jvm.Cond.instanceMethod ({ cls := "CrossingWords$CaseReader", name := "isWhole", desc := "()Z" } : Jvm.MethodName)) ∈ lw_all := lw_g (lw_at lw_m3 214 rfl) rfl
theorem q789 : (Jvm.Cond.code ({ cls := "CrossingWords$CaseReader", name := "isWhole", desc := "()Z" } : Jvm.MethodName) prog_7_method_3_code (1 : Nat) (Option.some Jvm.ClassFile.FieldType.boolean)) ∈ lw_all := lw_g (lw_at lw_m3 215 rfl) rfl
theorem q796 : (Jvm.Cond.selects "CrossingWords$CaseReader" ({ cls := "CrossingWords$Reader", name := "place", desc := "()I" } : Jvm.MethodName) ({ cls := "CrossingWords$Reader", name := "place", desc := "()I" } : Jvm.MethodName)) ∈ lw_all := lw_g (lw_at lw_m3 222 rfl) rfl
theorem in_X4 : ∀ w ∈ wsX40, w ∈ lw_all := lw_in wsX40 [355, 357, 359, 361, 363, 365, 367, 349, 351, 353] (by decide +kernel) (by decide +kernel)
