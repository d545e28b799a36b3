/-! CrossingWords -/
set_option maxRecDepth 100000
def RX0 : String := "CrossingWords"
def TX0 : u_T := fun k => match k with
  | 0 => ("CrossingWords", "cases", "[LCrossingWords$Case;", true)
  | 1 => ("CrossingWords", "laws", "[LCrossingWords$Text;", true)
  | 2 => ("CrossingWords", "clauses", "[LCrossingWords$Text;", true)
  | 3 => ("CrossingWords", "tape", "[B", true)
  | 4 => ("CrossingWords", "runs", "[LCrossingWords$Run;", true)
  | 5 => ("CrossingWords", "taped", "I", false)
  | 6 => ("CrossingWords", "caseMany", "I", false)
  | 7 => ("CrossingWords", "lawMany", "I", false)
  | 8 => ("CrossingWords", "clauseMany", "I", false)
  | 9 => ("CrossingWords", "fault", "I", false)
  | 10 => ("CrossingWords", "deep", "I", false)
  | 11 => ("CrossingWords", "images", "[LCrossingWords$Image;", true)
  | 12 => ("CrossingWords", "imageMany", "I", false)
  | 13 => ("CrossingWords", "outcome", "[Z", true)
  | _ => ("CrossingWords", "told", "[I", true)
def tyX0 : Nat → FieldType := fun k => match k with
  | 0 => .array (.object "CrossingWords$Case")
  | 1 => .array (.object "CrossingWords$Text")
  | 2 => .array (.object "CrossingWords$Text")
  | 3 => .array .byte
  | 4 => .array (.object "CrossingWords$Run")
  | 5 => .int
  | 6 => .int
  | 7 => .int
  | 8 => .int
  | 9 => .int
  | 10 => .int
  | 11 => .array (.object "CrossingWords$Image")
  | 12 => .int
  | 13 => .array .boolean
  | _ => .array .int
abbrev wsX00 : List Cond := u_ws RX0 TX0 15
set_option maxRecDepth 100000 in
theorem nmX0 : ∀ a, a < 15 → ∀ b, b < 15 → a ≠ b → (TX0 a).2.1 ≠ (TX0 b).2.1 := by decide +kernel
set_option maxRecDepth 100000 in
theorem tyX0_ok : ∀ k, k < 15 → parseFieldDescriptor (TX0 k).2.2.1 = some (tyX0 k) := by decide +kernel
abbrev cX0_init : ByteArray := prog_1_method_4_code
def yX0_init : MethodName := ⟨RX0, "<init>", "()V"⟩
def dkwX0_init_4 : List UInt8 := [27, 187, 0, 38, 89, 42, 183, 0, 62, 83, 132, 1, 1, 167, 255, 233, 177]
abbrev dktX0_init_4 : List UInt8 := dkwX0_init_4 ++ []
def dkwX0_init_3 : List UInt8 := [181, 0, 54, 42, 17, 4, 0, 188, 10, 181, 0, 58, 3, 60, 27, 16, 18, 162, 0, 23, 42, 180, 0, 40]
abbrev dktX0_init_3 : List UInt8 := dkwX0_init_3 ++ dktX0_init_4
def dkwX0_init_2 : List UInt8 := [181, 0, 40, 42, 2, 181, 0, 44, 42, 7, 189, 0, 48, 181, 0, 50, 42, 17, 4, 0, 188, 4]
abbrev dktX0_init_2 : List UInt8 := dkwX0_init_2 ++ dktX0_init_3
def dkwX0_init_1 : List UInt8 := [16, 6, 189, 0, 25, 181, 0, 31, 42, 17, 3, 132, 188, 8, 181, 0, 34, 42, 16, 18, 189, 0, 38]
abbrev dktX0_init_1 : List UInt8 := dkwX0_init_1 ++ dktX0_init_2
def dkwX0_init_0 : List UInt8 := [42, 183, 0, 13, 42, 16, 16, 189, 0, 19, 181, 0, 21, 42, 16, 8, 189, 0, 25, 181, 0, 27, 42]
abbrev dktX0_init_0 : List UInt8 := dkwX0_init_0 ++ dktX0_init_1
theorem dksX0_init_0 : cX0_init.data.toList.drop 0 = dktX0_init_0 := by decide +kernel
theorem dksX0_init_1 : cX0_init.data.toList.drop 23 = dktX0_init_1 := dk_seg dksX0_init_0 23 rfl rfl
theorem dksX0_init_2 : cX0_init.data.toList.drop 46 = dktX0_init_2 := dk_seg dksX0_init_1 23 rfl rfl
theorem dksX0_init_3 : cX0_init.data.toList.drop 68 = dktX0_init_3 := dk_seg dksX0_init_2 22 rfl rfl
theorem dksX0_init_4 : cX0_init.data.toList.drop 92 = dktX0_init_4 := dk_seg dksX0_init_3 24 rfl rfl
theorem dX0_init_0 : decode cX0_init 0 = .ok (.aload_n 0, 1) := dk_42 (dk_at dksX0_init_0 0 rfl rfl)
theorem dX0_init_1 : decode cX0_init 1 = .ok (.invokespecial 13, 3) := dk_183 0 13 (dk_at dksX0_init_0 1 rfl rfl)
theorem dX0_init_4 : decode cX0_init 4 = .ok (.aload_n 0, 1) := dk_42 (dk_at dksX0_init_0 4 rfl rfl)
theorem dX0_init_5 : decode cX0_init 5 = .ok (.bipush 16, 2) := dk_16 16 (dk_at dksX0_init_0 5 rfl rfl)
theorem dX0_init_7 : decode cX0_init 7 = .ok (.anewarray 19, 3) := dk_189 0 19 (dk_at dksX0_init_0 7 rfl rfl)
theorem dX0_init_10 : decode cX0_init 10 = .ok (.putfield 21, 3) := dk_181 0 21 (dk_at dksX0_init_0 10 rfl rfl)
theorem dX0_init_13 : decode cX0_init 13 = .ok (.aload_n 0, 1) := dk_42 (dk_at dksX0_init_0 13 rfl rfl)
theorem dX0_init_14 : decode cX0_init 14 = .ok (.bipush 8, 2) := dk_16 8 (dk_at dksX0_init_0 14 rfl rfl)
theorem dX0_init_16 : decode cX0_init 16 = .ok (.anewarray 25, 3) := dk_189 0 25 (dk_at dksX0_init_0 16 rfl rfl)
theorem dX0_init_19 : decode cX0_init 19 = .ok (.putfield 27, 3) := dk_181 0 27 (dk_at dksX0_init_0 19 rfl rfl)
theorem dX0_init_22 : decode cX0_init 22 = .ok (.aload_n 0, 1) := dk_42 (dk_at dksX0_init_0 22 rfl rfl)
theorem dX0_init_23 : decode cX0_init 23 = .ok (.bipush 6, 2) := dk_16 6 (dk_at dksX0_init_1 0 rfl rfl)
theorem dX0_init_25 : decode cX0_init 25 = .ok (.anewarray 25, 3) := dk_189 0 25 (dk_at dksX0_init_1 2 rfl rfl)
theorem dX0_init_28 : decode cX0_init 28 = .ok (.putfield 31, 3) := dk_181 0 31 (dk_at dksX0_init_1 5 rfl rfl)
theorem dX0_init_31 : decode cX0_init 31 = .ok (.aload_n 0, 1) := dk_42 (dk_at dksX0_init_1 8 rfl rfl)
theorem dX0_init_32 : decode cX0_init 32 = .ok (.sipush 900, 3) := dk_17 3 132 (dk_at dksX0_init_1 9 rfl rfl)
theorem dX0_init_35 : decode cX0_init 35 = .ok (.newarray .byte, 2) := dk_188_8 (dk_at dksX0_init_1 12 rfl rfl)
theorem dX0_init_37 : decode cX0_init 37 = .ok (.putfield 34, 3) := dk_181 0 34 (dk_at dksX0_init_1 14 rfl rfl)
theorem dX0_init_40 : decode cX0_init 40 = .ok (.aload_n 0, 1) := dk_42 (dk_at dksX0_init_1 17 rfl rfl)
theorem dX0_init_41 : decode cX0_init 41 = .ok (.bipush 18, 2) := dk_16 18 (dk_at dksX0_init_1 18 rfl rfl)
theorem dX0_init_43 : decode cX0_init 43 = .ok (.anewarray 38, 3) := dk_189 0 38 (dk_at dksX0_init_1 20 rfl rfl)
theorem dX0_init_46 : decode cX0_init 46 = .ok (.putfield 40, 3) := dk_181 0 40 (dk_at dksX0_init_2 0 rfl rfl)
theorem dX0_init_49 : decode cX0_init 49 = .ok (.aload_n 0, 1) := dk_42 (dk_at dksX0_init_2 3 rfl rfl)
theorem dX0_init_50 : decode cX0_init 50 = .ok (.iconst (-1), 1) := dk_2 (dk_at dksX0_init_2 4 rfl rfl)
theorem dX0_init_51 : decode cX0_init 51 = .ok (.putfield 44, 3) := dk_181 0 44 (dk_at dksX0_init_2 5 rfl rfl)
theorem dX0_init_54 : decode cX0_init 54 = .ok (.aload_n 0, 1) := dk_42 (dk_at dksX0_init_2 8 rfl rfl)
theorem dX0_init_55 : decode cX0_init 55 = .ok (.iconst 4, 1) := dk_7 (dk_at dksX0_init_2 9 rfl rfl)
theorem dX0_init_56 : decode cX0_init 56 = .ok (.anewarray 48, 3) := dk_189 0 48 (dk_at dksX0_init_2 10 rfl rfl)
theorem dX0_init_59 : decode cX0_init 59 = .ok (.putfield 50, 3) := dk_181 0 50 (dk_at dksX0_init_2 13 rfl rfl)
theorem dX0_init_62 : decode cX0_init 62 = .ok (.aload_n 0, 1) := dk_42 (dk_at dksX0_init_2 16 rfl rfl)
theorem dX0_init_63 : decode cX0_init 63 = .ok (.sipush 1024, 3) := dk_17 4 0 (dk_at dksX0_init_2 17 rfl rfl)
theorem dX0_init_66 : decode cX0_init 66 = .ok (.newarray .boolean, 2) := dk_188_4 (dk_at dksX0_init_2 20 rfl rfl)
theorem dX0_init_68 : decode cX0_init 68 = .ok (.putfield 54, 3) := dk_181 0 54 (dk_at dksX0_init_3 0 rfl rfl)
theorem dX0_init_71 : decode cX0_init 71 = .ok (.aload_n 0, 1) := dk_42 (dk_at dksX0_init_3 3 rfl rfl)
theorem dX0_init_72 : decode cX0_init 72 = .ok (.sipush 1024, 3) := dk_17 4 0 (dk_at dksX0_init_3 4 rfl rfl)
theorem dX0_init_75 : decode cX0_init 75 = .ok (.newarray .int, 2) := dk_188_10 (dk_at dksX0_init_3 7 rfl rfl)
theorem dX0_init_77 : decode cX0_init 77 = .ok (.putfield 58, 3) := dk_181 0 58 (dk_at dksX0_init_3 9 rfl rfl)
theorem dX0_init_80 : decode cX0_init 80 = .ok (.iconst 0, 1) := dk_3 (dk_at dksX0_init_3 12 rfl rfl)
theorem dX0_init_81 : decode cX0_init 81 = .ok (.istore_n 1, 1) := dk_60 (dk_at dksX0_init_3 13 rfl rfl)
theorem dX0_init_82 : decode cX0_init 82 = .ok (.iload_n 1, 1) := dk_27 (dk_at dksX0_init_3 14 rfl rfl)
theorem dX0_init_83 : decode cX0_init 83 = .ok (.bipush 18, 2) := dk_16 18 (dk_at dksX0_init_3 15 rfl rfl)
theorem dX0_init_85 : decode cX0_init 85 = .ok (.if_icmp .ge 23, 3) := dk_162 0 23 (dk_at dksX0_init_3 17 rfl rfl)
theorem dX0_init_88 : decode cX0_init 88 = .ok (.aload_n 0, 1) := dk_42 (dk_at dksX0_init_3 20 rfl rfl)
theorem dX0_init_89 : decode cX0_init 89 = .ok (.getfield 40, 3) := dk_180 0 40 (dk_at dksX0_init_3 21 rfl rfl)
theorem dX0_init_92 : decode cX0_init 92 = .ok (.iload_n 1, 1) := dk_27 (dk_at dksX0_init_4 0 rfl rfl)
theorem dX0_init_93 : decode cX0_init 93 = .ok (.new 38, 3) := dk_187 0 38 (dk_at dksX0_init_4 1 rfl rfl)
theorem dX0_init_96 : decode cX0_init 96 = .ok (.dup, 1) := dk_89 (dk_at dksX0_init_4 4 rfl rfl)
theorem dX0_init_97 : decode cX0_init 97 = .ok (.aload_n 0, 1) := dk_42 (dk_at dksX0_init_4 5 rfl rfl)
theorem dX0_init_98 : decode cX0_init 98 = .ok (.invokespecial 62, 3) := dk_183 0 62 (dk_at dksX0_init_4 6 rfl rfl)
theorem dX0_init_101 : decode cX0_init 101 = .ok (.aastore, 1) := dk_83 (dk_at dksX0_init_4 9 rfl rfl)
theorem dX0_init_102 : decode cX0_init 102 = .ok (.iinc 1 1, 3) := dk_132 1 1 (dk_at dksX0_init_4 10 rfl rfl)
theorem dX0_init_105 : decode cX0_init 105 = .ok (.goto (-23), 3) := dk_167 255 233 (dk_at dksX0_init_4 13 rfl rfl)
theorem dX0_init_108 : decode cX0_init 108 = .ok (.return_, 1) := dk_177 (dk_at dksX0_init_4 16 rfl rfl)
abbrev cX0_feed : ByteArray := prog_1_method_8_code
def yX0_feed : MethodName := ⟨RX0, "feed", "(IIIII)I"⟩
def dkwX0_feed_4 : List UInt8 := [16, 20, 96, 181, 0, 91, 42, 180, 0, 91, 172]
abbrev dktX0_feed_4 : List UInt8 := dkwX0_feed_4 ++ []
def dkwX0_feed_3 : List UInt8 := [16, 24, 16, 8, 21, 7, 7, 112, 104, 100, 122, 145, 84, 132, 7, 1, 167, 255, 215, 42, 89, 180, 0, 91]
abbrev dktX0_feed_3 : List UInt8 := dkwX0_feed_3 ++ dktX0_feed_4
def dkwX0_feed_2 : List UInt8 := [16, 20, 162, 0, 40, 42, 180, 0, 34, 42, 180, 0, 91, 21, 7, 96, 25, 6, 21, 7, 7, 108, 46]
abbrev dktX0_feed_2 : List UInt8 := dkwX0_feed_2 ++ dktX0_feed_3
def dkwX0_feed_1 : List UInt8 := [28, 79, 89, 5, 29, 79, 89, 6, 21, 4, 79, 89, 7, 21, 5, 79, 58, 6, 3, 54, 7, 21, 7]
abbrev dktX0_feed_1 : List UInt8 := dkwX0_feed_1 ++ dktX0_feed_2
def dkwX0_feed_0 : List UInt8 := [42, 180, 0, 91, 16, 20, 96, 17, 3, 132, 164, 0, 5, 2, 172, 8, 188, 10, 89, 3, 27, 79, 89, 4]
abbrev dktX0_feed_0 : List UInt8 := dkwX0_feed_0 ++ dktX0_feed_1
theorem dksX0_feed_0 : cX0_feed.data.toList.drop 0 = dktX0_feed_0 := by decide +kernel
theorem dksX0_feed_1 : cX0_feed.data.toList.drop 24 = dktX0_feed_1 := dk_seg dksX0_feed_0 24 rfl rfl
theorem dksX0_feed_2 : cX0_feed.data.toList.drop 47 = dktX0_feed_2 := dk_seg dksX0_feed_1 23 rfl rfl
theorem dksX0_feed_3 : cX0_feed.data.toList.drop 70 = dktX0_feed_3 := dk_seg dksX0_feed_2 23 rfl rfl
theorem dksX0_feed_4 : cX0_feed.data.toList.drop 94 = dktX0_feed_4 := dk_seg dksX0_feed_3 24 rfl rfl
theorem dX0_feed_0 : decode cX0_feed 0 = .ok (.aload_n 0, 1) := dk_42 (dk_at dksX0_feed_0 0 rfl rfl)
theorem dX0_feed_1 : decode cX0_feed 1 = .ok (.getfield 91, 3) := dk_180 0 91 (dk_at dksX0_feed_0 1 rfl rfl)
theorem dX0_feed_4 : decode cX0_feed 4 = .ok (.bipush 20, 2) := dk_16 20 (dk_at dksX0_feed_0 4 rfl rfl)
theorem dX0_feed_6 : decode cX0_feed 6 = .ok (.iadd, 1) := dk_96 (dk_at dksX0_feed_0 6 rfl rfl)
theorem dX0_feed_7 : decode cX0_feed 7 = .ok (.sipush 900, 3) := dk_17 3 132 (dk_at dksX0_feed_0 7 rfl rfl)
theorem dX0_feed_10 : decode cX0_feed 10 = .ok (.if_icmp .le 5, 3) := dk_164 0 5 (dk_at dksX0_feed_0 10 rfl rfl)
theorem dX0_feed_13 : decode cX0_feed 13 = .ok (.iconst (-1), 1) := dk_2 (dk_at dksX0_feed_0 13 rfl rfl)
theorem dX0_feed_14 : decode cX0_feed 14 = .ok (.ireturn, 1) := dk_172 (dk_at dksX0_feed_0 14 rfl rfl)
theorem dX0_feed_15 : decode cX0_feed 15 = .ok (.iconst 5, 1) := dk_8 (dk_at dksX0_feed_0 15 rfl rfl)
theorem dX0_feed_16 : decode cX0_feed 16 = .ok (.newarray .int, 2) := dk_188_10 (dk_at dksX0_feed_0 16 rfl rfl)
theorem dX0_feed_18 : decode cX0_feed 18 = .ok (.dup, 1) := dk_89 (dk_at dksX0_feed_0 18 rfl rfl)
theorem dX0_feed_19 : decode cX0_feed 19 = .ok (.iconst 0, 1) := dk_3 (dk_at dksX0_feed_0 19 rfl rfl)
theorem dX0_feed_20 : decode cX0_feed 20 = .ok (.iload_n 1, 1) := dk_27 (dk_at dksX0_feed_0 20 rfl rfl)
theorem dX0_feed_21 : decode cX0_feed 21 = .ok (.iastore, 1) := dk_79 (dk_at dksX0_feed_0 21 rfl rfl)
theorem dX0_feed_22 : decode cX0_feed 22 = .ok (.dup, 1) := dk_89 (dk_at dksX0_feed_0 22 rfl rfl)
theorem dX0_feed_23 : decode cX0_feed 23 = .ok (.iconst 1, 1) := dk_4 (dk_at dksX0_feed_0 23 rfl rfl)
theorem dX0_feed_24 : decode cX0_feed 24 = .ok (.iload_n 2, 1) := dk_28 (dk_at dksX0_feed_1 0 rfl rfl)
theorem dX0_feed_25 : decode cX0_feed 25 = .ok (.iastore, 1) := dk_79 (dk_at dksX0_feed_1 1 rfl rfl)
theorem dX0_feed_26 : decode cX0_feed 26 = .ok (.dup, 1) := dk_89 (dk_at dksX0_feed_1 2 rfl rfl)
theorem dX0_feed_27 : decode cX0_feed 27 = .ok (.iconst 2, 1) := dk_5 (dk_at dksX0_feed_1 3 rfl rfl)
theorem dX0_feed_28 : decode cX0_feed 28 = .ok (.iload_n 3, 1) := dk_29 (dk_at dksX0_feed_1 4 rfl rfl)
theorem dX0_feed_29 : decode cX0_feed 29 = .ok (.iastore, 1) := dk_79 (dk_at dksX0_feed_1 5 rfl rfl)
theorem dX0_feed_30 : decode cX0_feed 30 = .ok (.dup, 1) := dk_89 (dk_at dksX0_feed_1 6 rfl rfl)
theorem dX0_feed_31 : decode cX0_feed 31 = .ok (.iconst 3, 1) := dk_6 (dk_at dksX0_feed_1 7 rfl rfl)
theorem dX0_feed_32 : decode cX0_feed 32 = .ok (.iload 4, 2) := dk_21 4 (dk_at dksX0_feed_1 8 rfl rfl)
theorem dX0_feed_34 : decode cX0_feed 34 = .ok (.iastore, 1) := dk_79 (dk_at dksX0_feed_1 10 rfl rfl)
theorem dX0_feed_35 : decode cX0_feed 35 = .ok (.dup, 1) := dk_89 (dk_at dksX0_feed_1 11 rfl rfl)
theorem dX0_feed_36 : decode cX0_feed 36 = .ok (.iconst 4, 1) := dk_7 (dk_at dksX0_feed_1 12 rfl rfl)
theorem dX0_feed_37 : decode cX0_feed 37 = .ok (.iload 5, 2) := dk_21 5 (dk_at dksX0_feed_1 13 rfl rfl)
theorem dX0_feed_39 : decode cX0_feed 39 = .ok (.iastore, 1) := dk_79 (dk_at dksX0_feed_1 15 rfl rfl)
theorem dX0_feed_40 : decode cX0_feed 40 = .ok (.astore 6, 2) := dk_58 6 (dk_at dksX0_feed_1 16 rfl rfl)
theorem dX0_feed_42 : decode cX0_feed 42 = .ok (.iconst 0, 1) := dk_3 (dk_at dksX0_feed_1 18 rfl rfl)
theorem dX0_feed_43 : decode cX0_feed 43 = .ok (.istore 7, 2) := dk_54 7 (dk_at dksX0_feed_1 19 rfl rfl)
theorem dX0_feed_45 : decode cX0_feed 45 = .ok (.iload 7, 2) := dk_21 7 (dk_at dksX0_feed_1 21 rfl rfl)
theorem dX0_feed_47 : decode cX0_feed 47 = .ok (.bipush 20, 2) := dk_16 20 (dk_at dksX0_feed_2 0 rfl rfl)
theorem dX0_feed_49 : decode cX0_feed 49 = .ok (.if_icmp .ge 40, 3) := dk_162 0 40 (dk_at dksX0_feed_2 2 rfl rfl)
theorem dX0_feed_52 : decode cX0_feed 52 = .ok (.aload_n 0, 1) := dk_42 (dk_at dksX0_feed_2 5 rfl rfl)
theorem dX0_feed_53 : decode cX0_feed 53 = .ok (.getfield 34, 3) := dk_180 0 34 (dk_at dksX0_feed_2 6 rfl rfl)
theorem dX0_feed_56 : decode cX0_feed 56 = .ok (.aload_n 0, 1) := dk_42 (dk_at dksX0_feed_2 9 rfl rfl)
theorem dX0_feed_57 : decode cX0_feed 57 = .ok (.getfield 91, 3) := dk_180 0 91 (dk_at dksX0_feed_2 10 rfl rfl)
theorem dX0_feed_60 : decode cX0_feed 60 = .ok (.iload 7, 2) := dk_21 7 (dk_at dksX0_feed_2 13 rfl rfl)
theorem dX0_feed_62 : decode cX0_feed 62 = .ok (.iadd, 1) := dk_96 (dk_at dksX0_feed_2 15 rfl rfl)
theorem dX0_feed_63 : decode cX0_feed 63 = .ok (.aload 6, 2) := dk_25 6 (dk_at dksX0_feed_2 16 rfl rfl)
theorem dX0_feed_65 : decode cX0_feed 65 = .ok (.iload 7, 2) := dk_21 7 (dk_at dksX0_feed_2 18 rfl rfl)
theorem dX0_feed_67 : decode cX0_feed 67 = .ok (.iconst 4, 1) := dk_7 (dk_at dksX0_feed_2 20 rfl rfl)
theorem dX0_feed_68 : decode cX0_feed 68 = .ok (.idiv, 1) := dk_108 (dk_at dksX0_feed_2 21 rfl rfl)
theorem dX0_feed_69 : decode cX0_feed 69 = .ok (.iaload, 1) := dk_46 (dk_at dksX0_feed_2 22 rfl rfl)
theorem dX0_feed_70 : decode cX0_feed 70 = .ok (.bipush 24, 2) := dk_16 24 (dk_at dksX0_feed_3 0 rfl rfl)
theorem dX0_feed_72 : decode cX0_feed 72 = .ok (.bipush 8, 2) := dk_16 8 (dk_at dksX0_feed_3 2 rfl rfl)
theorem dX0_feed_74 : decode cX0_feed 74 = .ok (.iload 7, 2) := dk_21 7 (dk_at dksX0_feed_3 4 rfl rfl)
theorem dX0_feed_76 : decode cX0_feed 76 = .ok (.iconst 4, 1) := dk_7 (dk_at dksX0_feed_3 6 rfl rfl)
theorem dX0_feed_77 : decode cX0_feed 77 = .ok (.irem, 1) := dk_112 (dk_at dksX0_feed_3 7 rfl rfl)
theorem dX0_feed_78 : decode cX0_feed 78 = .ok (.imul, 1) := dk_104 (dk_at dksX0_feed_3 8 rfl rfl)
theorem dX0_feed_79 : decode cX0_feed 79 = .ok (.isub, 1) := dk_100 (dk_at dksX0_feed_3 9 rfl rfl)
theorem dX0_feed_80 : decode cX0_feed 80 = .ok (.ishr, 1) := dk_122 (dk_at dksX0_feed_3 10 rfl rfl)
theorem dX0_feed_81 : decode cX0_feed 81 = .ok (.i2b, 1) := dk_145 (dk_at dksX0_feed_3 11 rfl rfl)
theorem dX0_feed_82 : decode cX0_feed 82 = .ok (.bastore, 1) := dk_84 (dk_at dksX0_feed_3 12 rfl rfl)
theorem dX0_feed_83 : decode cX0_feed 83 = .ok (.iinc 7 1, 3) := dk_132 7 1 (dk_at dksX0_feed_3 13 rfl rfl)
theorem dX0_feed_86 : decode cX0_feed 86 = .ok (.goto (-41), 3) := dk_167 255 215 (dk_at dksX0_feed_3 16 rfl rfl)
theorem dX0_feed_89 : decode cX0_feed 89 = .ok (.aload_n 0, 1) := dk_42 (dk_at dksX0_feed_3 19 rfl rfl)
theorem dX0_feed_90 : decode cX0_feed 90 = .ok (.dup, 1) := dk_89 (dk_at dksX0_feed_3 20 rfl rfl)
theorem dX0_feed_91 : decode cX0_feed 91 = .ok (.getfield 91, 3) := dk_180 0 91 (dk_at dksX0_feed_3 21 rfl rfl)
theorem dX0_feed_94 : decode cX0_feed 94 = .ok (.bipush 20, 2) := dk_16 20 (dk_at dksX0_feed_4 0 rfl rfl)
theorem dX0_feed_96 : decode cX0_feed 96 = .ok (.iadd, 1) := dk_96 (dk_at dksX0_feed_4 2 rfl rfl)
theorem dX0_feed_97 : decode cX0_feed 97 = .ok (.putfield 91, 3) := dk_181 0 91 (dk_at dksX0_feed_4 3 rfl rfl)
theorem dX0_feed_100 : decode cX0_feed 100 = .ok (.aload_n 0, 1) := dk_42 (dk_at dksX0_feed_4 6 rfl rfl)
theorem dX0_feed_101 : decode cX0_feed 101 = .ok (.getfield 91, 3) := dk_180 0 91 (dk_at dksX0_feed_4 7 rfl rfl)
theorem dX0_feed_104 : decode cX0_feed 104 = .ok (.ireturn, 1) := dk_172 (dk_at dksX0_feed_4 10 rfl rfl)
abbrev cX0_tell : ByteArray := prog_1_method_10_code
def yX0_tell : MethodName := ⟨RX0, "tell", "(I)I"⟩
def dkwX0_tell_3 : List UInt8 := [180, 0, 106, 4, 96, 181, 0, 106, 42, 180, 0, 106, 4, 100, 172]
abbrev dktX0_tell_3 : List UInt8 := dkwX0_tell_3 ++ []
def dkwX0_tell_2 : List UInt8 := [182, 0, 114, 154, 0, 5, 2, 172, 42, 180, 0, 21, 42, 180, 0, 106, 44, 180, 0, 118, 83, 42, 89]
abbrev dktX0_tell_2 : List UInt8 := dkwX0_tell_2 ++ dktX0_tell_3
def dkwX0_tell_1 : List UInt8 := [16, 253, 172, 187, 0, 109, 89, 42, 180, 0, 34, 27, 1, 42, 180, 0, 106, 183, 0, 111, 77, 42, 44]
abbrev dktX0_tell_1 : List UInt8 := dkwX0_tell_1 ++ dktX0_tell_2
def dkwX0_tell_0 : List UInt8 := [27, 3, 42, 180, 0, 91, 184, 0, 102, 154, 0, 6, 16, 254, 172, 42, 180, 0, 106, 16, 16, 160, 0, 6]
abbrev dktX0_tell_0 : List UInt8 := dkwX0_tell_0 ++ dktX0_tell_1
theorem dksX0_tell_0 : cX0_tell.data.toList.drop 0 = dktX0_tell_0 := by decide +kernel
theorem dksX0_tell_1 : cX0_tell.data.toList.drop 24 = dktX0_tell_1 := dk_seg dksX0_tell_0 24 rfl rfl
theorem dksX0_tell_2 : cX0_tell.data.toList.drop 47 = dktX0_tell_2 := dk_seg dksX0_tell_1 23 rfl rfl
theorem dksX0_tell_3 : cX0_tell.data.toList.drop 70 = dktX0_tell_3 := dk_seg dksX0_tell_2 23 rfl rfl
theorem dX0_tell_0 : decode cX0_tell 0 = .ok (.iload_n 1, 1) := dk_27 (dk_at dksX0_tell_0 0 rfl rfl)
theorem dX0_tell_1 : decode cX0_tell 1 = .ok (.iconst 0, 1) := dk_3 (dk_at dksX0_tell_0 1 rfl rfl)
theorem dX0_tell_2 : decode cX0_tell 2 = .ok (.aload_n 0, 1) := dk_42 (dk_at dksX0_tell_0 2 rfl rfl)
theorem dX0_tell_3 : decode cX0_tell 3 = .ok (.getfield 91, 3) := dk_180 0 91 (dk_at dksX0_tell_0 3 rfl rfl)
theorem dX0_tell_6 : decode cX0_tell 6 = .ok (.invokestatic 102, 3) := dk_184 0 102 (dk_at dksX0_tell_0 6 rfl rfl)
theorem dX0_tell_9 : decode cX0_tell 9 = .ok (.ifCond .ne 6, 3) := dk_154 0 6 (dk_at dksX0_tell_0 9 rfl rfl)
theorem dX0_tell_12 : decode cX0_tell 12 = .ok (.bipush (-2), 2) := dk_16 254 (dk_at dksX0_tell_0 12 rfl rfl)
theorem dX0_tell_14 : decode cX0_tell 14 = .ok (.ireturn, 1) := dk_172 (dk_at dksX0_tell_0 14 rfl rfl)
theorem dX0_tell_15 : decode cX0_tell 15 = .ok (.aload_n 0, 1) := dk_42 (dk_at dksX0_tell_0 15 rfl rfl)
theorem dX0_tell_16 : decode cX0_tell 16 = .ok (.getfield 106, 3) := dk_180 0 106 (dk_at dksX0_tell_0 16 rfl rfl)
theorem dX0_tell_19 : decode cX0_tell 19 = .ok (.bipush 16, 2) := dk_16 16 (dk_at dksX0_tell_0 19 rfl rfl)
theorem dX0_tell_21 : decode cX0_tell 21 = .ok (.if_icmp .ne 6, 3) := dk_160 0 6 (dk_at dksX0_tell_0 21 rfl rfl)
theorem dX0_tell_24 : decode cX0_tell 24 = .ok (.bipush (-3), 2) := dk_16 253 (dk_at dksX0_tell_1 0 rfl rfl)
theorem dX0_tell_26 : decode cX0_tell 26 = .ok (.ireturn, 1) := dk_172 (dk_at dksX0_tell_1 2 rfl rfl)
theorem dX0_tell_27 : decode cX0_tell 27 = .ok (.new 109, 3) := dk_187 0 109 (dk_at dksX0_tell_1 3 rfl rfl)
theorem dX0_tell_30 : decode cX0_tell 30 = .ok (.dup, 1) := dk_89 (dk_at dksX0_tell_1 6 rfl rfl)
theorem dX0_tell_31 : decode cX0_tell 31 = .ok (.aload_n 0, 1) := dk_42 (dk_at dksX0_tell_1 7 rfl rfl)
theorem dX0_tell_32 : decode cX0_tell 32 = .ok (.getfield 34, 3) := dk_180 0 34 (dk_at dksX0_tell_1 8 rfl rfl)
theorem dX0_tell_35 : decode cX0_tell 35 = .ok (.iload_n 1, 1) := dk_27 (dk_at dksX0_tell_1 11 rfl rfl)
theorem dX0_tell_36 : decode cX0_tell 36 = .ok (.aconst_null, 1) := dk_1 (dk_at dksX0_tell_1 12 rfl rfl)
theorem dX0_tell_37 : decode cX0_tell 37 = .ok (.aload_n 0, 1) := dk_42 (dk_at dksX0_tell_1 13 rfl rfl)
theorem dX0_tell_38 : decode cX0_tell 38 = .ok (.getfield 106, 3) := dk_180 0 106 (dk_at dksX0_tell_1 14 rfl rfl)
theorem dX0_tell_41 : decode cX0_tell 41 = .ok (.invokespecial 111, 3) := dk_183 0 111 (dk_at dksX0_tell_1 17 rfl rfl)
theorem dX0_tell_44 : decode cX0_tell 44 = .ok (.astore_n 2, 1) := dk_77 (dk_at dksX0_tell_1 20 rfl rfl)
theorem dX0_tell_45 : decode cX0_tell 45 = .ok (.aload_n 0, 1) := dk_42 (dk_at dksX0_tell_1 21 rfl rfl)
theorem dX0_tell_46 : decode cX0_tell 46 = .ok (.aload_n 2, 1) := dk_44 (dk_at dksX0_tell_1 22 rfl rfl)
theorem dX0_tell_47 : decode cX0_tell 47 = .ok (.invokevirtual 114, 3) := dk_182 0 114 (dk_at dksX0_tell_2 0 rfl rfl)
theorem dX0_tell_50 : decode cX0_tell 50 = .ok (.ifCond .ne 5, 3) := dk_154 0 5 (dk_at dksX0_tell_2 3 rfl rfl)
theorem dX0_tell_53 : decode cX0_tell 53 = .ok (.iconst (-1), 1) := dk_2 (dk_at dksX0_tell_2 6 rfl rfl)
theorem dX0_tell_54 : decode cX0_tell 54 = .ok (.ireturn, 1) := dk_172 (dk_at dksX0_tell_2 7 rfl rfl)
theorem dX0_tell_55 : decode cX0_tell 55 = .ok (.aload_n 0, 1) := dk_42 (dk_at dksX0_tell_2 8 rfl rfl)
theorem dX0_tell_56 : decode cX0_tell 56 = .ok (.getfield 21, 3) := dk_180 0 21 (dk_at dksX0_tell_2 9 rfl rfl)
theorem dX0_tell_59 : decode cX0_tell 59 = .ok (.aload_n 0, 1) := dk_42 (dk_at dksX0_tell_2 12 rfl rfl)
theorem dX0_tell_60 : decode cX0_tell 60 = .ok (.getfield 106, 3) := dk_180 0 106 (dk_at dksX0_tell_2 13 rfl rfl)
theorem dX0_tell_63 : decode cX0_tell 63 = .ok (.aload_n 2, 1) := dk_44 (dk_at dksX0_tell_2 16 rfl rfl)
theorem dX0_tell_64 : decode cX0_tell 64 = .ok (.getfield 118, 3) := dk_180 0 118 (dk_at dksX0_tell_2 17 rfl rfl)
theorem dX0_tell_67 : decode cX0_tell 67 = .ok (.aastore, 1) := dk_83 (dk_at dksX0_tell_2 20 rfl rfl)
theorem dX0_tell_68 : decode cX0_tell 68 = .ok (.aload_n 0, 1) := dk_42 (dk_at dksX0_tell_2 21 rfl rfl)
theorem dX0_tell_69 : decode cX0_tell 69 = .ok (.dup, 1) := dk_89 (dk_at dksX0_tell_2 22 rfl rfl)
theorem dX0_tell_70 : decode cX0_tell 70 = .ok (.getfield 106, 3) := dk_180 0 106 (dk_at dksX0_tell_3 0 rfl rfl)
theorem dX0_tell_73 : decode cX0_tell 73 = .ok (.iconst 1, 1) := dk_4 (dk_at dksX0_tell_3 3 rfl rfl)
theorem dX0_tell_74 : decode cX0_tell 74 = .ok (.iadd, 1) := dk_96 (dk_at dksX0_tell_3 4 rfl rfl)
theorem dX0_tell_75 : decode cX0_tell 75 = .ok (.putfield 106, 3) := dk_181 0 106 (dk_at dksX0_tell_3 5 rfl rfl)
theorem dX0_tell_78 : decode cX0_tell 78 = .ok (.aload_n 0, 1) := dk_42 (dk_at dksX0_tell_3 8 rfl rfl)
theorem dX0_tell_79 : decode cX0_tell 79 = .ok (.getfield 106, 3) := dk_180 0 106 (dk_at dksX0_tell_3 9 rfl rfl)
theorem dX0_tell_82 : decode cX0_tell 82 = .ok (.iconst 1, 1) := dk_4 (dk_at dksX0_tell_3 12 rfl rfl)
theorem dX0_tell_83 : decode cX0_tell 83 = .ok (.isub, 1) := dk_100 (dk_at dksX0_tell_3 13 rfl rfl)
theorem dX0_tell_84 : decode cX0_tell 84 = .ok (.ireturn, 1) := dk_172 (dk_at dksX0_tell_3 14 rfl rfl)
abbrev cX0_isIn : ByteArray := prog_1_method_1_code
def yX0_isIn : MethodName := ⟨RX0, "isIn", "(III)Z"⟩
def dkwX0_isIn_0 : List UInt8 := [26, 27, 161, 0, 12, 26, 28, 163, 0, 7, 4, 167, 0, 4, 3, 172]
abbrev dktX0_isIn_0 : List UInt8 := dkwX0_isIn_0 ++ []
theorem dksX0_isIn_0 : cX0_isIn.data.toList.drop 0 = dktX0_isIn_0 := by decide +kernel
theorem dX0_isIn_0 : decode cX0_isIn 0 = .ok (.iload_n 0, 1) := dk_26 (dk_at dksX0_isIn_0 0 rfl rfl)
theorem dX0_isIn_1 : decode cX0_isIn 1 = .ok (.iload_n 1, 1) := dk_27 (dk_at dksX0_isIn_0 1 rfl rfl)
theorem dX0_isIn_2 : decode cX0_isIn 2 = .ok (.if_icmp .lt 12, 3) := dk_161 0 12 (dk_at dksX0_isIn_0 2 rfl rfl)
theorem dX0_isIn_5 : decode cX0_isIn 5 = .ok (.iload_n 0, 1) := dk_26 (dk_at dksX0_isIn_0 5 rfl rfl)
theorem dX0_isIn_6 : decode cX0_isIn 6 = .ok (.iload_n 2, 1) := dk_28 (dk_at dksX0_isIn_0 6 rfl rfl)
theorem dX0_isIn_7 : decode cX0_isIn 7 = .ok (.if_icmp .gt 7, 3) := dk_163 0 7 (dk_at dksX0_isIn_0 7 rfl rfl)
theorem dX0_isIn_10 : decode cX0_isIn 10 = .ok (.iconst 1, 1) := dk_4 (dk_at dksX0_isIn_0 10 rfl rfl)
theorem dX0_isIn_11 : decode cX0_isIn 11 = .ok (.goto 4, 3) := dk_167 0 4 (dk_at dksX0_isIn_0 11 rfl rfl)
theorem dX0_isIn_14 : decode cX0_isIn 14 = .ok (.iconst 0, 1) := dk_3 (dk_at dksX0_isIn_0 14 rfl rfl)
theorem dX0_isIn_15 : decode cX0_isIn 15 = .ok (.ireturn, 1) := dk_172 (dk_at dksX0_isIn_0 15 rfl rfl)
abbrev cX0_isTaken : ByteArray := prog_1_method_9_code
def yX0_isTaken : MethodName := ⟨RX0, "isTaken", "(LCrossingWords$Reader;)Z"⟩
def dkwX0_isTaken_1 : List UInt8 := [181, 0, 44, 28, 172]
abbrev dktX0_isTaken_1 : List UInt8 := dkwX0_isTaken_1 ++ []
def dkwX0_isTaken_0 : List UInt8 := [43, 182, 0, 94, 61, 42, 3, 181, 0, 91, 42, 28, 153, 0, 7, 2, 167, 0, 7, 43, 182, 0, 99]
abbrev dktX0_isTaken_0 : List UInt8 := dkwX0_isTaken_0 ++ dktX0_isTaken_1
theorem dksX0_isTaken_0 : cX0_isTaken.data.toList.drop 0 = dktX0_isTaken_0 := by decide +kernel
theorem dksX0_isTaken_1 : cX0_isTaken.data.toList.drop 23 = dktX0_isTaken_1 := dk_seg dksX0_isTaken_0 23 rfl rfl
theorem dX0_isTaken_0 : decode cX0_isTaken 0 = .ok (.aload_n 1, 1) := dk_43 (dk_at dksX0_isTaken_0 0 rfl rfl)
theorem dX0_isTaken_1 : decode cX0_isTaken 1 = .ok (.invokevirtual 94, 3) := dk_182 0 94 (dk_at dksX0_isTaken_0 1 rfl rfl)
theorem dX0_isTaken_4 : decode cX0_isTaken 4 = .ok (.istore_n 2, 1) := dk_61 (dk_at dksX0_isTaken_0 4 rfl rfl)
theorem dX0_isTaken_5 : decode cX0_isTaken 5 = .ok (.aload_n 0, 1) := dk_42 (dk_at dksX0_isTaken_0 5 rfl rfl)
theorem dX0_isTaken_6 : decode cX0_isTaken 6 = .ok (.iconst 0, 1) := dk_3 (dk_at dksX0_isTaken_0 6 rfl rfl)
theorem dX0_isTaken_7 : decode cX0_isTaken 7 = .ok (.putfield 91, 3) := dk_181 0 91 (dk_at dksX0_isTaken_0 7 rfl rfl)
theorem dX0_isTaken_10 : decode cX0_isTaken 10 = .ok (.aload_n 0, 1) := dk_42 (dk_at dksX0_isTaken_0 10 rfl rfl)
theorem dX0_isTaken_11 : decode cX0_isTaken 11 = .ok (.iload_n 2, 1) := dk_28 (dk_at dksX0_isTaken_0 11 rfl rfl)
theorem dX0_isTaken_12 : decode cX0_isTaken 12 = .ok (.ifCond .eq 7, 3) := dk_153 0 7 (dk_at dksX0_isTaken_0 12 rfl rfl)
theorem dX0_isTaken_15 : decode cX0_isTaken 15 = .ok (.iconst (-1), 1) := dk_2 (dk_at dksX0_isTaken_0 15 rfl rfl)
theorem dX0_isTaken_16 : decode cX0_isTaken 16 = .ok (.goto 7, 3) := dk_167 0 7 (dk_at dksX0_isTaken_0 16 rfl rfl)
theorem dX0_isTaken_19 : decode cX0_isTaken 19 = .ok (.aload_n 1, 1) := dk_43 (dk_at dksX0_isTaken_0 19 rfl rfl)
theorem dX0_isTaken_20 : decode cX0_isTaken 20 = .ok (.invokevirtual 99, 3) := dk_182 0 99 (dk_at dksX0_isTaken_0 20 rfl rfl)
theorem dX0_isTaken_23 : decode cX0_isTaken 23 = .ok (.putfield 44, 3) := dk_181 0 44 (dk_at dksX0_isTaken_1 0 rfl rfl)
theorem dX0_isTaken_26 : decode cX0_isTaken 26 = .ok (.iload_n 2, 1) := dk_28 (dk_at dksX0_isTaken_1 3 rfl rfl)
theorem dX0_isTaken_27 : decode cX0_isTaken 27 = .ok (.ireturn, 1) := dk_172 (dk_at dksX0_isTaken_1 4 rfl rfl)
abbrev cX0_find : ByteArray := prog_1_method_3_code
def yX0_find : MethodName := ⟨RX0, "find", "([JJ)I"⟩
def dkwX0_find_1 : List UInt8 := [132, 3, 1, 167, 255, 231, 2, 172]
abbrev dktX0_find_1 : List UInt8 := dkwX0_find_1 ++ []
def dkwX0_find_0 : List UInt8 := [3, 62, 29, 42, 190, 162, 0, 25, 42, 29, 47, 31, 148, 154, 0, 11, 31, 9, 148, 153, 0, 5, 29, 172]
abbrev dktX0_find_0 : List UInt8 := dkwX0_find_0 ++ dktX0_find_1
theorem dksX0_find_0 : cX0_find.data.toList.drop 0 = dktX0_find_0 := by decide +kernel
theorem dksX0_find_1 : cX0_find.data.toList.drop 24 = dktX0_find_1 := dk_seg dksX0_find_0 24 rfl rfl
theorem dX0_find_0 : decode cX0_find 0 = .ok (.iconst 0, 1) := dk_3 (dk_at dksX0_find_0 0 rfl rfl)
theorem dX0_find_1 : decode cX0_find 1 = .ok (.istore_n 3, 1) := dk_62 (dk_at dksX0_find_0 1 rfl rfl)
theorem dX0_find_2 : decode cX0_find 2 = .ok (.iload_n 3, 1) := dk_29 (dk_at dksX0_find_0 2 rfl rfl)
theorem dX0_find_3 : decode cX0_find 3 = .ok (.aload_n 0, 1) := dk_42 (dk_at dksX0_find_0 3 rfl rfl)
theorem dX0_find_4 : decode cX0_find 4 = .ok (.arraylength, 1) := dk_190 (dk_at dksX0_find_0 4 rfl rfl)
theorem dX0_find_5 : decode cX0_find 5 = .ok (.if_icmp .ge 25, 3) := dk_162 0 25 (dk_at dksX0_find_0 5 rfl rfl)
theorem dX0_find_8 : decode cX0_find 8 = .ok (.aload_n 0, 1) := dk_42 (dk_at dksX0_find_0 8 rfl rfl)
theorem dX0_find_9 : decode cX0_find 9 = .ok (.iload_n 3, 1) := dk_29 (dk_at dksX0_find_0 9 rfl rfl)
theorem dX0_find_10 : decode cX0_find 10 = .ok (.laload, 1) := dk_47 (dk_at dksX0_find_0 10 rfl rfl)
theorem dX0_find_11 : decode cX0_find 11 = .ok (.lload_n 1, 1) := dk_31 (dk_at dksX0_find_0 11 rfl rfl)
theorem dX0_find_12 : decode cX0_find 12 = .ok (.lcmp, 1) := dk_148 (dk_at dksX0_find_0 12 rfl rfl)
theorem dX0_find_13 : decode cX0_find 13 = .ok (.ifCond .ne 11, 3) := dk_154 0 11 (dk_at dksX0_find_0 13 rfl rfl)
theorem dX0_find_16 : decode cX0_find 16 = .ok (.lload_n 1, 1) := dk_31 (dk_at dksX0_find_0 16 rfl rfl)
theorem dX0_find_17 : decode cX0_find 17 = .ok (.lconst 0, 1) := dk_9 (dk_at dksX0_find_0 17 rfl rfl)
theorem dX0_find_18 : decode cX0_find 18 = .ok (.lcmp, 1) := dk_148 (dk_at dksX0_find_0 18 rfl rfl)
theorem dX0_find_19 : decode cX0_find 19 = .ok (.ifCond .eq 5, 3) := dk_153 0 5 (dk_at dksX0_find_0 19 rfl rfl)
theorem dX0_find_22 : decode cX0_find 22 = .ok (.iload_n 3, 1) := dk_29 (dk_at dksX0_find_0 22 rfl rfl)
theorem dX0_find_23 : decode cX0_find 23 = .ok (.ireturn, 1) := dk_172 (dk_at dksX0_find_0 23 rfl rfl)
theorem dX0_find_24 : decode cX0_find 24 = .ok (.iinc 3 1, 3) := dk_132 3 1 (dk_at dksX0_find_1 0 rfl rfl)
theorem dX0_find_27 : decode cX0_find 27 = .ok (.goto (-25), 3) := dk_167 255 231 (dk_at dksX0_find_1 3 rfl rfl)
theorem dX0_find_30 : decode cX0_find 30 = .ok (.iconst (-1), 1) := dk_2 (dk_at dksX0_find_1 6 rfl rfl)
theorem dX0_find_31 : decode cX0_find 31 = .ok (.ireturn, 1) := dk_172 (dk_at dksX0_find_1 7 rfl rfl)
abbrev cX0_more : ByteArray := prog_1_method_12_code
def yX0_more : MethodName := ⟨RX0, "more", "(II)I"⟩
def dkwX0_more_3 : List UInt8 := [180, 0, 126, 172]
abbrev dktX0_more_3 : List UInt8 := dkwX0_more_3 ++ []
def dkwX0_more_2 : List UInt8 := [182, 0, 114, 154, 0, 5, 2, 172, 42, 180, 0, 21, 27, 45, 180, 0, 118, 83, 45, 180, 0, 118]
abbrev dktX0_more_2 : List UInt8 := dkwX0_more_2 ++ dktX0_more_3
def dkwX0_more_1 : List UInt8 := [187, 0, 109, 89, 42, 180, 0, 34, 28, 42, 180, 0, 21, 27, 50, 27, 183, 0, 111, 78, 42, 45]
abbrev dktX0_more_1 : List UInt8 := dkwX0_more_1 ++ dktX0_more_2
def dkwX0_more_0 : List UInt8 := [42, 27, 182, 0, 122, 153, 0, 15, 28, 3, 42, 180, 0, 91, 184, 0, 102, 154, 0, 6, 16, 254, 172]
abbrev dktX0_more_0 : List UInt8 := dkwX0_more_0 ++ dktX0_more_1
theorem dksX0_more_0 : cX0_more.data.toList.drop 0 = dktX0_more_0 := by decide +kernel
theorem dksX0_more_1 : cX0_more.data.toList.drop 23 = dktX0_more_1 := dk_seg dksX0_more_0 23 rfl rfl
theorem dksX0_more_2 : cX0_more.data.toList.drop 45 = dktX0_more_2 := dk_seg dksX0_more_1 22 rfl rfl
theorem dksX0_more_3 : cX0_more.data.toList.drop 67 = dktX0_more_3 := dk_seg dksX0_more_2 22 rfl rfl
theorem dX0_more_0 : decode cX0_more 0 = .ok (.aload_n 0, 1) := dk_42 (dk_at dksX0_more_0 0 rfl rfl)
theorem dX0_more_1 : decode cX0_more 1 = .ok (.iload_n 1, 1) := dk_27 (dk_at dksX0_more_0 1 rfl rfl)
theorem dX0_more_2 : decode cX0_more 2 = .ok (.invokevirtual 122, 3) := dk_182 0 122 (dk_at dksX0_more_0 2 rfl rfl)
theorem dX0_more_5 : decode cX0_more 5 = .ok (.ifCond .eq 15, 3) := dk_153 0 15 (dk_at dksX0_more_0 5 rfl rfl)
theorem dX0_more_8 : decode cX0_more 8 = .ok (.iload_n 2, 1) := dk_28 (dk_at dksX0_more_0 8 rfl rfl)
theorem dX0_more_9 : decode cX0_more 9 = .ok (.iconst 0, 1) := dk_3 (dk_at dksX0_more_0 9 rfl rfl)
theorem dX0_more_10 : decode cX0_more 10 = .ok (.aload_n 0, 1) := dk_42 (dk_at dksX0_more_0 10 rfl rfl)
theorem dX0_more_11 : decode cX0_more 11 = .ok (.getfield 91, 3) := dk_180 0 91 (dk_at dksX0_more_0 11 rfl rfl)
theorem dX0_more_14 : decode cX0_more 14 = .ok (.invokestatic 102, 3) := dk_184 0 102 (dk_at dksX0_more_0 14 rfl rfl)
theorem dX0_more_17 : decode cX0_more 17 = .ok (.ifCond .ne 6, 3) := dk_154 0 6 (dk_at dksX0_more_0 17 rfl rfl)
theorem dX0_more_20 : decode cX0_more 20 = .ok (.bipush (-2), 2) := dk_16 254 (dk_at dksX0_more_0 20 rfl rfl)
theorem dX0_more_22 : decode cX0_more 22 = .ok (.ireturn, 1) := dk_172 (dk_at dksX0_more_0 22 rfl rfl)
theorem dX0_more_23 : decode cX0_more 23 = .ok (.new 109, 3) := dk_187 0 109 (dk_at dksX0_more_1 0 rfl rfl)
theorem dX0_more_26 : decode cX0_more 26 = .ok (.dup, 1) := dk_89 (dk_at dksX0_more_1 3 rfl rfl)
theorem dX0_more_27 : decode cX0_more 27 = .ok (.aload_n 0, 1) := dk_42 (dk_at dksX0_more_1 4 rfl rfl)
theorem dX0_more_28 : decode cX0_more 28 = .ok (.getfield 34, 3) := dk_180 0 34 (dk_at dksX0_more_1 5 rfl rfl)
theorem dX0_more_31 : decode cX0_more 31 = .ok (.iload_n 2, 1) := dk_28 (dk_at dksX0_more_1 8 rfl rfl)
theorem dX0_more_32 : decode cX0_more 32 = .ok (.aload_n 0, 1) := dk_42 (dk_at dksX0_more_1 9 rfl rfl)
theorem dX0_more_33 : decode cX0_more 33 = .ok (.getfield 21, 3) := dk_180 0 21 (dk_at dksX0_more_1 10 rfl rfl)
theorem dX0_more_36 : decode cX0_more 36 = .ok (.iload_n 1, 1) := dk_27 (dk_at dksX0_more_1 13 rfl rfl)
theorem dX0_more_37 : decode cX0_more 37 = .ok (.aaload, 1) := dk_50 (dk_at dksX0_more_1 14 rfl rfl)
theorem dX0_more_38 : decode cX0_more 38 = .ok (.iload_n 1, 1) := dk_27 (dk_at dksX0_more_1 15 rfl rfl)
theorem dX0_more_39 : decode cX0_more 39 = .ok (.invokespecial 111, 3) := dk_183 0 111 (dk_at dksX0_more_1 16 rfl rfl)
theorem dX0_more_42 : decode cX0_more 42 = .ok (.astore_n 3, 1) := dk_78 (dk_at dksX0_more_1 19 rfl rfl)
theorem dX0_more_43 : decode cX0_more 43 = .ok (.aload_n 0, 1) := dk_42 (dk_at dksX0_more_1 20 rfl rfl)
theorem dX0_more_44 : decode cX0_more 44 = .ok (.aload_n 3, 1) := dk_45 (dk_at dksX0_more_1 21 rfl rfl)
theorem dX0_more_45 : decode cX0_more 45 = .ok (.invokevirtual 114, 3) := dk_182 0 114 (dk_at dksX0_more_2 0 rfl rfl)
theorem dX0_more_48 : decode cX0_more 48 = .ok (.ifCond .ne 5, 3) := dk_154 0 5 (dk_at dksX0_more_2 3 rfl rfl)
theorem dX0_more_51 : decode cX0_more 51 = .ok (.iconst (-1), 1) := dk_2 (dk_at dksX0_more_2 6 rfl rfl)
theorem dX0_more_52 : decode cX0_more 52 = .ok (.ireturn, 1) := dk_172 (dk_at dksX0_more_2 7 rfl rfl)
theorem dX0_more_53 : decode cX0_more 53 = .ok (.aload_n 0, 1) := dk_42 (dk_at dksX0_more_2 8 rfl rfl)
theorem dX0_more_54 : decode cX0_more 54 = .ok (.getfield 21, 3) := dk_180 0 21 (dk_at dksX0_more_2 9 rfl rfl)
theorem dX0_more_57 : decode cX0_more 57 = .ok (.iload_n 1, 1) := dk_27 (dk_at dksX0_more_2 12 rfl rfl)
theorem dX0_more_58 : decode cX0_more 58 = .ok (.aload_n 3, 1) := dk_45 (dk_at dksX0_more_2 13 rfl rfl)
theorem dX0_more_59 : decode cX0_more 59 = .ok (.getfield 118, 3) := dk_180 0 118 (dk_at dksX0_more_2 14 rfl rfl)
theorem dX0_more_62 : decode cX0_more 62 = .ok (.aastore, 1) := dk_83 (dk_at dksX0_more_2 17 rfl rfl)
theorem dX0_more_63 : decode cX0_more 63 = .ok (.aload_n 3, 1) := dk_45 (dk_at dksX0_more_2 18 rfl rfl)
theorem dX0_more_64 : decode cX0_more 64 = .ok (.getfield 118, 3) := dk_180 0 118 (dk_at dksX0_more_2 19 rfl rfl)
theorem dX0_more_67 : decode cX0_more 67 = .ok (.getfield 126, 3) := dk_180 0 126 (dk_at dksX0_more_3 0 rfl rfl)
theorem dX0_more_70 : decode cX0_more 70 = .ok (.ireturn, 1) := dk_172 (dk_at dksX0_more_3 3 rfl rfl)
abbrev cX0_isCase : ByteArray := prog_1_method_11_code
def yX0_isCase : MethodName := ⟨RX0, "isCase", "(I)Z"⟩
def dkwX0_isCase_0 : List UInt8 := [27, 3, 42, 180, 0, 106, 4, 100, 184, 0, 102, 172]
abbrev dktX0_isCase_0 : List UInt8 := dkwX0_isCase_0 ++ []
theorem dksX0_isCase_0 : cX0_isCase.data.toList.drop 0 = dktX0_isCase_0 := by decide +kernel
theorem dX0_isCase_0 : decode cX0_isCase 0 = .ok (.iload_n 1, 1) := dk_27 (dk_at dksX0_isCase_0 0 rfl rfl)
theorem dX0_isCase_1 : decode cX0_isCase 1 = .ok (.iconst 0, 1) := dk_3 (dk_at dksX0_isCase_0 1 rfl rfl)
theorem dX0_isCase_2 : decode cX0_isCase 2 = .ok (.aload_n 0, 1) := dk_42 (dk_at dksX0_isCase_0 2 rfl rfl)
theorem dX0_isCase_3 : decode cX0_isCase 3 = .ok (.getfield 106, 3) := dk_180 0 106 (dk_at dksX0_isCase_0 3 rfl rfl)
theorem dX0_isCase_6 : decode cX0_isCase 6 = .ok (.iconst 1, 1) := dk_4 (dk_at dksX0_isCase_0 6 rfl rfl)
theorem dX0_isCase_7 : decode cX0_isCase 7 = .ok (.isub, 1) := dk_100 (dk_at dksX0_isCase_0 7 rfl rfl)
theorem dX0_isCase_8 : decode cX0_isCase 8 = .ok (.invokestatic 102, 3) := dk_184 0 102 (dk_at dksX0_isCase_0 8 rfl rfl)
theorem dX0_isCase_11 : decode cX0_isCase 11 = .ok (.ireturn, 1) := dk_172 (dk_at dksX0_isCase_0 11 rfl rfl)
abbrev cX0_law : ByteArray := prog_1_method_13_code
def yX0_law : MethodName := ⟨RX0, "law", "(I)I"⟩
def dkwX0_law_3 : List UInt8 := [96, 181, 0, 129, 42, 180, 0, 129, 4, 100, 172]
abbrev dktX0_law_3 : List UInt8 := dkwX0_law_3 ++ []
def dkwX0_law_2 : List UInt8 := [154, 0, 5, 2, 172, 42, 180, 0, 27, 42, 180, 0, 129, 44, 180, 0, 137, 83, 42, 89, 180, 0, 129, 4]
abbrev dktX0_law_2 : List UInt8 := dkwX0_law_2 ++ dktX0_law_3
def dkwX0_law_1 : List UInt8 := [16, 253, 172, 187, 0, 132, 89, 42, 180, 0, 34, 27, 3, 183, 0, 134, 77, 42, 44, 182, 0, 114]
abbrev dktX0_law_1 : List UInt8 := dkwX0_law_1 ++ dktX0_law_2
def dkwX0_law_0 : List UInt8 := [27, 3, 42, 180, 0, 91, 184, 0, 102, 154, 0, 6, 16, 254, 172, 42, 180, 0, 129, 16, 8, 160, 0, 6]
abbrev dktX0_law_0 : List UInt8 := dkwX0_law_0 ++ dktX0_law_1
theorem dksX0_law_0 : cX0_law.data.toList.drop 0 = dktX0_law_0 := by decide +kernel
theorem dksX0_law_1 : cX0_law.data.toList.drop 24 = dktX0_law_1 := dk_seg dksX0_law_0 24 rfl rfl
theorem dksX0_law_2 : cX0_law.data.toList.drop 46 = dktX0_law_2 := dk_seg dksX0_law_1 22 rfl rfl
theorem dksX0_law_3 : cX0_law.data.toList.drop 70 = dktX0_law_3 := dk_seg dksX0_law_2 24 rfl rfl
theorem dX0_law_0 : decode cX0_law 0 = .ok (.iload_n 1, 1) := dk_27 (dk_at dksX0_law_0 0 rfl rfl)
theorem dX0_law_1 : decode cX0_law 1 = .ok (.iconst 0, 1) := dk_3 (dk_at dksX0_law_0 1 rfl rfl)
theorem dX0_law_2 : decode cX0_law 2 = .ok (.aload_n 0, 1) := dk_42 (dk_at dksX0_law_0 2 rfl rfl)
theorem dX0_law_3 : decode cX0_law 3 = .ok (.getfield 91, 3) := dk_180 0 91 (dk_at dksX0_law_0 3 rfl rfl)
theorem dX0_law_6 : decode cX0_law 6 = .ok (.invokestatic 102, 3) := dk_184 0 102 (dk_at dksX0_law_0 6 rfl rfl)
theorem dX0_law_9 : decode cX0_law 9 = .ok (.ifCond .ne 6, 3) := dk_154 0 6 (dk_at dksX0_law_0 9 rfl rfl)
theorem dX0_law_12 : decode cX0_law 12 = .ok (.bipush (-2), 2) := dk_16 254 (dk_at dksX0_law_0 12 rfl rfl)
theorem dX0_law_14 : decode cX0_law 14 = .ok (.ireturn, 1) := dk_172 (dk_at dksX0_law_0 14 rfl rfl)
theorem dX0_law_15 : decode cX0_law 15 = .ok (.aload_n 0, 1) := dk_42 (dk_at dksX0_law_0 15 rfl rfl)
theorem dX0_law_16 : decode cX0_law 16 = .ok (.getfield 129, 3) := dk_180 0 129 (dk_at dksX0_law_0 16 rfl rfl)
theorem dX0_law_19 : decode cX0_law 19 = .ok (.bipush 8, 2) := dk_16 8 (dk_at dksX0_law_0 19 rfl rfl)
theorem dX0_law_21 : decode cX0_law 21 = .ok (.if_icmp .ne 6, 3) := dk_160 0 6 (dk_at dksX0_law_0 21 rfl rfl)
theorem dX0_law_24 : decode cX0_law 24 = .ok (.bipush (-3), 2) := dk_16 253 (dk_at dksX0_law_1 0 rfl rfl)
theorem dX0_law_26 : decode cX0_law 26 = .ok (.ireturn, 1) := dk_172 (dk_at dksX0_law_1 2 rfl rfl)
theorem dX0_law_27 : decode cX0_law 27 = .ok (.new 132, 3) := dk_187 0 132 (dk_at dksX0_law_1 3 rfl rfl)
theorem dX0_law_30 : decode cX0_law 30 = .ok (.dup, 1) := dk_89 (dk_at dksX0_law_1 6 rfl rfl)
theorem dX0_law_31 : decode cX0_law 31 = .ok (.aload_n 0, 1) := dk_42 (dk_at dksX0_law_1 7 rfl rfl)
theorem dX0_law_32 : decode cX0_law 32 = .ok (.getfield 34, 3) := dk_180 0 34 (dk_at dksX0_law_1 8 rfl rfl)
theorem dX0_law_35 : decode cX0_law 35 = .ok (.iload_n 1, 1) := dk_27 (dk_at dksX0_law_1 11 rfl rfl)
theorem dX0_law_36 : decode cX0_law 36 = .ok (.iconst 0, 1) := dk_3 (dk_at dksX0_law_1 12 rfl rfl)
theorem dX0_law_37 : decode cX0_law 37 = .ok (.invokespecial 134, 3) := dk_183 0 134 (dk_at dksX0_law_1 13 rfl rfl)
theorem dX0_law_40 : decode cX0_law 40 = .ok (.astore_n 2, 1) := dk_77 (dk_at dksX0_law_1 16 rfl rfl)
theorem dX0_law_41 : decode cX0_law 41 = .ok (.aload_n 0, 1) := dk_42 (dk_at dksX0_law_1 17 rfl rfl)
theorem dX0_law_42 : decode cX0_law 42 = .ok (.aload_n 2, 1) := dk_44 (dk_at dksX0_law_1 18 rfl rfl)
theorem dX0_law_43 : decode cX0_law 43 = .ok (.invokevirtual 114, 3) := dk_182 0 114 (dk_at dksX0_law_1 19 rfl rfl)
theorem dX0_law_46 : decode cX0_law 46 = .ok (.ifCond .ne 5, 3) := dk_154 0 5 (dk_at dksX0_law_2 0 rfl rfl)
theorem dX0_law_49 : decode cX0_law 49 = .ok (.iconst (-1), 1) := dk_2 (dk_at dksX0_law_2 3 rfl rfl)
theorem dX0_law_50 : decode cX0_law 50 = .ok (.ireturn, 1) := dk_172 (dk_at dksX0_law_2 4 rfl rfl)
theorem dX0_law_51 : decode cX0_law 51 = .ok (.aload_n 0, 1) := dk_42 (dk_at dksX0_law_2 5 rfl rfl)
theorem dX0_law_52 : decode cX0_law 52 = .ok (.getfield 27, 3) := dk_180 0 27 (dk_at dksX0_law_2 6 rfl rfl)
theorem dX0_law_55 : decode cX0_law 55 = .ok (.aload_n 0, 1) := dk_42 (dk_at dksX0_law_2 9 rfl rfl)
theorem dX0_law_56 : decode cX0_law 56 = .ok (.getfield 129, 3) := dk_180 0 129 (dk_at dksX0_law_2 10 rfl rfl)
theorem dX0_law_59 : decode cX0_law 59 = .ok (.aload_n 2, 1) := dk_44 (dk_at dksX0_law_2 13 rfl rfl)
theorem dX0_law_60 : decode cX0_law 60 = .ok (.getfield 137, 3) := dk_180 0 137 (dk_at dksX0_law_2 14 rfl rfl)
theorem dX0_law_63 : decode cX0_law 63 = .ok (.aastore, 1) := dk_83 (dk_at dksX0_law_2 17 rfl rfl)
theorem dX0_law_64 : decode cX0_law 64 = .ok (.aload_n 0, 1) := dk_42 (dk_at dksX0_law_2 18 rfl rfl)
theorem dX0_law_65 : decode cX0_law 65 = .ok (.dup, 1) := dk_89 (dk_at dksX0_law_2 19 rfl rfl)
theorem dX0_law_66 : decode cX0_law 66 = .ok (.getfield 129, 3) := dk_180 0 129 (dk_at dksX0_law_2 20 rfl rfl)
theorem dX0_law_69 : decode cX0_law 69 = .ok (.iconst 1, 1) := dk_4 (dk_at dksX0_law_2 23 rfl rfl)
theorem dX0_law_70 : decode cX0_law 70 = .ok (.iadd, 1) := dk_96 (dk_at dksX0_law_3 0 rfl rfl)
theorem dX0_law_71 : decode cX0_law 71 = .ok (.putfield 129, 3) := dk_181 0 129 (dk_at dksX0_law_3 1 rfl rfl)
theorem dX0_law_74 : decode cX0_law 74 = .ok (.aload_n 0, 1) := dk_42 (dk_at dksX0_law_3 4 rfl rfl)
theorem dX0_law_75 : decode cX0_law 75 = .ok (.getfield 129, 3) := dk_180 0 129 (dk_at dksX0_law_3 5 rfl rfl)
theorem dX0_law_78 : decode cX0_law 78 = .ok (.iconst 1, 1) := dk_4 (dk_at dksX0_law_3 8 rfl rfl)
theorem dX0_law_79 : decode cX0_law 79 = .ok (.isub, 1) := dk_100 (dk_at dksX0_law_3 9 rfl rfl)
theorem dX0_law_80 : decode cX0_law 80 = .ok (.ireturn, 1) := dk_172 (dk_at dksX0_law_3 10 rfl rfl)
abbrev cX0_clause : ByteArray := prog_1_method_14_code
def yX0_clause : MethodName := ⟨RX0, "clause", "(I)I"⟩
def dkwX0_clause_3 : List UInt8 := [96, 181, 0, 140, 42, 180, 0, 140, 4, 100, 172]
abbrev dktX0_clause_3 : List UInt8 := dkwX0_clause_3 ++ []
def dkwX0_clause_2 : List UInt8 := [154, 0, 5, 2, 172, 42, 180, 0, 31, 42, 180, 0, 140, 44, 180, 0, 137, 83, 42, 89, 180, 0, 140, 4]
abbrev dktX0_clause_2 : List UInt8 := dkwX0_clause_2 ++ dktX0_clause_3
def dkwX0_clause_1 : List UInt8 := [16, 253, 172, 187, 0, 132, 89, 42, 180, 0, 34, 27, 4, 183, 0, 134, 77, 42, 44, 182, 0, 114]
abbrev dktX0_clause_1 : List UInt8 := dkwX0_clause_1 ++ dktX0_clause_2
def dkwX0_clause_0 : List UInt8 := [27, 3, 42, 180, 0, 91, 184, 0, 102, 154, 0, 6, 16, 254, 172, 42, 180, 0, 140, 16, 6, 160, 0, 6]
abbrev dktX0_clause_0 : List UInt8 := dkwX0_clause_0 ++ dktX0_clause_1
theorem dksX0_clause_0 : cX0_clause.data.toList.drop 0 = dktX0_clause_0 := by decide +kernel
theorem dksX0_clause_1 : cX0_clause.data.toList.drop 24 = dktX0_clause_1 := dk_seg dksX0_clause_0 24 rfl rfl
theorem dksX0_clause_2 : cX0_clause.data.toList.drop 46 = dktX0_clause_2 := dk_seg dksX0_clause_1 22 rfl rfl
theorem dksX0_clause_3 : cX0_clause.data.toList.drop 70 = dktX0_clause_3 := dk_seg dksX0_clause_2 24 rfl rfl
theorem dX0_clause_0 : decode cX0_clause 0 = .ok (.iload_n 1, 1) := dk_27 (dk_at dksX0_clause_0 0 rfl rfl)
theorem dX0_clause_1 : decode cX0_clause 1 = .ok (.iconst 0, 1) := dk_3 (dk_at dksX0_clause_0 1 rfl rfl)
theorem dX0_clause_2 : decode cX0_clause 2 = .ok (.aload_n 0, 1) := dk_42 (dk_at dksX0_clause_0 2 rfl rfl)
theorem dX0_clause_3 : decode cX0_clause 3 = .ok (.getfield 91, 3) := dk_180 0 91 (dk_at dksX0_clause_0 3 rfl rfl)
theorem dX0_clause_6 : decode cX0_clause 6 = .ok (.invokestatic 102, 3) := dk_184 0 102 (dk_at dksX0_clause_0 6 rfl rfl)
theorem dX0_clause_9 : decode cX0_clause 9 = .ok (.ifCond .ne 6, 3) := dk_154 0 6 (dk_at dksX0_clause_0 9 rfl rfl)
theorem dX0_clause_12 : decode cX0_clause 12 = .ok (.bipush (-2), 2) := dk_16 254 (dk_at dksX0_clause_0 12 rfl rfl)
theorem dX0_clause_14 : decode cX0_clause 14 = .ok (.ireturn, 1) := dk_172 (dk_at dksX0_clause_0 14 rfl rfl)
theorem dX0_clause_15 : decode cX0_clause 15 = .ok (.aload_n 0, 1) := dk_42 (dk_at dksX0_clause_0 15 rfl rfl)
theorem dX0_clause_16 : decode cX0_clause 16 = .ok (.getfield 140, 3) := dk_180 0 140 (dk_at dksX0_clause_0 16 rfl rfl)
theorem dX0_clause_19 : decode cX0_clause 19 = .ok (.bipush 6, 2) := dk_16 6 (dk_at dksX0_clause_0 19 rfl rfl)
theorem dX0_clause_21 : decode cX0_clause 21 = .ok (.if_icmp .ne 6, 3) := dk_160 0 6 (dk_at dksX0_clause_0 21 rfl rfl)
theorem dX0_clause_24 : decode cX0_clause 24 = .ok (.bipush (-3), 2) := dk_16 253 (dk_at dksX0_clause_1 0 rfl rfl)
theorem dX0_clause_26 : decode cX0_clause 26 = .ok (.ireturn, 1) := dk_172 (dk_at dksX0_clause_1 2 rfl rfl)
theorem dX0_clause_27 : decode cX0_clause 27 = .ok (.new 132, 3) := dk_187 0 132 (dk_at dksX0_clause_1 3 rfl rfl)
theorem dX0_clause_30 : decode cX0_clause 30 = .ok (.dup, 1) := dk_89 (dk_at dksX0_clause_1 6 rfl rfl)
theorem dX0_clause_31 : decode cX0_clause 31 = .ok (.aload_n 0, 1) := dk_42 (dk_at dksX0_clause_1 7 rfl rfl)
theorem dX0_clause_32 : decode cX0_clause 32 = .ok (.getfield 34, 3) := dk_180 0 34 (dk_at dksX0_clause_1 8 rfl rfl)
theorem dX0_clause_35 : decode cX0_clause 35 = .ok (.iload_n 1, 1) := dk_27 (dk_at dksX0_clause_1 11 rfl rfl)
theorem dX0_clause_36 : decode cX0_clause 36 = .ok (.iconst 1, 1) := dk_4 (dk_at dksX0_clause_1 12 rfl rfl)
theorem dX0_clause_37 : decode cX0_clause 37 = .ok (.invokespecial 134, 3) := dk_183 0 134 (dk_at dksX0_clause_1 13 rfl rfl)
theorem dX0_clause_40 : decode cX0_clause 40 = .ok (.astore_n 2, 1) := dk_77 (dk_at dksX0_clause_1 16 rfl rfl)
theorem dX0_clause_41 : decode cX0_clause 41 = .ok (.aload_n 0, 1) := dk_42 (dk_at dksX0_clause_1 17 rfl rfl)
theorem dX0_clause_42 : decode cX0_clause 42 = .ok (.aload_n 2, 1) := dk_44 (dk_at dksX0_clause_1 18 rfl rfl)
theorem dX0_clause_43 : decode cX0_clause 43 = .ok (.invokevirtual 114, 3) := dk_182 0 114 (dk_at dksX0_clause_1 19 rfl rfl)
theorem dX0_clause_46 : decode cX0_clause 46 = .ok (.ifCond .ne 5, 3) := dk_154 0 5 (dk_at dksX0_clause_2 0 rfl rfl)
theorem dX0_clause_49 : decode cX0_clause 49 = .ok (.iconst (-1), 1) := dk_2 (dk_at dksX0_clause_2 3 rfl rfl)
theorem dX0_clause_50 : decode cX0_clause 50 = .ok (.ireturn, 1) := dk_172 (dk_at dksX0_clause_2 4 rfl rfl)
theorem dX0_clause_51 : decode cX0_clause 51 = .ok (.aload_n 0, 1) := dk_42 (dk_at dksX0_clause_2 5 rfl rfl)
theorem dX0_clause_52 : decode cX0_clause 52 = .ok (.getfield 31, 3) := dk_180 0 31 (dk_at dksX0_clause_2 6 rfl rfl)
theorem dX0_clause_55 : decode cX0_clause 55 = .ok (.aload_n 0, 1) := dk_42 (dk_at dksX0_clause_2 9 rfl rfl)
theorem dX0_clause_56 : decode cX0_clause 56 = .ok (.getfield 140, 3) := dk_180 0 140 (dk_at dksX0_clause_2 10 rfl rfl)
theorem dX0_clause_59 : decode cX0_clause 59 = .ok (.aload_n 2, 1) := dk_44 (dk_at dksX0_clause_2 13 rfl rfl)
theorem dX0_clause_60 : decode cX0_clause 60 = .ok (.getfield 137, 3) := dk_180 0 137 (dk_at dksX0_clause_2 14 rfl rfl)
theorem dX0_clause_63 : decode cX0_clause 63 = .ok (.aastore, 1) := dk_83 (dk_at dksX0_clause_2 17 rfl rfl)
theorem dX0_clause_64 : decode cX0_clause 64 = .ok (.aload_n 0, 1) := dk_42 (dk_at dksX0_clause_2 18 rfl rfl)
theorem dX0_clause_65 : decode cX0_clause 65 = .ok (.dup, 1) := dk_89 (dk_at dksX0_clause_2 19 rfl rfl)
theorem dX0_clause_66 : decode cX0_clause 66 = .ok (.getfield 140, 3) := dk_180 0 140 (dk_at dksX0_clause_2 20 rfl rfl)
theorem dX0_clause_69 : decode cX0_clause 69 = .ok (.iconst 1, 1) := dk_4 (dk_at dksX0_clause_2 23 rfl rfl)
theorem dX0_clause_70 : decode cX0_clause 70 = .ok (.iadd, 1) := dk_96 (dk_at dksX0_clause_3 0 rfl rfl)
theorem dX0_clause_71 : decode cX0_clause 71 = .ok (.putfield 140, 3) := dk_181 0 140 (dk_at dksX0_clause_3 1 rfl rfl)
theorem dX0_clause_74 : decode cX0_clause 74 = .ok (.aload_n 0, 1) := dk_42 (dk_at dksX0_clause_3 4 rfl rfl)
theorem dX0_clause_75 : decode cX0_clause 75 = .ok (.getfield 140, 3) := dk_180 0 140 (dk_at dksX0_clause_3 5 rfl rfl)
theorem dX0_clause_78 : decode cX0_clause 78 = .ok (.iconst 1, 1) := dk_4 (dk_at dksX0_clause_3 8 rfl rfl)
theorem dX0_clause_79 : decode cX0_clause 79 = .ok (.isub, 1) := dk_100 (dk_at dksX0_clause_3 9 rfl rfl)
theorem dX0_clause_80 : decode cX0_clause 80 = .ok (.ireturn, 1) := dk_172 (dk_at dksX0_clause_3 10 rfl rfl)
abbrev cX0_fault : ByteArray := prog_1_method_15_code
def yX0_fault : MethodName := ⟨RX0, "fault", "()I"⟩
theorem dX0_fault_0 : decode cX0_fault 0 = .ok (.aload_n 0, 1) := by decide +kernel
theorem dX0_fault_1 : decode cX0_fault 1 = .ok (.getfield 44, 3) := by decide +kernel
theorem dX0_fault_4 : decode cX0_fault 4 = .ok (.ireturn, 1) := by decide +kernel
abbrev cX0_saying : ByteArray := prog_1_method_16_code
def yX0_saying : MethodName := ⟨RX0, "saying", "(III)I"⟩
def dkwX0_saying_6 : List UInt8 := [25, 4, 29, 16, 10, 100, 182, 0, 179, 167, 0, 5, 16, 254, 172]
abbrev dktX0_saying_6 : List UInt8 := dkwX0_saying_6 ++ []
def dkwX0_saying_5 : List UInt8 := [172, 25, 4, 182, 0, 174, 172, 25, 4, 182, 0, 177, 172, 29, 16, 10, 16, 14, 184, 0, 102, 153, 0, 15]
abbrev dktX0_saying_5 : List UInt8 := dkwX0_saying_5 ++ dktX0_saying_6
def dkwX0_saying_4 : List UInt8 := [199, 0, 7, 2, 167, 0, 11, 25, 4, 182, 0, 158, 180, 0, 162, 172, 25, 4, 180, 0, 165, 180, 0, 169]
abbrev dktX0_saying_4 : List UInt8 := dkwX0_saying_4 ++ dktX0_saying_5
def dkwX0_saying_3 : List UInt8 := [25, 4, 182, 0, 147, 172, 25, 4, 180, 0, 152, 172, 25, 4, 182, 0, 155, 172, 25, 4, 182, 0, 158]
abbrev dktX0_saying_3 : List UInt8 := dkwX0_saying_3 ++ dktX0_saying_4
def dkwX0_saying_2 : List UInt8 := [170, 0, 0, 0, 0, 0, 0, 104, 0, 0, 0, 0, 0, 0, 0, 6, 0, 0, 0, 44, 0, 0, 0, 50, 0, 0, 0, 56, 0, 0, 0, 62, 0, 0, 0, 83, 0, 0, 0, 92, 0, 0, 0, 98]
abbrev dktX0_saying_2 : List UInt8 := dkwX0_saying_2 ++ dktX0_saying_3
def dkwX0_saying_1 : List UInt8 := [154, 0, 6, 16, 254, 172, 42, 180, 0, 21, 27, 50, 180, 0, 143, 28, 50, 58, 4, 29]
abbrev dktX0_saying_1 : List UInt8 := dkwX0_saying_1 ++ dktX0_saying_2
def dkwX0_saying_0 : List UInt8 := [42, 27, 182, 0, 122, 153, 0, 22, 28, 3, 42, 180, 0, 21, 27, 50, 180, 0, 126, 4, 100, 184, 0, 102]
abbrev dktX0_saying_0 : List UInt8 := dkwX0_saying_0 ++ dktX0_saying_1
theorem dksX0_saying_0 : cX0_saying.data.toList.drop 0 = dktX0_saying_0 := by decide +kernel
theorem dksX0_saying_1 : cX0_saying.data.toList.drop 24 = dktX0_saying_1 := dk_seg dksX0_saying_0 24 rfl rfl
theorem dksX0_saying_2 : cX0_saying.data.toList.drop 44 = dktX0_saying_2 := dk_seg dksX0_saying_1 20 rfl rfl
theorem dksX0_saying_3 : cX0_saying.data.toList.drop 88 = dktX0_saying_3 := dk_seg dksX0_saying_2 44 rfl rfl
theorem dksX0_saying_4 : cX0_saying.data.toList.drop 111 = dktX0_saying_4 := dk_seg dksX0_saying_3 23 rfl rfl
theorem dksX0_saying_5 : cX0_saying.data.toList.drop 135 = dktX0_saying_5 := dk_seg dksX0_saying_4 24 rfl rfl
theorem dksX0_saying_6 : cX0_saying.data.toList.drop 159 = dktX0_saying_6 := dk_seg dksX0_saying_5 24 rfl rfl
theorem dX0_saying_0 : decode cX0_saying 0 = .ok (.aload_n 0, 1) := dk_42 (dk_at dksX0_saying_0 0 rfl rfl)
theorem dX0_saying_1 : decode cX0_saying 1 = .ok (.iload_n 1, 1) := dk_27 (dk_at dksX0_saying_0 1 rfl rfl)
theorem dX0_saying_2 : decode cX0_saying 2 = .ok (.invokevirtual 122, 3) := dk_182 0 122 (dk_at dksX0_saying_0 2 rfl rfl)
theorem dX0_saying_5 : decode cX0_saying 5 = .ok (.ifCond .eq 22, 3) := dk_153 0 22 (dk_at dksX0_saying_0 5 rfl rfl)
theorem dX0_saying_8 : decode cX0_saying 8 = .ok (.iload_n 2, 1) := dk_28 (dk_at dksX0_saying_0 8 rfl rfl)
theorem dX0_saying_9 : decode cX0_saying 9 = .ok (.iconst 0, 1) := dk_3 (dk_at dksX0_saying_0 9 rfl rfl)
theorem dX0_saying_10 : decode cX0_saying 10 = .ok (.aload_n 0, 1) := dk_42 (dk_at dksX0_saying_0 10 rfl rfl)
theorem dX0_saying_11 : decode cX0_saying 11 = .ok (.getfield 21, 3) := dk_180 0 21 (dk_at dksX0_saying_0 11 rfl rfl)
theorem dX0_saying_14 : decode cX0_saying 14 = .ok (.iload_n 1, 1) := dk_27 (dk_at dksX0_saying_0 14 rfl rfl)
theorem dX0_saying_15 : decode cX0_saying 15 = .ok (.aaload, 1) := dk_50 (dk_at dksX0_saying_0 15 rfl rfl)
theorem dX0_saying_16 : decode cX0_saying 16 = .ok (.getfield 126, 3) := dk_180 0 126 (dk_at dksX0_saying_0 16 rfl rfl)
theorem dX0_saying_19 : decode cX0_saying 19 = .ok (.iconst 1, 1) := dk_4 (dk_at dksX0_saying_0 19 rfl rfl)
theorem dX0_saying_20 : decode cX0_saying 20 = .ok (.isub, 1) := dk_100 (dk_at dksX0_saying_0 20 rfl rfl)
theorem dX0_saying_21 : decode cX0_saying 21 = .ok (.invokestatic 102, 3) := dk_184 0 102 (dk_at dksX0_saying_0 21 rfl rfl)
theorem dX0_saying_24 : decode cX0_saying 24 = .ok (.ifCond .ne 6, 3) := dk_154 0 6 (dk_at dksX0_saying_1 0 rfl rfl)
theorem dX0_saying_27 : decode cX0_saying 27 = .ok (.bipush (-2), 2) := dk_16 254 (dk_at dksX0_saying_1 3 rfl rfl)
theorem dX0_saying_29 : decode cX0_saying 29 = .ok (.ireturn, 1) := dk_172 (dk_at dksX0_saying_1 5 rfl rfl)
theorem dX0_saying_30 : decode cX0_saying 30 = .ok (.aload_n 0, 1) := dk_42 (dk_at dksX0_saying_1 6 rfl rfl)
theorem dX0_saying_31 : decode cX0_saying 31 = .ok (.getfield 21, 3) := dk_180 0 21 (dk_at dksX0_saying_1 7 rfl rfl)
theorem dX0_saying_34 : decode cX0_saying 34 = .ok (.iload_n 1, 1) := dk_27 (dk_at dksX0_saying_1 10 rfl rfl)
theorem dX0_saying_35 : decode cX0_saying 35 = .ok (.aaload, 1) := dk_50 (dk_at dksX0_saying_1 11 rfl rfl)
theorem dX0_saying_36 : decode cX0_saying 36 = .ok (.getfield 143, 3) := dk_180 0 143 (dk_at dksX0_saying_1 12 rfl rfl)
theorem dX0_saying_39 : decode cX0_saying 39 = .ok (.iload_n 2, 1) := dk_28 (dk_at dksX0_saying_1 15 rfl rfl)
theorem dX0_saying_40 : decode cX0_saying 40 = .ok (.aaload, 1) := dk_50 (dk_at dksX0_saying_1 16 rfl rfl)
theorem dX0_saying_41 : decode cX0_saying 41 = .ok (.astore 4, 2) := dk_58 4 (dk_at dksX0_saying_1 17 rfl rfl)
theorem dX0_saying_43 : decode cX0_saying 43 = .ok (.iload_n 3, 1) := dk_29 (dk_at dksX0_saying_1 19 rfl rfl)
theorem dX0_saying_44 : decode cX0_saying 44 = .ok (.tableswitch 104 0 6 #[44, 50, 56, 62, 83, 92, 98], 44) := by decide +kernel
theorem dX0_saying_88 : decode cX0_saying 88 = .ok (.aload 4, 2) := dk_25 4 (dk_at dksX0_saying_3 0 rfl rfl)
theorem dX0_saying_90 : decode cX0_saying 90 = .ok (.invokevirtual 147, 3) := dk_182 0 147 (dk_at dksX0_saying_3 2 rfl rfl)
theorem dX0_saying_93 : decode cX0_saying 93 = .ok (.ireturn, 1) := dk_172 (dk_at dksX0_saying_3 5 rfl rfl)
theorem dX0_saying_94 : decode cX0_saying 94 = .ok (.aload 4, 2) := dk_25 4 (dk_at dksX0_saying_3 6 rfl rfl)
theorem dX0_saying_96 : decode cX0_saying 96 = .ok (.getfield 152, 3) := dk_180 0 152 (dk_at dksX0_saying_3 8 rfl rfl)
theorem dX0_saying_99 : decode cX0_saying 99 = .ok (.ireturn, 1) := dk_172 (dk_at dksX0_saying_3 11 rfl rfl)
theorem dX0_saying_100 : decode cX0_saying 100 = .ok (.aload 4, 2) := dk_25 4 (dk_at dksX0_saying_3 12 rfl rfl)
theorem dX0_saying_102 : decode cX0_saying 102 = .ok (.invokevirtual 155, 3) := dk_182 0 155 (dk_at dksX0_saying_3 14 rfl rfl)
theorem dX0_saying_105 : decode cX0_saying 105 = .ok (.ireturn, 1) := dk_172 (dk_at dksX0_saying_3 17 rfl rfl)
theorem dX0_saying_106 : decode cX0_saying 106 = .ok (.aload 4, 2) := dk_25 4 (dk_at dksX0_saying_3 18 rfl rfl)
theorem dX0_saying_108 : decode cX0_saying 108 = .ok (.invokevirtual 158, 3) := dk_182 0 158 (dk_at dksX0_saying_3 20 rfl rfl)
theorem dX0_saying_111 : decode cX0_saying 111 = .ok (.ifnonnull 7, 3) := dk_199 0 7 (dk_at dksX0_saying_4 0 rfl rfl)
theorem dX0_saying_114 : decode cX0_saying 114 = .ok (.iconst (-1), 1) := dk_2 (dk_at dksX0_saying_4 3 rfl rfl)
theorem dX0_saying_115 : decode cX0_saying 115 = .ok (.goto 11, 3) := dk_167 0 11 (dk_at dksX0_saying_4 4 rfl rfl)
theorem dX0_saying_118 : decode cX0_saying 118 = .ok (.aload 4, 2) := dk_25 4 (dk_at dksX0_saying_4 7 rfl rfl)
theorem dX0_saying_120 : decode cX0_saying 120 = .ok (.invokevirtual 158, 3) := dk_182 0 158 (dk_at dksX0_saying_4 9 rfl rfl)
theorem dX0_saying_123 : decode cX0_saying 123 = .ok (.getfield 162, 3) := dk_180 0 162 (dk_at dksX0_saying_4 12 rfl rfl)
theorem dX0_saying_126 : decode cX0_saying 126 = .ok (.ireturn, 1) := dk_172 (dk_at dksX0_saying_4 15 rfl rfl)
theorem dX0_saying_127 : decode cX0_saying 127 = .ok (.aload 4, 2) := dk_25 4 (dk_at dksX0_saying_4 16 rfl rfl)
theorem dX0_saying_129 : decode cX0_saying 129 = .ok (.getfield 165, 3) := dk_180 0 165 (dk_at dksX0_saying_4 18 rfl rfl)
theorem dX0_saying_132 : decode cX0_saying 132 = .ok (.getfield 169, 3) := dk_180 0 169 (dk_at dksX0_saying_4 21 rfl rfl)
theorem dX0_saying_135 : decode cX0_saying 135 = .ok (.ireturn, 1) := dk_172 (dk_at dksX0_saying_5 0 rfl rfl)
theorem dX0_saying_136 : decode cX0_saying 136 = .ok (.aload 4, 2) := dk_25 4 (dk_at dksX0_saying_5 1 rfl rfl)
theorem dX0_saying_138 : decode cX0_saying 138 = .ok (.invokevirtual 174, 3) := dk_182 0 174 (dk_at dksX0_saying_5 3 rfl rfl)
theorem dX0_saying_141 : decode cX0_saying 141 = .ok (.ireturn, 1) := dk_172 (dk_at dksX0_saying_5 6 rfl rfl)
theorem dX0_saying_142 : decode cX0_saying 142 = .ok (.aload 4, 2) := dk_25 4 (dk_at dksX0_saying_5 7 rfl rfl)
theorem dX0_saying_144 : decode cX0_saying 144 = .ok (.invokevirtual 177, 3) := dk_182 0 177 (dk_at dksX0_saying_5 9 rfl rfl)
theorem dX0_saying_147 : decode cX0_saying 147 = .ok (.ireturn, 1) := dk_172 (dk_at dksX0_saying_5 12 rfl rfl)
theorem dX0_saying_148 : decode cX0_saying 148 = .ok (.iload_n 3, 1) := dk_29 (dk_at dksX0_saying_5 13 rfl rfl)
theorem dX0_saying_149 : decode cX0_saying 149 = .ok (.bipush 10, 2) := dk_16 10 (dk_at dksX0_saying_5 14 rfl rfl)
theorem dX0_saying_151 : decode cX0_saying 151 = .ok (.bipush 14, 2) := dk_16 14 (dk_at dksX0_saying_5 16 rfl rfl)
theorem dX0_saying_153 : decode cX0_saying 153 = .ok (.invokestatic 102, 3) := dk_184 0 102 (dk_at dksX0_saying_5 18 rfl rfl)
theorem dX0_saying_156 : decode cX0_saying 156 = .ok (.ifCond .eq 15, 3) := dk_153 0 15 (dk_at dksX0_saying_5 21 rfl rfl)
theorem dX0_saying_159 : decode cX0_saying 159 = .ok (.aload 4, 2) := dk_25 4 (dk_at dksX0_saying_6 0 rfl rfl)
theorem dX0_saying_161 : decode cX0_saying 161 = .ok (.iload_n 3, 1) := dk_29 (dk_at dksX0_saying_6 2 rfl rfl)
theorem dX0_saying_162 : decode cX0_saying 162 = .ok (.bipush 10, 2) := dk_16 10 (dk_at dksX0_saying_6 3 rfl rfl)
theorem dX0_saying_164 : decode cX0_saying 164 = .ok (.isub, 1) := dk_100 (dk_at dksX0_saying_6 5 rfl rfl)
theorem dX0_saying_165 : decode cX0_saying 165 = .ok (.invokevirtual 179, 3) := dk_182 0 179 (dk_at dksX0_saying_6 6 rfl rfl)
theorem dX0_saying_168 : decode cX0_saying 168 = .ok (.goto 5, 3) := dk_167 0 5 (dk_at dksX0_saying_6 9 rfl rfl)
theorem dX0_saying_171 : decode cX0_saying 171 = .ok (.bipush (-2), 2) := dk_16 254 (dk_at dksX0_saying_6 12 rfl rfl)
theorem dX0_saying_173 : decode cX0_saying 173 = .ok (.ireturn, 1) := dk_172 (dk_at dksX0_saying_6 14 rfl rfl)
abbrev cX0_asked : ByteArray := prog_1_method_17_code
def yX0_asked : MethodName := ⟨RX0, "asked", "(II)I"⟩
def dkwX0_asked_2 : List UInt8 := [167, 0, 18, 45, 182, 0, 73, 153, 0, 10, 45, 182, 0, 77, 167, 0, 4, 2, 172]
abbrev dktX0_asked_2 : List UInt8 := dkwX0_asked_2 ++ []
def dkwX0_asked_1 : List UInt8 := [27, 50, 78, 28, 154, 0, 10, 45, 180, 0, 126, 167, 0, 30, 28, 4, 160, 0, 10, 45, 180, 0, 182]
abbrev dktX0_asked_1 : List UInt8 := dkwX0_asked_1 ++ dktX0_asked_2
def dkwX0_asked_0 : List UInt8 := [42, 27, 182, 0, 122, 153, 0, 12, 28, 3, 5, 184, 0, 102, 154, 0, 6, 16, 254, 172, 42, 180, 0, 21]
abbrev dktX0_asked_0 : List UInt8 := dkwX0_asked_0 ++ dktX0_asked_1
theorem dksX0_asked_0 : cX0_asked.data.toList.drop 0 = dktX0_asked_0 := by decide +kernel
theorem dksX0_asked_1 : cX0_asked.data.toList.drop 24 = dktX0_asked_1 := dk_seg dksX0_asked_0 24 rfl rfl
theorem dksX0_asked_2 : cX0_asked.data.toList.drop 47 = dktX0_asked_2 := dk_seg dksX0_asked_1 23 rfl rfl
theorem dX0_asked_0 : decode cX0_asked 0 = .ok (.aload_n 0, 1) := dk_42 (dk_at dksX0_asked_0 0 rfl rfl)
theorem dX0_asked_1 : decode cX0_asked 1 = .ok (.iload_n 1, 1) := dk_27 (dk_at dksX0_asked_0 1 rfl rfl)
theorem dX0_asked_2 : decode cX0_asked 2 = .ok (.invokevirtual 122, 3) := dk_182 0 122 (dk_at dksX0_asked_0 2 rfl rfl)
theorem dX0_asked_5 : decode cX0_asked 5 = .ok (.ifCond .eq 12, 3) := dk_153 0 12 (dk_at dksX0_asked_0 5 rfl rfl)
theorem dX0_asked_8 : decode cX0_asked 8 = .ok (.iload_n 2, 1) := dk_28 (dk_at dksX0_asked_0 8 rfl rfl)
theorem dX0_asked_9 : decode cX0_asked 9 = .ok (.iconst 0, 1) := dk_3 (dk_at dksX0_asked_0 9 rfl rfl)
theorem dX0_asked_10 : decode cX0_asked 10 = .ok (.iconst 2, 1) := dk_5 (dk_at dksX0_asked_0 10 rfl rfl)
theorem dX0_asked_11 : decode cX0_asked 11 = .ok (.invokestatic 102, 3) := dk_184 0 102 (dk_at dksX0_asked_0 11 rfl rfl)
theorem dX0_asked_14 : decode cX0_asked 14 = .ok (.ifCond .ne 6, 3) := dk_154 0 6 (dk_at dksX0_asked_0 14 rfl rfl)
theorem dX0_asked_17 : decode cX0_asked 17 = .ok (.bipush (-2), 2) := dk_16 254 (dk_at dksX0_asked_0 17 rfl rfl)
theorem dX0_asked_19 : decode cX0_asked 19 = .ok (.ireturn, 1) := dk_172 (dk_at dksX0_asked_0 19 rfl rfl)
theorem dX0_asked_20 : decode cX0_asked 20 = .ok (.aload_n 0, 1) := dk_42 (dk_at dksX0_asked_0 20 rfl rfl)
theorem dX0_asked_21 : decode cX0_asked 21 = .ok (.getfield 21, 3) := dk_180 0 21 (dk_at dksX0_asked_0 21 rfl rfl)
theorem dX0_asked_24 : decode cX0_asked 24 = .ok (.iload_n 1, 1) := dk_27 (dk_at dksX0_asked_1 0 rfl rfl)
theorem dX0_asked_25 : decode cX0_asked 25 = .ok (.aaload, 1) := dk_50 (dk_at dksX0_asked_1 1 rfl rfl)
theorem dX0_asked_26 : decode cX0_asked 26 = .ok (.astore_n 3, 1) := dk_78 (dk_at dksX0_asked_1 2 rfl rfl)
theorem dX0_asked_27 : decode cX0_asked 27 = .ok (.iload_n 2, 1) := dk_28 (dk_at dksX0_asked_1 3 rfl rfl)
theorem dX0_asked_28 : decode cX0_asked 28 = .ok (.ifCond .ne 10, 3) := dk_154 0 10 (dk_at dksX0_asked_1 4 rfl rfl)
theorem dX0_asked_31 : decode cX0_asked 31 = .ok (.aload_n 3, 1) := dk_45 (dk_at dksX0_asked_1 7 rfl rfl)
theorem dX0_asked_32 : decode cX0_asked 32 = .ok (.getfield 126, 3) := dk_180 0 126 (dk_at dksX0_asked_1 8 rfl rfl)
theorem dX0_asked_35 : decode cX0_asked 35 = .ok (.goto 30, 3) := dk_167 0 30 (dk_at dksX0_asked_1 11 rfl rfl)
theorem dX0_asked_38 : decode cX0_asked 38 = .ok (.iload_n 2, 1) := dk_28 (dk_at dksX0_asked_1 14 rfl rfl)
theorem dX0_asked_39 : decode cX0_asked 39 = .ok (.iconst 1, 1) := dk_4 (dk_at dksX0_asked_1 15 rfl rfl)
theorem dX0_asked_40 : decode cX0_asked 40 = .ok (.if_icmp .ne 10, 3) := dk_160 0 10 (dk_at dksX0_asked_1 16 rfl rfl)
theorem dX0_asked_43 : decode cX0_asked 43 = .ok (.aload_n 3, 1) := dk_45 (dk_at dksX0_asked_1 19 rfl rfl)
theorem dX0_asked_44 : decode cX0_asked 44 = .ok (.getfield 182, 3) := dk_180 0 182 (dk_at dksX0_asked_1 20 rfl rfl)
theorem dX0_asked_47 : decode cX0_asked 47 = .ok (.goto 18, 3) := dk_167 0 18 (dk_at dksX0_asked_2 0 rfl rfl)
theorem dX0_asked_50 : decode cX0_asked 50 = .ok (.aload_n 3, 1) := dk_45 (dk_at dksX0_asked_2 3 rfl rfl)
theorem dX0_asked_51 : decode cX0_asked 51 = .ok (.invokevirtual 73, 3) := dk_182 0 73 (dk_at dksX0_asked_2 4 rfl rfl)
theorem dX0_asked_54 : decode cX0_asked 54 = .ok (.ifCond .eq 10, 3) := dk_153 0 10 (dk_at dksX0_asked_2 7 rfl rfl)
theorem dX0_asked_57 : decode cX0_asked 57 = .ok (.aload_n 3, 1) := dk_45 (dk_at dksX0_asked_2 10 rfl rfl)
theorem dX0_asked_58 : decode cX0_asked 58 = .ok (.invokevirtual 77, 3) := dk_182 0 77 (dk_at dksX0_asked_2 11 rfl rfl)
theorem dX0_asked_61 : decode cX0_asked 61 = .ok (.goto 4, 3) := dk_167 0 4 (dk_at dksX0_asked_2 14 rfl rfl)
theorem dX0_asked_64 : decode cX0_asked 64 = .ok (.iconst (-1), 1) := dk_2 (dk_at dksX0_asked_2 17 rfl rfl)
theorem dX0_asked_65 : decode cX0_asked 65 = .ok (.ireturn, 1) := dk_172 (dk_at dksX0_asked_2 18 rfl rfl)
abbrev cX0_hour : ByteArray := prog_1_method_21_code
def yX0_hour : MethodName := ⟨RX0, "hour", "(IIII)I"⟩
def dkwX0_hour_4 : List UInt8 := [21, 5, 172]
abbrev dktX0_hour_4 : List UInt8 := dkwX0_hour_4 ++ []
def dkwX0_hour_3 : List UInt8 := [180, 0, 143, 29, 50, 21, 4, 182, 0, 196, 54, 5, 21, 5, 17, 39, 15, 160, 0, 7, 2, 167, 0, 5]
abbrev dktX0_hour_3 : List UInt8 := dkwX0_hour_3 ++ dktX0_hour_4
def dkwX0_hour_2 : List UInt8 := [50, 42, 180, 0, 21, 27, 50, 28, 182, 0, 192, 42, 180, 0, 40, 3, 50, 42, 180, 0, 21, 27, 50]
abbrev dktX0_hour_2 : List UInt8 := dkwX0_hour_2 ++ dktX0_hour_3
def dkwX0_hour_1 : List UInt8 := [184, 0, 102, 153, 0, 13, 21, 4, 3, 5, 184, 0, 102, 154, 0, 6, 16, 254, 172, 42, 180, 0, 40, 3]
abbrev dktX0_hour_1 : List UInt8 := dkwX0_hour_1 ++ dktX0_hour_2
def dkwX0_hour_0 : List UInt8 := [42, 27, 28, 182, 0, 188, 153, 0, 32, 29, 3, 42, 180, 0, 21, 27, 50, 180, 0, 126, 4, 100]
abbrev dktX0_hour_0 : List UInt8 := dkwX0_hour_0 ++ dktX0_hour_1
theorem dksX0_hour_0 : cX0_hour.data.toList.drop 0 = dktX0_hour_0 := by decide +kernel
theorem dksX0_hour_1 : cX0_hour.data.toList.drop 22 = dktX0_hour_1 := dk_seg dksX0_hour_0 22 rfl rfl
theorem dksX0_hour_2 : cX0_hour.data.toList.drop 46 = dktX0_hour_2 := dk_seg dksX0_hour_1 24 rfl rfl
theorem dksX0_hour_3 : cX0_hour.data.toList.drop 69 = dktX0_hour_3 := dk_seg dksX0_hour_2 23 rfl rfl
theorem dksX0_hour_4 : cX0_hour.data.toList.drop 93 = dktX0_hour_4 := dk_seg dksX0_hour_3 24 rfl rfl
theorem dX0_hour_0 : decode cX0_hour 0 = .ok (.aload_n 0, 1) := dk_42 (dk_at dksX0_hour_0 0 rfl rfl)
theorem dX0_hour_1 : decode cX0_hour 1 = .ok (.iload_n 1, 1) := dk_27 (dk_at dksX0_hour_0 1 rfl rfl)
theorem dX0_hour_2 : decode cX0_hour 2 = .ok (.iload_n 2, 1) := dk_28 (dk_at dksX0_hour_0 2 rfl rfl)
theorem dX0_hour_3 : decode cX0_hour 3 = .ok (.invokevirtual 188, 3) := dk_182 0 188 (dk_at dksX0_hour_0 3 rfl rfl)
theorem dX0_hour_6 : decode cX0_hour 6 = .ok (.ifCond .eq 32, 3) := dk_153 0 32 (dk_at dksX0_hour_0 6 rfl rfl)
theorem dX0_hour_9 : decode cX0_hour 9 = .ok (.iload_n 3, 1) := dk_29 (dk_at dksX0_hour_0 9 rfl rfl)
theorem dX0_hour_10 : decode cX0_hour 10 = .ok (.iconst 0, 1) := dk_3 (dk_at dksX0_hour_0 10 rfl rfl)
theorem dX0_hour_11 : decode cX0_hour 11 = .ok (.aload_n 0, 1) := dk_42 (dk_at dksX0_hour_0 11 rfl rfl)
theorem dX0_hour_12 : decode cX0_hour 12 = .ok (.getfield 21, 3) := dk_180 0 21 (dk_at dksX0_hour_0 12 rfl rfl)
theorem dX0_hour_15 : decode cX0_hour 15 = .ok (.iload_n 1, 1) := dk_27 (dk_at dksX0_hour_0 15 rfl rfl)
theorem dX0_hour_16 : decode cX0_hour 16 = .ok (.aaload, 1) := dk_50 (dk_at dksX0_hour_0 16 rfl rfl)
theorem dX0_hour_17 : decode cX0_hour 17 = .ok (.getfield 126, 3) := dk_180 0 126 (dk_at dksX0_hour_0 17 rfl rfl)
theorem dX0_hour_20 : decode cX0_hour 20 = .ok (.iconst 1, 1) := dk_4 (dk_at dksX0_hour_0 20 rfl rfl)
theorem dX0_hour_21 : decode cX0_hour 21 = .ok (.isub, 1) := dk_100 (dk_at dksX0_hour_0 21 rfl rfl)
theorem dX0_hour_22 : decode cX0_hour 22 = .ok (.invokestatic 102, 3) := dk_184 0 102 (dk_at dksX0_hour_1 0 rfl rfl)
theorem dX0_hour_25 : decode cX0_hour 25 = .ok (.ifCond .eq 13, 3) := dk_153 0 13 (dk_at dksX0_hour_1 3 rfl rfl)
theorem dX0_hour_28 : decode cX0_hour 28 = .ok (.iload 4, 2) := dk_21 4 (dk_at dksX0_hour_1 6 rfl rfl)
theorem dX0_hour_30 : decode cX0_hour 30 = .ok (.iconst 0, 1) := dk_3 (dk_at dksX0_hour_1 8 rfl rfl)
theorem dX0_hour_31 : decode cX0_hour 31 = .ok (.iconst 2, 1) := dk_5 (dk_at dksX0_hour_1 9 rfl rfl)
theorem dX0_hour_32 : decode cX0_hour 32 = .ok (.invokestatic 102, 3) := dk_184 0 102 (dk_at dksX0_hour_1 10 rfl rfl)
theorem dX0_hour_35 : decode cX0_hour 35 = .ok (.ifCond .ne 6, 3) := dk_154 0 6 (dk_at dksX0_hour_1 13 rfl rfl)
theorem dX0_hour_38 : decode cX0_hour 38 = .ok (.bipush (-2), 2) := dk_16 254 (dk_at dksX0_hour_1 16 rfl rfl)
theorem dX0_hour_40 : decode cX0_hour 40 = .ok (.ireturn, 1) := dk_172 (dk_at dksX0_hour_1 18 rfl rfl)
theorem dX0_hour_41 : decode cX0_hour 41 = .ok (.aload_n 0, 1) := dk_42 (dk_at dksX0_hour_1 19 rfl rfl)
theorem dX0_hour_42 : decode cX0_hour 42 = .ok (.getfield 40, 3) := dk_180 0 40 (dk_at dksX0_hour_1 20 rfl rfl)
theorem dX0_hour_45 : decode cX0_hour 45 = .ok (.iconst 0, 1) := dk_3 (dk_at dksX0_hour_1 23 rfl rfl)
theorem dX0_hour_46 : decode cX0_hour 46 = .ok (.aaload, 1) := dk_50 (dk_at dksX0_hour_2 0 rfl rfl)
theorem dX0_hour_47 : decode cX0_hour 47 = .ok (.aload_n 0, 1) := dk_42 (dk_at dksX0_hour_2 1 rfl rfl)
theorem dX0_hour_48 : decode cX0_hour 48 = .ok (.getfield 21, 3) := dk_180 0 21 (dk_at dksX0_hour_2 2 rfl rfl)
theorem dX0_hour_51 : decode cX0_hour 51 = .ok (.iload_n 1, 1) := dk_27 (dk_at dksX0_hour_2 5 rfl rfl)
theorem dX0_hour_52 : decode cX0_hour 52 = .ok (.aaload, 1) := dk_50 (dk_at dksX0_hour_2 6 rfl rfl)
theorem dX0_hour_53 : decode cX0_hour 53 = .ok (.iload_n 2, 1) := dk_28 (dk_at dksX0_hour_2 7 rfl rfl)
theorem dX0_hour_54 : decode cX0_hour 54 = .ok (.invokevirtual 192, 3) := dk_182 0 192 (dk_at dksX0_hour_2 8 rfl rfl)
theorem dX0_hour_57 : decode cX0_hour 57 = .ok (.aload_n 0, 1) := dk_42 (dk_at dksX0_hour_2 11 rfl rfl)
theorem dX0_hour_58 : decode cX0_hour 58 = .ok (.getfield 40, 3) := dk_180 0 40 (dk_at dksX0_hour_2 12 rfl rfl)
theorem dX0_hour_61 : decode cX0_hour 61 = .ok (.iconst 0, 1) := dk_3 (dk_at dksX0_hour_2 15 rfl rfl)
theorem dX0_hour_62 : decode cX0_hour 62 = .ok (.aaload, 1) := dk_50 (dk_at dksX0_hour_2 16 rfl rfl)
theorem dX0_hour_63 : decode cX0_hour 63 = .ok (.aload_n 0, 1) := dk_42 (dk_at dksX0_hour_2 17 rfl rfl)
theorem dX0_hour_64 : decode cX0_hour 64 = .ok (.getfield 21, 3) := dk_180 0 21 (dk_at dksX0_hour_2 18 rfl rfl)
theorem dX0_hour_67 : decode cX0_hour 67 = .ok (.iload_n 1, 1) := dk_27 (dk_at dksX0_hour_2 21 rfl rfl)
theorem dX0_hour_68 : decode cX0_hour 68 = .ok (.aaload, 1) := dk_50 (dk_at dksX0_hour_2 22 rfl rfl)
theorem dX0_hour_69 : decode cX0_hour 69 = .ok (.getfield 143, 3) := dk_180 0 143 (dk_at dksX0_hour_3 0 rfl rfl)
theorem dX0_hour_72 : decode cX0_hour 72 = .ok (.iload_n 3, 1) := dk_29 (dk_at dksX0_hour_3 3 rfl rfl)
theorem dX0_hour_73 : decode cX0_hour 73 = .ok (.aaload, 1) := dk_50 (dk_at dksX0_hour_3 4 rfl rfl)
theorem dX0_hour_74 : decode cX0_hour 74 = .ok (.iload 4, 2) := dk_21 4 (dk_at dksX0_hour_3 5 rfl rfl)
theorem dX0_hour_76 : decode cX0_hour 76 = .ok (.invokevirtual 196, 3) := dk_182 0 196 (dk_at dksX0_hour_3 7 rfl rfl)
theorem dX0_hour_79 : decode cX0_hour 79 = .ok (.istore 5, 2) := dk_54 5 (dk_at dksX0_hour_3 10 rfl rfl)
theorem dX0_hour_81 : decode cX0_hour 81 = .ok (.iload 5, 2) := dk_21 5 (dk_at dksX0_hour_3 12 rfl rfl)
theorem dX0_hour_83 : decode cX0_hour 83 = .ok (.sipush 9999, 3) := dk_17 39 15 (dk_at dksX0_hour_3 14 rfl rfl)
theorem dX0_hour_86 : decode cX0_hour 86 = .ok (.if_icmp .ne 7, 3) := dk_160 0 7 (dk_at dksX0_hour_3 17 rfl rfl)
theorem dX0_hour_89 : decode cX0_hour 89 = .ok (.iconst (-1), 1) := dk_2 (dk_at dksX0_hour_3 20 rfl rfl)
theorem dX0_hour_90 : decode cX0_hour 90 = .ok (.goto 5, 3) := dk_167 0 5 (dk_at dksX0_hour_3 21 rfl rfl)
theorem dX0_hour_93 : decode cX0_hour 93 = .ok (.iload 5, 2) := dk_21 5 (dk_at dksX0_hour_4 0 rfl rfl)
theorem dX0_hour_95 : decode cX0_hour 95 = .ok (.ireturn, 1) := dk_172 (dk_at dksX0_hour_4 2 rfl rfl)
abbrev cX0_isCombo : ByteArray := prog_1_method_18_code
def yX0_isCombo : MethodName := ⟨RX0, "isCombo", "(II)Z"⟩
def dkwX0_isCombo_1 : List UInt8 := [180, 0, 21, 27, 50, 182, 0, 77, 4, 100, 184, 0, 102, 153, 0, 7, 4, 167, 0, 4, 3, 172]
abbrev dktX0_isCombo_1 : List UInt8 := dkwX0_isCombo_1 ++ []
def dkwX0_isCombo_0 : List UInt8 := [42, 27, 182, 0, 122, 153, 0, 38, 42, 180, 0, 21, 27, 50, 182, 0, 73, 153, 0, 26, 28, 3, 42]
abbrev dktX0_isCombo_0 : List UInt8 := dkwX0_isCombo_0 ++ dktX0_isCombo_1
theorem dksX0_isCombo_0 : cX0_isCombo.data.toList.drop 0 = dktX0_isCombo_0 := by decide +kernel
theorem dksX0_isCombo_1 : cX0_isCombo.data.toList.drop 23 = dktX0_isCombo_1 := dk_seg dksX0_isCombo_0 23 rfl rfl
theorem dX0_isCombo_0 : decode cX0_isCombo 0 = .ok (.aload_n 0, 1) := dk_42 (dk_at dksX0_isCombo_0 0 rfl rfl)
theorem dX0_isCombo_1 : decode cX0_isCombo 1 = .ok (.iload_n 1, 1) := dk_27 (dk_at dksX0_isCombo_0 1 rfl rfl)
theorem dX0_isCombo_2 : decode cX0_isCombo 2 = .ok (.invokevirtual 122, 3) := dk_182 0 122 (dk_at dksX0_isCombo_0 2 rfl rfl)
theorem dX0_isCombo_5 : decode cX0_isCombo 5 = .ok (.ifCond .eq 38, 3) := dk_153 0 38 (dk_at dksX0_isCombo_0 5 rfl rfl)
theorem dX0_isCombo_8 : decode cX0_isCombo 8 = .ok (.aload_n 0, 1) := dk_42 (dk_at dksX0_isCombo_0 8 rfl rfl)
theorem dX0_isCombo_9 : decode cX0_isCombo 9 = .ok (.getfield 21, 3) := dk_180 0 21 (dk_at dksX0_isCombo_0 9 rfl rfl)
theorem dX0_isCombo_12 : decode cX0_isCombo 12 = .ok (.iload_n 1, 1) := dk_27 (dk_at dksX0_isCombo_0 12 rfl rfl)
theorem dX0_isCombo_13 : decode cX0_isCombo 13 = .ok (.aaload, 1) := dk_50 (dk_at dksX0_isCombo_0 13 rfl rfl)
theorem dX0_isCombo_14 : decode cX0_isCombo 14 = .ok (.invokevirtual 73, 3) := dk_182 0 73 (dk_at dksX0_isCombo_0 14 rfl rfl)
theorem dX0_isCombo_17 : decode cX0_isCombo 17 = .ok (.ifCond .eq 26, 3) := dk_153 0 26 (dk_at dksX0_isCombo_0 17 rfl rfl)
theorem dX0_isCombo_20 : decode cX0_isCombo 20 = .ok (.iload_n 2, 1) := dk_28 (dk_at dksX0_isCombo_0 20 rfl rfl)
theorem dX0_isCombo_21 : decode cX0_isCombo 21 = .ok (.iconst 0, 1) := dk_3 (dk_at dksX0_isCombo_0 21 rfl rfl)
theorem dX0_isCombo_22 : decode cX0_isCombo 22 = .ok (.aload_n 0, 1) := dk_42 (dk_at dksX0_isCombo_0 22 rfl rfl)
theorem dX0_isCombo_23 : decode cX0_isCombo 23 = .ok (.getfield 21, 3) := dk_180 0 21 (dk_at dksX0_isCombo_1 0 rfl rfl)
theorem dX0_isCombo_26 : decode cX0_isCombo 26 = .ok (.iload_n 1, 1) := dk_27 (dk_at dksX0_isCombo_1 3 rfl rfl)
theorem dX0_isCombo_27 : decode cX0_isCombo 27 = .ok (.aaload, 1) := dk_50 (dk_at dksX0_isCombo_1 4 rfl rfl)
theorem dX0_isCombo_28 : decode cX0_isCombo 28 = .ok (.invokevirtual 77, 3) := dk_182 0 77 (dk_at dksX0_isCombo_1 5 rfl rfl)
theorem dX0_isCombo_31 : decode cX0_isCombo 31 = .ok (.iconst 1, 1) := dk_4 (dk_at dksX0_isCombo_1 8 rfl rfl)
theorem dX0_isCombo_32 : decode cX0_isCombo 32 = .ok (.isub, 1) := dk_100 (dk_at dksX0_isCombo_1 9 rfl rfl)
theorem dX0_isCombo_33 : decode cX0_isCombo 33 = .ok (.invokestatic 102, 3) := dk_184 0 102 (dk_at dksX0_isCombo_1 10 rfl rfl)
theorem dX0_isCombo_36 : decode cX0_isCombo 36 = .ok (.ifCond .eq 7, 3) := dk_153 0 7 (dk_at dksX0_isCombo_1 13 rfl rfl)
theorem dX0_isCombo_39 : decode cX0_isCombo 39 = .ok (.iconst 1, 1) := dk_4 (dk_at dksX0_isCombo_1 16 rfl rfl)
theorem dX0_isCombo_40 : decode cX0_isCombo 40 = .ok (.goto 4, 3) := dk_167 0 4 (dk_at dksX0_isCombo_1 17 rfl rfl)
theorem dX0_isCombo_43 : decode cX0_isCombo 43 = .ok (.iconst 0, 1) := dk_3 (dk_at dksX0_isCombo_1 20 rfl rfl)
theorem dX0_isCombo_44 : decode cX0_isCombo 44 = .ok (.ireturn, 1) := dk_172 (dk_at dksX0_isCombo_1 21 rfl rfl)
abbrev cX0_rule : ByteArray := prog_1_method_22_code
def yX0_rule : MethodName := ⟨RX0, "rule", "(II)I"⟩
def dkwX0_rule_2 : List UInt8 := [172]
abbrev dktX0_rule_2 : List UInt8 := dkwX0_rule_2 ++ []
def dkwX0_rule_1 : List UInt8 := [160, 0, 15, 42, 180, 0, 27, 27, 50, 180, 0, 200, 167, 0, 12, 42, 27, 182, 0, 203, 28, 182, 0, 207]
abbrev dktX0_rule_1 : List UInt8 := dkwX0_rule_1 ++ dktX0_rule_2
def dkwX0_rule_0 : List UInt8 := [42, 27, 182, 0, 185, 153, 0, 13, 28, 3, 16, 13, 184, 0, 102, 154, 0, 6, 16, 254, 172, 28, 16, 13]
abbrev dktX0_rule_0 : List UInt8 := dkwX0_rule_0 ++ dktX0_rule_1
theorem dksX0_rule_0 : cX0_rule.data.toList.drop 0 = dktX0_rule_0 := by decide +kernel
theorem dksX0_rule_1 : cX0_rule.data.toList.drop 24 = dktX0_rule_1 := dk_seg dksX0_rule_0 24 rfl rfl
theorem dksX0_rule_2 : cX0_rule.data.toList.drop 48 = dktX0_rule_2 := dk_seg dksX0_rule_1 24 rfl rfl
theorem dX0_rule_0 : decode cX0_rule 0 = .ok (.aload_n 0, 1) := dk_42 (dk_at dksX0_rule_0 0 rfl rfl)
theorem dX0_rule_1 : decode cX0_rule 1 = .ok (.iload_n 1, 1) := dk_27 (dk_at dksX0_rule_0 1 rfl rfl)
theorem dX0_rule_2 : decode cX0_rule 2 = .ok (.invokevirtual 185, 3) := dk_182 0 185 (dk_at dksX0_rule_0 2 rfl rfl)
theorem dX0_rule_5 : decode cX0_rule 5 = .ok (.ifCond .eq 13, 3) := dk_153 0 13 (dk_at dksX0_rule_0 5 rfl rfl)
theorem dX0_rule_8 : decode cX0_rule 8 = .ok (.iload_n 2, 1) := dk_28 (dk_at dksX0_rule_0 8 rfl rfl)
theorem dX0_rule_9 : decode cX0_rule 9 = .ok (.iconst 0, 1) := dk_3 (dk_at dksX0_rule_0 9 rfl rfl)
theorem dX0_rule_10 : decode cX0_rule 10 = .ok (.bipush 13, 2) := dk_16 13 (dk_at dksX0_rule_0 10 rfl rfl)
theorem dX0_rule_12 : decode cX0_rule 12 = .ok (.invokestatic 102, 3) := dk_184 0 102 (dk_at dksX0_rule_0 12 rfl rfl)
theorem dX0_rule_15 : decode cX0_rule 15 = .ok (.ifCond .ne 6, 3) := dk_154 0 6 (dk_at dksX0_rule_0 15 rfl rfl)
theorem dX0_rule_18 : decode cX0_rule 18 = .ok (.bipush (-2), 2) := dk_16 254 (dk_at dksX0_rule_0 18 rfl rfl)
theorem dX0_rule_20 : decode cX0_rule 20 = .ok (.ireturn, 1) := dk_172 (dk_at dksX0_rule_0 20 rfl rfl)
theorem dX0_rule_21 : decode cX0_rule 21 = .ok (.iload_n 2, 1) := dk_28 (dk_at dksX0_rule_0 21 rfl rfl)
theorem dX0_rule_22 : decode cX0_rule 22 = .ok (.bipush 13, 2) := dk_16 13 (dk_at dksX0_rule_0 22 rfl rfl)
theorem dX0_rule_24 : decode cX0_rule 24 = .ok (.if_icmp .ne 15, 3) := dk_160 0 15 (dk_at dksX0_rule_1 0 rfl rfl)
theorem dX0_rule_27 : decode cX0_rule 27 = .ok (.aload_n 0, 1) := dk_42 (dk_at dksX0_rule_1 3 rfl rfl)
theorem dX0_rule_28 : decode cX0_rule 28 = .ok (.getfield 27, 3) := dk_180 0 27 (dk_at dksX0_rule_1 4 rfl rfl)
theorem dX0_rule_31 : decode cX0_rule 31 = .ok (.iload_n 1, 1) := dk_27 (dk_at dksX0_rule_1 7 rfl rfl)
theorem dX0_rule_32 : decode cX0_rule 32 = .ok (.aaload, 1) := dk_50 (dk_at dksX0_rule_1 8 rfl rfl)
theorem dX0_rule_33 : decode cX0_rule 33 = .ok (.getfield 200, 3) := dk_180 0 200 (dk_at dksX0_rule_1 9 rfl rfl)
theorem dX0_rule_36 : decode cX0_rule 36 = .ok (.goto 12, 3) := dk_167 0 12 (dk_at dksX0_rule_1 12 rfl rfl)
theorem dX0_rule_39 : decode cX0_rule 39 = .ok (.aload_n 0, 1) := dk_42 (dk_at dksX0_rule_1 15 rfl rfl)
theorem dX0_rule_40 : decode cX0_rule 40 = .ok (.iload_n 1, 1) := dk_27 (dk_at dksX0_rule_1 16 rfl rfl)
theorem dX0_rule_41 : decode cX0_rule 41 = .ok (.invokevirtual 203, 3) := dk_182 0 203 (dk_at dksX0_rule_1 17 rfl rfl)
theorem dX0_rule_44 : decode cX0_rule 44 = .ok (.iload_n 2, 1) := dk_28 (dk_at dksX0_rule_1 20 rfl rfl)
theorem dX0_rule_45 : decode cX0_rule 45 = .ok (.invokevirtual 207, 3) := dk_182 0 207 (dk_at dksX0_rule_1 21 rfl rfl)
theorem dX0_rule_48 : decode cX0_rule 48 = .ok (.ireturn, 1) := dk_172 (dk_at dksX0_rule_2 0 rfl rfl)
abbrev cX0_isLaw : ByteArray := prog_1_method_19_code
def yX0_isLaw : MethodName := ⟨RX0, "isLaw", "(I)Z"⟩
def dkwX0_isLaw_0 : List UInt8 := [27, 3, 42, 180, 0, 129, 4, 100, 184, 0, 102, 172]
abbrev dktX0_isLaw_0 : List UInt8 := dkwX0_isLaw_0 ++ []
theorem dksX0_isLaw_0 : cX0_isLaw.data.toList.drop 0 = dktX0_isLaw_0 := by decide +kernel
theorem dX0_isLaw_0 : decode cX0_isLaw 0 = .ok (.iload_n 1, 1) := dk_27 (dk_at dksX0_isLaw_0 0 rfl rfl)
theorem dX0_isLaw_1 : decode cX0_isLaw 1 = .ok (.iconst 0, 1) := dk_3 (dk_at dksX0_isLaw_0 1 rfl rfl)
theorem dX0_isLaw_2 : decode cX0_isLaw 2 = .ok (.aload_n 0, 1) := dk_42 (dk_at dksX0_isLaw_0 2 rfl rfl)
theorem dX0_isLaw_3 : decode cX0_isLaw 3 = .ok (.getfield 129, 3) := dk_180 0 129 (dk_at dksX0_isLaw_0 3 rfl rfl)
theorem dX0_isLaw_6 : decode cX0_isLaw 6 = .ok (.iconst 1, 1) := dk_4 (dk_at dksX0_isLaw_0 6 rfl rfl)
theorem dX0_isLaw_7 : decode cX0_isLaw 7 = .ok (.isub, 1) := dk_100 (dk_at dksX0_isLaw_0 7 rfl rfl)
theorem dX0_isLaw_8 : decode cX0_isLaw 8 = .ok (.invokestatic 102, 3) := dk_184 0 102 (dk_at dksX0_isLaw_0 8 rfl rfl)
theorem dX0_isLaw_11 : decode cX0_isLaw 11 = .ok (.ireturn, 1) := dk_172 (dk_at dksX0_isLaw_0 11 rfl rfl)
abbrev cX0_rulesOf : ByteArray := prog_1_method_6_code
def yX0_rulesOf : MethodName := ⟨RX0, "rulesOf", "(I)LCrossingWords$Rules;"⟩
def dkwX0_rulesOf_0 : List UInt8 := [187, 0, 66, 89, 183, 0, 86, 77, 44, 42, 180, 0, 27, 27, 50, 182, 0, 87, 44, 176]
abbrev dktX0_rulesOf_0 : List UInt8 := dkwX0_rulesOf_0 ++ []
theorem dksX0_rulesOf_0 : cX0_rulesOf.data.toList.drop 0 = dktX0_rulesOf_0 := by decide +kernel
theorem dX0_rulesOf_0 : decode cX0_rulesOf 0 = .ok (.new 66, 3) := dk_187 0 66 (dk_at dksX0_rulesOf_0 0 rfl rfl)
theorem dX0_rulesOf_3 : decode cX0_rulesOf 3 = .ok (.dup, 1) := dk_89 (dk_at dksX0_rulesOf_0 3 rfl rfl)
theorem dX0_rulesOf_4 : decode cX0_rulesOf 4 = .ok (.invokespecial 86, 3) := dk_183 0 86 (dk_at dksX0_rulesOf_0 4 rfl rfl)
theorem dX0_rulesOf_7 : decode cX0_rulesOf 7 = .ok (.astore_n 2, 1) := dk_77 (dk_at dksX0_rulesOf_0 7 rfl rfl)
theorem dX0_rulesOf_8 : decode cX0_rulesOf 8 = .ok (.aload_n 2, 1) := dk_44 (dk_at dksX0_rulesOf_0 8 rfl rfl)
theorem dX0_rulesOf_9 : decode cX0_rulesOf 9 = .ok (.aload_n 0, 1) := dk_42 (dk_at dksX0_rulesOf_0 9 rfl rfl)
theorem dX0_rulesOf_10 : decode cX0_rulesOf 10 = .ok (.getfield 27, 3) := dk_180 0 27 (dk_at dksX0_rulesOf_0 10 rfl rfl)
theorem dX0_rulesOf_13 : decode cX0_rulesOf 13 = .ok (.iload_n 1, 1) := dk_27 (dk_at dksX0_rulesOf_0 13 rfl rfl)
theorem dX0_rulesOf_14 : decode cX0_rulesOf 14 = .ok (.aaload, 1) := dk_50 (dk_at dksX0_rulesOf_0 14 rfl rfl)
theorem dX0_rulesOf_15 : decode cX0_rulesOf 15 = .ok (.invokevirtual 87, 3) := dk_182 0 87 (dk_at dksX0_rulesOf_0 15 rfl rfl)
theorem dX0_rulesOf_18 : decode cX0_rulesOf 18 = .ok (.aload_n 2, 1) := dk_44 (dk_at dksX0_rulesOf_0 18 rfl rfl)
theorem dX0_rulesOf_19 : decode cX0_rulesOf 19 = .ok (.areturn, 1) := dk_176 (dk_at dksX0_rulesOf_0 19 rfl rfl)
abbrev cX0_run : ByteArray := prog_1_method_23_code
def yX0_run : MethodName := ⟨RX0, "run", "(IIII)I"⟩
def dkwX0_run_5 : List UInt8 := [172]
abbrev dktX0_run_5 : List UInt8 := dkwX0_run_5 ++ []
def dkwX0_run_4 : List UInt8 := [21, 4, 5, 160, 0, 11, 25, 5, 180, 0, 224, 167, 0, 13, 25, 5, 21, 4, 16, 10, 100, 182, 0, 227]
abbrev dktX0_run_4 : List UInt8 := dkwX0_run_4 ++ dktX0_run_5
def dkwX0_run_3 : List UInt8 := [180, 0, 217, 167, 0, 44, 21, 4, 4, 160, 0, 14, 25, 5, 180, 0, 220, 180, 0, 162, 167, 0, 27]
abbrev dktX0_run_3 : List UInt8 := dkwX0_run_3 ++ dktX0_run_4
def dkwX0_run_2 : List UInt8 := [182, 0, 213, 58, 5, 25, 5, 182, 0, 83, 154, 0, 6, 16, 254, 172, 21, 4, 154, 0, 11, 25, 5]
abbrev dktX0_run_2 : List UInt8 := dkwX0_run_2 ++ dktX0_run_3
def dkwX0_run_1 : List UInt8 := [16, 14, 184, 0, 102, 154, 0, 6, 16, 253, 172, 42, 42, 180, 0, 21, 27, 50, 42, 28, 182, 0, 203, 29]
abbrev dktX0_run_1 : List UInt8 := dkwX0_run_1 ++ dktX0_run_2
def dkwX0_run_0 : List UInt8 := [42, 27, 28, 29, 182, 0, 210, 153, 0, 25, 21, 4, 3, 5, 184, 0, 102, 154, 0, 18, 21, 4, 16, 10]
abbrev dktX0_run_0 : List UInt8 := dkwX0_run_0 ++ dktX0_run_1
theorem dksX0_run_0 : cX0_run.data.toList.drop 0 = dktX0_run_0 := by decide +kernel
theorem dksX0_run_1 : cX0_run.data.toList.drop 24 = dktX0_run_1 := dk_seg dksX0_run_0 24 rfl rfl
theorem dksX0_run_2 : cX0_run.data.toList.drop 48 = dktX0_run_2 := dk_seg dksX0_run_1 24 rfl rfl
theorem dksX0_run_3 : cX0_run.data.toList.drop 71 = dktX0_run_3 := dk_seg dksX0_run_2 23 rfl rfl
theorem dksX0_run_4 : cX0_run.data.toList.drop 94 = dktX0_run_4 := dk_seg dksX0_run_3 23 rfl rfl
theorem dksX0_run_5 : cX0_run.data.toList.drop 118 = dktX0_run_5 := dk_seg dksX0_run_4 24 rfl rfl
theorem dX0_run_0 : decode cX0_run 0 = .ok (.aload_n 0, 1) := dk_42 (dk_at dksX0_run_0 0 rfl rfl)
theorem dX0_run_1 : decode cX0_run 1 = .ok (.iload_n 1, 1) := dk_27 (dk_at dksX0_run_0 1 rfl rfl)
theorem dX0_run_2 : decode cX0_run 2 = .ok (.iload_n 2, 1) := dk_28 (dk_at dksX0_run_0 2 rfl rfl)
theorem dX0_run_3 : decode cX0_run 3 = .ok (.iload_n 3, 1) := dk_29 (dk_at dksX0_run_0 3 rfl rfl)
theorem dX0_run_4 : decode cX0_run 4 = .ok (.invokevirtual 210, 3) := dk_182 0 210 (dk_at dksX0_run_0 4 rfl rfl)
theorem dX0_run_7 : decode cX0_run 7 = .ok (.ifCond .eq 25, 3) := dk_153 0 25 (dk_at dksX0_run_0 7 rfl rfl)
theorem dX0_run_10 : decode cX0_run 10 = .ok (.iload 4, 2) := dk_21 4 (dk_at dksX0_run_0 10 rfl rfl)
theorem dX0_run_12 : decode cX0_run 12 = .ok (.iconst 0, 1) := dk_3 (dk_at dksX0_run_0 12 rfl rfl)
theorem dX0_run_13 : decode cX0_run 13 = .ok (.iconst 2, 1) := dk_5 (dk_at dksX0_run_0 13 rfl rfl)
theorem dX0_run_14 : decode cX0_run 14 = .ok (.invokestatic 102, 3) := dk_184 0 102 (dk_at dksX0_run_0 14 rfl rfl)
theorem dX0_run_17 : decode cX0_run 17 = .ok (.ifCond .ne 18, 3) := dk_154 0 18 (dk_at dksX0_run_0 17 rfl rfl)
theorem dX0_run_20 : decode cX0_run 20 = .ok (.iload 4, 2) := dk_21 4 (dk_at dksX0_run_0 20 rfl rfl)
theorem dX0_run_22 : decode cX0_run 22 = .ok (.bipush 10, 2) := dk_16 10 (dk_at dksX0_run_0 22 rfl rfl)
theorem dX0_run_24 : decode cX0_run 24 = .ok (.bipush 14, 2) := dk_16 14 (dk_at dksX0_run_1 0 rfl rfl)
theorem dX0_run_26 : decode cX0_run 26 = .ok (.invokestatic 102, 3) := dk_184 0 102 (dk_at dksX0_run_1 2 rfl rfl)
theorem dX0_run_29 : decode cX0_run 29 = .ok (.ifCond .ne 6, 3) := dk_154 0 6 (dk_at dksX0_run_1 5 rfl rfl)
theorem dX0_run_32 : decode cX0_run 32 = .ok (.bipush (-3), 2) := dk_16 253 (dk_at dksX0_run_1 8 rfl rfl)
theorem dX0_run_34 : decode cX0_run 34 = .ok (.ireturn, 1) := dk_172 (dk_at dksX0_run_1 10 rfl rfl)
theorem dX0_run_35 : decode cX0_run 35 = .ok (.aload_n 0, 1) := dk_42 (dk_at dksX0_run_1 11 rfl rfl)
theorem dX0_run_36 : decode cX0_run 36 = .ok (.aload_n 0, 1) := dk_42 (dk_at dksX0_run_1 12 rfl rfl)
theorem dX0_run_37 : decode cX0_run 37 = .ok (.getfield 21, 3) := dk_180 0 21 (dk_at dksX0_run_1 13 rfl rfl)
theorem dX0_run_40 : decode cX0_run 40 = .ok (.iload_n 1, 1) := dk_27 (dk_at dksX0_run_1 16 rfl rfl)
theorem dX0_run_41 : decode cX0_run 41 = .ok (.aaload, 1) := dk_50 (dk_at dksX0_run_1 17 rfl rfl)
theorem dX0_run_42 : decode cX0_run 42 = .ok (.aload_n 0, 1) := dk_42 (dk_at dksX0_run_1 18 rfl rfl)
theorem dX0_run_43 : decode cX0_run 43 = .ok (.iload_n 2, 1) := dk_28 (dk_at dksX0_run_1 19 rfl rfl)
theorem dX0_run_44 : decode cX0_run 44 = .ok (.invokevirtual 203, 3) := dk_182 0 203 (dk_at dksX0_run_1 20 rfl rfl)
theorem dX0_run_47 : decode cX0_run 47 = .ok (.iload_n 3, 1) := dk_29 (dk_at dksX0_run_1 23 rfl rfl)
theorem dX0_run_48 : decode cX0_run 48 = .ok (.invokevirtual 213, 3) := dk_182 0 213 (dk_at dksX0_run_2 0 rfl rfl)
theorem dX0_run_51 : decode cX0_run 51 = .ok (.astore 5, 2) := dk_58 5 (dk_at dksX0_run_2 3 rfl rfl)
theorem dX0_run_53 : decode cX0_run 53 = .ok (.aload 5, 2) := dk_25 5 (dk_at dksX0_run_2 5 rfl rfl)
theorem dX0_run_55 : decode cX0_run 55 = .ok (.invokevirtual 83, 3) := dk_182 0 83 (dk_at dksX0_run_2 7 rfl rfl)
theorem dX0_run_58 : decode cX0_run 58 = .ok (.ifCond .ne 6, 3) := dk_154 0 6 (dk_at dksX0_run_2 10 rfl rfl)
theorem dX0_run_61 : decode cX0_run 61 = .ok (.bipush (-2), 2) := dk_16 254 (dk_at dksX0_run_2 13 rfl rfl)
theorem dX0_run_63 : decode cX0_run 63 = .ok (.ireturn, 1) := dk_172 (dk_at dksX0_run_2 15 rfl rfl)
theorem dX0_run_64 : decode cX0_run 64 = .ok (.iload 4, 2) := dk_21 4 (dk_at dksX0_run_2 16 rfl rfl)
theorem dX0_run_66 : decode cX0_run 66 = .ok (.ifCond .ne 11, 3) := dk_154 0 11 (dk_at dksX0_run_2 18 rfl rfl)
theorem dX0_run_69 : decode cX0_run 69 = .ok (.aload 5, 2) := dk_25 5 (dk_at dksX0_run_2 21 rfl rfl)
theorem dX0_run_71 : decode cX0_run 71 = .ok (.getfield 217, 3) := dk_180 0 217 (dk_at dksX0_run_3 0 rfl rfl)
theorem dX0_run_74 : decode cX0_run 74 = .ok (.goto 44, 3) := dk_167 0 44 (dk_at dksX0_run_3 3 rfl rfl)
theorem dX0_run_77 : decode cX0_run 77 = .ok (.iload 4, 2) := dk_21 4 (dk_at dksX0_run_3 6 rfl rfl)
theorem dX0_run_79 : decode cX0_run 79 = .ok (.iconst 1, 1) := dk_4 (dk_at dksX0_run_3 8 rfl rfl)
theorem dX0_run_80 : decode cX0_run 80 = .ok (.if_icmp .ne 14, 3) := dk_160 0 14 (dk_at dksX0_run_3 9 rfl rfl)
theorem dX0_run_83 : decode cX0_run 83 = .ok (.aload 5, 2) := dk_25 5 (dk_at dksX0_run_3 12 rfl rfl)
theorem dX0_run_85 : decode cX0_run 85 = .ok (.getfield 220, 3) := dk_180 0 220 (dk_at dksX0_run_3 14 rfl rfl)
theorem dX0_run_88 : decode cX0_run 88 = .ok (.getfield 162, 3) := dk_180 0 162 (dk_at dksX0_run_3 17 rfl rfl)
theorem dX0_run_91 : decode cX0_run 91 = .ok (.goto 27, 3) := dk_167 0 27 (dk_at dksX0_run_3 20 rfl rfl)
theorem dX0_run_94 : decode cX0_run 94 = .ok (.iload 4, 2) := dk_21 4 (dk_at dksX0_run_4 0 rfl rfl)
theorem dX0_run_96 : decode cX0_run 96 = .ok (.iconst 2, 1) := dk_5 (dk_at dksX0_run_4 2 rfl rfl)
theorem dX0_run_97 : decode cX0_run 97 = .ok (.if_icmp .ne 11, 3) := dk_160 0 11 (dk_at dksX0_run_4 3 rfl rfl)
theorem dX0_run_100 : decode cX0_run 100 = .ok (.aload 5, 2) := dk_25 5 (dk_at dksX0_run_4 6 rfl rfl)
theorem dX0_run_102 : decode cX0_run 102 = .ok (.getfield 224, 3) := dk_180 0 224 (dk_at dksX0_run_4 8 rfl rfl)
theorem dX0_run_105 : decode cX0_run 105 = .ok (.goto 13, 3) := dk_167 0 13 (dk_at dksX0_run_4 11 rfl rfl)
theorem dX0_run_108 : decode cX0_run 108 = .ok (.aload 5, 2) := dk_25 5 (dk_at dksX0_run_4 14 rfl rfl)
theorem dX0_run_110 : decode cX0_run 110 = .ok (.iload 4, 2) := dk_21 4 (dk_at dksX0_run_4 16 rfl rfl)
theorem dX0_run_112 : decode cX0_run 112 = .ok (.bipush 10, 2) := dk_16 10 (dk_at dksX0_run_4 18 rfl rfl)
theorem dX0_run_114 : decode cX0_run 114 = .ok (.isub, 1) := dk_100 (dk_at dksX0_run_4 20 rfl rfl)
theorem dX0_run_115 : decode cX0_run 115 = .ok (.invokevirtual 227, 3) := dk_182 0 227 (dk_at dksX0_run_4 21 rfl rfl)
theorem dX0_run_118 : decode cX0_run 118 = .ok (.ireturn, 1) := dk_172 (dk_at dksX0_run_5 0 rfl rfl)
abbrev cX0_isRun : ByteArray := prog_1_method_20_code
def yX0_isRun : MethodName := ⟨RX0, "isRun", "(III)Z"⟩
def dkwX0_isRun_0 : List UInt8 := [42, 28, 182, 0, 185, 153, 0, 16, 42, 27, 29, 182, 0, 188, 153, 0, 7, 4, 167, 0, 4, 3, 172]
abbrev dktX0_isRun_0 : List UInt8 := dkwX0_isRun_0 ++ []
theorem dksX0_isRun_0 : cX0_isRun.data.toList.drop 0 = dktX0_isRun_0 := by decide +kernel
theorem dX0_isRun_0 : decode cX0_isRun 0 = .ok (.aload_n 0, 1) := dk_42 (dk_at dksX0_isRun_0 0 rfl rfl)
theorem dX0_isRun_1 : decode cX0_isRun 1 = .ok (.iload_n 2, 1) := dk_28 (dk_at dksX0_isRun_0 1 rfl rfl)
theorem dX0_isRun_2 : decode cX0_isRun 2 = .ok (.invokevirtual 185, 3) := dk_182 0 185 (dk_at dksX0_isRun_0 2 rfl rfl)
theorem dX0_isRun_5 : decode cX0_isRun 5 = .ok (.ifCond .eq 16, 3) := dk_153 0 16 (dk_at dksX0_isRun_0 5 rfl rfl)
theorem dX0_isRun_8 : decode cX0_isRun 8 = .ok (.aload_n 0, 1) := dk_42 (dk_at dksX0_isRun_0 8 rfl rfl)
theorem dX0_isRun_9 : decode cX0_isRun 9 = .ok (.iload_n 1, 1) := dk_27 (dk_at dksX0_isRun_0 9 rfl rfl)
theorem dX0_isRun_10 : decode cX0_isRun 10 = .ok (.iload_n 3, 1) := dk_29 (dk_at dksX0_isRun_0 10 rfl rfl)
theorem dX0_isRun_11 : decode cX0_isRun 11 = .ok (.invokevirtual 188, 3) := dk_182 0 188 (dk_at dksX0_isRun_0 11 rfl rfl)
theorem dX0_isRun_14 : decode cX0_isRun 14 = .ok (.ifCond .eq 7, 3) := dk_153 0 7 (dk_at dksX0_isRun_0 14 rfl rfl)
theorem dX0_isRun_17 : decode cX0_isRun 17 = .ok (.iconst 1, 1) := dk_4 (dk_at dksX0_isRun_0 17 rfl rfl)
theorem dX0_isRun_18 : decode cX0_isRun 18 = .ok (.goto 4, 3) := dk_167 0 4 (dk_at dksX0_isRun_0 18 rfl rfl)
theorem dX0_isRun_21 : decode cX0_isRun 21 = .ok (.iconst 0, 1) := dk_3 (dk_at dksX0_isRun_0 21 rfl rfl)
theorem dX0_isRun_22 : decode cX0_isRun 22 = .ok (.ireturn, 1) := dk_172 (dk_at dksX0_isRun_0 22 rfl rfl)
abbrev cX0_ran : ByteArray := prog_1_method_7_code
def yX0_ran : MethodName := ⟨RX0, "ran", "(LCrossingWords$Case;LCrossingWords$Rules;I)LCrossingWords$Run;"⟩
def dkwX0_ran_0 : List UInt8 := [42, 180, 0, 40, 3, 50, 43, 44, 29, 182, 0, 80, 42, 180, 0, 40, 3, 50, 176]
abbrev dktX0_ran_0 : List UInt8 := dkwX0_ran_0 ++ []
theorem dksX0_ran_0 : cX0_ran.data.toList.drop 0 = dktX0_ran_0 := by decide +kernel
theorem dX0_ran_0 : decode cX0_ran 0 = .ok (.aload_n 0, 1) := dk_42 (dk_at dksX0_ran_0 0 rfl rfl)
theorem dX0_ran_1 : decode cX0_ran 1 = .ok (.getfield 40, 3) := dk_180 0 40 (dk_at dksX0_ran_0 1 rfl rfl)
theorem dX0_ran_4 : decode cX0_ran 4 = .ok (.iconst 0, 1) := dk_3 (dk_at dksX0_ran_0 4 rfl rfl)
theorem dX0_ran_5 : decode cX0_ran 5 = .ok (.aaload, 1) := dk_50 (dk_at dksX0_ran_0 5 rfl rfl)
theorem dX0_ran_6 : decode cX0_ran 6 = .ok (.aload_n 1, 1) := dk_43 (dk_at dksX0_ran_0 6 rfl rfl)
theorem dX0_ran_7 : decode cX0_ran 7 = .ok (.aload_n 2, 1) := dk_44 (dk_at dksX0_ran_0 7 rfl rfl)
theorem dX0_ran_8 : decode cX0_ran 8 = .ok (.iload_n 3, 1) := dk_29 (dk_at dksX0_ran_0 8 rfl rfl)
theorem dX0_ran_9 : decode cX0_ran 9 = .ok (.invokevirtual 80, 3) := dk_182 0 80 (dk_at dksX0_ran_0 9 rfl rfl)
theorem dX0_ran_12 : decode cX0_ran 12 = .ok (.aload_n 0, 1) := dk_42 (dk_at dksX0_ran_0 12 rfl rfl)
theorem dX0_ran_13 : decode cX0_ran 13 = .ok (.getfield 40, 3) := dk_180 0 40 (dk_at dksX0_ran_0 13 rfl rfl)
theorem dX0_ran_16 : decode cX0_ran 16 = .ok (.iconst 0, 1) := dk_3 (dk_at dksX0_ran_0 16 rfl rfl)
theorem dX0_ran_17 : decode cX0_ran 17 = .ok (.aaload, 1) := dk_50 (dk_at dksX0_ran_0 17 rfl rfl)
theorem dX0_ran_18 : decode cX0_ran 18 = .ok (.areturn, 1) := dk_176 (dk_at dksX0_ran_0 18 rfl rfl)
abbrev cX0_hasGiven : ByteArray := prog_1_method_5_code
def yX0_hasGiven : MethodName := ⟨RX0, "hasGiven", "(ILCrossingWords$Rules;)Z"⟩
def dkwX0_hasGiven_5 : List UInt8 := [160, 0, 7, 4, 167, 0, 4, 3, 172]
abbrev dktX0_hasGiven_5 : List UInt8 := dkwX0_hasGiven_5 ++ []
def dkwX0_hasGiven_4 : List UInt8 := [180, 0, 65, 27, 21, 5, 153, 0, 7, 5, 167, 0, 4, 4, 79, 44, 180, 0, 65, 27, 46, 5]
abbrev dktX0_hasGiven_4 : List UInt8 := dkwX0_hasGiven_4 ++ dktX0_hasGiven_5
def dkwX0_hasGiven_3 : List UInt8 := [25, 4, 182, 0, 83, 54, 5, 132, 6, 1, 167, 255, 223, 42, 89, 180, 0, 70, 4, 100, 181, 0, 70, 44]
abbrev dktX0_hasGiven_3 : List UInt8 := dkwX0_hasGiven_3 ++ dktX0_hasGiven_4
def dkwX0_hasGiven_2 : List UInt8 := [21, 5, 153, 0, 34, 21, 6, 45, 182, 0, 77, 162, 0, 25, 25, 4, 45, 44, 21, 6, 182, 0, 80]
abbrev dktX0_hasGiven_2 : List UInt8 := dkwX0_hasGiven_2 ++ dktX0_hasGiven_3
def dkwX0_hasGiven_1 : List UInt8 := [181, 0, 70, 42, 180, 0, 40, 42, 180, 0, 70, 50, 58, 4, 45, 182, 0, 73, 54, 5, 3, 54, 6]
abbrev dktX0_hasGiven_1 : List UInt8 := dkwX0_hasGiven_1 ++ dktX0_hasGiven_2
def dkwX0_hasGiven_0 : List UInt8 := [44, 180, 0, 65, 27, 46, 154, 0, 102, 42, 180, 0, 21, 27, 50, 78, 42, 89, 180, 0, 70, 4, 96]
abbrev dktX0_hasGiven_0 : List UInt8 := dkwX0_hasGiven_0 ++ dktX0_hasGiven_1
theorem dksX0_hasGiven_0 : cX0_hasGiven.data.toList.drop 0 = dktX0_hasGiven_0 := by decide +kernel
theorem dksX0_hasGiven_1 : cX0_hasGiven.data.toList.drop 23 = dktX0_hasGiven_1 := dk_seg dksX0_hasGiven_0 23 rfl rfl
theorem dksX0_hasGiven_2 : cX0_hasGiven.data.toList.drop 46 = dktX0_hasGiven_2 := dk_seg dksX0_hasGiven_1 23 rfl rfl
theorem dksX0_hasGiven_3 : cX0_hasGiven.data.toList.drop 69 = dktX0_hasGiven_3 := dk_seg dksX0_hasGiven_2 23 rfl rfl
theorem dksX0_hasGiven_4 : cX0_hasGiven.data.toList.drop 93 = dktX0_hasGiven_4 := dk_seg dksX0_hasGiven_3 24 rfl rfl
theorem dksX0_hasGiven_5 : cX0_hasGiven.data.toList.drop 115 = dktX0_hasGiven_5 := dk_seg dksX0_hasGiven_4 22 rfl rfl
theorem dX0_hasGiven_0 : decode cX0_hasGiven 0 = .ok (.aload_n 2, 1) := dk_44 (dk_at dksX0_hasGiven_0 0 rfl rfl)
theorem dX0_hasGiven_1 : decode cX0_hasGiven 1 = .ok (.getfield 65, 3) := dk_180 0 65 (dk_at dksX0_hasGiven_0 1 rfl rfl)
theorem dX0_hasGiven_4 : decode cX0_hasGiven 4 = .ok (.iload_n 1, 1) := dk_27 (dk_at dksX0_hasGiven_0 4 rfl rfl)
theorem dX0_hasGiven_5 : decode cX0_hasGiven 5 = .ok (.iaload, 1) := dk_46 (dk_at dksX0_hasGiven_0 5 rfl rfl)
theorem dX0_hasGiven_6 : decode cX0_hasGiven 6 = .ok (.ifCond .ne 102, 3) := dk_154 0 102 (dk_at dksX0_hasGiven_0 6 rfl rfl)
theorem dX0_hasGiven_9 : decode cX0_hasGiven 9 = .ok (.aload_n 0, 1) := dk_42 (dk_at dksX0_hasGiven_0 9 rfl rfl)
theorem dX0_hasGiven_10 : decode cX0_hasGiven 10 = .ok (.getfield 21, 3) := dk_180 0 21 (dk_at dksX0_hasGiven_0 10 rfl rfl)
theorem dX0_hasGiven_13 : decode cX0_hasGiven 13 = .ok (.iload_n 1, 1) := dk_27 (dk_at dksX0_hasGiven_0 13 rfl rfl)
theorem dX0_hasGiven_14 : decode cX0_hasGiven 14 = .ok (.aaload, 1) := dk_50 (dk_at dksX0_hasGiven_0 14 rfl rfl)
theorem dX0_hasGiven_15 : decode cX0_hasGiven 15 = .ok (.astore_n 3, 1) := dk_78 (dk_at dksX0_hasGiven_0 15 rfl rfl)
theorem dX0_hasGiven_16 : decode cX0_hasGiven 16 = .ok (.aload_n 0, 1) := dk_42 (dk_at dksX0_hasGiven_0 16 rfl rfl)
theorem dX0_hasGiven_17 : decode cX0_hasGiven 17 = .ok (.dup, 1) := dk_89 (dk_at dksX0_hasGiven_0 17 rfl rfl)
theorem dX0_hasGiven_18 : decode cX0_hasGiven 18 = .ok (.getfield 70, 3) := dk_180 0 70 (dk_at dksX0_hasGiven_0 18 rfl rfl)
theorem dX0_hasGiven_21 : decode cX0_hasGiven 21 = .ok (.iconst 1, 1) := dk_4 (dk_at dksX0_hasGiven_0 21 rfl rfl)
theorem dX0_hasGiven_22 : decode cX0_hasGiven 22 = .ok (.iadd, 1) := dk_96 (dk_at dksX0_hasGiven_0 22 rfl rfl)
theorem dX0_hasGiven_23 : decode cX0_hasGiven 23 = .ok (.putfield 70, 3) := dk_181 0 70 (dk_at dksX0_hasGiven_1 0 rfl rfl)
theorem dX0_hasGiven_26 : decode cX0_hasGiven 26 = .ok (.aload_n 0, 1) := dk_42 (dk_at dksX0_hasGiven_1 3 rfl rfl)
theorem dX0_hasGiven_27 : decode cX0_hasGiven 27 = .ok (.getfield 40, 3) := dk_180 0 40 (dk_at dksX0_hasGiven_1 4 rfl rfl)
theorem dX0_hasGiven_30 : decode cX0_hasGiven 30 = .ok (.aload_n 0, 1) := dk_42 (dk_at dksX0_hasGiven_1 7 rfl rfl)
theorem dX0_hasGiven_31 : decode cX0_hasGiven 31 = .ok (.getfield 70, 3) := dk_180 0 70 (dk_at dksX0_hasGiven_1 8 rfl rfl)
theorem dX0_hasGiven_34 : decode cX0_hasGiven 34 = .ok (.aaload, 1) := dk_50 (dk_at dksX0_hasGiven_1 11 rfl rfl)
theorem dX0_hasGiven_35 : decode cX0_hasGiven 35 = .ok (.astore 4, 2) := dk_58 4 (dk_at dksX0_hasGiven_1 12 rfl rfl)
theorem dX0_hasGiven_37 : decode cX0_hasGiven 37 = .ok (.aload_n 3, 1) := dk_45 (dk_at dksX0_hasGiven_1 14 rfl rfl)
theorem dX0_hasGiven_38 : decode cX0_hasGiven 38 = .ok (.invokevirtual 73, 3) := dk_182 0 73 (dk_at dksX0_hasGiven_1 15 rfl rfl)
theorem dX0_hasGiven_41 : decode cX0_hasGiven 41 = .ok (.istore 5, 2) := dk_54 5 (dk_at dksX0_hasGiven_1 18 rfl rfl)
theorem dX0_hasGiven_43 : decode cX0_hasGiven 43 = .ok (.iconst 0, 1) := dk_3 (dk_at dksX0_hasGiven_1 20 rfl rfl)
theorem dX0_hasGiven_44 : decode cX0_hasGiven 44 = .ok (.istore 6, 2) := dk_54 6 (dk_at dksX0_hasGiven_1 21 rfl rfl)
theorem dX0_hasGiven_46 : decode cX0_hasGiven 46 = .ok (.iload 5, 2) := dk_21 5 (dk_at dksX0_hasGiven_2 0 rfl rfl)
theorem dX0_hasGiven_48 : decode cX0_hasGiven 48 = .ok (.ifCond .eq 34, 3) := dk_153 0 34 (dk_at dksX0_hasGiven_2 2 rfl rfl)
theorem dX0_hasGiven_51 : decode cX0_hasGiven 51 = .ok (.iload 6, 2) := dk_21 6 (dk_at dksX0_hasGiven_2 5 rfl rfl)
theorem dX0_hasGiven_53 : decode cX0_hasGiven 53 = .ok (.aload_n 3, 1) := dk_45 (dk_at dksX0_hasGiven_2 7 rfl rfl)
theorem dX0_hasGiven_54 : decode cX0_hasGiven 54 = .ok (.invokevirtual 77, 3) := dk_182 0 77 (dk_at dksX0_hasGiven_2 8 rfl rfl)
theorem dX0_hasGiven_57 : decode cX0_hasGiven 57 = .ok (.if_icmp .ge 25, 3) := dk_162 0 25 (dk_at dksX0_hasGiven_2 11 rfl rfl)
theorem dX0_hasGiven_60 : decode cX0_hasGiven 60 = .ok (.aload 4, 2) := dk_25 4 (dk_at dksX0_hasGiven_2 14 rfl rfl)
theorem dX0_hasGiven_62 : decode cX0_hasGiven 62 = .ok (.aload_n 3, 1) := dk_45 (dk_at dksX0_hasGiven_2 16 rfl rfl)
theorem dX0_hasGiven_63 : decode cX0_hasGiven 63 = .ok (.aload_n 2, 1) := dk_44 (dk_at dksX0_hasGiven_2 17 rfl rfl)
theorem dX0_hasGiven_64 : decode cX0_hasGiven 64 = .ok (.iload 6, 2) := dk_21 6 (dk_at dksX0_hasGiven_2 18 rfl rfl)
theorem dX0_hasGiven_66 : decode cX0_hasGiven 66 = .ok (.invokevirtual 80, 3) := dk_182 0 80 (dk_at dksX0_hasGiven_2 20 rfl rfl)
theorem dX0_hasGiven_69 : decode cX0_hasGiven 69 = .ok (.aload 4, 2) := dk_25 4 (dk_at dksX0_hasGiven_3 0 rfl rfl)
theorem dX0_hasGiven_71 : decode cX0_hasGiven 71 = .ok (.invokevirtual 83, 3) := dk_182 0 83 (dk_at dksX0_hasGiven_3 2 rfl rfl)
theorem dX0_hasGiven_74 : decode cX0_hasGiven 74 = .ok (.istore 5, 2) := dk_54 5 (dk_at dksX0_hasGiven_3 5 rfl rfl)
theorem dX0_hasGiven_76 : decode cX0_hasGiven 76 = .ok (.iinc 6 1, 3) := dk_132 6 1 (dk_at dksX0_hasGiven_3 7 rfl rfl)
theorem dX0_hasGiven_79 : decode cX0_hasGiven 79 = .ok (.goto (-33), 3) := dk_167 255 223 (dk_at dksX0_hasGiven_3 10 rfl rfl)
theorem dX0_hasGiven_82 : decode cX0_hasGiven 82 = .ok (.aload_n 0, 1) := dk_42 (dk_at dksX0_hasGiven_3 13 rfl rfl)
theorem dX0_hasGiven_83 : decode cX0_hasGiven 83 = .ok (.dup, 1) := dk_89 (dk_at dksX0_hasGiven_3 14 rfl rfl)
theorem dX0_hasGiven_84 : decode cX0_hasGiven 84 = .ok (.getfield 70, 3) := dk_180 0 70 (dk_at dksX0_hasGiven_3 15 rfl rfl)
theorem dX0_hasGiven_87 : decode cX0_hasGiven 87 = .ok (.iconst 1, 1) := dk_4 (dk_at dksX0_hasGiven_3 18 rfl rfl)
theorem dX0_hasGiven_88 : decode cX0_hasGiven 88 = .ok (.isub, 1) := dk_100 (dk_at dksX0_hasGiven_3 19 rfl rfl)
theorem dX0_hasGiven_89 : decode cX0_hasGiven 89 = .ok (.putfield 70, 3) := dk_181 0 70 (dk_at dksX0_hasGiven_3 20 rfl rfl)
theorem dX0_hasGiven_92 : decode cX0_hasGiven 92 = .ok (.aload_n 2, 1) := dk_44 (dk_at dksX0_hasGiven_3 23 rfl rfl)
theorem dX0_hasGiven_93 : decode cX0_hasGiven 93 = .ok (.getfield 65, 3) := dk_180 0 65 (dk_at dksX0_hasGiven_4 0 rfl rfl)
theorem dX0_hasGiven_96 : decode cX0_hasGiven 96 = .ok (.iload_n 1, 1) := dk_27 (dk_at dksX0_hasGiven_4 3 rfl rfl)
theorem dX0_hasGiven_97 : decode cX0_hasGiven 97 = .ok (.iload 5, 2) := dk_21 5 (dk_at dksX0_hasGiven_4 4 rfl rfl)
theorem dX0_hasGiven_99 : decode cX0_hasGiven 99 = .ok (.ifCond .eq 7, 3) := dk_153 0 7 (dk_at dksX0_hasGiven_4 6 rfl rfl)
theorem dX0_hasGiven_102 : decode cX0_hasGiven 102 = .ok (.iconst 2, 1) := dk_5 (dk_at dksX0_hasGiven_4 9 rfl rfl)
theorem dX0_hasGiven_103 : decode cX0_hasGiven 103 = .ok (.goto 4, 3) := dk_167 0 4 (dk_at dksX0_hasGiven_4 10 rfl rfl)
theorem dX0_hasGiven_106 : decode cX0_hasGiven 106 = .ok (.iconst 1, 1) := dk_4 (dk_at dksX0_hasGiven_4 13 rfl rfl)
theorem dX0_hasGiven_107 : decode cX0_hasGiven 107 = .ok (.iastore, 1) := dk_79 (dk_at dksX0_hasGiven_4 14 rfl rfl)
theorem dX0_hasGiven_108 : decode cX0_hasGiven 108 = .ok (.aload_n 2, 1) := dk_44 (dk_at dksX0_hasGiven_4 15 rfl rfl)
theorem dX0_hasGiven_109 : decode cX0_hasGiven 109 = .ok (.getfield 65, 3) := dk_180 0 65 (dk_at dksX0_hasGiven_4 16 rfl rfl)
theorem dX0_hasGiven_112 : decode cX0_hasGiven 112 = .ok (.iload_n 1, 1) := dk_27 (dk_at dksX0_hasGiven_4 19 rfl rfl)
theorem dX0_hasGiven_113 : decode cX0_hasGiven 113 = .ok (.iaload, 1) := dk_46 (dk_at dksX0_hasGiven_4 20 rfl rfl)
theorem dX0_hasGiven_114 : decode cX0_hasGiven 114 = .ok (.iconst 2, 1) := dk_5 (dk_at dksX0_hasGiven_4 21 rfl rfl)
theorem dX0_hasGiven_115 : decode cX0_hasGiven 115 = .ok (.if_icmp .ne 7, 3) := dk_160 0 7 (dk_at dksX0_hasGiven_5 0 rfl rfl)
theorem dX0_hasGiven_118 : decode cX0_hasGiven 118 = .ok (.iconst 1, 1) := dk_4 (dk_at dksX0_hasGiven_5 3 rfl rfl)
theorem dX0_hasGiven_119 : decode cX0_hasGiven 119 = .ok (.goto 4, 3) := dk_167 0 4 (dk_at dksX0_hasGiven_5 4 rfl rfl)
theorem dX0_hasGiven_122 : decode cX0_hasGiven 122 = .ok (.iconst 0, 1) := dk_3 (dk_at dksX0_hasGiven_5 7 rfl rfl)
theorem dX0_hasGiven_123 : decode cX0_hasGiven 123 = .ok (.ireturn, 1) := dk_172 (dk_at dksX0_hasGiven_5 8 rfl rfl)
abbrev cX0_open : ByteArray := prog_1_method_24_code
def yX0_open : MethodName := ⟨RX0, "open", "(IIIII)I"⟩
def dkwX0_open_6 : List UInt8 := [180, 0, 240, 21, 4, 46, 172]
abbrev dktX0_open_6 : List UInt8 := dkwX0_open_6 ++ []
def dkwX0_open_5 : List UInt8 := [167, 0, 28, 21, 5, 4, 160, 0, 14, 25, 7, 180, 0, 237, 21, 4, 46, 167, 0, 11, 25, 7]
abbrev dktX0_open_5 : List UInt8 := dkwX0_open_5 ++ dktX0_open_6
def dkwX0_open_4 : List UInt8 := [180, 0, 234, 21, 4, 46, 17, 39, 15, 160, 0, 7, 2, 167, 0, 39, 25, 7, 180, 0, 234, 21, 4, 46]
abbrev dktX0_open_4 : List UInt8 := dkwX0_open_4 ++ dktX0_open_5
def dkwX0_open_3 : List UInt8 := [172, 42, 42, 180, 0, 21, 27, 50, 25, 6, 29, 182, 0, 213, 58, 7, 21, 5, 154, 0, 32, 25, 7]
abbrev dktX0_open_3 : List UInt8 := dkwX0_open_3 ++ dktX0_open_4
def dkwX0_open_2 : List UInt8 := [58, 6, 42, 180, 0, 21, 27, 50, 180, 0, 143, 21, 4, 50, 25, 6, 182, 0, 230, 154, 0, 6, 16, 254]
abbrev dktX0_open_2 : List UInt8 := dkwX0_open_2 ++ dktX0_open_3
def dkwX0_open_1 : List UInt8 := [184, 0, 102, 153, 0, 13, 21, 5, 3, 5, 184, 0, 102, 154, 0, 6, 16, 254, 172, 42, 28, 182, 0, 203]
abbrev dktX0_open_1 : List UInt8 := dkwX0_open_1 ++ dktX0_open_2
def dkwX0_open_0 : List UInt8 := [42, 27, 28, 29, 182, 0, 210, 153, 0, 33, 21, 4, 3, 42, 180, 0, 21, 27, 50, 180, 0, 126, 4, 100]
abbrev dktX0_open_0 : List UInt8 := dkwX0_open_0 ++ dktX0_open_1
theorem dksX0_open_0 : cX0_open.data.toList.drop 0 = dktX0_open_0 := by decide +kernel
theorem dksX0_open_1 : cX0_open.data.toList.drop 24 = dktX0_open_1 := dk_seg dksX0_open_0 24 rfl rfl
theorem dksX0_open_2 : cX0_open.data.toList.drop 48 = dktX0_open_2 := dk_seg dksX0_open_1 24 rfl rfl
theorem dksX0_open_3 : cX0_open.data.toList.drop 72 = dktX0_open_3 := dk_seg dksX0_open_2 24 rfl rfl
theorem dksX0_open_4 : cX0_open.data.toList.drop 95 = dktX0_open_4 := dk_seg dksX0_open_3 23 rfl rfl
theorem dksX0_open_5 : cX0_open.data.toList.drop 119 = dktX0_open_5 := dk_seg dksX0_open_4 24 rfl rfl
theorem dksX0_open_6 : cX0_open.data.toList.drop 141 = dktX0_open_6 := dk_seg dksX0_open_5 22 rfl rfl
theorem dX0_open_0 : decode cX0_open 0 = .ok (.aload_n 0, 1) := dk_42 (dk_at dksX0_open_0 0 rfl rfl)
theorem dX0_open_1 : decode cX0_open 1 = .ok (.iload_n 1, 1) := dk_27 (dk_at dksX0_open_0 1 rfl rfl)
theorem dX0_open_2 : decode cX0_open 2 = .ok (.iload_n 2, 1) := dk_28 (dk_at dksX0_open_0 2 rfl rfl)
theorem dX0_open_3 : decode cX0_open 3 = .ok (.iload_n 3, 1) := dk_29 (dk_at dksX0_open_0 3 rfl rfl)
theorem dX0_open_4 : decode cX0_open 4 = .ok (.invokevirtual 210, 3) := dk_182 0 210 (dk_at dksX0_open_0 4 rfl rfl)
theorem dX0_open_7 : decode cX0_open 7 = .ok (.ifCond .eq 33, 3) := dk_153 0 33 (dk_at dksX0_open_0 7 rfl rfl)
theorem dX0_open_10 : decode cX0_open 10 = .ok (.iload 4, 2) := dk_21 4 (dk_at dksX0_open_0 10 rfl rfl)
theorem dX0_open_12 : decode cX0_open 12 = .ok (.iconst 0, 1) := dk_3 (dk_at dksX0_open_0 12 rfl rfl)
theorem dX0_open_13 : decode cX0_open 13 = .ok (.aload_n 0, 1) := dk_42 (dk_at dksX0_open_0 13 rfl rfl)
theorem dX0_open_14 : decode cX0_open 14 = .ok (.getfield 21, 3) := dk_180 0 21 (dk_at dksX0_open_0 14 rfl rfl)
theorem dX0_open_17 : decode cX0_open 17 = .ok (.iload_n 1, 1) := dk_27 (dk_at dksX0_open_0 17 rfl rfl)
theorem dX0_open_18 : decode cX0_open 18 = .ok (.aaload, 1) := dk_50 (dk_at dksX0_open_0 18 rfl rfl)
theorem dX0_open_19 : decode cX0_open 19 = .ok (.getfield 126, 3) := dk_180 0 126 (dk_at dksX0_open_0 19 rfl rfl)
theorem dX0_open_22 : decode cX0_open 22 = .ok (.iconst 1, 1) := dk_4 (dk_at dksX0_open_0 22 rfl rfl)
theorem dX0_open_23 : decode cX0_open 23 = .ok (.isub, 1) := dk_100 (dk_at dksX0_open_0 23 rfl rfl)
theorem dX0_open_24 : decode cX0_open 24 = .ok (.invokestatic 102, 3) := dk_184 0 102 (dk_at dksX0_open_1 0 rfl rfl)
theorem dX0_open_27 : decode cX0_open 27 = .ok (.ifCond .eq 13, 3) := dk_153 0 13 (dk_at dksX0_open_1 3 rfl rfl)
theorem dX0_open_30 : decode cX0_open 30 = .ok (.iload 5, 2) := dk_21 5 (dk_at dksX0_open_1 6 rfl rfl)
theorem dX0_open_32 : decode cX0_open 32 = .ok (.iconst 0, 1) := dk_3 (dk_at dksX0_open_1 8 rfl rfl)
theorem dX0_open_33 : decode cX0_open 33 = .ok (.iconst 2, 1) := dk_5 (dk_at dksX0_open_1 9 rfl rfl)
theorem dX0_open_34 : decode cX0_open 34 = .ok (.invokestatic 102, 3) := dk_184 0 102 (dk_at dksX0_open_1 10 rfl rfl)
theorem dX0_open_37 : decode cX0_open 37 = .ok (.ifCond .ne 6, 3) := dk_154 0 6 (dk_at dksX0_open_1 13 rfl rfl)
theorem dX0_open_40 : decode cX0_open 40 = .ok (.bipush (-2), 2) := dk_16 254 (dk_at dksX0_open_1 16 rfl rfl)
theorem dX0_open_42 : decode cX0_open 42 = .ok (.ireturn, 1) := dk_172 (dk_at dksX0_open_1 18 rfl rfl)
theorem dX0_open_43 : decode cX0_open 43 = .ok (.aload_n 0, 1) := dk_42 (dk_at dksX0_open_1 19 rfl rfl)
theorem dX0_open_44 : decode cX0_open 44 = .ok (.iload_n 2, 1) := dk_28 (dk_at dksX0_open_1 20 rfl rfl)
theorem dX0_open_45 : decode cX0_open 45 = .ok (.invokevirtual 203, 3) := dk_182 0 203 (dk_at dksX0_open_1 21 rfl rfl)
theorem dX0_open_48 : decode cX0_open 48 = .ok (.astore 6, 2) := dk_58 6 (dk_at dksX0_open_2 0 rfl rfl)
theorem dX0_open_50 : decode cX0_open 50 = .ok (.aload_n 0, 1) := dk_42 (dk_at dksX0_open_2 2 rfl rfl)
theorem dX0_open_51 : decode cX0_open 51 = .ok (.getfield 21, 3) := dk_180 0 21 (dk_at dksX0_open_2 3 rfl rfl)
theorem dX0_open_54 : decode cX0_open 54 = .ok (.iload_n 1, 1) := dk_27 (dk_at dksX0_open_2 6 rfl rfl)
theorem dX0_open_55 : decode cX0_open 55 = .ok (.aaload, 1) := dk_50 (dk_at dksX0_open_2 7 rfl rfl)
theorem dX0_open_56 : decode cX0_open 56 = .ok (.getfield 143, 3) := dk_180 0 143 (dk_at dksX0_open_2 8 rfl rfl)
theorem dX0_open_59 : decode cX0_open 59 = .ok (.iload 4, 2) := dk_21 4 (dk_at dksX0_open_2 11 rfl rfl)
theorem dX0_open_61 : decode cX0_open 61 = .ok (.aaload, 1) := dk_50 (dk_at dksX0_open_2 13 rfl rfl)
theorem dX0_open_62 : decode cX0_open 62 = .ok (.aload 6, 2) := dk_25 6 (dk_at dksX0_open_2 14 rfl rfl)
theorem dX0_open_64 : decode cX0_open 64 = .ok (.invokevirtual 230, 3) := dk_182 0 230 (dk_at dksX0_open_2 16 rfl rfl)
theorem dX0_open_67 : decode cX0_open 67 = .ok (.ifCond .ne 6, 3) := dk_154 0 6 (dk_at dksX0_open_2 19 rfl rfl)
theorem dX0_open_70 : decode cX0_open 70 = .ok (.bipush (-2), 2) := dk_16 254 (dk_at dksX0_open_2 22 rfl rfl)
theorem dX0_open_72 : decode cX0_open 72 = .ok (.ireturn, 1) := dk_172 (dk_at dksX0_open_3 0 rfl rfl)
theorem dX0_open_73 : decode cX0_open 73 = .ok (.aload_n 0, 1) := dk_42 (dk_at dksX0_open_3 1 rfl rfl)
theorem dX0_open_74 : decode cX0_open 74 = .ok (.aload_n 0, 1) := dk_42 (dk_at dksX0_open_3 2 rfl rfl)
theorem dX0_open_75 : decode cX0_open 75 = .ok (.getfield 21, 3) := dk_180 0 21 (dk_at dksX0_open_3 3 rfl rfl)
theorem dX0_open_78 : decode cX0_open 78 = .ok (.iload_n 1, 1) := dk_27 (dk_at dksX0_open_3 6 rfl rfl)
theorem dX0_open_79 : decode cX0_open 79 = .ok (.aaload, 1) := dk_50 (dk_at dksX0_open_3 7 rfl rfl)
theorem dX0_open_80 : decode cX0_open 80 = .ok (.aload 6, 2) := dk_25 6 (dk_at dksX0_open_3 8 rfl rfl)
theorem dX0_open_82 : decode cX0_open 82 = .ok (.iload_n 3, 1) := dk_29 (dk_at dksX0_open_3 10 rfl rfl)
theorem dX0_open_83 : decode cX0_open 83 = .ok (.invokevirtual 213, 3) := dk_182 0 213 (dk_at dksX0_open_3 11 rfl rfl)
theorem dX0_open_86 : decode cX0_open 86 = .ok (.astore 7, 2) := dk_58 7 (dk_at dksX0_open_3 14 rfl rfl)
theorem dX0_open_88 : decode cX0_open 88 = .ok (.iload 5, 2) := dk_21 5 (dk_at dksX0_open_3 16 rfl rfl)
theorem dX0_open_90 : decode cX0_open 90 = .ok (.ifCond .ne 32, 3) := dk_154 0 32 (dk_at dksX0_open_3 18 rfl rfl)
theorem dX0_open_93 : decode cX0_open 93 = .ok (.aload 7, 2) := dk_25 7 (dk_at dksX0_open_3 21 rfl rfl)
theorem dX0_open_95 : decode cX0_open 95 = .ok (.getfield 234, 3) := dk_180 0 234 (dk_at dksX0_open_4 0 rfl rfl)
theorem dX0_open_98 : decode cX0_open 98 = .ok (.iload 4, 2) := dk_21 4 (dk_at dksX0_open_4 3 rfl rfl)
theorem dX0_open_100 : decode cX0_open 100 = .ok (.iaload, 1) := dk_46 (dk_at dksX0_open_4 5 rfl rfl)
theorem dX0_open_101 : decode cX0_open 101 = .ok (.sipush 9999, 3) := dk_17 39 15 (dk_at dksX0_open_4 6 rfl rfl)
theorem dX0_open_104 : decode cX0_open 104 = .ok (.if_icmp .ne 7, 3) := dk_160 0 7 (dk_at dksX0_open_4 9 rfl rfl)
theorem dX0_open_107 : decode cX0_open 107 = .ok (.iconst (-1), 1) := dk_2 (dk_at dksX0_open_4 12 rfl rfl)
theorem dX0_open_108 : decode cX0_open 108 = .ok (.goto 39, 3) := dk_167 0 39 (dk_at dksX0_open_4 13 rfl rfl)
theorem dX0_open_111 : decode cX0_open 111 = .ok (.aload 7, 2) := dk_25 7 (dk_at dksX0_open_4 16 rfl rfl)
theorem dX0_open_113 : decode cX0_open 113 = .ok (.getfield 234, 3) := dk_180 0 234 (dk_at dksX0_open_4 18 rfl rfl)
theorem dX0_open_116 : decode cX0_open 116 = .ok (.iload 4, 2) := dk_21 4 (dk_at dksX0_open_4 21 rfl rfl)
theorem dX0_open_118 : decode cX0_open 118 = .ok (.iaload, 1) := dk_46 (dk_at dksX0_open_4 23 rfl rfl)
theorem dX0_open_119 : decode cX0_open 119 = .ok (.goto 28, 3) := dk_167 0 28 (dk_at dksX0_open_5 0 rfl rfl)
theorem dX0_open_122 : decode cX0_open 122 = .ok (.iload 5, 2) := dk_21 5 (dk_at dksX0_open_5 3 rfl rfl)
theorem dX0_open_124 : decode cX0_open 124 = .ok (.iconst 1, 1) := dk_4 (dk_at dksX0_open_5 5 rfl rfl)
theorem dX0_open_125 : decode cX0_open 125 = .ok (.if_icmp .ne 14, 3) := dk_160 0 14 (dk_at dksX0_open_5 6 rfl rfl)
theorem dX0_open_128 : decode cX0_open 128 = .ok (.aload 7, 2) := dk_25 7 (dk_at dksX0_open_5 9 rfl rfl)
theorem dX0_open_130 : decode cX0_open 130 = .ok (.getfield 237, 3) := dk_180 0 237 (dk_at dksX0_open_5 11 rfl rfl)
theorem dX0_open_133 : decode cX0_open 133 = .ok (.iload 4, 2) := dk_21 4 (dk_at dksX0_open_5 14 rfl rfl)
theorem dX0_open_135 : decode cX0_open 135 = .ok (.iaload, 1) := dk_46 (dk_at dksX0_open_5 16 rfl rfl)
theorem dX0_open_136 : decode cX0_open 136 = .ok (.goto 11, 3) := dk_167 0 11 (dk_at dksX0_open_5 17 rfl rfl)
theorem dX0_open_139 : decode cX0_open 139 = .ok (.aload 7, 2) := dk_25 7 (dk_at dksX0_open_5 20 rfl rfl)
theorem dX0_open_141 : decode cX0_open 141 = .ok (.getfield 240, 3) := dk_180 0 240 (dk_at dksX0_open_6 0 rfl rfl)
theorem dX0_open_144 : decode cX0_open 144 = .ok (.iload 4, 2) := dk_21 4 (dk_at dksX0_open_6 3 rfl rfl)
theorem dX0_open_146 : decode cX0_open 146 = .ok (.iaload, 1) := dk_46 (dk_at dksX0_open_6 5 rfl rfl)
theorem dX0_open_147 : decode cX0_open 147 = .ok (.ireturn, 1) := dk_172 (dk_at dksX0_open_6 6 rfl rfl)
abbrev cX0_binds : ByteArray := prog_1_method_25_code
def yX0_binds : MethodName := ⟨RX0, "binds", "(III)I"⟩
def dkwX0_binds_2 : List UInt8 := [180, 0, 152, 120, 4, 25, 4, 180, 0, 220, 182, 0, 155, 120, 128, 167, 0, 4, 3, 172]
abbrev dktX0_binds_2 : List UInt8 := dkwX0_binds_2 ++ []
def dkwX0_binds_1 : List UInt8 := [182, 0, 203, 29, 182, 0, 213, 58, 4, 25, 4, 182, 0, 83, 153, 0, 27, 4, 25, 4, 180, 0, 220]
abbrev dktX0_binds_1 : List UInt8 := dkwX0_binds_1 ++ dktX0_binds_2
def dkwX0_binds_0 : List UInt8 := [42, 27, 28, 29, 182, 0, 210, 154, 0, 6, 16, 254, 172, 42, 42, 180, 0, 21, 27, 50, 42, 28]
abbrev dktX0_binds_0 : List UInt8 := dkwX0_binds_0 ++ dktX0_binds_1
theorem dksX0_binds_0 : cX0_binds.data.toList.drop 0 = dktX0_binds_0 := by decide +kernel
theorem dksX0_binds_1 : cX0_binds.data.toList.drop 22 = dktX0_binds_1 := dk_seg dksX0_binds_0 22 rfl rfl
theorem dksX0_binds_2 : cX0_binds.data.toList.drop 45 = dktX0_binds_2 := dk_seg dksX0_binds_1 23 rfl rfl
theorem dX0_binds_0 : decode cX0_binds 0 = .ok (.aload_n 0, 1) := dk_42 (dk_at dksX0_binds_0 0 rfl rfl)
theorem dX0_binds_1 : decode cX0_binds 1 = .ok (.iload_n 1, 1) := dk_27 (dk_at dksX0_binds_0 1 rfl rfl)
theorem dX0_binds_2 : decode cX0_binds 2 = .ok (.iload_n 2, 1) := dk_28 (dk_at dksX0_binds_0 2 rfl rfl)
theorem dX0_binds_3 : decode cX0_binds 3 = .ok (.iload_n 3, 1) := dk_29 (dk_at dksX0_binds_0 3 rfl rfl)
theorem dX0_binds_4 : decode cX0_binds 4 = .ok (.invokevirtual 210, 3) := dk_182 0 210 (dk_at dksX0_binds_0 4 rfl rfl)
theorem dX0_binds_7 : decode cX0_binds 7 = .ok (.ifCond .ne 6, 3) := dk_154 0 6 (dk_at dksX0_binds_0 7 rfl rfl)
theorem dX0_binds_10 : decode cX0_binds 10 = .ok (.bipush (-2), 2) := dk_16 254 (dk_at dksX0_binds_0 10 rfl rfl)
theorem dX0_binds_12 : decode cX0_binds 12 = .ok (.ireturn, 1) := dk_172 (dk_at dksX0_binds_0 12 rfl rfl)
theorem dX0_binds_13 : decode cX0_binds 13 = .ok (.aload_n 0, 1) := dk_42 (dk_at dksX0_binds_0 13 rfl rfl)
theorem dX0_binds_14 : decode cX0_binds 14 = .ok (.aload_n 0, 1) := dk_42 (dk_at dksX0_binds_0 14 rfl rfl)
theorem dX0_binds_15 : decode cX0_binds 15 = .ok (.getfield 21, 3) := dk_180 0 21 (dk_at dksX0_binds_0 15 rfl rfl)
theorem dX0_binds_18 : decode cX0_binds 18 = .ok (.iload_n 1, 1) := dk_27 (dk_at dksX0_binds_0 18 rfl rfl)
theorem dX0_binds_19 : decode cX0_binds 19 = .ok (.aaload, 1) := dk_50 (dk_at dksX0_binds_0 19 rfl rfl)
theorem dX0_binds_20 : decode cX0_binds 20 = .ok (.aload_n 0, 1) := dk_42 (dk_at dksX0_binds_0 20 rfl rfl)
theorem dX0_binds_21 : decode cX0_binds 21 = .ok (.iload_n 2, 1) := dk_28 (dk_at dksX0_binds_0 21 rfl rfl)
theorem dX0_binds_22 : decode cX0_binds 22 = .ok (.invokevirtual 203, 3) := dk_182 0 203 (dk_at dksX0_binds_1 0 rfl rfl)
theorem dX0_binds_25 : decode cX0_binds 25 = .ok (.iload_n 3, 1) := dk_29 (dk_at dksX0_binds_1 3 rfl rfl)
theorem dX0_binds_26 : decode cX0_binds 26 = .ok (.invokevirtual 213, 3) := dk_182 0 213 (dk_at dksX0_binds_1 4 rfl rfl)
theorem dX0_binds_29 : decode cX0_binds 29 = .ok (.astore 4, 2) := dk_58 4 (dk_at dksX0_binds_1 7 rfl rfl)
theorem dX0_binds_31 : decode cX0_binds 31 = .ok (.aload 4, 2) := dk_25 4 (dk_at dksX0_binds_1 9 rfl rfl)
theorem dX0_binds_33 : decode cX0_binds 33 = .ok (.invokevirtual 83, 3) := dk_182 0 83 (dk_at dksX0_binds_1 11 rfl rfl)
theorem dX0_binds_36 : decode cX0_binds 36 = .ok (.ifCond .eq 27, 3) := dk_153 0 27 (dk_at dksX0_binds_1 14 rfl rfl)
theorem dX0_binds_39 : decode cX0_binds 39 = .ok (.iconst 1, 1) := dk_4 (dk_at dksX0_binds_1 17 rfl rfl)
theorem dX0_binds_40 : decode cX0_binds 40 = .ok (.aload 4, 2) := dk_25 4 (dk_at dksX0_binds_1 18 rfl rfl)
theorem dX0_binds_42 : decode cX0_binds 42 = .ok (.getfield 220, 3) := dk_180 0 220 (dk_at dksX0_binds_1 20 rfl rfl)
theorem dX0_binds_45 : decode cX0_binds 45 = .ok (.getfield 152, 3) := dk_180 0 152 (dk_at dksX0_binds_2 0 rfl rfl)
theorem dX0_binds_48 : decode cX0_binds 48 = .ok (.ishl, 1) := dk_120 (dk_at dksX0_binds_2 3 rfl rfl)
theorem dX0_binds_49 : decode cX0_binds 49 = .ok (.iconst 1, 1) := dk_4 (dk_at dksX0_binds_2 4 rfl rfl)
theorem dX0_binds_50 : decode cX0_binds 50 = .ok (.aload 4, 2) := dk_25 4 (dk_at dksX0_binds_2 5 rfl rfl)
theorem dX0_binds_52 : decode cX0_binds 52 = .ok (.getfield 220, 3) := dk_180 0 220 (dk_at dksX0_binds_2 7 rfl rfl)
theorem dX0_binds_55 : decode cX0_binds 55 = .ok (.invokevirtual 155, 3) := dk_182 0 155 (dk_at dksX0_binds_2 10 rfl rfl)
theorem dX0_binds_58 : decode cX0_binds 58 = .ok (.ishl, 1) := dk_120 (dk_at dksX0_binds_2 13 rfl rfl)
theorem dX0_binds_59 : decode cX0_binds 59 = .ok (.ior, 1) := dk_128 (dk_at dksX0_binds_2 14 rfl rfl)
theorem dX0_binds_60 : decode cX0_binds 60 = .ok (.goto 4, 3) := dk_167 0 4 (dk_at dksX0_binds_2 15 rfl rfl)
theorem dX0_binds_63 : decode cX0_binds 63 = .ok (.iconst 0, 1) := dk_3 (dk_at dksX0_binds_2 18 rfl rfl)
theorem dX0_binds_64 : decode cX0_binds 64 = .ok (.ireturn, 1) := dk_172 (dk_at dksX0_binds_2 19 rfl rfl)
abbrev cX0_sure : ByteArray := prog_1_method_26_code
def yX0_sure : MethodName := ⟨RX0, "sure", "(III)I"⟩
def dkwX0_sure_8 : List UInt8 := [21, 9, 167, 0, 5, 21, 10, 172]
abbrev dktX0_sure_8 : List UInt8 := dkwX0_sure_8 ++ []
def dkwX0_sure_7 : List UInt8 := [160, 0, 8, 21, 7, 167, 0, 25, 29, 5, 160, 0, 8, 21, 8, 167, 0, 15, 29, 6, 160, 0, 8]
abbrev dktX0_sure_7 : List UInt8 := dkwX0_sure_7 ++ dktX0_sure_8
def dkwX0_sure_6 : List UInt8 := [184, 0, 243, 54, 10, 132, 11, 1, 167, 255, 162, 29, 154, 0, 8, 21, 6, 167, 0, 35, 29, 4]
abbrev dktX0_sure_6 : List UInt8 := dkwX0_sure_6 ++ dktX0_sure_7
def dkwX0_sure_5 : List UInt8 := [25, 12, 180, 0, 224, 21, 9, 162, 0, 10, 25, 12, 180, 0, 224, 54, 9, 21, 10, 25, 12, 180, 0, 224]
abbrev dktX0_sure_5 : List UInt8 := dkwX0_sure_5 ++ dktX0_sure_6
def dkwX0_sure_4 : List UInt8 := [54, 8, 167, 0, 51, 21, 7, 2, 160, 0, 7, 21, 11, 54, 7, 132, 6, 1, 21, 9, 2, 159, 0, 13]
abbrev dktX0_sure_4 : List UInt8 := dkwX0_sure_4 ++ dktX0_sure_5
def dkwX0_sure_3 : List UInt8 := [21, 11, 182, 0, 213, 58, 12, 25, 12, 182, 0, 83, 154, 0, 16, 21, 8, 2, 160, 0, 58, 21, 11]
abbrev dktX0_sure_3 : List UInt8 := dkwX0_sure_3 ++ dktX0_sure_4
def dkwX0_sure_2 : List UInt8 := [54, 9, 2, 54, 10, 3, 54, 11, 21, 11, 25, 4, 182, 0, 77, 162, 0, 90, 42, 25, 4, 25, 5]
abbrev dktX0_sure_2 : List UInt8 := dkwX0_sure_2 ++ dktX0_sure_3
def dkwX0_sure_1 : List UInt8 := [180, 0, 21, 27, 50, 58, 4, 42, 28, 182, 0, 203, 58, 5, 3, 54, 6, 2, 54, 7, 2, 54, 8, 2]
abbrev dktX0_sure_1 : List UInt8 := dkwX0_sure_1 ++ dktX0_sure_2
def dkwX0_sure_0 : List UInt8 := [42, 27, 28, 3, 182, 0, 210, 153, 0, 12, 29, 3, 7, 184, 0, 102, 154, 0, 6, 16, 254, 172, 42]
abbrev dktX0_sure_0 : List UInt8 := dkwX0_sure_0 ++ dktX0_sure_1
theorem dksX0_sure_0 : cX0_sure.data.toList.drop 0 = dktX0_sure_0 := by decide +kernel
theorem dksX0_sure_1 : cX0_sure.data.toList.drop 23 = dktX0_sure_1 := dk_seg dksX0_sure_0 23 rfl rfl
theorem dksX0_sure_2 : cX0_sure.data.toList.drop 47 = dktX0_sure_2 := dk_seg dksX0_sure_1 24 rfl rfl
theorem dksX0_sure_3 : cX0_sure.data.toList.drop 70 = dktX0_sure_3 := dk_seg dksX0_sure_2 23 rfl rfl
theorem dksX0_sure_4 : cX0_sure.data.toList.drop 93 = dktX0_sure_4 := dk_seg dksX0_sure_3 23 rfl rfl
theorem dksX0_sure_5 : cX0_sure.data.toList.drop 117 = dktX0_sure_5 := dk_seg dksX0_sure_4 24 rfl rfl
theorem dksX0_sure_6 : cX0_sure.data.toList.drop 141 = dktX0_sure_6 := dk_seg dksX0_sure_5 24 rfl rfl
theorem dksX0_sure_7 : cX0_sure.data.toList.drop 163 = dktX0_sure_7 := dk_seg dksX0_sure_6 22 rfl rfl
theorem dksX0_sure_8 : cX0_sure.data.toList.drop 186 = dktX0_sure_8 := dk_seg dksX0_sure_7 23 rfl rfl
theorem dX0_sure_0 : decode cX0_sure 0 = .ok (.aload_n 0, 1) := dk_42 (dk_at dksX0_sure_0 0 rfl rfl)
theorem dX0_sure_1 : decode cX0_sure 1 = .ok (.iload_n 1, 1) := dk_27 (dk_at dksX0_sure_0 1 rfl rfl)
theorem dX0_sure_2 : decode cX0_sure 2 = .ok (.iload_n 2, 1) := dk_28 (dk_at dksX0_sure_0 2 rfl rfl)
theorem dX0_sure_3 : decode cX0_sure 3 = .ok (.iconst 0, 1) := dk_3 (dk_at dksX0_sure_0 3 rfl rfl)
theorem dX0_sure_4 : decode cX0_sure 4 = .ok (.invokevirtual 210, 3) := dk_182 0 210 (dk_at dksX0_sure_0 4 rfl rfl)
theorem dX0_sure_7 : decode cX0_sure 7 = .ok (.ifCond .eq 12, 3) := dk_153 0 12 (dk_at dksX0_sure_0 7 rfl rfl)
theorem dX0_sure_10 : decode cX0_sure 10 = .ok (.iload_n 3, 1) := dk_29 (dk_at dksX0_sure_0 10 rfl rfl)
theorem dX0_sure_11 : decode cX0_sure 11 = .ok (.iconst 0, 1) := dk_3 (dk_at dksX0_sure_0 11 rfl rfl)
theorem dX0_sure_12 : decode cX0_sure 12 = .ok (.iconst 4, 1) := dk_7 (dk_at dksX0_sure_0 12 rfl rfl)
theorem dX0_sure_13 : decode cX0_sure 13 = .ok (.invokestatic 102, 3) := dk_184 0 102 (dk_at dksX0_sure_0 13 rfl rfl)
theorem dX0_sure_16 : decode cX0_sure 16 = .ok (.ifCond .ne 6, 3) := dk_154 0 6 (dk_at dksX0_sure_0 16 rfl rfl)
theorem dX0_sure_19 : decode cX0_sure 19 = .ok (.bipush (-2), 2) := dk_16 254 (dk_at dksX0_sure_0 19 rfl rfl)
theorem dX0_sure_21 : decode cX0_sure 21 = .ok (.ireturn, 1) := dk_172 (dk_at dksX0_sure_0 21 rfl rfl)
theorem dX0_sure_22 : decode cX0_sure 22 = .ok (.aload_n 0, 1) := dk_42 (dk_at dksX0_sure_0 22 rfl rfl)
theorem dX0_sure_23 : decode cX0_sure 23 = .ok (.getfield 21, 3) := dk_180 0 21 (dk_at dksX0_sure_1 0 rfl rfl)
theorem dX0_sure_26 : decode cX0_sure 26 = .ok (.iload_n 1, 1) := dk_27 (dk_at dksX0_sure_1 3 rfl rfl)
theorem dX0_sure_27 : decode cX0_sure 27 = .ok (.aaload, 1) := dk_50 (dk_at dksX0_sure_1 4 rfl rfl)
theorem dX0_sure_28 : decode cX0_sure 28 = .ok (.astore 4, 2) := dk_58 4 (dk_at dksX0_sure_1 5 rfl rfl)
theorem dX0_sure_30 : decode cX0_sure 30 = .ok (.aload_n 0, 1) := dk_42 (dk_at dksX0_sure_1 7 rfl rfl)
theorem dX0_sure_31 : decode cX0_sure 31 = .ok (.iload_n 2, 1) := dk_28 (dk_at dksX0_sure_1 8 rfl rfl)
theorem dX0_sure_32 : decode cX0_sure 32 = .ok (.invokevirtual 203, 3) := dk_182 0 203 (dk_at dksX0_sure_1 9 rfl rfl)
theorem dX0_sure_35 : decode cX0_sure 35 = .ok (.astore 5, 2) := dk_58 5 (dk_at dksX0_sure_1 12 rfl rfl)
theorem dX0_sure_37 : decode cX0_sure 37 = .ok (.iconst 0, 1) := dk_3 (dk_at dksX0_sure_1 14 rfl rfl)
theorem dX0_sure_38 : decode cX0_sure 38 = .ok (.istore 6, 2) := dk_54 6 (dk_at dksX0_sure_1 15 rfl rfl)
theorem dX0_sure_40 : decode cX0_sure 40 = .ok (.iconst (-1), 1) := dk_2 (dk_at dksX0_sure_1 17 rfl rfl)
theorem dX0_sure_41 : decode cX0_sure 41 = .ok (.istore 7, 2) := dk_54 7 (dk_at dksX0_sure_1 18 rfl rfl)
theorem dX0_sure_43 : decode cX0_sure 43 = .ok (.iconst (-1), 1) := dk_2 (dk_at dksX0_sure_1 20 rfl rfl)
theorem dX0_sure_44 : decode cX0_sure 44 = .ok (.istore 8, 2) := dk_54 8 (dk_at dksX0_sure_1 21 rfl rfl)
theorem dX0_sure_46 : decode cX0_sure 46 = .ok (.iconst (-1), 1) := dk_2 (dk_at dksX0_sure_1 23 rfl rfl)
theorem dX0_sure_47 : decode cX0_sure 47 = .ok (.istore 9, 2) := dk_54 9 (dk_at dksX0_sure_2 0 rfl rfl)
theorem dX0_sure_49 : decode cX0_sure 49 = .ok (.iconst (-1), 1) := dk_2 (dk_at dksX0_sure_2 2 rfl rfl)
theorem dX0_sure_50 : decode cX0_sure 50 = .ok (.istore 10, 2) := dk_54 10 (dk_at dksX0_sure_2 3 rfl rfl)
theorem dX0_sure_52 : decode cX0_sure 52 = .ok (.iconst 0, 1) := dk_3 (dk_at dksX0_sure_2 5 rfl rfl)
theorem dX0_sure_53 : decode cX0_sure 53 = .ok (.istore 11, 2) := dk_54 11 (dk_at dksX0_sure_2 6 rfl rfl)
theorem dX0_sure_55 : decode cX0_sure 55 = .ok (.iload 11, 2) := dk_21 11 (dk_at dksX0_sure_2 8 rfl rfl)
theorem dX0_sure_57 : decode cX0_sure 57 = .ok (.aload 4, 2) := dk_25 4 (dk_at dksX0_sure_2 10 rfl rfl)
theorem dX0_sure_59 : decode cX0_sure 59 = .ok (.invokevirtual 77, 3) := dk_182 0 77 (dk_at dksX0_sure_2 12 rfl rfl)
theorem dX0_sure_62 : decode cX0_sure 62 = .ok (.if_icmp .ge 90, 3) := dk_162 0 90 (dk_at dksX0_sure_2 15 rfl rfl)
theorem dX0_sure_65 : decode cX0_sure 65 = .ok (.aload_n 0, 1) := dk_42 (dk_at dksX0_sure_2 18 rfl rfl)
theorem dX0_sure_66 : decode cX0_sure 66 = .ok (.aload 4, 2) := dk_25 4 (dk_at dksX0_sure_2 19 rfl rfl)
theorem dX0_sure_68 : decode cX0_sure 68 = .ok (.aload 5, 2) := dk_25 5 (dk_at dksX0_sure_2 21 rfl rfl)
theorem dX0_sure_70 : decode cX0_sure 70 = .ok (.iload 11, 2) := dk_21 11 (dk_at dksX0_sure_3 0 rfl rfl)
theorem dX0_sure_72 : decode cX0_sure 72 = .ok (.invokevirtual 213, 3) := dk_182 0 213 (dk_at dksX0_sure_3 2 rfl rfl)
theorem dX0_sure_75 : decode cX0_sure 75 = .ok (.astore 12, 2) := dk_58 12 (dk_at dksX0_sure_3 5 rfl rfl)
theorem dX0_sure_77 : decode cX0_sure 77 = .ok (.aload 12, 2) := dk_25 12 (dk_at dksX0_sure_3 7 rfl rfl)
theorem dX0_sure_79 : decode cX0_sure 79 = .ok (.invokevirtual 83, 3) := dk_182 0 83 (dk_at dksX0_sure_3 9 rfl rfl)
theorem dX0_sure_82 : decode cX0_sure 82 = .ok (.ifCond .ne 16, 3) := dk_154 0 16 (dk_at dksX0_sure_3 12 rfl rfl)
theorem dX0_sure_85 : decode cX0_sure 85 = .ok (.iload 8, 2) := dk_21 8 (dk_at dksX0_sure_3 15 rfl rfl)
theorem dX0_sure_87 : decode cX0_sure 87 = .ok (.iconst (-1), 1) := dk_2 (dk_at dksX0_sure_3 17 rfl rfl)
theorem dX0_sure_88 : decode cX0_sure 88 = .ok (.if_icmp .ne 58, 3) := dk_160 0 58 (dk_at dksX0_sure_3 18 rfl rfl)
theorem dX0_sure_91 : decode cX0_sure 91 = .ok (.iload 11, 2) := dk_21 11 (dk_at dksX0_sure_3 21 rfl rfl)
theorem dX0_sure_93 : decode cX0_sure 93 = .ok (.istore 8, 2) := dk_54 8 (dk_at dksX0_sure_4 0 rfl rfl)
theorem dX0_sure_95 : decode cX0_sure 95 = .ok (.goto 51, 3) := dk_167 0 51 (dk_at dksX0_sure_4 2 rfl rfl)
theorem dX0_sure_98 : decode cX0_sure 98 = .ok (.iload 7, 2) := dk_21 7 (dk_at dksX0_sure_4 5 rfl rfl)
theorem dX0_sure_100 : decode cX0_sure 100 = .ok (.iconst (-1), 1) := dk_2 (dk_at dksX0_sure_4 7 rfl rfl)
theorem dX0_sure_101 : decode cX0_sure 101 = .ok (.if_icmp .ne 7, 3) := dk_160 0 7 (dk_at dksX0_sure_4 8 rfl rfl)
theorem dX0_sure_104 : decode cX0_sure 104 = .ok (.iload 11, 2) := dk_21 11 (dk_at dksX0_sure_4 11 rfl rfl)
theorem dX0_sure_106 : decode cX0_sure 106 = .ok (.istore 7, 2) := dk_54 7 (dk_at dksX0_sure_4 13 rfl rfl)
theorem dX0_sure_108 : decode cX0_sure 108 = .ok (.iinc 6 1, 3) := dk_132 6 1 (dk_at dksX0_sure_4 15 rfl rfl)
theorem dX0_sure_111 : decode cX0_sure 111 = .ok (.iload 9, 2) := dk_21 9 (dk_at dksX0_sure_4 18 rfl rfl)
theorem dX0_sure_113 : decode cX0_sure 113 = .ok (.iconst (-1), 1) := dk_2 (dk_at dksX0_sure_4 20 rfl rfl)
theorem dX0_sure_114 : decode cX0_sure 114 = .ok (.if_icmp .eq 13, 3) := dk_159 0 13 (dk_at dksX0_sure_4 21 rfl rfl)
theorem dX0_sure_117 : decode cX0_sure 117 = .ok (.aload 12, 2) := dk_25 12 (dk_at dksX0_sure_5 0 rfl rfl)
theorem dX0_sure_119 : decode cX0_sure 119 = .ok (.getfield 224, 3) := dk_180 0 224 (dk_at dksX0_sure_5 2 rfl rfl)
theorem dX0_sure_122 : decode cX0_sure 122 = .ok (.iload 9, 2) := dk_21 9 (dk_at dksX0_sure_5 5 rfl rfl)
theorem dX0_sure_124 : decode cX0_sure 124 = .ok (.if_icmp .ge 10, 3) := dk_162 0 10 (dk_at dksX0_sure_5 7 rfl rfl)
theorem dX0_sure_127 : decode cX0_sure 127 = .ok (.aload 12, 2) := dk_25 12 (dk_at dksX0_sure_5 10 rfl rfl)
theorem dX0_sure_129 : decode cX0_sure 129 = .ok (.getfield 224, 3) := dk_180 0 224 (dk_at dksX0_sure_5 12 rfl rfl)
theorem dX0_sure_132 : decode cX0_sure 132 = .ok (.istore 9, 2) := dk_54 9 (dk_at dksX0_sure_5 15 rfl rfl)
theorem dX0_sure_134 : decode cX0_sure 134 = .ok (.iload 10, 2) := dk_21 10 (dk_at dksX0_sure_5 17 rfl rfl)
theorem dX0_sure_136 : decode cX0_sure 136 = .ok (.aload 12, 2) := dk_25 12 (dk_at dksX0_sure_5 19 rfl rfl)
theorem dX0_sure_138 : decode cX0_sure 138 = .ok (.getfield 224, 3) := dk_180 0 224 (dk_at dksX0_sure_5 21 rfl rfl)
theorem dX0_sure_141 : decode cX0_sure 141 = .ok (.invokestatic 243, 3) := dk_184 0 243 (dk_at dksX0_sure_6 0 rfl rfl)
theorem dX0_sure_144 : decode cX0_sure 144 = .ok (.istore 10, 2) := dk_54 10 (dk_at dksX0_sure_6 3 rfl rfl)
theorem dX0_sure_146 : decode cX0_sure 146 = .ok (.iinc 11 1, 3) := dk_132 11 1 (dk_at dksX0_sure_6 5 rfl rfl)
theorem dX0_sure_149 : decode cX0_sure 149 = .ok (.goto (-94), 3) := dk_167 255 162 (dk_at dksX0_sure_6 8 rfl rfl)
theorem dX0_sure_152 : decode cX0_sure 152 = .ok (.iload_n 3, 1) := dk_29 (dk_at dksX0_sure_6 11 rfl rfl)
theorem dX0_sure_153 : decode cX0_sure 153 = .ok (.ifCond .ne 8, 3) := dk_154 0 8 (dk_at dksX0_sure_6 12 rfl rfl)
theorem dX0_sure_156 : decode cX0_sure 156 = .ok (.iload 6, 2) := dk_21 6 (dk_at dksX0_sure_6 15 rfl rfl)
theorem dX0_sure_158 : decode cX0_sure 158 = .ok (.goto 35, 3) := dk_167 0 35 (dk_at dksX0_sure_6 17 rfl rfl)
theorem dX0_sure_161 : decode cX0_sure 161 = .ok (.iload_n 3, 1) := dk_29 (dk_at dksX0_sure_6 20 rfl rfl)
theorem dX0_sure_162 : decode cX0_sure 162 = .ok (.iconst 1, 1) := dk_4 (dk_at dksX0_sure_6 21 rfl rfl)
theorem dX0_sure_163 : decode cX0_sure 163 = .ok (.if_icmp .ne 8, 3) := dk_160 0 8 (dk_at dksX0_sure_7 0 rfl rfl)
theorem dX0_sure_166 : decode cX0_sure 166 = .ok (.iload 7, 2) := dk_21 7 (dk_at dksX0_sure_7 3 rfl rfl)
theorem dX0_sure_168 : decode cX0_sure 168 = .ok (.goto 25, 3) := dk_167 0 25 (dk_at dksX0_sure_7 5 rfl rfl)
theorem dX0_sure_171 : decode cX0_sure 171 = .ok (.iload_n 3, 1) := dk_29 (dk_at dksX0_sure_7 8 rfl rfl)
theorem dX0_sure_172 : decode cX0_sure 172 = .ok (.iconst 2, 1) := dk_5 (dk_at dksX0_sure_7 9 rfl rfl)
theorem dX0_sure_173 : decode cX0_sure 173 = .ok (.if_icmp .ne 8, 3) := dk_160 0 8 (dk_at dksX0_sure_7 10 rfl rfl)
theorem dX0_sure_176 : decode cX0_sure 176 = .ok (.iload 8, 2) := dk_21 8 (dk_at dksX0_sure_7 13 rfl rfl)
theorem dX0_sure_178 : decode cX0_sure 178 = .ok (.goto 15, 3) := dk_167 0 15 (dk_at dksX0_sure_7 15 rfl rfl)
theorem dX0_sure_181 : decode cX0_sure 181 = .ok (.iload_n 3, 1) := dk_29 (dk_at dksX0_sure_7 18 rfl rfl)
theorem dX0_sure_182 : decode cX0_sure 182 = .ok (.iconst 3, 1) := dk_6 (dk_at dksX0_sure_7 19 rfl rfl)
theorem dX0_sure_183 : decode cX0_sure 183 = .ok (.if_icmp .ne 8, 3) := dk_160 0 8 (dk_at dksX0_sure_7 20 rfl rfl)
theorem dX0_sure_186 : decode cX0_sure 186 = .ok (.iload 9, 2) := dk_21 9 (dk_at dksX0_sure_8 0 rfl rfl)
theorem dX0_sure_188 : decode cX0_sure 188 = .ok (.goto 5, 3) := dk_167 0 5 (dk_at dksX0_sure_8 2 rfl rfl)
theorem dX0_sure_191 : decode cX0_sure 191 = .ok (.iload 10, 2) := dk_21 10 (dk_at dksX0_sure_8 5 rfl rfl)
theorem dX0_sure_193 : decode cX0_sure 193 = .ok (.ireturn, 1) := dk_172 (dk_at dksX0_sure_8 7 rfl rfl)
abbrev cX0_does : ByteArray := prog_1_method_27_code
def yX0_does : MethodName := ⟨RX0, "does", "(IIII)I"⟩
def dkwX0_does_2 : List UInt8 := [180, 0, 21, 27, 50, 180, 0, 143, 21, 4, 50, 182, 0, 249, 167, 0, 5, 16, 254, 172]
abbrev dktX0_does_2 : List UInt8 := dkwX0_does_2 ++ []
def dkwX0_does_1 : List UInt8 := [184, 0, 102, 153, 0, 37, 42, 42, 180, 0, 21, 27, 50, 42, 28, 182, 0, 203, 29, 182, 0, 213, 42]
abbrev dktX0_does_1 : List UInt8 := dkwX0_does_1 ++ dktX0_does_2
def dkwX0_does_0 : List UInt8 := [42, 27, 28, 29, 182, 0, 210, 153, 0, 57, 21, 4, 3, 42, 180, 0, 21, 27, 50, 180, 0, 126, 4, 100]
abbrev dktX0_does_0 : List UInt8 := dkwX0_does_0 ++ dktX0_does_1
theorem dksX0_does_0 : cX0_does.data.toList.drop 0 = dktX0_does_0 := by decide +kernel
theorem dksX0_does_1 : cX0_does.data.toList.drop 24 = dktX0_does_1 := dk_seg dksX0_does_0 24 rfl rfl
theorem dksX0_does_2 : cX0_does.data.toList.drop 47 = dktX0_does_2 := dk_seg dksX0_does_1 23 rfl rfl
theorem dX0_does_0 : decode cX0_does 0 = .ok (.aload_n 0, 1) := dk_42 (dk_at dksX0_does_0 0 rfl rfl)
theorem dX0_does_1 : decode cX0_does 1 = .ok (.iload_n 1, 1) := dk_27 (dk_at dksX0_does_0 1 rfl rfl)
theorem dX0_does_2 : decode cX0_does 2 = .ok (.iload_n 2, 1) := dk_28 (dk_at dksX0_does_0 2 rfl rfl)
theorem dX0_does_3 : decode cX0_does 3 = .ok (.iload_n 3, 1) := dk_29 (dk_at dksX0_does_0 3 rfl rfl)
theorem dX0_does_4 : decode cX0_does 4 = .ok (.invokevirtual 210, 3) := dk_182 0 210 (dk_at dksX0_does_0 4 rfl rfl)
theorem dX0_does_7 : decode cX0_does 7 = .ok (.ifCond .eq 57, 3) := dk_153 0 57 (dk_at dksX0_does_0 7 rfl rfl)
theorem dX0_does_10 : decode cX0_does 10 = .ok (.iload 4, 2) := dk_21 4 (dk_at dksX0_does_0 10 rfl rfl)
theorem dX0_does_12 : decode cX0_does 12 = .ok (.iconst 0, 1) := dk_3 (dk_at dksX0_does_0 12 rfl rfl)
theorem dX0_does_13 : decode cX0_does 13 = .ok (.aload_n 0, 1) := dk_42 (dk_at dksX0_does_0 13 rfl rfl)
theorem dX0_does_14 : decode cX0_does 14 = .ok (.getfield 21, 3) := dk_180 0 21 (dk_at dksX0_does_0 14 rfl rfl)
theorem dX0_does_17 : decode cX0_does 17 = .ok (.iload_n 1, 1) := dk_27 (dk_at dksX0_does_0 17 rfl rfl)
theorem dX0_does_18 : decode cX0_does 18 = .ok (.aaload, 1) := dk_50 (dk_at dksX0_does_0 18 rfl rfl)
theorem dX0_does_19 : decode cX0_does 19 = .ok (.getfield 126, 3) := dk_180 0 126 (dk_at dksX0_does_0 19 rfl rfl)
theorem dX0_does_22 : decode cX0_does 22 = .ok (.iconst 1, 1) := dk_4 (dk_at dksX0_does_0 22 rfl rfl)
theorem dX0_does_23 : decode cX0_does 23 = .ok (.isub, 1) := dk_100 (dk_at dksX0_does_0 23 rfl rfl)
theorem dX0_does_24 : decode cX0_does 24 = .ok (.invokestatic 102, 3) := dk_184 0 102 (dk_at dksX0_does_1 0 rfl rfl)
theorem dX0_does_27 : decode cX0_does 27 = .ok (.ifCond .eq 37, 3) := dk_153 0 37 (dk_at dksX0_does_1 3 rfl rfl)
theorem dX0_does_30 : decode cX0_does 30 = .ok (.aload_n 0, 1) := dk_42 (dk_at dksX0_does_1 6 rfl rfl)
theorem dX0_does_31 : decode cX0_does 31 = .ok (.aload_n 0, 1) := dk_42 (dk_at dksX0_does_1 7 rfl rfl)
theorem dX0_does_32 : decode cX0_does 32 = .ok (.getfield 21, 3) := dk_180 0 21 (dk_at dksX0_does_1 8 rfl rfl)
theorem dX0_does_35 : decode cX0_does 35 = .ok (.iload_n 1, 1) := dk_27 (dk_at dksX0_does_1 11 rfl rfl)
theorem dX0_does_36 : decode cX0_does 36 = .ok (.aaload, 1) := dk_50 (dk_at dksX0_does_1 12 rfl rfl)
theorem dX0_does_37 : decode cX0_does 37 = .ok (.aload_n 0, 1) := dk_42 (dk_at dksX0_does_1 13 rfl rfl)
theorem dX0_does_38 : decode cX0_does 38 = .ok (.iload_n 2, 1) := dk_28 (dk_at dksX0_does_1 14 rfl rfl)
theorem dX0_does_39 : decode cX0_does 39 = .ok (.invokevirtual 203, 3) := dk_182 0 203 (dk_at dksX0_does_1 15 rfl rfl)
theorem dX0_does_42 : decode cX0_does 42 = .ok (.iload_n 3, 1) := dk_29 (dk_at dksX0_does_1 18 rfl rfl)
theorem dX0_does_43 : decode cX0_does 43 = .ok (.invokevirtual 213, 3) := dk_182 0 213 (dk_at dksX0_does_1 19 rfl rfl)
theorem dX0_does_46 : decode cX0_does 46 = .ok (.aload_n 0, 1) := dk_42 (dk_at dksX0_does_1 22 rfl rfl)
theorem dX0_does_47 : decode cX0_does 47 = .ok (.getfield 21, 3) := dk_180 0 21 (dk_at dksX0_does_2 0 rfl rfl)
theorem dX0_does_50 : decode cX0_does 50 = .ok (.iload_n 1, 1) := dk_27 (dk_at dksX0_does_2 3 rfl rfl)
theorem dX0_does_51 : decode cX0_does 51 = .ok (.aaload, 1) := dk_50 (dk_at dksX0_does_2 4 rfl rfl)
theorem dX0_does_52 : decode cX0_does 52 = .ok (.getfield 143, 3) := dk_180 0 143 (dk_at dksX0_does_2 5 rfl rfl)
theorem dX0_does_55 : decode cX0_does 55 = .ok (.iload 4, 2) := dk_21 4 (dk_at dksX0_does_2 8 rfl rfl)
theorem dX0_does_57 : decode cX0_does 57 = .ok (.aaload, 1) := dk_50 (dk_at dksX0_does_2 10 rfl rfl)
theorem dX0_does_58 : decode cX0_does 58 = .ok (.invokevirtual 249, 3) := dk_182 0 249 (dk_at dksX0_does_2 11 rfl rfl)
theorem dX0_does_61 : decode cX0_does 61 = .ok (.goto 5, 3) := dk_167 0 5 (dk_at dksX0_does_2 14 rfl rfl)
theorem dX0_does_64 : decode cX0_does 64 = .ok (.bipush (-2), 2) := dk_16 254 (dk_at dksX0_does_2 17 rfl rfl)
theorem dX0_does_66 : decode cX0_does 66 = .ok (.ireturn, 1) := dk_172 (dk_at dksX0_does_2 19 rfl rfl)
abbrev cX0_can : ByteArray := prog_1_method_29_code
def yX0_can : MethodName := ⟨RX0, "can", "(IIIII)I"⟩
def dkwX0_can_2 : List UInt8 := [21, 5, 182, 1, 0, 167, 0, 5, 16, 254, 172]
abbrev dktX0_can_2 : List UInt8 := dkwX0_can_2 ++ []
def dkwX0_can_1 : List UInt8 := [184, 0, 102, 153, 0, 29, 42, 42, 180, 0, 21, 27, 50, 42, 28, 182, 0, 203, 29, 182, 0, 213, 21, 4]
abbrev dktX0_can_1 : List UInt8 := dkwX0_can_1 ++ dktX0_can_2
def dkwX0_can_0 : List UInt8 := [42, 27, 28, 29, 182, 0, 210, 153, 0, 49, 21, 4, 184, 0, 253, 153, 0, 41, 21, 5, 3, 17, 39, 14]
abbrev dktX0_can_0 : List UInt8 := dkwX0_can_0 ++ dktX0_can_1
theorem dksX0_can_0 : cX0_can.data.toList.drop 0 = dktX0_can_0 := by decide +kernel
theorem dksX0_can_1 : cX0_can.data.toList.drop 24 = dktX0_can_1 := dk_seg dksX0_can_0 24 rfl rfl
theorem dksX0_can_2 : cX0_can.data.toList.drop 48 = dktX0_can_2 := dk_seg dksX0_can_1 24 rfl rfl
theorem dX0_can_0 : decode cX0_can 0 = .ok (.aload_n 0, 1) := dk_42 (dk_at dksX0_can_0 0 rfl rfl)
theorem dX0_can_1 : decode cX0_can 1 = .ok (.iload_n 1, 1) := dk_27 (dk_at dksX0_can_0 1 rfl rfl)
theorem dX0_can_2 : decode cX0_can 2 = .ok (.iload_n 2, 1) := dk_28 (dk_at dksX0_can_0 2 rfl rfl)
theorem dX0_can_3 : decode cX0_can 3 = .ok (.iload_n 3, 1) := dk_29 (dk_at dksX0_can_0 3 rfl rfl)
theorem dX0_can_4 : decode cX0_can 4 = .ok (.invokevirtual 210, 3) := dk_182 0 210 (dk_at dksX0_can_0 4 rfl rfl)
theorem dX0_can_7 : decode cX0_can 7 = .ok (.ifCond .eq 49, 3) := dk_153 0 49 (dk_at dksX0_can_0 7 rfl rfl)
theorem dX0_can_10 : decode cX0_can 10 = .ok (.iload 4, 2) := dk_21 4 (dk_at dksX0_can_0 10 rfl rfl)
theorem dX0_can_12 : decode cX0_can 12 = .ok (.invokestatic 253, 3) := dk_184 0 253 (dk_at dksX0_can_0 12 rfl rfl)
theorem dX0_can_15 : decode cX0_can 15 = .ok (.ifCond .eq 41, 3) := dk_153 0 41 (dk_at dksX0_can_0 15 rfl rfl)
theorem dX0_can_18 : decode cX0_can 18 = .ok (.iload 5, 2) := dk_21 5 (dk_at dksX0_can_0 18 rfl rfl)
theorem dX0_can_20 : decode cX0_can 20 = .ok (.iconst 0, 1) := dk_3 (dk_at dksX0_can_0 20 rfl rfl)
theorem dX0_can_21 : decode cX0_can 21 = .ok (.sipush 9998, 3) := dk_17 39 14 (dk_at dksX0_can_0 21 rfl rfl)
theorem dX0_can_24 : decode cX0_can 24 = .ok (.invokestatic 102, 3) := dk_184 0 102 (dk_at dksX0_can_1 0 rfl rfl)
theorem dX0_can_27 : decode cX0_can 27 = .ok (.ifCond .eq 29, 3) := dk_153 0 29 (dk_at dksX0_can_1 3 rfl rfl)
theorem dX0_can_30 : decode cX0_can 30 = .ok (.aload_n 0, 1) := dk_42 (dk_at dksX0_can_1 6 rfl rfl)
theorem dX0_can_31 : decode cX0_can 31 = .ok (.aload_n 0, 1) := dk_42 (dk_at dksX0_can_1 7 rfl rfl)
theorem dX0_can_32 : decode cX0_can 32 = .ok (.getfield 21, 3) := dk_180 0 21 (dk_at dksX0_can_1 8 rfl rfl)
theorem dX0_can_35 : decode cX0_can 35 = .ok (.iload_n 1, 1) := dk_27 (dk_at dksX0_can_1 11 rfl rfl)
theorem dX0_can_36 : decode cX0_can 36 = .ok (.aaload, 1) := dk_50 (dk_at dksX0_can_1 12 rfl rfl)
theorem dX0_can_37 : decode cX0_can 37 = .ok (.aload_n 0, 1) := dk_42 (dk_at dksX0_can_1 13 rfl rfl)
theorem dX0_can_38 : decode cX0_can 38 = .ok (.iload_n 2, 1) := dk_28 (dk_at dksX0_can_1 14 rfl rfl)
theorem dX0_can_39 : decode cX0_can 39 = .ok (.invokevirtual 203, 3) := dk_182 0 203 (dk_at dksX0_can_1 15 rfl rfl)
theorem dX0_can_42 : decode cX0_can 42 = .ok (.iload_n 3, 1) := dk_29 (dk_at dksX0_can_1 18 rfl rfl)
theorem dX0_can_43 : decode cX0_can 43 = .ok (.invokevirtual 213, 3) := dk_182 0 213 (dk_at dksX0_can_1 19 rfl rfl)
theorem dX0_can_46 : decode cX0_can 46 = .ok (.iload 4, 2) := dk_21 4 (dk_at dksX0_can_1 22 rfl rfl)
theorem dX0_can_48 : decode cX0_can 48 = .ok (.iload 5, 2) := dk_21 5 (dk_at dksX0_can_2 0 rfl rfl)
theorem dX0_can_50 : decode cX0_can 50 = .ok (.invokevirtual 256, 3) := dk_182 1 0 (dk_at dksX0_can_2 2 rfl rfl)
theorem dX0_can_53 : decode cX0_can 53 = .ok (.goto 5, 3) := dk_167 0 5 (dk_at dksX0_can_2 5 rfl rfl)
theorem dX0_can_56 : decode cX0_can 56 = .ok (.bipush (-2), 2) := dk_16 254 (dk_at dksX0_can_2 8 rfl rfl)
theorem dX0_can_58 : decode cX0_can 58 = .ok (.ireturn, 1) := dk_172 (dk_at dksX0_can_2 10 rfl rfl)
abbrev cX0_isHand : ByteArray := prog_1_method_28_code
def yX0_isHand : MethodName := ⟨RX0, "isHand", "(I)Z"⟩
def dkwX0_isHand_0 : List UInt8 := [26, 3, 5, 184, 0, 102, 172]
abbrev dktX0_isHand_0 : List UInt8 := dkwX0_isHand_0 ++ []
theorem dksX0_isHand_0 : cX0_isHand.data.toList.drop 0 = dktX0_isHand_0 := by decide +kernel
theorem dX0_isHand_0 : decode cX0_isHand 0 = .ok (.iload_n 0, 1) := dk_26 (dk_at dksX0_isHand_0 0 rfl rfl)
theorem dX0_isHand_1 : decode cX0_isHand 1 = .ok (.iconst 0, 1) := dk_3 (dk_at dksX0_isHand_0 1 rfl rfl)
theorem dX0_isHand_2 : decode cX0_isHand 2 = .ok (.iconst 2, 1) := dk_5 (dk_at dksX0_isHand_0 2 rfl rfl)
theorem dX0_isHand_3 : decode cX0_isHand 3 = .ok (.invokestatic 102, 3) := dk_184 0 102 (dk_at dksX0_isHand_0 3 rfl rfl)
theorem dX0_isHand_6 : decode cX0_isHand 6 = .ok (.ireturn, 1) := dk_172 (dk_at dksX0_isHand_0 6 rfl rfl)
abbrev cX0_until : ByteArray := prog_1_method_30_code
def yX0_until : MethodName := ⟨RX0, "until", "(IIIII)I"⟩
def dkwX0_until_3 : List UInt8 := [21, 5, 126, 154, 0, 9, 132, 7, 255, 167, 255, 233, 21, 7, 172]
abbrev dktX0_until_3 : List UInt8 := dkwX0_until_3 ++ []
def dkwX0_until_2 : List UInt8 := [182, 0, 213, 58, 6, 17, 39, 14, 54, 7, 21, 7, 155, 0, 24, 25, 6, 21, 4, 21, 7, 182, 1, 0]
abbrev dktX0_until_2 : List UInt8 := dkwX0_until_2 ++ dktX0_until_3
def dkwX0_until_1 : List UInt8 := [184, 0, 102, 154, 0, 6, 16, 254, 172, 42, 42, 180, 0, 21, 27, 50, 42, 28, 182, 0, 203, 29]
abbrev dktX0_until_1 : List UInt8 := dkwX0_until_1 ++ dktX0_until_2
def dkwX0_until_0 : List UInt8 := [42, 27, 28, 29, 182, 0, 210, 153, 0, 21, 21, 4, 184, 0, 253, 153, 0, 13, 21, 5, 4, 5]
abbrev dktX0_until_0 : List UInt8 := dkwX0_until_0 ++ dktX0_until_1
theorem dksX0_until_0 : cX0_until.data.toList.drop 0 = dktX0_until_0 := by decide +kernel
theorem dksX0_until_1 : cX0_until.data.toList.drop 22 = dktX0_until_1 := dk_seg dksX0_until_0 22 rfl rfl
theorem dksX0_until_2 : cX0_until.data.toList.drop 44 = dktX0_until_2 := dk_seg dksX0_until_1 22 rfl rfl
theorem dksX0_until_3 : cX0_until.data.toList.drop 68 = dktX0_until_3 := dk_seg dksX0_until_2 24 rfl rfl
theorem dX0_until_0 : decode cX0_until 0 = .ok (.aload_n 0, 1) := dk_42 (dk_at dksX0_until_0 0 rfl rfl)
theorem dX0_until_1 : decode cX0_until 1 = .ok (.iload_n 1, 1) := dk_27 (dk_at dksX0_until_0 1 rfl rfl)
theorem dX0_until_2 : decode cX0_until 2 = .ok (.iload_n 2, 1) := dk_28 (dk_at dksX0_until_0 2 rfl rfl)
theorem dX0_until_3 : decode cX0_until 3 = .ok (.iload_n 3, 1) := dk_29 (dk_at dksX0_until_0 3 rfl rfl)
theorem dX0_until_4 : decode cX0_until 4 = .ok (.invokevirtual 210, 3) := dk_182 0 210 (dk_at dksX0_until_0 4 rfl rfl)
theorem dX0_until_7 : decode cX0_until 7 = .ok (.ifCond .eq 21, 3) := dk_153 0 21 (dk_at dksX0_until_0 7 rfl rfl)
theorem dX0_until_10 : decode cX0_until 10 = .ok (.iload 4, 2) := dk_21 4 (dk_at dksX0_until_0 10 rfl rfl)
theorem dX0_until_12 : decode cX0_until 12 = .ok (.invokestatic 253, 3) := dk_184 0 253 (dk_at dksX0_until_0 12 rfl rfl)
theorem dX0_until_15 : decode cX0_until 15 = .ok (.ifCond .eq 13, 3) := dk_153 0 13 (dk_at dksX0_until_0 15 rfl rfl)
theorem dX0_until_18 : decode cX0_until 18 = .ok (.iload 5, 2) := dk_21 5 (dk_at dksX0_until_0 18 rfl rfl)
theorem dX0_until_20 : decode cX0_until 20 = .ok (.iconst 1, 1) := dk_4 (dk_at dksX0_until_0 20 rfl rfl)
theorem dX0_until_21 : decode cX0_until 21 = .ok (.iconst 2, 1) := dk_5 (dk_at dksX0_until_0 21 rfl rfl)
theorem dX0_until_22 : decode cX0_until 22 = .ok (.invokestatic 102, 3) := dk_184 0 102 (dk_at dksX0_until_1 0 rfl rfl)
theorem dX0_until_25 : decode cX0_until 25 = .ok (.ifCond .ne 6, 3) := dk_154 0 6 (dk_at dksX0_until_1 3 rfl rfl)
theorem dX0_until_28 : decode cX0_until 28 = .ok (.bipush (-2), 2) := dk_16 254 (dk_at dksX0_until_1 6 rfl rfl)
theorem dX0_until_30 : decode cX0_until 30 = .ok (.ireturn, 1) := dk_172 (dk_at dksX0_until_1 8 rfl rfl)
theorem dX0_until_31 : decode cX0_until 31 = .ok (.aload_n 0, 1) := dk_42 (dk_at dksX0_until_1 9 rfl rfl)
theorem dX0_until_32 : decode cX0_until 32 = .ok (.aload_n 0, 1) := dk_42 (dk_at dksX0_until_1 10 rfl rfl)
theorem dX0_until_33 : decode cX0_until 33 = .ok (.getfield 21, 3) := dk_180 0 21 (dk_at dksX0_until_1 11 rfl rfl)
theorem dX0_until_36 : decode cX0_until 36 = .ok (.iload_n 1, 1) := dk_27 (dk_at dksX0_until_1 14 rfl rfl)
theorem dX0_until_37 : decode cX0_until 37 = .ok (.aaload, 1) := dk_50 (dk_at dksX0_until_1 15 rfl rfl)
theorem dX0_until_38 : decode cX0_until 38 = .ok (.aload_n 0, 1) := dk_42 (dk_at dksX0_until_1 16 rfl rfl)
theorem dX0_until_39 : decode cX0_until 39 = .ok (.iload_n 2, 1) := dk_28 (dk_at dksX0_until_1 17 rfl rfl)
theorem dX0_until_40 : decode cX0_until 40 = .ok (.invokevirtual 203, 3) := dk_182 0 203 (dk_at dksX0_until_1 18 rfl rfl)
theorem dX0_until_43 : decode cX0_until 43 = .ok (.iload_n 3, 1) := dk_29 (dk_at dksX0_until_1 21 rfl rfl)
theorem dX0_until_44 : decode cX0_until 44 = .ok (.invokevirtual 213, 3) := dk_182 0 213 (dk_at dksX0_until_2 0 rfl rfl)
theorem dX0_until_47 : decode cX0_until 47 = .ok (.astore 6, 2) := dk_58 6 (dk_at dksX0_until_2 3 rfl rfl)
theorem dX0_until_49 : decode cX0_until 49 = .ok (.sipush 9998, 3) := dk_17 39 14 (dk_at dksX0_until_2 5 rfl rfl)
theorem dX0_until_52 : decode cX0_until 52 = .ok (.istore 7, 2) := dk_54 7 (dk_at dksX0_until_2 8 rfl rfl)
theorem dX0_until_54 : decode cX0_until 54 = .ok (.iload 7, 2) := dk_21 7 (dk_at dksX0_until_2 10 rfl rfl)
theorem dX0_until_56 : decode cX0_until 56 = .ok (.ifCond .lt 24, 3) := dk_155 0 24 (dk_at dksX0_until_2 12 rfl rfl)
theorem dX0_until_59 : decode cX0_until 59 = .ok (.aload 6, 2) := dk_25 6 (dk_at dksX0_until_2 15 rfl rfl)
theorem dX0_until_61 : decode cX0_until 61 = .ok (.iload 4, 2) := dk_21 4 (dk_at dksX0_until_2 17 rfl rfl)
theorem dX0_until_63 : decode cX0_until 63 = .ok (.iload 7, 2) := dk_21 7 (dk_at dksX0_until_2 19 rfl rfl)
theorem dX0_until_65 : decode cX0_until 65 = .ok (.invokevirtual 256, 3) := dk_182 1 0 (dk_at dksX0_until_2 21 rfl rfl)
theorem dX0_until_68 : decode cX0_until 68 = .ok (.iload 5, 2) := dk_21 5 (dk_at dksX0_until_3 0 rfl rfl)
theorem dX0_until_70 : decode cX0_until 70 = .ok (.iand, 1) := dk_126 (dk_at dksX0_until_3 2 rfl rfl)
theorem dX0_until_71 : decode cX0_until 71 = .ok (.ifCond .ne 9, 3) := dk_154 0 9 (dk_at dksX0_until_3 3 rfl rfl)
theorem dX0_until_74 : decode cX0_until 74 = .ok (.iinc 7 (-1), 3) := dk_132 7 255 (dk_at dksX0_until_3 6 rfl rfl)
theorem dX0_until_77 : decode cX0_until 77 = .ok (.goto (-23), 3) := dk_167 255 233 (dk_at dksX0_until_3 9 rfl rfl)
theorem dX0_until_80 : decode cX0_until 80 = .ok (.iload 7, 2) := dk_21 7 (dk_at dksX0_until_3 12 rfl rfl)
theorem dX0_until_82 : decode cX0_until 82 = .ok (.ireturn, 1) := dk_172 (dk_at dksX0_until_3 14 rfl rfl)
abbrev cX0_lost : ByteArray := prog_1_method_33_code
def yX0_lost : MethodName := ⟨RX0, "lost", "(III)I"⟩
def dkwX0_lost_2 : List UInt8 := [50, 180, 0, 143, 29, 50, 180, 0, 165, 182, 1, 11, 182, 1, 15, 167, 0, 5, 16, 254, 172]
abbrev dktX0_lost_2 : List UInt8 := dkwX0_lost_2 ++ []
def dkwX0_lost_1 : List UInt8 := [180, 0, 143, 29, 50, 180, 0, 165, 180, 0, 169, 4, 163, 0, 30, 42, 27, 28, 29, 42, 180, 0, 21, 27]
abbrev dktX0_lost_1 : List UInt8 := dkwX0_lost_1 ++ dktX0_lost_2
def dkwX0_lost_0 : List UInt8 := [42, 28, 182, 0, 185, 153, 0, 60, 42, 27, 29, 182, 1, 8, 153, 0, 51, 42, 180, 0, 21, 27, 50]
abbrev dktX0_lost_0 : List UInt8 := dkwX0_lost_0 ++ dktX0_lost_1
theorem dksX0_lost_0 : cX0_lost.data.toList.drop 0 = dktX0_lost_0 := by decide +kernel
theorem dksX0_lost_1 : cX0_lost.data.toList.drop 23 = dktX0_lost_1 := dk_seg dksX0_lost_0 23 rfl rfl
theorem dksX0_lost_2 : cX0_lost.data.toList.drop 47 = dktX0_lost_2 := dk_seg dksX0_lost_1 24 rfl rfl
theorem dX0_lost_0 : decode cX0_lost 0 = .ok (.aload_n 0, 1) := dk_42 (dk_at dksX0_lost_0 0 rfl rfl)
theorem dX0_lost_1 : decode cX0_lost 1 = .ok (.iload_n 2, 1) := dk_28 (dk_at dksX0_lost_0 1 rfl rfl)
theorem dX0_lost_2 : decode cX0_lost 2 = .ok (.invokevirtual 185, 3) := dk_182 0 185 (dk_at dksX0_lost_0 2 rfl rfl)
theorem dX0_lost_5 : decode cX0_lost 5 = .ok (.ifCond .eq 60, 3) := dk_153 0 60 (dk_at dksX0_lost_0 5 rfl rfl)
theorem dX0_lost_8 : decode cX0_lost 8 = .ok (.aload_n 0, 1) := dk_42 (dk_at dksX0_lost_0 8 rfl rfl)
theorem dX0_lost_9 : decode cX0_lost 9 = .ok (.iload_n 1, 1) := dk_27 (dk_at dksX0_lost_0 9 rfl rfl)
theorem dX0_lost_10 : decode cX0_lost 10 = .ok (.iload_n 3, 1) := dk_29 (dk_at dksX0_lost_0 10 rfl rfl)
theorem dX0_lost_11 : decode cX0_lost 11 = .ok (.invokevirtual 264, 3) := dk_182 1 8 (dk_at dksX0_lost_0 11 rfl rfl)
theorem dX0_lost_14 : decode cX0_lost 14 = .ok (.ifCond .eq 51, 3) := dk_153 0 51 (dk_at dksX0_lost_0 14 rfl rfl)
theorem dX0_lost_17 : decode cX0_lost 17 = .ok (.aload_n 0, 1) := dk_42 (dk_at dksX0_lost_0 17 rfl rfl)
theorem dX0_lost_18 : decode cX0_lost 18 = .ok (.getfield 21, 3) := dk_180 0 21 (dk_at dksX0_lost_0 18 rfl rfl)
theorem dX0_lost_21 : decode cX0_lost 21 = .ok (.iload_n 1, 1) := dk_27 (dk_at dksX0_lost_0 21 rfl rfl)
theorem dX0_lost_22 : decode cX0_lost 22 = .ok (.aaload, 1) := dk_50 (dk_at dksX0_lost_0 22 rfl rfl)
theorem dX0_lost_23 : decode cX0_lost 23 = .ok (.getfield 143, 3) := dk_180 0 143 (dk_at dksX0_lost_1 0 rfl rfl)
theorem dX0_lost_26 : decode cX0_lost 26 = .ok (.iload_n 3, 1) := dk_29 (dk_at dksX0_lost_1 3 rfl rfl)
theorem dX0_lost_27 : decode cX0_lost 27 = .ok (.aaload, 1) := dk_50 (dk_at dksX0_lost_1 4 rfl rfl)
theorem dX0_lost_28 : decode cX0_lost 28 = .ok (.getfield 165, 3) := dk_180 0 165 (dk_at dksX0_lost_1 5 rfl rfl)
theorem dX0_lost_31 : decode cX0_lost 31 = .ok (.getfield 169, 3) := dk_180 0 169 (dk_at dksX0_lost_1 8 rfl rfl)
theorem dX0_lost_34 : decode cX0_lost 34 = .ok (.iconst 1, 1) := dk_4 (dk_at dksX0_lost_1 11 rfl rfl)
theorem dX0_lost_35 : decode cX0_lost 35 = .ok (.if_icmp .gt 30, 3) := dk_163 0 30 (dk_at dksX0_lost_1 12 rfl rfl)
theorem dX0_lost_38 : decode cX0_lost 38 = .ok (.aload_n 0, 1) := dk_42 (dk_at dksX0_lost_1 15 rfl rfl)
theorem dX0_lost_39 : decode cX0_lost 39 = .ok (.iload_n 1, 1) := dk_27 (dk_at dksX0_lost_1 16 rfl rfl)
theorem dX0_lost_40 : decode cX0_lost 40 = .ok (.iload_n 2, 1) := dk_28 (dk_at dksX0_lost_1 17 rfl rfl)
theorem dX0_lost_41 : decode cX0_lost 41 = .ok (.iload_n 3, 1) := dk_29 (dk_at dksX0_lost_1 18 rfl rfl)
theorem dX0_lost_42 : decode cX0_lost 42 = .ok (.aload_n 0, 1) := dk_42 (dk_at dksX0_lost_1 19 rfl rfl)
theorem dX0_lost_43 : decode cX0_lost 43 = .ok (.getfield 21, 3) := dk_180 0 21 (dk_at dksX0_lost_1 20 rfl rfl)
theorem dX0_lost_46 : decode cX0_lost 46 = .ok (.iload_n 1, 1) := dk_27 (dk_at dksX0_lost_1 23 rfl rfl)
theorem dX0_lost_47 : decode cX0_lost 47 = .ok (.aaload, 1) := dk_50 (dk_at dksX0_lost_2 0 rfl rfl)
theorem dX0_lost_48 : decode cX0_lost 48 = .ok (.getfield 143, 3) := dk_180 0 143 (dk_at dksX0_lost_2 1 rfl rfl)
theorem dX0_lost_51 : decode cX0_lost 51 = .ok (.iload_n 3, 1) := dk_29 (dk_at dksX0_lost_2 4 rfl rfl)
theorem dX0_lost_52 : decode cX0_lost 52 = .ok (.aaload, 1) := dk_50 (dk_at dksX0_lost_2 5 rfl rfl)
theorem dX0_lost_53 : decode cX0_lost 53 = .ok (.getfield 165, 3) := dk_180 0 165 (dk_at dksX0_lost_2 6 rfl rfl)
theorem dX0_lost_56 : decode cX0_lost 56 = .ok (.invokevirtual 267, 3) := dk_182 1 11 (dk_at dksX0_lost_2 9 rfl rfl)
theorem dX0_lost_59 : decode cX0_lost 59 = .ok (.invokevirtual 271, 3) := dk_182 1 15 (dk_at dksX0_lost_2 12 rfl rfl)
theorem dX0_lost_62 : decode cX0_lost 62 = .ok (.goto 5, 3) := dk_167 0 5 (dk_at dksX0_lost_2 15 rfl rfl)
theorem dX0_lost_65 : decode cX0_lost 65 = .ok (.bipush (-2), 2) := dk_16 254 (dk_at dksX0_lost_2 18 rfl rfl)
theorem dX0_lost_67 : decode cX0_lost 67 = .ok (.ireturn, 1) := dk_172 (dk_at dksX0_lost_2 20 rfl rfl)
abbrev cX0_isSaying : ByteArray := prog_1_method_32_code
def yX0_isSaying : MethodName := ⟨RX0, "isSaying", "(II)Z"⟩
def dkwX0_isSaying_1 : List UInt8 := [153, 0, 7, 4, 167, 0, 4, 3, 172]
abbrev dktX0_isSaying_1 : List UInt8 := dkwX0_isSaying_1 ++ []
def dkwX0_isSaying_0 : List UInt8 := [42, 27, 182, 0, 122, 153, 0, 26, 28, 3, 42, 180, 0, 21, 27, 50, 180, 0, 126, 4, 100, 184, 0, 102]
abbrev dktX0_isSaying_0 : List UInt8 := dkwX0_isSaying_0 ++ dktX0_isSaying_1
theorem dksX0_isSaying_0 : cX0_isSaying.data.toList.drop 0 = dktX0_isSaying_0 := by decide +kernel
theorem dksX0_isSaying_1 : cX0_isSaying.data.toList.drop 24 = dktX0_isSaying_1 := dk_seg dksX0_isSaying_0 24 rfl rfl
theorem dX0_isSaying_0 : decode cX0_isSaying 0 = .ok (.aload_n 0, 1) := dk_42 (dk_at dksX0_isSaying_0 0 rfl rfl)
theorem dX0_isSaying_1 : decode cX0_isSaying 1 = .ok (.iload_n 1, 1) := dk_27 (dk_at dksX0_isSaying_0 1 rfl rfl)
theorem dX0_isSaying_2 : decode cX0_isSaying 2 = .ok (.invokevirtual 122, 3) := dk_182 0 122 (dk_at dksX0_isSaying_0 2 rfl rfl)
theorem dX0_isSaying_5 : decode cX0_isSaying 5 = .ok (.ifCond .eq 26, 3) := dk_153 0 26 (dk_at dksX0_isSaying_0 5 rfl rfl)
theorem dX0_isSaying_8 : decode cX0_isSaying 8 = .ok (.iload_n 2, 1) := dk_28 (dk_at dksX0_isSaying_0 8 rfl rfl)
theorem dX0_isSaying_9 : decode cX0_isSaying 9 = .ok (.iconst 0, 1) := dk_3 (dk_at dksX0_isSaying_0 9 rfl rfl)
theorem dX0_isSaying_10 : decode cX0_isSaying 10 = .ok (.aload_n 0, 1) := dk_42 (dk_at dksX0_isSaying_0 10 rfl rfl)
theorem dX0_isSaying_11 : decode cX0_isSaying 11 = .ok (.getfield 21, 3) := dk_180 0 21 (dk_at dksX0_isSaying_0 11 rfl rfl)
theorem dX0_isSaying_14 : decode cX0_isSaying 14 = .ok (.iload_n 1, 1) := dk_27 (dk_at dksX0_isSaying_0 14 rfl rfl)
theorem dX0_isSaying_15 : decode cX0_isSaying 15 = .ok (.aaload, 1) := dk_50 (dk_at dksX0_isSaying_0 15 rfl rfl)
theorem dX0_isSaying_16 : decode cX0_isSaying 16 = .ok (.getfield 126, 3) := dk_180 0 126 (dk_at dksX0_isSaying_0 16 rfl rfl)
theorem dX0_isSaying_19 : decode cX0_isSaying 19 = .ok (.iconst 1, 1) := dk_4 (dk_at dksX0_isSaying_0 19 rfl rfl)
theorem dX0_isSaying_20 : decode cX0_isSaying 20 = .ok (.isub, 1) := dk_100 (dk_at dksX0_isSaying_0 20 rfl rfl)
theorem dX0_isSaying_21 : decode cX0_isSaying 21 = .ok (.invokestatic 102, 3) := dk_184 0 102 (dk_at dksX0_isSaying_0 21 rfl rfl)
theorem dX0_isSaying_24 : decode cX0_isSaying 24 = .ok (.ifCond .eq 7, 3) := dk_153 0 7 (dk_at dksX0_isSaying_1 0 rfl rfl)
theorem dX0_isSaying_27 : decode cX0_isSaying 27 = .ok (.iconst 1, 1) := dk_4 (dk_at dksX0_isSaying_1 3 rfl rfl)
theorem dX0_isSaying_28 : decode cX0_isSaying 28 = .ok (.goto 4, 3) := dk_167 0 4 (dk_at dksX0_isSaying_1 4 rfl rfl)
theorem dX0_isSaying_31 : decode cX0_isSaying 31 = .ok (.iconst 0, 1) := dk_3 (dk_at dksX0_isSaying_1 7 rfl rfl)
theorem dX0_isSaying_32 : decode cX0_isSaying 32 = .ok (.ireturn, 1) := dk_172 (dk_at dksX0_isSaying_1 8 rfl rfl)
abbrev cX0_with : ByteArray := prog_1_method_31_code
def yX0_with : MethodName := ⟨RX0, "with", "(IIILCrossingWords$Times;)I"⟩
def dkwX0_with_5 : List UInt8 := [181, 0, 165, 21, 8, 172]
abbrev dktX0_with_5 : List UInt8 := dkwX0_with_5 ++ []
def dkwX0_with_4 : List UInt8 := [182, 0, 213, 182, 0, 83, 153, 0, 6, 132, 8, 1, 132, 10, 1, 167, 255, 219, 25, 5, 25, 6]
abbrev dktX0_with_4 : List UInt8 := dkwX0_with_4 ++ dktX0_with_5
def dkwX0_with_3 : List UInt8 := [54, 10, 21, 8, 155, 0, 38, 21, 10, 25, 7, 182, 0, 77, 162, 0, 28, 42, 25, 7, 25, 9, 21, 10]
abbrev dktX0_with_3 : List UInt8 := dkwX0_with_3 ++ dktX0_with_4
def dkwX0_with_2 : List UInt8 := [25, 7, 182, 0, 73, 153, 0, 7, 3, 167, 0, 5, 16, 254, 54, 8, 42, 28, 182, 0, 203, 58, 9, 3]
abbrev dktX0_with_2 : List UInt8 := dkwX0_with_2 ++ dktX0_with_3
def dkwX0_with_1 : List UInt8 := [181, 0, 165, 187, 0, 19, 89, 183, 1, 3, 58, 7, 25, 7, 42, 180, 0, 21, 27, 50, 182, 1, 4]
abbrev dktX0_with_1 : List UInt8 := dkwX0_with_1 ++ dktX0_with_2
def dkwX0_with_0 : List UInt8 := [42, 180, 0, 21, 27, 50, 180, 0, 143, 29, 50, 58, 5, 25, 5, 180, 0, 165, 58, 6, 25, 5, 25, 4]
abbrev dktX0_with_0 : List UInt8 := dkwX0_with_0 ++ dktX0_with_1
theorem dksX0_with_0 : cX0_with.data.toList.drop 0 = dktX0_with_0 := by decide +kernel
theorem dksX0_with_1 : cX0_with.data.toList.drop 24 = dktX0_with_1 := dk_seg dksX0_with_0 24 rfl rfl
theorem dksX0_with_2 : cX0_with.data.toList.drop 47 = dktX0_with_2 := dk_seg dksX0_with_1 23 rfl rfl
theorem dksX0_with_3 : cX0_with.data.toList.drop 71 = dktX0_with_3 := dk_seg dksX0_with_2 24 rfl rfl
theorem dksX0_with_4 : cX0_with.data.toList.drop 95 = dktX0_with_4 := dk_seg dksX0_with_3 24 rfl rfl
theorem dksX0_with_5 : cX0_with.data.toList.drop 117 = dktX0_with_5 := dk_seg dksX0_with_4 22 rfl rfl
theorem dX0_with_0 : decode cX0_with 0 = .ok (.aload_n 0, 1) := dk_42 (dk_at dksX0_with_0 0 rfl rfl)
theorem dX0_with_1 : decode cX0_with 1 = .ok (.getfield 21, 3) := dk_180 0 21 (dk_at dksX0_with_0 1 rfl rfl)
theorem dX0_with_4 : decode cX0_with 4 = .ok (.iload_n 1, 1) := dk_27 (dk_at dksX0_with_0 4 rfl rfl)
theorem dX0_with_5 : decode cX0_with 5 = .ok (.aaload, 1) := dk_50 (dk_at dksX0_with_0 5 rfl rfl)
theorem dX0_with_6 : decode cX0_with 6 = .ok (.getfield 143, 3) := dk_180 0 143 (dk_at dksX0_with_0 6 rfl rfl)
theorem dX0_with_9 : decode cX0_with 9 = .ok (.iload_n 3, 1) := dk_29 (dk_at dksX0_with_0 9 rfl rfl)
theorem dX0_with_10 : decode cX0_with 10 = .ok (.aaload, 1) := dk_50 (dk_at dksX0_with_0 10 rfl rfl)
theorem dX0_with_11 : decode cX0_with 11 = .ok (.astore 5, 2) := dk_58 5 (dk_at dksX0_with_0 11 rfl rfl)
theorem dX0_with_13 : decode cX0_with 13 = .ok (.aload 5, 2) := dk_25 5 (dk_at dksX0_with_0 13 rfl rfl)
theorem dX0_with_15 : decode cX0_with 15 = .ok (.getfield 165, 3) := dk_180 0 165 (dk_at dksX0_with_0 15 rfl rfl)
theorem dX0_with_18 : decode cX0_with 18 = .ok (.astore 6, 2) := dk_58 6 (dk_at dksX0_with_0 18 rfl rfl)
theorem dX0_with_20 : decode cX0_with 20 = .ok (.aload 5, 2) := dk_25 5 (dk_at dksX0_with_0 20 rfl rfl)
theorem dX0_with_22 : decode cX0_with 22 = .ok (.aload 4, 2) := dk_25 4 (dk_at dksX0_with_0 22 rfl rfl)
theorem dX0_with_24 : decode cX0_with 24 = .ok (.putfield 165, 3) := dk_181 0 165 (dk_at dksX0_with_1 0 rfl rfl)
theorem dX0_with_27 : decode cX0_with 27 = .ok (.new 19, 3) := dk_187 0 19 (dk_at dksX0_with_1 3 rfl rfl)
theorem dX0_with_30 : decode cX0_with 30 = .ok (.dup, 1) := dk_89 (dk_at dksX0_with_1 6 rfl rfl)
theorem dX0_with_31 : decode cX0_with 31 = .ok (.invokespecial 259, 3) := dk_183 1 3 (dk_at dksX0_with_1 7 rfl rfl)
theorem dX0_with_34 : decode cX0_with 34 = .ok (.astore 7, 2) := dk_58 7 (dk_at dksX0_with_1 10 rfl rfl)
theorem dX0_with_36 : decode cX0_with 36 = .ok (.aload 7, 2) := dk_25 7 (dk_at dksX0_with_1 12 rfl rfl)
theorem dX0_with_38 : decode cX0_with 38 = .ok (.aload_n 0, 1) := dk_42 (dk_at dksX0_with_1 14 rfl rfl)
theorem dX0_with_39 : decode cX0_with 39 = .ok (.getfield 21, 3) := dk_180 0 21 (dk_at dksX0_with_1 15 rfl rfl)
theorem dX0_with_42 : decode cX0_with 42 = .ok (.iload_n 1, 1) := dk_27 (dk_at dksX0_with_1 18 rfl rfl)
theorem dX0_with_43 : decode cX0_with 43 = .ok (.aaload, 1) := dk_50 (dk_at dksX0_with_1 19 rfl rfl)
theorem dX0_with_44 : decode cX0_with 44 = .ok (.invokevirtual 260, 3) := dk_182 1 4 (dk_at dksX0_with_1 20 rfl rfl)
theorem dX0_with_47 : decode cX0_with 47 = .ok (.aload 7, 2) := dk_25 7 (dk_at dksX0_with_2 0 rfl rfl)
theorem dX0_with_49 : decode cX0_with 49 = .ok (.invokevirtual 73, 3) := dk_182 0 73 (dk_at dksX0_with_2 2 rfl rfl)
theorem dX0_with_52 : decode cX0_with 52 = .ok (.ifCond .eq 7, 3) := dk_153 0 7 (dk_at dksX0_with_2 5 rfl rfl)
theorem dX0_with_55 : decode cX0_with 55 = .ok (.iconst 0, 1) := dk_3 (dk_at dksX0_with_2 8 rfl rfl)
theorem dX0_with_56 : decode cX0_with 56 = .ok (.goto 5, 3) := dk_167 0 5 (dk_at dksX0_with_2 9 rfl rfl)
theorem dX0_with_59 : decode cX0_with 59 = .ok (.bipush (-2), 2) := dk_16 254 (dk_at dksX0_with_2 12 rfl rfl)
theorem dX0_with_61 : decode cX0_with 61 = .ok (.istore 8, 2) := dk_54 8 (dk_at dksX0_with_2 14 rfl rfl)
theorem dX0_with_63 : decode cX0_with 63 = .ok (.aload_n 0, 1) := dk_42 (dk_at dksX0_with_2 16 rfl rfl)
theorem dX0_with_64 : decode cX0_with 64 = .ok (.iload_n 2, 1) := dk_28 (dk_at dksX0_with_2 17 rfl rfl)
theorem dX0_with_65 : decode cX0_with 65 = .ok (.invokevirtual 203, 3) := dk_182 0 203 (dk_at dksX0_with_2 18 rfl rfl)
theorem dX0_with_68 : decode cX0_with 68 = .ok (.astore 9, 2) := dk_58 9 (dk_at dksX0_with_2 21 rfl rfl)
theorem dX0_with_70 : decode cX0_with 70 = .ok (.iconst 0, 1) := dk_3 (dk_at dksX0_with_2 23 rfl rfl)
theorem dX0_with_71 : decode cX0_with 71 = .ok (.istore 10, 2) := dk_54 10 (dk_at dksX0_with_3 0 rfl rfl)
theorem dX0_with_73 : decode cX0_with 73 = .ok (.iload 8, 2) := dk_21 8 (dk_at dksX0_with_3 2 rfl rfl)
theorem dX0_with_75 : decode cX0_with 75 = .ok (.ifCond .lt 38, 3) := dk_155 0 38 (dk_at dksX0_with_3 4 rfl rfl)
theorem dX0_with_78 : decode cX0_with 78 = .ok (.iload 10, 2) := dk_21 10 (dk_at dksX0_with_3 7 rfl rfl)
theorem dX0_with_80 : decode cX0_with 80 = .ok (.aload 7, 2) := dk_25 7 (dk_at dksX0_with_3 9 rfl rfl)
theorem dX0_with_82 : decode cX0_with 82 = .ok (.invokevirtual 77, 3) := dk_182 0 77 (dk_at dksX0_with_3 11 rfl rfl)
theorem dX0_with_85 : decode cX0_with 85 = .ok (.if_icmp .ge 28, 3) := dk_162 0 28 (dk_at dksX0_with_3 14 rfl rfl)
theorem dX0_with_88 : decode cX0_with 88 = .ok (.aload_n 0, 1) := dk_42 (dk_at dksX0_with_3 17 rfl rfl)
theorem dX0_with_89 : decode cX0_with 89 = .ok (.aload 7, 2) := dk_25 7 (dk_at dksX0_with_3 18 rfl rfl)
theorem dX0_with_91 : decode cX0_with 91 = .ok (.aload 9, 2) := dk_25 9 (dk_at dksX0_with_3 20 rfl rfl)
theorem dX0_with_93 : decode cX0_with 93 = .ok (.iload 10, 2) := dk_21 10 (dk_at dksX0_with_3 22 rfl rfl)
theorem dX0_with_95 : decode cX0_with 95 = .ok (.invokevirtual 213, 3) := dk_182 0 213 (dk_at dksX0_with_4 0 rfl rfl)
theorem dX0_with_98 : decode cX0_with 98 = .ok (.invokevirtual 83, 3) := dk_182 0 83 (dk_at dksX0_with_4 3 rfl rfl)
theorem dX0_with_101 : decode cX0_with 101 = .ok (.ifCond .eq 6, 3) := dk_153 0 6 (dk_at dksX0_with_4 6 rfl rfl)
theorem dX0_with_104 : decode cX0_with 104 = .ok (.iinc 8 1, 3) := dk_132 8 1 (dk_at dksX0_with_4 9 rfl rfl)
theorem dX0_with_107 : decode cX0_with 107 = .ok (.iinc 10 1, 3) := dk_132 10 1 (dk_at dksX0_with_4 12 rfl rfl)
theorem dX0_with_110 : decode cX0_with 110 = .ok (.goto (-37), 3) := dk_167 255 219 (dk_at dksX0_with_4 15 rfl rfl)
theorem dX0_with_113 : decode cX0_with 113 = .ok (.aload 5, 2) := dk_25 5 (dk_at dksX0_with_4 18 rfl rfl)
theorem dX0_with_115 : decode cX0_with 115 = .ok (.aload 6, 2) := dk_25 6 (dk_at dksX0_with_4 20 rfl rfl)
theorem dX0_with_117 : decode cX0_with 117 = .ok (.putfield 165, 3) := dk_181 0 165 (dk_at dksX0_with_5 0 rfl rfl)
theorem dX0_with_120 : decode cX0_with 120 = .ok (.iload 8, 2) := dk_21 8 (dk_at dksX0_with_5 3 rfl rfl)
theorem dX0_with_122 : decode cX0_with 122 = .ok (.ireturn, 1) := dk_172 (dk_at dksX0_with_5 5 rfl rfl)
abbrev cX0_wired : ByteArray := prog_1_method_34_code
def yX0_wired : MethodName := ⟨RX0, "wired", "(III)I"⟩
def dkwX0_wired_2 : List UInt8 := [172]
abbrev dktX0_wired_2 : List UInt8 := dkwX0_wired_2 ++ []
def dkwX0_wired_1 : List UInt8 := [180, 0, 21, 27, 50, 180, 0, 143, 29, 50, 180, 0, 165, 182, 1, 19, 182, 1, 15, 167, 0, 5, 16, 254]
abbrev dktX0_wired_1 : List UInt8 := dkwX0_wired_1 ++ dktX0_wired_2
def dkwX0_wired_0 : List UInt8 := [42, 28, 182, 0, 185, 153, 0, 39, 42, 27, 29, 182, 1, 8, 153, 0, 30, 42, 27, 28, 29, 42]
abbrev dktX0_wired_0 : List UInt8 := dkwX0_wired_0 ++ dktX0_wired_1
theorem dksX0_wired_0 : cX0_wired.data.toList.drop 0 = dktX0_wired_0 := by decide +kernel
theorem dksX0_wired_1 : cX0_wired.data.toList.drop 22 = dktX0_wired_1 := dk_seg dksX0_wired_0 22 rfl rfl
theorem dksX0_wired_2 : cX0_wired.data.toList.drop 46 = dktX0_wired_2 := dk_seg dksX0_wired_1 24 rfl rfl
theorem dX0_wired_0 : decode cX0_wired 0 = .ok (.aload_n 0, 1) := dk_42 (dk_at dksX0_wired_0 0 rfl rfl)
theorem dX0_wired_1 : decode cX0_wired 1 = .ok (.iload_n 2, 1) := dk_28 (dk_at dksX0_wired_0 1 rfl rfl)
theorem dX0_wired_2 : decode cX0_wired 2 = .ok (.invokevirtual 185, 3) := dk_182 0 185 (dk_at dksX0_wired_0 2 rfl rfl)
theorem dX0_wired_5 : decode cX0_wired 5 = .ok (.ifCond .eq 39, 3) := dk_153 0 39 (dk_at dksX0_wired_0 5 rfl rfl)
theorem dX0_wired_8 : decode cX0_wired 8 = .ok (.aload_n 0, 1) := dk_42 (dk_at dksX0_wired_0 8 rfl rfl)
theorem dX0_wired_9 : decode cX0_wired 9 = .ok (.iload_n 1, 1) := dk_27 (dk_at dksX0_wired_0 9 rfl rfl)
theorem dX0_wired_10 : decode cX0_wired 10 = .ok (.iload_n 3, 1) := dk_29 (dk_at dksX0_wired_0 10 rfl rfl)
theorem dX0_wired_11 : decode cX0_wired 11 = .ok (.invokevirtual 264, 3) := dk_182 1 8 (dk_at dksX0_wired_0 11 rfl rfl)
theorem dX0_wired_14 : decode cX0_wired 14 = .ok (.ifCond .eq 30, 3) := dk_153 0 30 (dk_at dksX0_wired_0 14 rfl rfl)
theorem dX0_wired_17 : decode cX0_wired 17 = .ok (.aload_n 0, 1) := dk_42 (dk_at dksX0_wired_0 17 rfl rfl)
theorem dX0_wired_18 : decode cX0_wired 18 = .ok (.iload_n 1, 1) := dk_27 (dk_at dksX0_wired_0 18 rfl rfl)
theorem dX0_wired_19 : decode cX0_wired 19 = .ok (.iload_n 2, 1) := dk_28 (dk_at dksX0_wired_0 19 rfl rfl)
theorem dX0_wired_20 : decode cX0_wired 20 = .ok (.iload_n 3, 1) := dk_29 (dk_at dksX0_wired_0 20 rfl rfl)
theorem dX0_wired_21 : decode cX0_wired 21 = .ok (.aload_n 0, 1) := dk_42 (dk_at dksX0_wired_0 21 rfl rfl)
theorem dX0_wired_22 : decode cX0_wired 22 = .ok (.getfield 21, 3) := dk_180 0 21 (dk_at dksX0_wired_1 0 rfl rfl)
theorem dX0_wired_25 : decode cX0_wired 25 = .ok (.iload_n 1, 1) := dk_27 (dk_at dksX0_wired_1 3 rfl rfl)
theorem dX0_wired_26 : decode cX0_wired 26 = .ok (.aaload, 1) := dk_50 (dk_at dksX0_wired_1 4 rfl rfl)
theorem dX0_wired_27 : decode cX0_wired 27 = .ok (.getfield 143, 3) := dk_180 0 143 (dk_at dksX0_wired_1 5 rfl rfl)
theorem dX0_wired_30 : decode cX0_wired 30 = .ok (.iload_n 3, 1) := dk_29 (dk_at dksX0_wired_1 8 rfl rfl)
theorem dX0_wired_31 : decode cX0_wired 31 = .ok (.aaload, 1) := dk_50 (dk_at dksX0_wired_1 9 rfl rfl)
theorem dX0_wired_32 : decode cX0_wired 32 = .ok (.getfield 165, 3) := dk_180 0 165 (dk_at dksX0_wired_1 10 rfl rfl)
theorem dX0_wired_35 : decode cX0_wired 35 = .ok (.invokevirtual 275, 3) := dk_182 1 19 (dk_at dksX0_wired_1 13 rfl rfl)
theorem dX0_wired_38 : decode cX0_wired 38 = .ok (.invokevirtual 271, 3) := dk_182 1 15 (dk_at dksX0_wired_1 16 rfl rfl)
theorem dX0_wired_41 : decode cX0_wired 41 = .ok (.goto 5, 3) := dk_167 0 5 (dk_at dksX0_wired_1 19 rfl rfl)
theorem dX0_wired_44 : decode cX0_wired 44 = .ok (.bipush (-2), 2) := dk_16 254 (dk_at dksX0_wired_1 22 rfl rfl)
theorem dX0_wired_46 : decode cX0_wired 46 = .ok (.ireturn, 1) := dk_172 (dk_at dksX0_wired_2 0 rfl rfl)
abbrev cX0_image : ByteArray := prog_1_method_35_code
def yX0_image : MethodName := ⟨RX0, "image", "()I"⟩
def dkwX0_image_1 : List UInt8 := [183, 1, 25, 83, 42, 89, 180, 1, 22, 4, 96, 181, 1, 22, 42, 180, 1, 22, 4, 100, 172]
abbrev dktX0_image_1 : List UInt8 := dkwX0_image_1 ++ []
def dkwX0_image_0 : List UInt8 := [42, 180, 1, 22, 7, 160, 0, 5, 2, 172, 42, 180, 0, 50, 42, 180, 1, 22, 187, 0, 48, 89, 42]
abbrev dktX0_image_0 : List UInt8 := dkwX0_image_0 ++ dktX0_image_1
theorem dksX0_image_0 : cX0_image.data.toList.drop 0 = dktX0_image_0 := by decide +kernel
theorem dksX0_image_1 : cX0_image.data.toList.drop 23 = dktX0_image_1 := dk_seg dksX0_image_0 23 rfl rfl
theorem dX0_image_0 : decode cX0_image 0 = .ok (.aload_n 0, 1) := dk_42 (dk_at dksX0_image_0 0 rfl rfl)
theorem dX0_image_1 : decode cX0_image 1 = .ok (.getfield 278, 3) := dk_180 1 22 (dk_at dksX0_image_0 1 rfl rfl)
theorem dX0_image_4 : decode cX0_image 4 = .ok (.iconst 4, 1) := dk_7 (dk_at dksX0_image_0 4 rfl rfl)
theorem dX0_image_5 : decode cX0_image 5 = .ok (.if_icmp .ne 5, 3) := dk_160 0 5 (dk_at dksX0_image_0 5 rfl rfl)
theorem dX0_image_8 : decode cX0_image 8 = .ok (.iconst (-1), 1) := dk_2 (dk_at dksX0_image_0 8 rfl rfl)
theorem dX0_image_9 : decode cX0_image 9 = .ok (.ireturn, 1) := dk_172 (dk_at dksX0_image_0 9 rfl rfl)
theorem dX0_image_10 : decode cX0_image 10 = .ok (.aload_n 0, 1) := dk_42 (dk_at dksX0_image_0 10 rfl rfl)
theorem dX0_image_11 : decode cX0_image 11 = .ok (.getfield 50, 3) := dk_180 0 50 (dk_at dksX0_image_0 11 rfl rfl)
theorem dX0_image_14 : decode cX0_image 14 = .ok (.aload_n 0, 1) := dk_42 (dk_at dksX0_image_0 14 rfl rfl)
theorem dX0_image_15 : decode cX0_image 15 = .ok (.getfield 278, 3) := dk_180 1 22 (dk_at dksX0_image_0 15 rfl rfl)
theorem dX0_image_18 : decode cX0_image 18 = .ok (.new 48, 3) := dk_187 0 48 (dk_at dksX0_image_0 18 rfl rfl)
theorem dX0_image_21 : decode cX0_image 21 = .ok (.dup, 1) := dk_89 (dk_at dksX0_image_0 21 rfl rfl)
theorem dX0_image_22 : decode cX0_image 22 = .ok (.aload_n 0, 1) := dk_42 (dk_at dksX0_image_0 22 rfl rfl)
theorem dX0_image_23 : decode cX0_image 23 = .ok (.invokespecial 281, 3) := dk_183 1 25 (dk_at dksX0_image_1 0 rfl rfl)
theorem dX0_image_26 : decode cX0_image 26 = .ok (.aastore, 1) := dk_83 (dk_at dksX0_image_1 3 rfl rfl)
theorem dX0_image_27 : decode cX0_image 27 = .ok (.aload_n 0, 1) := dk_42 (dk_at dksX0_image_1 4 rfl rfl)
theorem dX0_image_28 : decode cX0_image 28 = .ok (.dup, 1) := dk_89 (dk_at dksX0_image_1 5 rfl rfl)
theorem dX0_image_29 : decode cX0_image 29 = .ok (.getfield 278, 3) := dk_180 1 22 (dk_at dksX0_image_1 6 rfl rfl)
theorem dX0_image_32 : decode cX0_image 32 = .ok (.iconst 1, 1) := dk_4 (dk_at dksX0_image_1 9 rfl rfl)
theorem dX0_image_33 : decode cX0_image 33 = .ok (.iadd, 1) := dk_96 (dk_at dksX0_image_1 10 rfl rfl)
theorem dX0_image_34 : decode cX0_image 34 = .ok (.putfield 278, 3) := dk_181 1 22 (dk_at dksX0_image_1 11 rfl rfl)
theorem dX0_image_37 : decode cX0_image 37 = .ok (.aload_n 0, 1) := dk_42 (dk_at dksX0_image_1 14 rfl rfl)
theorem dX0_image_38 : decode cX0_image 38 = .ok (.getfield 278, 3) := dk_180 1 22 (dk_at dksX0_image_1 15 rfl rfl)
theorem dX0_image_41 : decode cX0_image 41 = .ok (.iconst 1, 1) := dk_4 (dk_at dksX0_image_1 18 rfl rfl)
theorem dX0_image_42 : decode cX0_image 42 = .ok (.isub, 1) := dk_100 (dk_at dksX0_image_1 19 rfl rfl)
theorem dX0_image_43 : decode cX0_image 43 = .ok (.ireturn, 1) := dk_172 (dk_at dksX0_image_1 20 rfl rfl)
abbrev cX0_back : ByteArray := prog_1_method_36_code
def yX0_back : MethodName := ⟨RX0, "back", "(I)Z"⟩
def dkwX0_back_1 : List UInt8 := [182, 1, 26, 4, 172]
abbrev dktX0_back_1 : List UInt8 := dkwX0_back_1 ++ []
def dkwX0_back_0 : List UInt8 := [27, 3, 42, 180, 1, 22, 4, 100, 184, 0, 102, 154, 0, 5, 3, 172, 42, 180, 0, 50, 27, 50, 42]
abbrev dktX0_back_0 : List UInt8 := dkwX0_back_0 ++ dktX0_back_1
theorem dksX0_back_0 : cX0_back.data.toList.drop 0 = dktX0_back_0 := by decide +kernel
theorem dksX0_back_1 : cX0_back.data.toList.drop 23 = dktX0_back_1 := dk_seg dksX0_back_0 23 rfl rfl
theorem dX0_back_0 : decode cX0_back 0 = .ok (.iload_n 1, 1) := dk_27 (dk_at dksX0_back_0 0 rfl rfl)
theorem dX0_back_1 : decode cX0_back 1 = .ok (.iconst 0, 1) := dk_3 (dk_at dksX0_back_0 1 rfl rfl)
theorem dX0_back_2 : decode cX0_back 2 = .ok (.aload_n 0, 1) := dk_42 (dk_at dksX0_back_0 2 rfl rfl)
theorem dX0_back_3 : decode cX0_back 3 = .ok (.getfield 278, 3) := dk_180 1 22 (dk_at dksX0_back_0 3 rfl rfl)
theorem dX0_back_6 : decode cX0_back 6 = .ok (.iconst 1, 1) := dk_4 (dk_at dksX0_back_0 6 rfl rfl)
theorem dX0_back_7 : decode cX0_back 7 = .ok (.isub, 1) := dk_100 (dk_at dksX0_back_0 7 rfl rfl)
theorem dX0_back_8 : decode cX0_back 8 = .ok (.invokestatic 102, 3) := dk_184 0 102 (dk_at dksX0_back_0 8 rfl rfl)
theorem dX0_back_11 : decode cX0_back 11 = .ok (.ifCond .ne 5, 3) := dk_154 0 5 (dk_at dksX0_back_0 11 rfl rfl)
theorem dX0_back_14 : decode cX0_back 14 = .ok (.iconst 0, 1) := dk_3 (dk_at dksX0_back_0 14 rfl rfl)
theorem dX0_back_15 : decode cX0_back 15 = .ok (.ireturn, 1) := dk_172 (dk_at dksX0_back_0 15 rfl rfl)
theorem dX0_back_16 : decode cX0_back 16 = .ok (.aload_n 0, 1) := dk_42 (dk_at dksX0_back_0 16 rfl rfl)
theorem dX0_back_17 : decode cX0_back 17 = .ok (.getfield 50, 3) := dk_180 0 50 (dk_at dksX0_back_0 17 rfl rfl)
theorem dX0_back_20 : decode cX0_back 20 = .ok (.iload_n 1, 1) := dk_27 (dk_at dksX0_back_0 20 rfl rfl)
theorem dX0_back_21 : decode cX0_back 21 = .ok (.aaload, 1) := dk_50 (dk_at dksX0_back_0 21 rfl rfl)
theorem dX0_back_22 : decode cX0_back 22 = .ok (.aload_n 0, 1) := dk_42 (dk_at dksX0_back_0 22 rfl rfl)
theorem dX0_back_23 : decode cX0_back 23 = .ok (.invokevirtual 282, 3) := dk_182 1 26 (dk_at dksX0_back_1 0 rfl rfl)
theorem dX0_back_26 : decode cX0_back 26 = .ok (.iconst 1, 1) := dk_4 (dk_at dksX0_back_1 3 rfl rfl)
theorem dX0_back_27 : decode cX0_back 27 = .ok (.ireturn, 1) := dk_172 (dk_at dksX0_back_1 4 rfl rfl)
abbrev cX0_hang : ByteArray := prog_1_method_38_code
def yX0_hang : MethodName := ⟨RX0, "hang", "(II)I"⟩
def dkwX0_hang_5 : List UInt8 := [182, 1, 37, 153, 0, 7, 21, 6, 54, 5, 132, 6, 1, 167, 255, 215, 21, 5, 172]
abbrev dktX0_hang_5 : List UInt8 := dkwX0_hang_5 ++ []
def dkwX0_hang_4 : List UInt8 := [180, 0, 182, 120, 162, 0, 36, 21, 6, 184, 1, 32, 21, 5, 184, 1, 32, 162, 0, 17, 42, 45, 21, 6]
abbrev dktX0_hang_4 : List UInt8 := dkwX0_hang_4 ++ dktX0_hang_5
def dkwX0_hang_3 : List UInt8 := [84, 132, 5, 1, 167, 255, 225, 4, 45, 180, 0, 182, 120, 4, 100, 54, 5, 3, 54, 6, 21, 6, 4, 45]
abbrev dktX0_hang_3 : List UInt8 := dkwX0_hang_3 ++ dktX0_hang_4
def dkwX0_hang_2 : List UInt8 := [182, 0, 77, 162, 0, 28, 42, 180, 0, 54, 21, 5, 42, 45, 25, 4, 21, 5, 182, 0, 213, 182, 0, 83]
abbrev dktX0_hang_2 : List UInt8 := dkwX0_hang_2 ++ dktX0_hang_3
def dkwX0_hang_1 : List UInt8 := [16, 254, 172, 42, 180, 0, 21, 27, 50, 78, 42, 28, 182, 0, 203, 58, 4, 3, 54, 5, 21, 5, 45]
abbrev dktX0_hang_1 : List UInt8 := dkwX0_hang_1 ++ dktX0_hang_2
def dkwX0_hang_0 : List UInt8 := [42, 27, 28, 3, 182, 0, 210, 153, 0, 17, 42, 180, 0, 21, 27, 50, 180, 0, 182, 16, 12, 164, 0, 6]
abbrev dktX0_hang_0 : List UInt8 := dkwX0_hang_0 ++ dktX0_hang_1
theorem dksX0_hang_0 : cX0_hang.data.toList.drop 0 = dktX0_hang_0 := by decide +kernel
theorem dksX0_hang_1 : cX0_hang.data.toList.drop 24 = dktX0_hang_1 := dk_seg dksX0_hang_0 24 rfl rfl
theorem dksX0_hang_2 : cX0_hang.data.toList.drop 47 = dktX0_hang_2 := dk_seg dksX0_hang_1 23 rfl rfl
theorem dksX0_hang_3 : cX0_hang.data.toList.drop 71 = dktX0_hang_3 := dk_seg dksX0_hang_2 24 rfl rfl
theorem dksX0_hang_4 : cX0_hang.data.toList.drop 95 = dktX0_hang_4 := dk_seg dksX0_hang_3 24 rfl rfl
theorem dksX0_hang_5 : cX0_hang.data.toList.drop 119 = dktX0_hang_5 := dk_seg dksX0_hang_4 24 rfl rfl
theorem dX0_hang_0 : decode cX0_hang 0 = .ok (.aload_n 0, 1) := dk_42 (dk_at dksX0_hang_0 0 rfl rfl)
theorem dX0_hang_1 : decode cX0_hang 1 = .ok (.iload_n 1, 1) := dk_27 (dk_at dksX0_hang_0 1 rfl rfl)
theorem dX0_hang_2 : decode cX0_hang 2 = .ok (.iload_n 2, 1) := dk_28 (dk_at dksX0_hang_0 2 rfl rfl)
theorem dX0_hang_3 : decode cX0_hang 3 = .ok (.iconst 0, 1) := dk_3 (dk_at dksX0_hang_0 3 rfl rfl)
theorem dX0_hang_4 : decode cX0_hang 4 = .ok (.invokevirtual 210, 3) := dk_182 0 210 (dk_at dksX0_hang_0 4 rfl rfl)
theorem dX0_hang_7 : decode cX0_hang 7 = .ok (.ifCond .eq 17, 3) := dk_153 0 17 (dk_at dksX0_hang_0 7 rfl rfl)
theorem dX0_hang_10 : decode cX0_hang 10 = .ok (.aload_n 0, 1) := dk_42 (dk_at dksX0_hang_0 10 rfl rfl)
theorem dX0_hang_11 : decode cX0_hang 11 = .ok (.getfield 21, 3) := dk_180 0 21 (dk_at dksX0_hang_0 11 rfl rfl)
theorem dX0_hang_14 : decode cX0_hang 14 = .ok (.iload_n 1, 1) := dk_27 (dk_at dksX0_hang_0 14 rfl rfl)
theorem dX0_hang_15 : decode cX0_hang 15 = .ok (.aaload, 1) := dk_50 (dk_at dksX0_hang_0 15 rfl rfl)
theorem dX0_hang_16 : decode cX0_hang 16 = .ok (.getfield 182, 3) := dk_180 0 182 (dk_at dksX0_hang_0 16 rfl rfl)
theorem dX0_hang_19 : decode cX0_hang 19 = .ok (.bipush 12, 2) := dk_16 12 (dk_at dksX0_hang_0 19 rfl rfl)
theorem dX0_hang_21 : decode cX0_hang 21 = .ok (.if_icmp .le 6, 3) := dk_164 0 6 (dk_at dksX0_hang_0 21 rfl rfl)
theorem dX0_hang_24 : decode cX0_hang 24 = .ok (.bipush (-2), 2) := dk_16 254 (dk_at dksX0_hang_1 0 rfl rfl)
theorem dX0_hang_26 : decode cX0_hang 26 = .ok (.ireturn, 1) := dk_172 (dk_at dksX0_hang_1 2 rfl rfl)
theorem dX0_hang_27 : decode cX0_hang 27 = .ok (.aload_n 0, 1) := dk_42 (dk_at dksX0_hang_1 3 rfl rfl)
theorem dX0_hang_28 : decode cX0_hang 28 = .ok (.getfield 21, 3) := dk_180 0 21 (dk_at dksX0_hang_1 4 rfl rfl)
theorem dX0_hang_31 : decode cX0_hang 31 = .ok (.iload_n 1, 1) := dk_27 (dk_at dksX0_hang_1 7 rfl rfl)
theorem dX0_hang_32 : decode cX0_hang 32 = .ok (.aaload, 1) := dk_50 (dk_at dksX0_hang_1 8 rfl rfl)
theorem dX0_hang_33 : decode cX0_hang 33 = .ok (.astore_n 3, 1) := dk_78 (dk_at dksX0_hang_1 9 rfl rfl)
theorem dX0_hang_34 : decode cX0_hang 34 = .ok (.aload_n 0, 1) := dk_42 (dk_at dksX0_hang_1 10 rfl rfl)
theorem dX0_hang_35 : decode cX0_hang 35 = .ok (.iload_n 2, 1) := dk_28 (dk_at dksX0_hang_1 11 rfl rfl)
theorem dX0_hang_36 : decode cX0_hang 36 = .ok (.invokevirtual 203, 3) := dk_182 0 203 (dk_at dksX0_hang_1 12 rfl rfl)
theorem dX0_hang_39 : decode cX0_hang 39 = .ok (.astore 4, 2) := dk_58 4 (dk_at dksX0_hang_1 15 rfl rfl)
theorem dX0_hang_41 : decode cX0_hang 41 = .ok (.iconst 0, 1) := dk_3 (dk_at dksX0_hang_1 17 rfl rfl)
theorem dX0_hang_42 : decode cX0_hang 42 = .ok (.istore 5, 2) := dk_54 5 (dk_at dksX0_hang_1 18 rfl rfl)
theorem dX0_hang_44 : decode cX0_hang 44 = .ok (.iload 5, 2) := dk_21 5 (dk_at dksX0_hang_1 20 rfl rfl)
theorem dX0_hang_46 : decode cX0_hang 46 = .ok (.aload_n 3, 1) := dk_45 (dk_at dksX0_hang_1 22 rfl rfl)
theorem dX0_hang_47 : decode cX0_hang 47 = .ok (.invokevirtual 77, 3) := dk_182 0 77 (dk_at dksX0_hang_2 0 rfl rfl)
theorem dX0_hang_50 : decode cX0_hang 50 = .ok (.if_icmp .ge 28, 3) := dk_162 0 28 (dk_at dksX0_hang_2 3 rfl rfl)
theorem dX0_hang_53 : decode cX0_hang 53 = .ok (.aload_n 0, 1) := dk_42 (dk_at dksX0_hang_2 6 rfl rfl)
theorem dX0_hang_54 : decode cX0_hang 54 = .ok (.getfield 54, 3) := dk_180 0 54 (dk_at dksX0_hang_2 7 rfl rfl)
theorem dX0_hang_57 : decode cX0_hang 57 = .ok (.iload 5, 2) := dk_21 5 (dk_at dksX0_hang_2 10 rfl rfl)
theorem dX0_hang_59 : decode cX0_hang 59 = .ok (.aload_n 0, 1) := dk_42 (dk_at dksX0_hang_2 12 rfl rfl)
theorem dX0_hang_60 : decode cX0_hang 60 = .ok (.aload_n 3, 1) := dk_45 (dk_at dksX0_hang_2 13 rfl rfl)
theorem dX0_hang_61 : decode cX0_hang 61 = .ok (.aload 4, 2) := dk_25 4 (dk_at dksX0_hang_2 14 rfl rfl)
theorem dX0_hang_63 : decode cX0_hang 63 = .ok (.iload 5, 2) := dk_21 5 (dk_at dksX0_hang_2 16 rfl rfl)
theorem dX0_hang_65 : decode cX0_hang 65 = .ok (.invokevirtual 213, 3) := dk_182 0 213 (dk_at dksX0_hang_2 18 rfl rfl)
theorem dX0_hang_68 : decode cX0_hang 68 = .ok (.invokevirtual 83, 3) := dk_182 0 83 (dk_at dksX0_hang_2 21 rfl rfl)
theorem dX0_hang_71 : decode cX0_hang 71 = .ok (.bastore, 1) := dk_84 (dk_at dksX0_hang_3 0 rfl rfl)
theorem dX0_hang_72 : decode cX0_hang 72 = .ok (.iinc 5 1, 3) := dk_132 5 1 (dk_at dksX0_hang_3 1 rfl rfl)
theorem dX0_hang_75 : decode cX0_hang 75 = .ok (.goto (-31), 3) := dk_167 255 225 (dk_at dksX0_hang_3 4 rfl rfl)
theorem dX0_hang_78 : decode cX0_hang 78 = .ok (.iconst 1, 1) := dk_4 (dk_at dksX0_hang_3 7 rfl rfl)
theorem dX0_hang_79 : decode cX0_hang 79 = .ok (.aload_n 3, 1) := dk_45 (dk_at dksX0_hang_3 8 rfl rfl)
theorem dX0_hang_80 : decode cX0_hang 80 = .ok (.getfield 182, 3) := dk_180 0 182 (dk_at dksX0_hang_3 9 rfl rfl)
theorem dX0_hang_83 : decode cX0_hang 83 = .ok (.ishl, 1) := dk_120 (dk_at dksX0_hang_3 12 rfl rfl)
theorem dX0_hang_84 : decode cX0_hang 84 = .ok (.iconst 1, 1) := dk_4 (dk_at dksX0_hang_3 13 rfl rfl)
theorem dX0_hang_85 : decode cX0_hang 85 = .ok (.isub, 1) := dk_100 (dk_at dksX0_hang_3 14 rfl rfl)
theorem dX0_hang_86 : decode cX0_hang 86 = .ok (.istore 5, 2) := dk_54 5 (dk_at dksX0_hang_3 15 rfl rfl)
theorem dX0_hang_88 : decode cX0_hang 88 = .ok (.iconst 0, 1) := dk_3 (dk_at dksX0_hang_3 17 rfl rfl)
theorem dX0_hang_89 : decode cX0_hang 89 = .ok (.istore 6, 2) := dk_54 6 (dk_at dksX0_hang_3 18 rfl rfl)
theorem dX0_hang_91 : decode cX0_hang 91 = .ok (.iload 6, 2) := dk_21 6 (dk_at dksX0_hang_3 20 rfl rfl)
theorem dX0_hang_93 : decode cX0_hang 93 = .ok (.iconst 1, 1) := dk_4 (dk_at dksX0_hang_3 22 rfl rfl)
theorem dX0_hang_94 : decode cX0_hang 94 = .ok (.aload_n 3, 1) := dk_45 (dk_at dksX0_hang_3 23 rfl rfl)
theorem dX0_hang_95 : decode cX0_hang 95 = .ok (.getfield 182, 3) := dk_180 0 182 (dk_at dksX0_hang_4 0 rfl rfl)
theorem dX0_hang_98 : decode cX0_hang 98 = .ok (.ishl, 1) := dk_120 (dk_at dksX0_hang_4 3 rfl rfl)
theorem dX0_hang_99 : decode cX0_hang 99 = .ok (.if_icmp .ge 36, 3) := dk_162 0 36 (dk_at dksX0_hang_4 4 rfl rfl)
theorem dX0_hang_102 : decode cX0_hang 102 = .ok (.iload 6, 2) := dk_21 6 (dk_at dksX0_hang_4 7 rfl rfl)
theorem dX0_hang_104 : decode cX0_hang 104 = .ok (.invokestatic 288, 3) := dk_184 1 32 (dk_at dksX0_hang_4 9 rfl rfl)
theorem dX0_hang_107 : decode cX0_hang 107 = .ok (.iload 5, 2) := dk_21 5 (dk_at dksX0_hang_4 12 rfl rfl)
theorem dX0_hang_109 : decode cX0_hang 109 = .ok (.invokestatic 288, 3) := dk_184 1 32 (dk_at dksX0_hang_4 14 rfl rfl)
theorem dX0_hang_112 : decode cX0_hang 112 = .ok (.if_icmp .ge 17, 3) := dk_162 0 17 (dk_at dksX0_hang_4 17 rfl rfl)
theorem dX0_hang_115 : decode cX0_hang 115 = .ok (.aload_n 0, 1) := dk_42 (dk_at dksX0_hang_4 20 rfl rfl)
theorem dX0_hang_116 : decode cX0_hang 116 = .ok (.aload_n 3, 1) := dk_45 (dk_at dksX0_hang_4 21 rfl rfl)
theorem dX0_hang_117 : decode cX0_hang 117 = .ok (.iload 6, 2) := dk_21 6 (dk_at dksX0_hang_4 22 rfl rfl)
theorem dX0_hang_119 : decode cX0_hang 119 = .ok (.invokevirtual 293, 3) := dk_182 1 37 (dk_at dksX0_hang_5 0 rfl rfl)
theorem dX0_hang_122 : decode cX0_hang 122 = .ok (.ifCond .eq 7, 3) := dk_153 0 7 (dk_at dksX0_hang_5 3 rfl rfl)
theorem dX0_hang_125 : decode cX0_hang 125 = .ok (.iload 6, 2) := dk_21 6 (dk_at dksX0_hang_5 6 rfl rfl)
theorem dX0_hang_127 : decode cX0_hang 127 = .ok (.istore 5, 2) := dk_54 5 (dk_at dksX0_hang_5 8 rfl rfl)
theorem dX0_hang_129 : decode cX0_hang 129 = .ok (.iinc 6 1, 3) := dk_132 6 1 (dk_at dksX0_hang_5 10 rfl rfl)
theorem dX0_hang_132 : decode cX0_hang 132 = .ok (.goto (-41), 3) := dk_167 255 215 (dk_at dksX0_hang_5 13 rfl rfl)
theorem dX0_hang_135 : decode cX0_hang 135 = .ok (.iload 5, 2) := dk_21 5 (dk_at dksX0_hang_5 16 rfl rfl)
theorem dX0_hang_137 : decode cX0_hang 137 = .ok (.ireturn, 1) := dk_172 (dk_at dksX0_hang_5 18 rfl rfl)
abbrev cX0_tells : ByteArray := prog_1_method_37_code
def yX0_tells : MethodName := ⟨RX0, "tells", "(LCrossingWords$Case;I)Z"⟩
def dkwX0_tells_6 : List UInt8 := [159, 0, 5, 3, 172, 42, 180, 0, 58, 21, 4, 21, 6, 79, 132, 3, 1, 167, 255, 123, 4, 172]
abbrev dktX0_tells_6 : List UInt8 := dkwX0_tells_6 ++ []
def dkwX0_tells_5 : List UInt8 := [4, 54, 6, 42, 180, 0, 58, 21, 4, 46, 153, 0, 17, 42, 180, 0, 58, 21, 4, 46, 21, 6]
abbrev dktX0_tells_5 : List UInt8 := dkwX0_tells_5 ++ dktX0_tells_6
def dkwX0_tells_4 : List UInt8 := [21, 7, 96, 54, 4, 132, 6, 1, 167, 255, 195, 42, 180, 0, 54, 29, 51, 153, 0, 7, 5, 167, 0, 4]
abbrev dktX0_tells_4 : List UInt8 := dkwX0_tells_4 ++ dktX0_tells_5
def dkwX0_tells_3 : List UInt8 := [108, 54, 5, 28, 21, 6, 122, 4, 126, 4, 160, 0, 18, 21, 4, 43, 180, 1, 29, 21, 6, 46, 104]
abbrev dktX0_tells_3 : List UInt8 := dkwX0_tells_3 ++ dktX0_tells_4
def dkwX0_tells_2 : List UInt8 := [162, 0, 58, 21, 5, 43, 180, 1, 29, 21, 6, 46, 112, 54, 7, 21, 5, 43, 180, 1, 29, 21, 6, 46]
abbrev dktX0_tells_2 : List UInt8 := dkwX0_tells_2 ++ dktX0_tells_3
def dkwX0_tells_1 : List UInt8 := [29, 43, 182, 0, 77, 162, 0, 131, 3, 54, 4, 29, 54, 5, 3, 54, 6, 21, 6, 43, 180, 0, 182]
abbrev dktX0_tells_1 : List UInt8 := dkwX0_tells_1 ++ dktX0_tells_2
def dkwX0_tells_0 : List UInt8 := [3, 62, 29, 17, 4, 0, 162, 0, 16, 42, 180, 0, 58, 29, 3, 79, 132, 3, 1, 167, 255, 239, 3, 62]
abbrev dktX0_tells_0 : List UInt8 := dkwX0_tells_0 ++ dktX0_tells_1
theorem dksX0_tells_0 : cX0_tells.data.toList.drop 0 = dktX0_tells_0 := by decide +kernel
theorem dksX0_tells_1 : cX0_tells.data.toList.drop 24 = dktX0_tells_1 := dk_seg dksX0_tells_0 24 rfl rfl
theorem dksX0_tells_2 : cX0_tells.data.toList.drop 47 = dktX0_tells_2 := dk_seg dksX0_tells_1 23 rfl rfl
theorem dksX0_tells_3 : cX0_tells.data.toList.drop 71 = dktX0_tells_3 := dk_seg dksX0_tells_2 24 rfl rfl
theorem dksX0_tells_4 : cX0_tells.data.toList.drop 94 = dktX0_tells_4 := dk_seg dksX0_tells_3 23 rfl rfl
theorem dksX0_tells_5 : cX0_tells.data.toList.drop 118 = dktX0_tells_5 := dk_seg dksX0_tells_4 24 rfl rfl
theorem dksX0_tells_6 : cX0_tells.data.toList.drop 140 = dktX0_tells_6 := dk_seg dksX0_tells_5 22 rfl rfl
theorem dX0_tells_0 : decode cX0_tells 0 = .ok (.iconst 0, 1) := dk_3 (dk_at dksX0_tells_0 0 rfl rfl)
theorem dX0_tells_1 : decode cX0_tells 1 = .ok (.istore_n 3, 1) := dk_62 (dk_at dksX0_tells_0 1 rfl rfl)
theorem dX0_tells_2 : decode cX0_tells 2 = .ok (.iload_n 3, 1) := dk_29 (dk_at dksX0_tells_0 2 rfl rfl)
theorem dX0_tells_3 : decode cX0_tells 3 = .ok (.sipush 1024, 3) := dk_17 4 0 (dk_at dksX0_tells_0 3 rfl rfl)
theorem dX0_tells_6 : decode cX0_tells 6 = .ok (.if_icmp .ge 16, 3) := dk_162 0 16 (dk_at dksX0_tells_0 6 rfl rfl)
theorem dX0_tells_9 : decode cX0_tells 9 = .ok (.aload_n 0, 1) := dk_42 (dk_at dksX0_tells_0 9 rfl rfl)
theorem dX0_tells_10 : decode cX0_tells 10 = .ok (.getfield 58, 3) := dk_180 0 58 (dk_at dksX0_tells_0 10 rfl rfl)
theorem dX0_tells_13 : decode cX0_tells 13 = .ok (.iload_n 3, 1) := dk_29 (dk_at dksX0_tells_0 13 rfl rfl)
theorem dX0_tells_14 : decode cX0_tells 14 = .ok (.iconst 0, 1) := dk_3 (dk_at dksX0_tells_0 14 rfl rfl)
theorem dX0_tells_15 : decode cX0_tells 15 = .ok (.iastore, 1) := dk_79 (dk_at dksX0_tells_0 15 rfl rfl)
theorem dX0_tells_16 : decode cX0_tells 16 = .ok (.iinc 3 1, 3) := dk_132 3 1 (dk_at dksX0_tells_0 16 rfl rfl)
theorem dX0_tells_19 : decode cX0_tells 19 = .ok (.goto (-17), 3) := dk_167 255 239 (dk_at dksX0_tells_0 19 rfl rfl)
theorem dX0_tells_22 : decode cX0_tells 22 = .ok (.iconst 0, 1) := dk_3 (dk_at dksX0_tells_0 22 rfl rfl)
theorem dX0_tells_23 : decode cX0_tells 23 = .ok (.istore_n 3, 1) := dk_62 (dk_at dksX0_tells_0 23 rfl rfl)
theorem dX0_tells_24 : decode cX0_tells 24 = .ok (.iload_n 3, 1) := dk_29 (dk_at dksX0_tells_1 0 rfl rfl)
theorem dX0_tells_25 : decode cX0_tells 25 = .ok (.aload_n 1, 1) := dk_43 (dk_at dksX0_tells_1 1 rfl rfl)
theorem dX0_tells_26 : decode cX0_tells 26 = .ok (.invokevirtual 77, 3) := dk_182 0 77 (dk_at dksX0_tells_1 2 rfl rfl)
theorem dX0_tells_29 : decode cX0_tells 29 = .ok (.if_icmp .ge 131, 3) := dk_162 0 131 (dk_at dksX0_tells_1 5 rfl rfl)
theorem dX0_tells_32 : decode cX0_tells 32 = .ok (.iconst 0, 1) := dk_3 (dk_at dksX0_tells_1 8 rfl rfl)
theorem dX0_tells_33 : decode cX0_tells 33 = .ok (.istore 4, 2) := dk_54 4 (dk_at dksX0_tells_1 9 rfl rfl)
theorem dX0_tells_35 : decode cX0_tells 35 = .ok (.iload_n 3, 1) := dk_29 (dk_at dksX0_tells_1 11 rfl rfl)
theorem dX0_tells_36 : decode cX0_tells 36 = .ok (.istore 5, 2) := dk_54 5 (dk_at dksX0_tells_1 12 rfl rfl)
theorem dX0_tells_38 : decode cX0_tells 38 = .ok (.iconst 0, 1) := dk_3 (dk_at dksX0_tells_1 14 rfl rfl)
theorem dX0_tells_39 : decode cX0_tells 39 = .ok (.istore 6, 2) := dk_54 6 (dk_at dksX0_tells_1 15 rfl rfl)
theorem dX0_tells_41 : decode cX0_tells 41 = .ok (.iload 6, 2) := dk_21 6 (dk_at dksX0_tells_1 17 rfl rfl)
theorem dX0_tells_43 : decode cX0_tells 43 = .ok (.aload_n 1, 1) := dk_43 (dk_at dksX0_tells_1 19 rfl rfl)
theorem dX0_tells_44 : decode cX0_tells 44 = .ok (.getfield 182, 3) := dk_180 0 182 (dk_at dksX0_tells_1 20 rfl rfl)
theorem dX0_tells_47 : decode cX0_tells 47 = .ok (.if_icmp .ge 58, 3) := dk_162 0 58 (dk_at dksX0_tells_2 0 rfl rfl)
theorem dX0_tells_50 : decode cX0_tells 50 = .ok (.iload 5, 2) := dk_21 5 (dk_at dksX0_tells_2 3 rfl rfl)
theorem dX0_tells_52 : decode cX0_tells 52 = .ok (.aload_n 1, 1) := dk_43 (dk_at dksX0_tells_2 5 rfl rfl)
theorem dX0_tells_53 : decode cX0_tells 53 = .ok (.getfield 285, 3) := dk_180 1 29 (dk_at dksX0_tells_2 6 rfl rfl)
theorem dX0_tells_56 : decode cX0_tells 56 = .ok (.iload 6, 2) := dk_21 6 (dk_at dksX0_tells_2 9 rfl rfl)
theorem dX0_tells_58 : decode cX0_tells 58 = .ok (.iaload, 1) := dk_46 (dk_at dksX0_tells_2 11 rfl rfl)
theorem dX0_tells_59 : decode cX0_tells 59 = .ok (.irem, 1) := dk_112 (dk_at dksX0_tells_2 12 rfl rfl)
theorem dX0_tells_60 : decode cX0_tells 60 = .ok (.istore 7, 2) := dk_54 7 (dk_at dksX0_tells_2 13 rfl rfl)
theorem dX0_tells_62 : decode cX0_tells 62 = .ok (.iload 5, 2) := dk_21 5 (dk_at dksX0_tells_2 15 rfl rfl)
theorem dX0_tells_64 : decode cX0_tells 64 = .ok (.aload_n 1, 1) := dk_43 (dk_at dksX0_tells_2 17 rfl rfl)
theorem dX0_tells_65 : decode cX0_tells 65 = .ok (.getfield 285, 3) := dk_180 1 29 (dk_at dksX0_tells_2 18 rfl rfl)
theorem dX0_tells_68 : decode cX0_tells 68 = .ok (.iload 6, 2) := dk_21 6 (dk_at dksX0_tells_2 21 rfl rfl)
theorem dX0_tells_70 : decode cX0_tells 70 = .ok (.iaload, 1) := dk_46 (dk_at dksX0_tells_2 23 rfl rfl)
theorem dX0_tells_71 : decode cX0_tells 71 = .ok (.idiv, 1) := dk_108 (dk_at dksX0_tells_3 0 rfl rfl)
theorem dX0_tells_72 : decode cX0_tells 72 = .ok (.istore 5, 2) := dk_54 5 (dk_at dksX0_tells_3 1 rfl rfl)
theorem dX0_tells_74 : decode cX0_tells 74 = .ok (.iload_n 2, 1) := dk_28 (dk_at dksX0_tells_3 3 rfl rfl)
theorem dX0_tells_75 : decode cX0_tells 75 = .ok (.iload 6, 2) := dk_21 6 (dk_at dksX0_tells_3 4 rfl rfl)
theorem dX0_tells_77 : decode cX0_tells 77 = .ok (.ishr, 1) := dk_122 (dk_at dksX0_tells_3 6 rfl rfl)
theorem dX0_tells_78 : decode cX0_tells 78 = .ok (.iconst 1, 1) := dk_4 (dk_at dksX0_tells_3 7 rfl rfl)
theorem dX0_tells_79 : decode cX0_tells 79 = .ok (.iand, 1) := dk_126 (dk_at dksX0_tells_3 8 rfl rfl)
theorem dX0_tells_80 : decode cX0_tells 80 = .ok (.iconst 1, 1) := dk_4 (dk_at dksX0_tells_3 9 rfl rfl)
theorem dX0_tells_81 : decode cX0_tells 81 = .ok (.if_icmp .ne 18, 3) := dk_160 0 18 (dk_at dksX0_tells_3 10 rfl rfl)
theorem dX0_tells_84 : decode cX0_tells 84 = .ok (.iload 4, 2) := dk_21 4 (dk_at dksX0_tells_3 13 rfl rfl)
theorem dX0_tells_86 : decode cX0_tells 86 = .ok (.aload_n 1, 1) := dk_43 (dk_at dksX0_tells_3 15 rfl rfl)
theorem dX0_tells_87 : decode cX0_tells 87 = .ok (.getfield 285, 3) := dk_180 1 29 (dk_at dksX0_tells_3 16 rfl rfl)
theorem dX0_tells_90 : decode cX0_tells 90 = .ok (.iload 6, 2) := dk_21 6 (dk_at dksX0_tells_3 19 rfl rfl)
theorem dX0_tells_92 : decode cX0_tells 92 = .ok (.iaload, 1) := dk_46 (dk_at dksX0_tells_3 21 rfl rfl)
theorem dX0_tells_93 : decode cX0_tells 93 = .ok (.imul, 1) := dk_104 (dk_at dksX0_tells_3 22 rfl rfl)
theorem dX0_tells_94 : decode cX0_tells 94 = .ok (.iload 7, 2) := dk_21 7 (dk_at dksX0_tells_4 0 rfl rfl)
theorem dX0_tells_96 : decode cX0_tells 96 = .ok (.iadd, 1) := dk_96 (dk_at dksX0_tells_4 2 rfl rfl)
theorem dX0_tells_97 : decode cX0_tells 97 = .ok (.istore 4, 2) := dk_54 4 (dk_at dksX0_tells_4 3 rfl rfl)
theorem dX0_tells_99 : decode cX0_tells 99 = .ok (.iinc 6 1, 3) := dk_132 6 1 (dk_at dksX0_tells_4 5 rfl rfl)
theorem dX0_tells_102 : decode cX0_tells 102 = .ok (.goto (-61), 3) := dk_167 255 195 (dk_at dksX0_tells_4 8 rfl rfl)
theorem dX0_tells_105 : decode cX0_tells 105 = .ok (.aload_n 0, 1) := dk_42 (dk_at dksX0_tells_4 11 rfl rfl)
theorem dX0_tells_106 : decode cX0_tells 106 = .ok (.getfield 54, 3) := dk_180 0 54 (dk_at dksX0_tells_4 12 rfl rfl)
theorem dX0_tells_109 : decode cX0_tells 109 = .ok (.iload_n 3, 1) := dk_29 (dk_at dksX0_tells_4 15 rfl rfl)
theorem dX0_tells_110 : decode cX0_tells 110 = .ok (.baload, 1) := dk_51 (dk_at dksX0_tells_4 16 rfl rfl)
theorem dX0_tells_111 : decode cX0_tells 111 = .ok (.ifCond .eq 7, 3) := dk_153 0 7 (dk_at dksX0_tells_4 17 rfl rfl)
theorem dX0_tells_114 : decode cX0_tells 114 = .ok (.iconst 2, 1) := dk_5 (dk_at dksX0_tells_4 20 rfl rfl)
theorem dX0_tells_115 : decode cX0_tells 115 = .ok (.goto 4, 3) := dk_167 0 4 (dk_at dksX0_tells_4 21 rfl rfl)
theorem dX0_tells_118 : decode cX0_tells 118 = .ok (.iconst 1, 1) := dk_4 (dk_at dksX0_tells_5 0 rfl rfl)
theorem dX0_tells_119 : decode cX0_tells 119 = .ok (.istore 6, 2) := dk_54 6 (dk_at dksX0_tells_5 1 rfl rfl)
theorem dX0_tells_121 : decode cX0_tells 121 = .ok (.aload_n 0, 1) := dk_42 (dk_at dksX0_tells_5 3 rfl rfl)
theorem dX0_tells_122 : decode cX0_tells 122 = .ok (.getfield 58, 3) := dk_180 0 58 (dk_at dksX0_tells_5 4 rfl rfl)
theorem dX0_tells_125 : decode cX0_tells 125 = .ok (.iload 4, 2) := dk_21 4 (dk_at dksX0_tells_5 7 rfl rfl)
theorem dX0_tells_127 : decode cX0_tells 127 = .ok (.iaload, 1) := dk_46 (dk_at dksX0_tells_5 9 rfl rfl)
theorem dX0_tells_128 : decode cX0_tells 128 = .ok (.ifCond .eq 17, 3) := dk_153 0 17 (dk_at dksX0_tells_5 10 rfl rfl)
theorem dX0_tells_131 : decode cX0_tells 131 = .ok (.aload_n 0, 1) := dk_42 (dk_at dksX0_tells_5 13 rfl rfl)
theorem dX0_tells_132 : decode cX0_tells 132 = .ok (.getfield 58, 3) := dk_180 0 58 (dk_at dksX0_tells_5 14 rfl rfl)
theorem dX0_tells_135 : decode cX0_tells 135 = .ok (.iload 4, 2) := dk_21 4 (dk_at dksX0_tells_5 17 rfl rfl)
theorem dX0_tells_137 : decode cX0_tells 137 = .ok (.iaload, 1) := dk_46 (dk_at dksX0_tells_5 19 rfl rfl)
theorem dX0_tells_138 : decode cX0_tells 138 = .ok (.iload 6, 2) := dk_21 6 (dk_at dksX0_tells_5 20 rfl rfl)
theorem dX0_tells_140 : decode cX0_tells 140 = .ok (.if_icmp .eq 5, 3) := dk_159 0 5 (dk_at dksX0_tells_6 0 rfl rfl)
theorem dX0_tells_143 : decode cX0_tells 143 = .ok (.iconst 0, 1) := dk_3 (dk_at dksX0_tells_6 3 rfl rfl)
theorem dX0_tells_144 : decode cX0_tells 144 = .ok (.ireturn, 1) := dk_172 (dk_at dksX0_tells_6 4 rfl rfl)
theorem dX0_tells_145 : decode cX0_tells 145 = .ok (.aload_n 0, 1) := dk_42 (dk_at dksX0_tells_6 5 rfl rfl)
theorem dX0_tells_146 : decode cX0_tells 146 = .ok (.getfield 58, 3) := dk_180 0 58 (dk_at dksX0_tells_6 6 rfl rfl)
theorem dX0_tells_149 : decode cX0_tells 149 = .ok (.iload 4, 2) := dk_21 4 (dk_at dksX0_tells_6 9 rfl rfl)
theorem dX0_tells_151 : decode cX0_tells 151 = .ok (.iload 6, 2) := dk_21 6 (dk_at dksX0_tells_6 11 rfl rfl)
theorem dX0_tells_153 : decode cX0_tells 153 = .ok (.iastore, 1) := dk_79 (dk_at dksX0_tells_6 13 rfl rfl)
theorem dX0_tells_154 : decode cX0_tells 154 = .ok (.iinc 3 1, 3) := dk_132 3 1 (dk_at dksX0_tells_6 14 rfl rfl)
theorem dX0_tells_157 : decode cX0_tells 157 = .ok (.goto (-133), 3) := dk_167 255 123 (dk_at dksX0_tells_6 17 rfl rfl)
theorem dX0_tells_160 : decode cX0_tells 160 = .ok (.iconst 1, 1) := dk_4 (dk_at dksX0_tells_6 20 rfl rfl)
theorem dX0_tells_161 : decode cX0_tells 161 = .ok (.ireturn, 1) := dk_172 (dk_at dksX0_tells_6 21 rfl rfl)
abbrev cX0_bears : ByteArray := prog_1_method_39_code
def yX0_bears : MethodName := ⟨RX0, "bears", "(IIII)I"⟩
def dkwX0_bears_2 : List UInt8 := [17, 39, 14, 184, 1, 41, 182, 1, 44, 167, 0, 4, 2, 172]
abbrev dktX0_bears_2 : List UInt8 := dkwX0_bears_2 ++ []
def dkwX0_bears_1 : List UInt8 := [50, 42, 28, 182, 0, 203, 29, 182, 0, 213, 58, 5, 25, 5, 182, 0, 83, 153, 0, 19, 25, 5, 21, 4]
abbrev dktX0_bears_1 : List UInt8 := dkwX0_bears_1 ++ dktX0_bears_2
def dkwX0_bears_0 : List UInt8 := [42, 27, 28, 29, 182, 0, 210, 153, 0, 8, 21, 4, 156, 0, 6, 16, 254, 172, 42, 42, 180, 0, 21, 27]
abbrev dktX0_bears_0 : List UInt8 := dkwX0_bears_0 ++ dktX0_bears_1
theorem dksX0_bears_0 : cX0_bears.data.toList.drop 0 = dktX0_bears_0 := by decide +kernel
theorem dksX0_bears_1 : cX0_bears.data.toList.drop 24 = dktX0_bears_1 := dk_seg dksX0_bears_0 24 rfl rfl
theorem dksX0_bears_2 : cX0_bears.data.toList.drop 48 = dktX0_bears_2 := dk_seg dksX0_bears_1 24 rfl rfl
theorem dX0_bears_0 : decode cX0_bears 0 = .ok (.aload_n 0, 1) := dk_42 (dk_at dksX0_bears_0 0 rfl rfl)
theorem dX0_bears_1 : decode cX0_bears 1 = .ok (.iload_n 1, 1) := dk_27 (dk_at dksX0_bears_0 1 rfl rfl)
theorem dX0_bears_2 : decode cX0_bears 2 = .ok (.iload_n 2, 1) := dk_28 (dk_at dksX0_bears_0 2 rfl rfl)
theorem dX0_bears_3 : decode cX0_bears 3 = .ok (.iload_n 3, 1) := dk_29 (dk_at dksX0_bears_0 3 rfl rfl)
theorem dX0_bears_4 : decode cX0_bears 4 = .ok (.invokevirtual 210, 3) := dk_182 0 210 (dk_at dksX0_bears_0 4 rfl rfl)
theorem dX0_bears_7 : decode cX0_bears 7 = .ok (.ifCond .eq 8, 3) := dk_153 0 8 (dk_at dksX0_bears_0 7 rfl rfl)
theorem dX0_bears_10 : decode cX0_bears 10 = .ok (.iload 4, 2) := dk_21 4 (dk_at dksX0_bears_0 10 rfl rfl)
theorem dX0_bears_12 : decode cX0_bears 12 = .ok (.ifCond .ge 6, 3) := dk_156 0 6 (dk_at dksX0_bears_0 12 rfl rfl)
theorem dX0_bears_15 : decode cX0_bears 15 = .ok (.bipush (-2), 2) := dk_16 254 (dk_at dksX0_bears_0 15 rfl rfl)
theorem dX0_bears_17 : decode cX0_bears 17 = .ok (.ireturn, 1) := dk_172 (dk_at dksX0_bears_0 17 rfl rfl)
theorem dX0_bears_18 : decode cX0_bears 18 = .ok (.aload_n 0, 1) := dk_42 (dk_at dksX0_bears_0 18 rfl rfl)
theorem dX0_bears_19 : decode cX0_bears 19 = .ok (.aload_n 0, 1) := dk_42 (dk_at dksX0_bears_0 19 rfl rfl)
theorem dX0_bears_20 : decode cX0_bears 20 = .ok (.getfield 21, 3) := dk_180 0 21 (dk_at dksX0_bears_0 20 rfl rfl)
theorem dX0_bears_23 : decode cX0_bears 23 = .ok (.iload_n 1, 1) := dk_27 (dk_at dksX0_bears_0 23 rfl rfl)
theorem dX0_bears_24 : decode cX0_bears 24 = .ok (.aaload, 1) := dk_50 (dk_at dksX0_bears_1 0 rfl rfl)
theorem dX0_bears_25 : decode cX0_bears 25 = .ok (.aload_n 0, 1) := dk_42 (dk_at dksX0_bears_1 1 rfl rfl)
theorem dX0_bears_26 : decode cX0_bears 26 = .ok (.iload_n 2, 1) := dk_28 (dk_at dksX0_bears_1 2 rfl rfl)
theorem dX0_bears_27 : decode cX0_bears 27 = .ok (.invokevirtual 203, 3) := dk_182 0 203 (dk_at dksX0_bears_1 3 rfl rfl)
theorem dX0_bears_30 : decode cX0_bears 30 = .ok (.iload_n 3, 1) := dk_29 (dk_at dksX0_bears_1 6 rfl rfl)
theorem dX0_bears_31 : decode cX0_bears 31 = .ok (.invokevirtual 213, 3) := dk_182 0 213 (dk_at dksX0_bears_1 7 rfl rfl)
theorem dX0_bears_34 : decode cX0_bears 34 = .ok (.astore 5, 2) := dk_58 5 (dk_at dksX0_bears_1 10 rfl rfl)
theorem dX0_bears_36 : decode cX0_bears 36 = .ok (.aload 5, 2) := dk_25 5 (dk_at dksX0_bears_1 12 rfl rfl)
theorem dX0_bears_38 : decode cX0_bears 38 = .ok (.invokevirtual 83, 3) := dk_182 0 83 (dk_at dksX0_bears_1 14 rfl rfl)
theorem dX0_bears_41 : decode cX0_bears 41 = .ok (.ifCond .eq 19, 3) := dk_153 0 19 (dk_at dksX0_bears_1 17 rfl rfl)
theorem dX0_bears_44 : decode cX0_bears 44 = .ok (.aload 5, 2) := dk_25 5 (dk_at dksX0_bears_1 20 rfl rfl)
theorem dX0_bears_46 : decode cX0_bears 46 = .ok (.iload 4, 2) := dk_21 4 (dk_at dksX0_bears_1 22 rfl rfl)
theorem dX0_bears_48 : decode cX0_bears 48 = .ok (.sipush 9998, 3) := dk_17 39 14 (dk_at dksX0_bears_2 0 rfl rfl)
theorem dX0_bears_51 : decode cX0_bears 51 = .ok (.invokestatic 297, 3) := dk_184 1 41 (dk_at dksX0_bears_2 3 rfl rfl)
theorem dX0_bears_54 : decode cX0_bears 54 = .ok (.invokevirtual 300, 3) := dk_182 1 44 (dk_at dksX0_bears_2 6 rfl rfl)
theorem dX0_bears_57 : decode cX0_bears 57 = .ok (.goto 4, 3) := dk_167 0 4 (dk_at dksX0_bears_2 9 rfl rfl)
theorem dX0_bears_60 : decode cX0_bears 60 = .ok (.iconst (-1), 1) := dk_2 (dk_at dksX0_bears_2 12 rfl rfl)
theorem dX0_bears_61 : decode cX0_bears 61 = .ok (.ireturn, 1) := dk_172 (dk_at dksX0_bears_2 13 rfl rfl)
abbrev cX0_judge : ByteArray := prog_1_method_40_code
def yX0_judge : MethodName := ⟨RX0, "judge", "(IIIII)I"⟩
def dkwX0_judge_4 : List UInt8 := [172]
abbrev dktX0_judge_4 : List UInt8 := dkwX0_judge_4 ++ []
def dkwX0_judge_3 : List UInt8 := [21, 4, 159, 0, 7, 4, 167, 0, 18, 25, 6, 180, 0, 224, 21, 5, 159, 0, 7, 5, 167, 0, 4, 2]
abbrev dktX0_judge_3 : List UInt8 := dkwX0_judge_3 ++ dktX0_judge_4
def dkwX0_judge_2 : List UInt8 := [167, 0, 4, 3, 159, 0, 5, 3, 172, 25, 6, 182, 0, 83, 154, 0, 5, 2, 172, 25, 6, 180, 0, 217]
abbrev dktX0_judge_2 : List UInt8 := dkwX0_judge_2 ++ dktX0_judge_3
def dkwX0_judge_1 : List UInt8 := [182, 0, 203, 29, 182, 0, 213, 58, 6, 25, 6, 182, 0, 83, 21, 4, 16, 254, 159, 0, 7, 4]
abbrev dktX0_judge_1 : List UInt8 := dkwX0_judge_1 ++ dktX0_judge_2
def dkwX0_judge_0 : List UInt8 := [42, 27, 28, 29, 182, 0, 210, 154, 0, 6, 16, 254, 172, 42, 42, 180, 0, 21, 27, 50, 42, 28]
abbrev dktX0_judge_0 : List UInt8 := dkwX0_judge_0 ++ dktX0_judge_1
theorem dksX0_judge_0 : cX0_judge.data.toList.drop 0 = dktX0_judge_0 := by decide +kernel
theorem dksX0_judge_1 : cX0_judge.data.toList.drop 22 = dktX0_judge_1 := dk_seg dksX0_judge_0 22 rfl rfl
theorem dksX0_judge_2 : cX0_judge.data.toList.drop 44 = dktX0_judge_2 := dk_seg dksX0_judge_1 22 rfl rfl
theorem dksX0_judge_3 : cX0_judge.data.toList.drop 68 = dktX0_judge_3 := dk_seg dksX0_judge_2 24 rfl rfl
theorem dksX0_judge_4 : cX0_judge.data.toList.drop 92 = dktX0_judge_4 := dk_seg dksX0_judge_3 24 rfl rfl
theorem dX0_judge_0 : decode cX0_judge 0 = .ok (.aload_n 0, 1) := dk_42 (dk_at dksX0_judge_0 0 rfl rfl)
theorem dX0_judge_1 : decode cX0_judge 1 = .ok (.iload_n 1, 1) := dk_27 (dk_at dksX0_judge_0 1 rfl rfl)
theorem dX0_judge_2 : decode cX0_judge 2 = .ok (.iload_n 2, 1) := dk_28 (dk_at dksX0_judge_0 2 rfl rfl)
theorem dX0_judge_3 : decode cX0_judge 3 = .ok (.iload_n 3, 1) := dk_29 (dk_at dksX0_judge_0 3 rfl rfl)
theorem dX0_judge_4 : decode cX0_judge 4 = .ok (.invokevirtual 210, 3) := dk_182 0 210 (dk_at dksX0_judge_0 4 rfl rfl)
theorem dX0_judge_7 : decode cX0_judge 7 = .ok (.ifCond .ne 6, 3) := dk_154 0 6 (dk_at dksX0_judge_0 7 rfl rfl)
theorem dX0_judge_10 : decode cX0_judge 10 = .ok (.bipush (-2), 2) := dk_16 254 (dk_at dksX0_judge_0 10 rfl rfl)
theorem dX0_judge_12 : decode cX0_judge 12 = .ok (.ireturn, 1) := dk_172 (dk_at dksX0_judge_0 12 rfl rfl)
theorem dX0_judge_13 : decode cX0_judge 13 = .ok (.aload_n 0, 1) := dk_42 (dk_at dksX0_judge_0 13 rfl rfl)
theorem dX0_judge_14 : decode cX0_judge 14 = .ok (.aload_n 0, 1) := dk_42 (dk_at dksX0_judge_0 14 rfl rfl)
theorem dX0_judge_15 : decode cX0_judge 15 = .ok (.getfield 21, 3) := dk_180 0 21 (dk_at dksX0_judge_0 15 rfl rfl)
theorem dX0_judge_18 : decode cX0_judge 18 = .ok (.iload_n 1, 1) := dk_27 (dk_at dksX0_judge_0 18 rfl rfl)
theorem dX0_judge_19 : decode cX0_judge 19 = .ok (.aaload, 1) := dk_50 (dk_at dksX0_judge_0 19 rfl rfl)
theorem dX0_judge_20 : decode cX0_judge 20 = .ok (.aload_n 0, 1) := dk_42 (dk_at dksX0_judge_0 20 rfl rfl)
theorem dX0_judge_21 : decode cX0_judge 21 = .ok (.iload_n 2, 1) := dk_28 (dk_at dksX0_judge_0 21 rfl rfl)
theorem dX0_judge_22 : decode cX0_judge 22 = .ok (.invokevirtual 203, 3) := dk_182 0 203 (dk_at dksX0_judge_1 0 rfl rfl)
theorem dX0_judge_25 : decode cX0_judge 25 = .ok (.iload_n 3, 1) := dk_29 (dk_at dksX0_judge_1 3 rfl rfl)
theorem dX0_judge_26 : decode cX0_judge 26 = .ok (.invokevirtual 213, 3) := dk_182 0 213 (dk_at dksX0_judge_1 4 rfl rfl)
theorem dX0_judge_29 : decode cX0_judge 29 = .ok (.astore 6, 2) := dk_58 6 (dk_at dksX0_judge_1 7 rfl rfl)
theorem dX0_judge_31 : decode cX0_judge 31 = .ok (.aload 6, 2) := dk_25 6 (dk_at dksX0_judge_1 9 rfl rfl)
theorem dX0_judge_33 : decode cX0_judge 33 = .ok (.invokevirtual 83, 3) := dk_182 0 83 (dk_at dksX0_judge_1 11 rfl rfl)
theorem dX0_judge_36 : decode cX0_judge 36 = .ok (.iload 4, 2) := dk_21 4 (dk_at dksX0_judge_1 14 rfl rfl)
theorem dX0_judge_38 : decode cX0_judge 38 = .ok (.bipush (-2), 2) := dk_16 254 (dk_at dksX0_judge_1 16 rfl rfl)
theorem dX0_judge_40 : decode cX0_judge 40 = .ok (.if_icmp .eq 7, 3) := dk_159 0 7 (dk_at dksX0_judge_1 18 rfl rfl)
theorem dX0_judge_43 : decode cX0_judge 43 = .ok (.iconst 1, 1) := dk_4 (dk_at dksX0_judge_1 21 rfl rfl)
theorem dX0_judge_44 : decode cX0_judge 44 = .ok (.goto 4, 3) := dk_167 0 4 (dk_at dksX0_judge_2 0 rfl rfl)
theorem dX0_judge_47 : decode cX0_judge 47 = .ok (.iconst 0, 1) := dk_3 (dk_at dksX0_judge_2 3 rfl rfl)
theorem dX0_judge_48 : decode cX0_judge 48 = .ok (.if_icmp .eq 5, 3) := dk_159 0 5 (dk_at dksX0_judge_2 4 rfl rfl)
theorem dX0_judge_51 : decode cX0_judge 51 = .ok (.iconst 0, 1) := dk_3 (dk_at dksX0_judge_2 7 rfl rfl)
theorem dX0_judge_52 : decode cX0_judge 52 = .ok (.ireturn, 1) := dk_172 (dk_at dksX0_judge_2 8 rfl rfl)
theorem dX0_judge_53 : decode cX0_judge 53 = .ok (.aload 6, 2) := dk_25 6 (dk_at dksX0_judge_2 9 rfl rfl)
theorem dX0_judge_55 : decode cX0_judge 55 = .ok (.invokevirtual 83, 3) := dk_182 0 83 (dk_at dksX0_judge_2 11 rfl rfl)
theorem dX0_judge_58 : decode cX0_judge 58 = .ok (.ifCond .ne 5, 3) := dk_154 0 5 (dk_at dksX0_judge_2 14 rfl rfl)
theorem dX0_judge_61 : decode cX0_judge 61 = .ok (.iconst (-1), 1) := dk_2 (dk_at dksX0_judge_2 17 rfl rfl)
theorem dX0_judge_62 : decode cX0_judge 62 = .ok (.ireturn, 1) := dk_172 (dk_at dksX0_judge_2 18 rfl rfl)
theorem dX0_judge_63 : decode cX0_judge 63 = .ok (.aload 6, 2) := dk_25 6 (dk_at dksX0_judge_2 19 rfl rfl)
theorem dX0_judge_65 : decode cX0_judge 65 = .ok (.getfield 217, 3) := dk_180 0 217 (dk_at dksX0_judge_2 21 rfl rfl)
theorem dX0_judge_68 : decode cX0_judge 68 = .ok (.iload 4, 2) := dk_21 4 (dk_at dksX0_judge_3 0 rfl rfl)
theorem dX0_judge_70 : decode cX0_judge 70 = .ok (.if_icmp .eq 7, 3) := dk_159 0 7 (dk_at dksX0_judge_3 2 rfl rfl)
theorem dX0_judge_73 : decode cX0_judge 73 = .ok (.iconst 1, 1) := dk_4 (dk_at dksX0_judge_3 5 rfl rfl)
theorem dX0_judge_74 : decode cX0_judge 74 = .ok (.goto 18, 3) := dk_167 0 18 (dk_at dksX0_judge_3 6 rfl rfl)
theorem dX0_judge_77 : decode cX0_judge 77 = .ok (.aload 6, 2) := dk_25 6 (dk_at dksX0_judge_3 9 rfl rfl)
theorem dX0_judge_79 : decode cX0_judge 79 = .ok (.getfield 224, 3) := dk_180 0 224 (dk_at dksX0_judge_3 11 rfl rfl)
theorem dX0_judge_82 : decode cX0_judge 82 = .ok (.iload 5, 2) := dk_21 5 (dk_at dksX0_judge_3 14 rfl rfl)
theorem dX0_judge_84 : decode cX0_judge 84 = .ok (.if_icmp .eq 7, 3) := dk_159 0 7 (dk_at dksX0_judge_3 16 rfl rfl)
theorem dX0_judge_87 : decode cX0_judge 87 = .ok (.iconst 2, 1) := dk_5 (dk_at dksX0_judge_3 19 rfl rfl)
theorem dX0_judge_88 : decode cX0_judge 88 = .ok (.goto 4, 3) := dk_167 0 4 (dk_at dksX0_judge_3 20 rfl rfl)
theorem dX0_judge_91 : decode cX0_judge 91 = .ok (.iconst (-1), 1) := dk_2 (dk_at dksX0_judge_3 23 rfl rfl)
theorem dX0_judge_92 : decode cX0_judge 92 = .ok (.ireturn, 1) := dk_172 (dk_at dksX0_judge_4 0 rfl rfl)
abbrev cX0_apart : ByteArray := prog_1_method_42_code
def yX0_apart : MethodName := ⟨RX0, "apart", "(IIII)I"⟩
def dkwX0_apart_5 : List UInt8 := [167, 0, 5, 21, 8, 172]
abbrev dktX0_apart_5 : List UInt8 := dkwX0_apart_5 ++ []
def dkwX0_apart_4 : List UInt8 := [160, 0, 7, 21, 9, 54, 8, 132, 7, 1, 132, 9, 1, 167, 255, 204, 21, 4, 154, 0, 8, 21, 7]
abbrev dktX0_apart_4 : List UInt8 := dkwX0_apart_4 ++ dktX0_apart_5
def dkwX0_apart_3 : List UInt8 := [180, 0, 21, 27, 50, 25, 5, 25, 6, 21, 9, 182, 1, 47, 154, 0, 6, 167, 0, 16, 21, 8, 2]
abbrev dktX0_apart_3 : List UInt8 := dkwX0_apart_3 ++ dktX0_apart_4
def dkwX0_apart_2 : List UInt8 := [54, 7, 2, 54, 8, 3, 54, 9, 21, 9, 42, 180, 0, 21, 27, 50, 182, 0, 77, 162, 0, 44, 42, 42]
abbrev dktX0_apart_2 : List UInt8 := dkwX0_apart_2 ++ dktX0_apart_3
def dkwX0_apart_1 : List UInt8 := [184, 0, 102, 154, 0, 6, 16, 254, 172, 42, 28, 182, 0, 203, 58, 5, 42, 29, 182, 0, 203, 58, 6, 3]
abbrev dktX0_apart_1 : List UInt8 := dkwX0_apart_1 ++ dktX0_apart_2
def dkwX0_apart_0 : List UInt8 := [42, 27, 28, 3, 182, 0, 210, 153, 0, 21, 42, 29, 182, 0, 185, 153, 0, 13, 21, 4, 3, 4]
abbrev dktX0_apart_0 : List UInt8 := dkwX0_apart_0 ++ dktX0_apart_1
theorem dksX0_apart_0 : cX0_apart.data.toList.drop 0 = dktX0_apart_0 := by decide +kernel
theorem dksX0_apart_1 : cX0_apart.data.toList.drop 22 = dktX0_apart_1 := dk_seg dksX0_apart_0 22 rfl rfl
theorem dksX0_apart_2 : cX0_apart.data.toList.drop 46 = dktX0_apart_2 := dk_seg dksX0_apart_1 24 rfl rfl
theorem dksX0_apart_3 : cX0_apart.data.toList.drop 70 = dktX0_apart_3 := dk_seg dksX0_apart_2 24 rfl rfl
theorem dksX0_apart_4 : cX0_apart.data.toList.drop 93 = dktX0_apart_4 := dk_seg dksX0_apart_3 23 rfl rfl
theorem dksX0_apart_5 : cX0_apart.data.toList.drop 116 = dktX0_apart_5 := dk_seg dksX0_apart_4 23 rfl rfl
theorem dX0_apart_0 : decode cX0_apart 0 = .ok (.aload_n 0, 1) := dk_42 (dk_at dksX0_apart_0 0 rfl rfl)
theorem dX0_apart_1 : decode cX0_apart 1 = .ok (.iload_n 1, 1) := dk_27 (dk_at dksX0_apart_0 1 rfl rfl)
theorem dX0_apart_2 : decode cX0_apart 2 = .ok (.iload_n 2, 1) := dk_28 (dk_at dksX0_apart_0 2 rfl rfl)
theorem dX0_apart_3 : decode cX0_apart 3 = .ok (.iconst 0, 1) := dk_3 (dk_at dksX0_apart_0 3 rfl rfl)
theorem dX0_apart_4 : decode cX0_apart 4 = .ok (.invokevirtual 210, 3) := dk_182 0 210 (dk_at dksX0_apart_0 4 rfl rfl)
theorem dX0_apart_7 : decode cX0_apart 7 = .ok (.ifCond .eq 21, 3) := dk_153 0 21 (dk_at dksX0_apart_0 7 rfl rfl)
theorem dX0_apart_10 : decode cX0_apart 10 = .ok (.aload_n 0, 1) := dk_42 (dk_at dksX0_apart_0 10 rfl rfl)
theorem dX0_apart_11 : decode cX0_apart 11 = .ok (.iload_n 3, 1) := dk_29 (dk_at dksX0_apart_0 11 rfl rfl)
theorem dX0_apart_12 : decode cX0_apart 12 = .ok (.invokevirtual 185, 3) := dk_182 0 185 (dk_at dksX0_apart_0 12 rfl rfl)
theorem dX0_apart_15 : decode cX0_apart 15 = .ok (.ifCond .eq 13, 3) := dk_153 0 13 (dk_at dksX0_apart_0 15 rfl rfl)
theorem dX0_apart_18 : decode cX0_apart 18 = .ok (.iload 4, 2) := dk_21 4 (dk_at dksX0_apart_0 18 rfl rfl)
theorem dX0_apart_20 : decode cX0_apart 20 = .ok (.iconst 0, 1) := dk_3 (dk_at dksX0_apart_0 20 rfl rfl)
theorem dX0_apart_21 : decode cX0_apart 21 = .ok (.iconst 1, 1) := dk_4 (dk_at dksX0_apart_0 21 rfl rfl)
theorem dX0_apart_22 : decode cX0_apart 22 = .ok (.invokestatic 102, 3) := dk_184 0 102 (dk_at dksX0_apart_1 0 rfl rfl)
theorem dX0_apart_25 : decode cX0_apart 25 = .ok (.ifCond .ne 6, 3) := dk_154 0 6 (dk_at dksX0_apart_1 3 rfl rfl)
theorem dX0_apart_28 : decode cX0_apart 28 = .ok (.bipush (-2), 2) := dk_16 254 (dk_at dksX0_apart_1 6 rfl rfl)
theorem dX0_apart_30 : decode cX0_apart 30 = .ok (.ireturn, 1) := dk_172 (dk_at dksX0_apart_1 8 rfl rfl)
theorem dX0_apart_31 : decode cX0_apart 31 = .ok (.aload_n 0, 1) := dk_42 (dk_at dksX0_apart_1 9 rfl rfl)
theorem dX0_apart_32 : decode cX0_apart 32 = .ok (.iload_n 2, 1) := dk_28 (dk_at dksX0_apart_1 10 rfl rfl)
theorem dX0_apart_33 : decode cX0_apart 33 = .ok (.invokevirtual 203, 3) := dk_182 0 203 (dk_at dksX0_apart_1 11 rfl rfl)
theorem dX0_apart_36 : decode cX0_apart 36 = .ok (.astore 5, 2) := dk_58 5 (dk_at dksX0_apart_1 14 rfl rfl)
theorem dX0_apart_38 : decode cX0_apart 38 = .ok (.aload_n 0, 1) := dk_42 (dk_at dksX0_apart_1 16 rfl rfl)
theorem dX0_apart_39 : decode cX0_apart 39 = .ok (.iload_n 3, 1) := dk_29 (dk_at dksX0_apart_1 17 rfl rfl)
theorem dX0_apart_40 : decode cX0_apart 40 = .ok (.invokevirtual 203, 3) := dk_182 0 203 (dk_at dksX0_apart_1 18 rfl rfl)
theorem dX0_apart_43 : decode cX0_apart 43 = .ok (.astore 6, 2) := dk_58 6 (dk_at dksX0_apart_1 21 rfl rfl)
theorem dX0_apart_45 : decode cX0_apart 45 = .ok (.iconst 0, 1) := dk_3 (dk_at dksX0_apart_1 23 rfl rfl)
theorem dX0_apart_46 : decode cX0_apart 46 = .ok (.istore 7, 2) := dk_54 7 (dk_at dksX0_apart_2 0 rfl rfl)
theorem dX0_apart_48 : decode cX0_apart 48 = .ok (.iconst (-1), 1) := dk_2 (dk_at dksX0_apart_2 2 rfl rfl)
theorem dX0_apart_49 : decode cX0_apart 49 = .ok (.istore 8, 2) := dk_54 8 (dk_at dksX0_apart_2 3 rfl rfl)
theorem dX0_apart_51 : decode cX0_apart 51 = .ok (.iconst 0, 1) := dk_3 (dk_at dksX0_apart_2 5 rfl rfl)
theorem dX0_apart_52 : decode cX0_apart 52 = .ok (.istore 9, 2) := dk_54 9 (dk_at dksX0_apart_2 6 rfl rfl)
theorem dX0_apart_54 : decode cX0_apart 54 = .ok (.iload 9, 2) := dk_21 9 (dk_at dksX0_apart_2 8 rfl rfl)
theorem dX0_apart_56 : decode cX0_apart 56 = .ok (.aload_n 0, 1) := dk_42 (dk_at dksX0_apart_2 10 rfl rfl)
theorem dX0_apart_57 : decode cX0_apart 57 = .ok (.getfield 21, 3) := dk_180 0 21 (dk_at dksX0_apart_2 11 rfl rfl)
theorem dX0_apart_60 : decode cX0_apart 60 = .ok (.iload_n 1, 1) := dk_27 (dk_at dksX0_apart_2 14 rfl rfl)
theorem dX0_apart_61 : decode cX0_apart 61 = .ok (.aaload, 1) := dk_50 (dk_at dksX0_apart_2 15 rfl rfl)
theorem dX0_apart_62 : decode cX0_apart 62 = .ok (.invokevirtual 77, 3) := dk_182 0 77 (dk_at dksX0_apart_2 16 rfl rfl)
theorem dX0_apart_65 : decode cX0_apart 65 = .ok (.if_icmp .ge 44, 3) := dk_162 0 44 (dk_at dksX0_apart_2 19 rfl rfl)
theorem dX0_apart_68 : decode cX0_apart 68 = .ok (.aload_n 0, 1) := dk_42 (dk_at dksX0_apart_2 22 rfl rfl)
theorem dX0_apart_69 : decode cX0_apart 69 = .ok (.aload_n 0, 1) := dk_42 (dk_at dksX0_apart_2 23 rfl rfl)
theorem dX0_apart_70 : decode cX0_apart 70 = .ok (.getfield 21, 3) := dk_180 0 21 (dk_at dksX0_apart_3 0 rfl rfl)
theorem dX0_apart_73 : decode cX0_apart 73 = .ok (.iload_n 1, 1) := dk_27 (dk_at dksX0_apart_3 3 rfl rfl)
theorem dX0_apart_74 : decode cX0_apart 74 = .ok (.aaload, 1) := dk_50 (dk_at dksX0_apart_3 4 rfl rfl)
theorem dX0_apart_75 : decode cX0_apart 75 = .ok (.aload 5, 2) := dk_25 5 (dk_at dksX0_apart_3 5 rfl rfl)
theorem dX0_apart_77 : decode cX0_apart 77 = .ok (.aload 6, 2) := dk_25 6 (dk_at dksX0_apart_3 7 rfl rfl)
theorem dX0_apart_79 : decode cX0_apart 79 = .ok (.iload 9, 2) := dk_21 9 (dk_at dksX0_apart_3 9 rfl rfl)
theorem dX0_apart_81 : decode cX0_apart 81 = .ok (.invokevirtual 303, 3) := dk_182 1 47 (dk_at dksX0_apart_3 11 rfl rfl)
theorem dX0_apart_84 : decode cX0_apart 84 = .ok (.ifCond .ne 6, 3) := dk_154 0 6 (dk_at dksX0_apart_3 14 rfl rfl)
theorem dX0_apart_87 : decode cX0_apart 87 = .ok (.goto 16, 3) := dk_167 0 16 (dk_at dksX0_apart_3 17 rfl rfl)
theorem dX0_apart_90 : decode cX0_apart 90 = .ok (.iload 8, 2) := dk_21 8 (dk_at dksX0_apart_3 20 rfl rfl)
theorem dX0_apart_92 : decode cX0_apart 92 = .ok (.iconst (-1), 1) := dk_2 (dk_at dksX0_apart_3 22 rfl rfl)
theorem dX0_apart_93 : decode cX0_apart 93 = .ok (.if_icmp .ne 7, 3) := dk_160 0 7 (dk_at dksX0_apart_4 0 rfl rfl)
theorem dX0_apart_96 : decode cX0_apart 96 = .ok (.iload 9, 2) := dk_21 9 (dk_at dksX0_apart_4 3 rfl rfl)
theorem dX0_apart_98 : decode cX0_apart 98 = .ok (.istore 8, 2) := dk_54 8 (dk_at dksX0_apart_4 5 rfl rfl)
theorem dX0_apart_100 : decode cX0_apart 100 = .ok (.iinc 7 1, 3) := dk_132 7 1 (dk_at dksX0_apart_4 7 rfl rfl)
theorem dX0_apart_103 : decode cX0_apart 103 = .ok (.iinc 9 1, 3) := dk_132 9 1 (dk_at dksX0_apart_4 10 rfl rfl)
theorem dX0_apart_106 : decode cX0_apart 106 = .ok (.goto (-52), 3) := dk_167 255 204 (dk_at dksX0_apart_4 13 rfl rfl)
theorem dX0_apart_109 : decode cX0_apart 109 = .ok (.iload 4, 2) := dk_21 4 (dk_at dksX0_apart_4 16 rfl rfl)
theorem dX0_apart_111 : decode cX0_apart 111 = .ok (.ifCond .ne 8, 3) := dk_154 0 8 (dk_at dksX0_apart_4 18 rfl rfl)
theorem dX0_apart_114 : decode cX0_apart 114 = .ok (.iload 7, 2) := dk_21 7 (dk_at dksX0_apart_4 21 rfl rfl)
theorem dX0_apart_116 : decode cX0_apart 116 = .ok (.goto 5, 3) := dk_167 0 5 (dk_at dksX0_apart_5 0 rfl rfl)
theorem dX0_apart_119 : decode cX0_apart 119 = .ok (.iload 8, 2) := dk_21 8 (dk_at dksX0_apart_5 3 rfl rfl)
theorem dX0_apart_121 : decode cX0_apart 121 = .ok (.ireturn, 1) := dk_172 (dk_at dksX0_apart_5 5 rfl rfl)
abbrev cX0_areApart : ByteArray := prog_1_method_41_code
def yX0_areApart : MethodName := ⟨RX0, "areApart", "(LCrossingWords$Case;LCrossingWords$Rules;LCrossingWords$Rules;I)Z"⟩
def dkwX0_areApart_5 : List UInt8 := [3, 54, 7, 132, 8, 1, 167, 255, 218, 21, 7, 172]
abbrev dktX0_areApart_5 : List UInt8 := dkwX0_areApart_5 ++ []
def dkwX0_areApart_4 : List UInt8 := [154, 0, 20, 25, 5, 21, 8, 182, 0, 227, 25, 6, 21, 8, 182, 0, 227, 159, 0, 7, 4, 167, 0, 4]
abbrev dktX0_areApart_4 : List UInt8 := dkwX0_areApart_4 ++ dktX0_areApart_5
def dkwX0_areApart_3 : List UInt8 := [180, 0, 224, 159, 0, 7, 4, 167, 0, 4, 3, 54, 7, 3, 54, 8, 21, 8, 8, 162, 0, 38, 21, 7]
abbrev dktX0_areApart_3 : List UInt8 := dkwX0_areApart_3 ++ dktX0_areApart_4
def dkwX0_areApart_2 : List UInt8 := [159, 0, 5, 4, 172, 25, 5, 182, 0, 83, 154, 0, 5, 3, 172, 25, 5, 180, 0, 224, 25, 6]
abbrev dktX0_areApart_2 : List UInt8 := dkwX0_areApart_2 ++ dktX0_areApart_3
def dkwX0_areApart_1 : List UInt8 := [182, 0, 80, 25, 6, 43, 45, 21, 4, 182, 0, 80, 25, 5, 182, 0, 83, 25, 6, 182, 0, 83]
abbrev dktX0_areApart_1 : List UInt8 := dkwX0_areApart_1 ++ dktX0_areApart_2
def dkwX0_areApart_0 : List UInt8 := [42, 180, 0, 40, 3, 50, 58, 5, 42, 180, 0, 40, 16, 17, 50, 58, 6, 25, 5, 43, 44, 21, 4]
abbrev dktX0_areApart_0 : List UInt8 := dkwX0_areApart_0 ++ dktX0_areApart_1
theorem dksX0_areApart_0 : cX0_areApart.data.toList.drop 0 = dktX0_areApart_0 := by decide +kernel
theorem dksX0_areApart_1 : cX0_areApart.data.toList.drop 23 = dktX0_areApart_1 := dk_seg dksX0_areApart_0 23 rfl rfl
theorem dksX0_areApart_2 : cX0_areApart.data.toList.drop 45 = dktX0_areApart_2 := dk_seg dksX0_areApart_1 22 rfl rfl
theorem dksX0_areApart_3 : cX0_areApart.data.toList.drop 67 = dktX0_areApart_3 := dk_seg dksX0_areApart_2 22 rfl rfl
theorem dksX0_areApart_4 : cX0_areApart.data.toList.drop 91 = dktX0_areApart_4 := dk_seg dksX0_areApart_3 24 rfl rfl
theorem dksX0_areApart_5 : cX0_areApart.data.toList.drop 115 = dktX0_areApart_5 := dk_seg dksX0_areApart_4 24 rfl rfl
theorem dX0_areApart_0 : decode cX0_areApart 0 = .ok (.aload_n 0, 1) := dk_42 (dk_at dksX0_areApart_0 0 rfl rfl)
theorem dX0_areApart_1 : decode cX0_areApart 1 = .ok (.getfield 40, 3) := dk_180 0 40 (dk_at dksX0_areApart_0 1 rfl rfl)
theorem dX0_areApart_4 : decode cX0_areApart 4 = .ok (.iconst 0, 1) := dk_3 (dk_at dksX0_areApart_0 4 rfl rfl)
theorem dX0_areApart_5 : decode cX0_areApart 5 = .ok (.aaload, 1) := dk_50 (dk_at dksX0_areApart_0 5 rfl rfl)
theorem dX0_areApart_6 : decode cX0_areApart 6 = .ok (.astore 5, 2) := dk_58 5 (dk_at dksX0_areApart_0 6 rfl rfl)
theorem dX0_areApart_8 : decode cX0_areApart 8 = .ok (.aload_n 0, 1) := dk_42 (dk_at dksX0_areApart_0 8 rfl rfl)
theorem dX0_areApart_9 : decode cX0_areApart 9 = .ok (.getfield 40, 3) := dk_180 0 40 (dk_at dksX0_areApart_0 9 rfl rfl)
theorem dX0_areApart_12 : decode cX0_areApart 12 = .ok (.bipush 17, 2) := dk_16 17 (dk_at dksX0_areApart_0 12 rfl rfl)
theorem dX0_areApart_14 : decode cX0_areApart 14 = .ok (.aaload, 1) := dk_50 (dk_at dksX0_areApart_0 14 rfl rfl)
theorem dX0_areApart_15 : decode cX0_areApart 15 = .ok (.astore 6, 2) := dk_58 6 (dk_at dksX0_areApart_0 15 rfl rfl)
theorem dX0_areApart_17 : decode cX0_areApart 17 = .ok (.aload 5, 2) := dk_25 5 (dk_at dksX0_areApart_0 17 rfl rfl)
theorem dX0_areApart_19 : decode cX0_areApart 19 = .ok (.aload_n 1, 1) := dk_43 (dk_at dksX0_areApart_0 19 rfl rfl)
theorem dX0_areApart_20 : decode cX0_areApart 20 = .ok (.aload_n 2, 1) := dk_44 (dk_at dksX0_areApart_0 20 rfl rfl)
theorem dX0_areApart_21 : decode cX0_areApart 21 = .ok (.iload 4, 2) := dk_21 4 (dk_at dksX0_areApart_0 21 rfl rfl)
theorem dX0_areApart_23 : decode cX0_areApart 23 = .ok (.invokevirtual 80, 3) := dk_182 0 80 (dk_at dksX0_areApart_1 0 rfl rfl)
theorem dX0_areApart_26 : decode cX0_areApart 26 = .ok (.aload 6, 2) := dk_25 6 (dk_at dksX0_areApart_1 3 rfl rfl)
theorem dX0_areApart_28 : decode cX0_areApart 28 = .ok (.aload_n 1, 1) := dk_43 (dk_at dksX0_areApart_1 5 rfl rfl)
theorem dX0_areApart_29 : decode cX0_areApart 29 = .ok (.aload_n 3, 1) := dk_45 (dk_at dksX0_areApart_1 6 rfl rfl)
theorem dX0_areApart_30 : decode cX0_areApart 30 = .ok (.iload 4, 2) := dk_21 4 (dk_at dksX0_areApart_1 7 rfl rfl)
theorem dX0_areApart_32 : decode cX0_areApart 32 = .ok (.invokevirtual 80, 3) := dk_182 0 80 (dk_at dksX0_areApart_1 9 rfl rfl)
theorem dX0_areApart_35 : decode cX0_areApart 35 = .ok (.aload 5, 2) := dk_25 5 (dk_at dksX0_areApart_1 12 rfl rfl)
theorem dX0_areApart_37 : decode cX0_areApart 37 = .ok (.invokevirtual 83, 3) := dk_182 0 83 (dk_at dksX0_areApart_1 14 rfl rfl)
theorem dX0_areApart_40 : decode cX0_areApart 40 = .ok (.aload 6, 2) := dk_25 6 (dk_at dksX0_areApart_1 17 rfl rfl)
theorem dX0_areApart_42 : decode cX0_areApart 42 = .ok (.invokevirtual 83, 3) := dk_182 0 83 (dk_at dksX0_areApart_1 19 rfl rfl)
theorem dX0_areApart_45 : decode cX0_areApart 45 = .ok (.if_icmp .eq 5, 3) := dk_159 0 5 (dk_at dksX0_areApart_2 0 rfl rfl)
theorem dX0_areApart_48 : decode cX0_areApart 48 = .ok (.iconst 1, 1) := dk_4 (dk_at dksX0_areApart_2 3 rfl rfl)
theorem dX0_areApart_49 : decode cX0_areApart 49 = .ok (.ireturn, 1) := dk_172 (dk_at dksX0_areApart_2 4 rfl rfl)
theorem dX0_areApart_50 : decode cX0_areApart 50 = .ok (.aload 5, 2) := dk_25 5 (dk_at dksX0_areApart_2 5 rfl rfl)
theorem dX0_areApart_52 : decode cX0_areApart 52 = .ok (.invokevirtual 83, 3) := dk_182 0 83 (dk_at dksX0_areApart_2 7 rfl rfl)
theorem dX0_areApart_55 : decode cX0_areApart 55 = .ok (.ifCond .ne 5, 3) := dk_154 0 5 (dk_at dksX0_areApart_2 10 rfl rfl)
theorem dX0_areApart_58 : decode cX0_areApart 58 = .ok (.iconst 0, 1) := dk_3 (dk_at dksX0_areApart_2 13 rfl rfl)
theorem dX0_areApart_59 : decode cX0_areApart 59 = .ok (.ireturn, 1) := dk_172 (dk_at dksX0_areApart_2 14 rfl rfl)
theorem dX0_areApart_60 : decode cX0_areApart 60 = .ok (.aload 5, 2) := dk_25 5 (dk_at dksX0_areApart_2 15 rfl rfl)
theorem dX0_areApart_62 : decode cX0_areApart 62 = .ok (.getfield 224, 3) := dk_180 0 224 (dk_at dksX0_areApart_2 17 rfl rfl)
theorem dX0_areApart_65 : decode cX0_areApart 65 = .ok (.aload 6, 2) := dk_25 6 (dk_at dksX0_areApart_2 20 rfl rfl)
theorem dX0_areApart_67 : decode cX0_areApart 67 = .ok (.getfield 224, 3) := dk_180 0 224 (dk_at dksX0_areApart_3 0 rfl rfl)
theorem dX0_areApart_70 : decode cX0_areApart 70 = .ok (.if_icmp .eq 7, 3) := dk_159 0 7 (dk_at dksX0_areApart_3 3 rfl rfl)
theorem dX0_areApart_73 : decode cX0_areApart 73 = .ok (.iconst 1, 1) := dk_4 (dk_at dksX0_areApart_3 6 rfl rfl)
theorem dX0_areApart_74 : decode cX0_areApart 74 = .ok (.goto 4, 3) := dk_167 0 4 (dk_at dksX0_areApart_3 7 rfl rfl)
theorem dX0_areApart_77 : decode cX0_areApart 77 = .ok (.iconst 0, 1) := dk_3 (dk_at dksX0_areApart_3 10 rfl rfl)
theorem dX0_areApart_78 : decode cX0_areApart 78 = .ok (.istore 7, 2) := dk_54 7 (dk_at dksX0_areApart_3 11 rfl rfl)
theorem dX0_areApart_80 : decode cX0_areApart 80 = .ok (.iconst 0, 1) := dk_3 (dk_at dksX0_areApart_3 13 rfl rfl)
theorem dX0_areApart_81 : decode cX0_areApart 81 = .ok (.istore 8, 2) := dk_54 8 (dk_at dksX0_areApart_3 14 rfl rfl)
theorem dX0_areApart_83 : decode cX0_areApart 83 = .ok (.iload 8, 2) := dk_21 8 (dk_at dksX0_areApart_3 16 rfl rfl)
theorem dX0_areApart_85 : decode cX0_areApart 85 = .ok (.iconst 5, 1) := dk_8 (dk_at dksX0_areApart_3 18 rfl rfl)
theorem dX0_areApart_86 : decode cX0_areApart 86 = .ok (.if_icmp .ge 38, 3) := dk_162 0 38 (dk_at dksX0_areApart_3 19 rfl rfl)
theorem dX0_areApart_89 : decode cX0_areApart 89 = .ok (.iload 7, 2) := dk_21 7 (dk_at dksX0_areApart_3 22 rfl rfl)
theorem dX0_areApart_91 : decode cX0_areApart 91 = .ok (.ifCond .ne 20, 3) := dk_154 0 20 (dk_at dksX0_areApart_4 0 rfl rfl)
theorem dX0_areApart_94 : decode cX0_areApart 94 = .ok (.aload 5, 2) := dk_25 5 (dk_at dksX0_areApart_4 3 rfl rfl)
theorem dX0_areApart_96 : decode cX0_areApart 96 = .ok (.iload 8, 2) := dk_21 8 (dk_at dksX0_areApart_4 5 rfl rfl)
theorem dX0_areApart_98 : decode cX0_areApart 98 = .ok (.invokevirtual 227, 3) := dk_182 0 227 (dk_at dksX0_areApart_4 7 rfl rfl)
theorem dX0_areApart_101 : decode cX0_areApart 101 = .ok (.aload 6, 2) := dk_25 6 (dk_at dksX0_areApart_4 10 rfl rfl)
theorem dX0_areApart_103 : decode cX0_areApart 103 = .ok (.iload 8, 2) := dk_21 8 (dk_at dksX0_areApart_4 12 rfl rfl)
theorem dX0_areApart_105 : decode cX0_areApart 105 = .ok (.invokevirtual 227, 3) := dk_182 0 227 (dk_at dksX0_areApart_4 14 rfl rfl)
theorem dX0_areApart_108 : decode cX0_areApart 108 = .ok (.if_icmp .eq 7, 3) := dk_159 0 7 (dk_at dksX0_areApart_4 17 rfl rfl)
theorem dX0_areApart_111 : decode cX0_areApart 111 = .ok (.iconst 1, 1) := dk_4 (dk_at dksX0_areApart_4 20 rfl rfl)
theorem dX0_areApart_112 : decode cX0_areApart 112 = .ok (.goto 4, 3) := dk_167 0 4 (dk_at dksX0_areApart_4 21 rfl rfl)
theorem dX0_areApart_115 : decode cX0_areApart 115 = .ok (.iconst 0, 1) := dk_3 (dk_at dksX0_areApart_5 0 rfl rfl)
theorem dX0_areApart_116 : decode cX0_areApart 116 = .ok (.istore 7, 2) := dk_54 7 (dk_at dksX0_areApart_5 1 rfl rfl)
theorem dX0_areApart_118 : decode cX0_areApart 118 = .ok (.iinc 8 1, 3) := dk_132 8 1 (dk_at dksX0_areApart_5 3 rfl rfl)
theorem dX0_areApart_121 : decode cX0_areApart 121 = .ok (.goto (-38), 3) := dk_167 255 218 (dk_at dksX0_areApart_5 6 rfl rfl)
theorem dX0_areApart_124 : decode cX0_areApart 124 = .ok (.iload 7, 2) := dk_21 7 (dk_at dksX0_areApart_5 9 rfl rfl)
theorem dX0_areApart_126 : decode cX0_areApart 126 = .ok (.ireturn, 1) := dk_172 (dk_at dksX0_areApart_5 11 rfl rfl)
abbrev cX0_part : ByteArray := prog_1_method_43_code
def yX0_part : MethodName := ⟨RX0, "part", "(II)I"⟩
def dkwX0_part_6 : List UInt8 := [132, 6, 1, 167, 255, 151, 21, 5, 172]
abbrev dktX0_part_6 : List UInt8 := dkwX0_part_6 ++ []
def dkwX0_part_5 : List UInt8 := [21, 9, 182, 1, 47, 54, 8, 132, 9, 1, 167, 255, 225, 21, 8, 153, 0, 7, 21, 6, 54, 5]
abbrev dktX0_part_5 : List UInt8 := dkwX0_part_5 ++ dktX0_part_6
def dkwX0_part_4 : List UInt8 := [54, 9, 21, 9, 25, 7, 182, 0, 77, 162, 0, 27, 21, 8, 154, 0, 22, 42, 25, 7, 45, 25, 4]
abbrev dktX0_part_4 : List UInt8 := dkwX0_part_4 ++ dktX0_part_5
def dkwX0_part_3 : List UInt8 := [180, 0, 126, 42, 180, 0, 21, 21, 5, 50, 180, 0, 126, 161, 0, 6, 167, 0, 52, 3, 54, 8, 3]
abbrev dktX0_part_3 : List UInt8 := dkwX0_part_3 ++ dktX0_part_4
def dkwX0_part_2 : List UInt8 := [180, 0, 21, 21, 6, 50, 58, 7, 25, 7, 182, 0, 73, 153, 0, 79, 21, 5, 2, 159, 0, 24, 25, 7]
abbrev dktX0_part_2 : List UInt8 := dkwX0_part_2 ++ dktX0_part_3
def dkwX0_part_1 : List UInt8 := [78, 42, 28, 182, 0, 203, 58, 4, 2, 54, 5, 3, 54, 6, 21, 6, 42, 180, 0, 106, 162, 0, 102, 42]
abbrev dktX0_part_1 : List UInt8 := dkwX0_part_1 ++ dktX0_part_2
def dkwX0_part_0 : List UInt8 := [42, 27, 182, 0, 185, 153, 0, 11, 42, 28, 182, 0, 185, 154, 0, 6, 16, 254, 172, 42, 27, 182, 0, 203]
abbrev dktX0_part_0 : List UInt8 := dkwX0_part_0 ++ dktX0_part_1
theorem dksX0_part_0 : cX0_part.data.toList.drop 0 = dktX0_part_0 := by decide +kernel
theorem dksX0_part_1 : cX0_part.data.toList.drop 24 = dktX0_part_1 := dk_seg dksX0_part_0 24 rfl rfl
theorem dksX0_part_2 : cX0_part.data.toList.drop 48 = dktX0_part_2 := dk_seg dksX0_part_1 24 rfl rfl
theorem dksX0_part_3 : cX0_part.data.toList.drop 72 = dktX0_part_3 := dk_seg dksX0_part_2 24 rfl rfl
theorem dksX0_part_4 : cX0_part.data.toList.drop 95 = dktX0_part_4 := dk_seg dksX0_part_3 23 rfl rfl
theorem dksX0_part_5 : cX0_part.data.toList.drop 118 = dktX0_part_5 := dk_seg dksX0_part_4 23 rfl rfl
theorem dksX0_part_6 : cX0_part.data.toList.drop 140 = dktX0_part_6 := dk_seg dksX0_part_5 22 rfl rfl
theorem dX0_part_0 : decode cX0_part 0 = .ok (.aload_n 0, 1) := dk_42 (dk_at dksX0_part_0 0 rfl rfl)
theorem dX0_part_1 : decode cX0_part 1 = .ok (.iload_n 1, 1) := dk_27 (dk_at dksX0_part_0 1 rfl rfl)
theorem dX0_part_2 : decode cX0_part 2 = .ok (.invokevirtual 185, 3) := dk_182 0 185 (dk_at dksX0_part_0 2 rfl rfl)
theorem dX0_part_5 : decode cX0_part 5 = .ok (.ifCond .eq 11, 3) := dk_153 0 11 (dk_at dksX0_part_0 5 rfl rfl)
theorem dX0_part_8 : decode cX0_part 8 = .ok (.aload_n 0, 1) := dk_42 (dk_at dksX0_part_0 8 rfl rfl)
theorem dX0_part_9 : decode cX0_part 9 = .ok (.iload_n 2, 1) := dk_28 (dk_at dksX0_part_0 9 rfl rfl)
theorem dX0_part_10 : decode cX0_part 10 = .ok (.invokevirtual 185, 3) := dk_182 0 185 (dk_at dksX0_part_0 10 rfl rfl)
theorem dX0_part_13 : decode cX0_part 13 = .ok (.ifCond .ne 6, 3) := dk_154 0 6 (dk_at dksX0_part_0 13 rfl rfl)
theorem dX0_part_16 : decode cX0_part 16 = .ok (.bipush (-2), 2) := dk_16 254 (dk_at dksX0_part_0 16 rfl rfl)
theorem dX0_part_18 : decode cX0_part 18 = .ok (.ireturn, 1) := dk_172 (dk_at dksX0_part_0 18 rfl rfl)
theorem dX0_part_19 : decode cX0_part 19 = .ok (.aload_n 0, 1) := dk_42 (dk_at dksX0_part_0 19 rfl rfl)
theorem dX0_part_20 : decode cX0_part 20 = .ok (.iload_n 1, 1) := dk_27 (dk_at dksX0_part_0 20 rfl rfl)
theorem dX0_part_21 : decode cX0_part 21 = .ok (.invokevirtual 203, 3) := dk_182 0 203 (dk_at dksX0_part_0 21 rfl rfl)
theorem dX0_part_24 : decode cX0_part 24 = .ok (.astore_n 3, 1) := dk_78 (dk_at dksX0_part_1 0 rfl rfl)
theorem dX0_part_25 : decode cX0_part 25 = .ok (.aload_n 0, 1) := dk_42 (dk_at dksX0_part_1 1 rfl rfl)
theorem dX0_part_26 : decode cX0_part 26 = .ok (.iload_n 2, 1) := dk_28 (dk_at dksX0_part_1 2 rfl rfl)
theorem dX0_part_27 : decode cX0_part 27 = .ok (.invokevirtual 203, 3) := dk_182 0 203 (dk_at dksX0_part_1 3 rfl rfl)
theorem dX0_part_30 : decode cX0_part 30 = .ok (.astore 4, 2) := dk_58 4 (dk_at dksX0_part_1 6 rfl rfl)
theorem dX0_part_32 : decode cX0_part 32 = .ok (.iconst (-1), 1) := dk_2 (dk_at dksX0_part_1 8 rfl rfl)
theorem dX0_part_33 : decode cX0_part 33 = .ok (.istore 5, 2) := dk_54 5 (dk_at dksX0_part_1 9 rfl rfl)
theorem dX0_part_35 : decode cX0_part 35 = .ok (.iconst 0, 1) := dk_3 (dk_at dksX0_part_1 11 rfl rfl)
theorem dX0_part_36 : decode cX0_part 36 = .ok (.istore 6, 2) := dk_54 6 (dk_at dksX0_part_1 12 rfl rfl)
theorem dX0_part_38 : decode cX0_part 38 = .ok (.iload 6, 2) := dk_21 6 (dk_at dksX0_part_1 14 rfl rfl)
theorem dX0_part_40 : decode cX0_part 40 = .ok (.aload_n 0, 1) := dk_42 (dk_at dksX0_part_1 16 rfl rfl)
theorem dX0_part_41 : decode cX0_part 41 = .ok (.getfield 106, 3) := dk_180 0 106 (dk_at dksX0_part_1 17 rfl rfl)
theorem dX0_part_44 : decode cX0_part 44 = .ok (.if_icmp .ge 102, 3) := dk_162 0 102 (dk_at dksX0_part_1 20 rfl rfl)
theorem dX0_part_47 : decode cX0_part 47 = .ok (.aload_n 0, 1) := dk_42 (dk_at dksX0_part_1 23 rfl rfl)
theorem dX0_part_48 : decode cX0_part 48 = .ok (.getfield 21, 3) := dk_180 0 21 (dk_at dksX0_part_2 0 rfl rfl)
theorem dX0_part_51 : decode cX0_part 51 = .ok (.iload 6, 2) := dk_21 6 (dk_at dksX0_part_2 3 rfl rfl)
theorem dX0_part_53 : decode cX0_part 53 = .ok (.aaload, 1) := dk_50 (dk_at dksX0_part_2 5 rfl rfl)
theorem dX0_part_54 : decode cX0_part 54 = .ok (.astore 7, 2) := dk_58 7 (dk_at dksX0_part_2 6 rfl rfl)
theorem dX0_part_56 : decode cX0_part 56 = .ok (.aload 7, 2) := dk_25 7 (dk_at dksX0_part_2 8 rfl rfl)
theorem dX0_part_58 : decode cX0_part 58 = .ok (.invokevirtual 73, 3) := dk_182 0 73 (dk_at dksX0_part_2 10 rfl rfl)
theorem dX0_part_61 : decode cX0_part 61 = .ok (.ifCond .eq 79, 3) := dk_153 0 79 (dk_at dksX0_part_2 13 rfl rfl)
theorem dX0_part_64 : decode cX0_part 64 = .ok (.iload 5, 2) := dk_21 5 (dk_at dksX0_part_2 16 rfl rfl)
theorem dX0_part_66 : decode cX0_part 66 = .ok (.iconst (-1), 1) := dk_2 (dk_at dksX0_part_2 18 rfl rfl)
theorem dX0_part_67 : decode cX0_part 67 = .ok (.if_icmp .eq 24, 3) := dk_159 0 24 (dk_at dksX0_part_2 19 rfl rfl)
theorem dX0_part_70 : decode cX0_part 70 = .ok (.aload 7, 2) := dk_25 7 (dk_at dksX0_part_2 22 rfl rfl)
theorem dX0_part_72 : decode cX0_part 72 = .ok (.getfield 126, 3) := dk_180 0 126 (dk_at dksX0_part_3 0 rfl rfl)
theorem dX0_part_75 : decode cX0_part 75 = .ok (.aload_n 0, 1) := dk_42 (dk_at dksX0_part_3 3 rfl rfl)
theorem dX0_part_76 : decode cX0_part 76 = .ok (.getfield 21, 3) := dk_180 0 21 (dk_at dksX0_part_3 4 rfl rfl)
theorem dX0_part_79 : decode cX0_part 79 = .ok (.iload 5, 2) := dk_21 5 (dk_at dksX0_part_3 7 rfl rfl)
theorem dX0_part_81 : decode cX0_part 81 = .ok (.aaload, 1) := dk_50 (dk_at dksX0_part_3 9 rfl rfl)
theorem dX0_part_82 : decode cX0_part 82 = .ok (.getfield 126, 3) := dk_180 0 126 (dk_at dksX0_part_3 10 rfl rfl)
theorem dX0_part_85 : decode cX0_part 85 = .ok (.if_icmp .lt 6, 3) := dk_161 0 6 (dk_at dksX0_part_3 13 rfl rfl)
theorem dX0_part_88 : decode cX0_part 88 = .ok (.goto 52, 3) := dk_167 0 52 (dk_at dksX0_part_3 16 rfl rfl)
theorem dX0_part_91 : decode cX0_part 91 = .ok (.iconst 0, 1) := dk_3 (dk_at dksX0_part_3 19 rfl rfl)
theorem dX0_part_92 : decode cX0_part 92 = .ok (.istore 8, 2) := dk_54 8 (dk_at dksX0_part_3 20 rfl rfl)
theorem dX0_part_94 : decode cX0_part 94 = .ok (.iconst 0, 1) := dk_3 (dk_at dksX0_part_3 22 rfl rfl)
theorem dX0_part_95 : decode cX0_part 95 = .ok (.istore 9, 2) := dk_54 9 (dk_at dksX0_part_4 0 rfl rfl)
theorem dX0_part_97 : decode cX0_part 97 = .ok (.iload 9, 2) := dk_21 9 (dk_at dksX0_part_4 2 rfl rfl)
theorem dX0_part_99 : decode cX0_part 99 = .ok (.aload 7, 2) := dk_25 7 (dk_at dksX0_part_4 4 rfl rfl)
theorem dX0_part_101 : decode cX0_part 101 = .ok (.invokevirtual 77, 3) := dk_182 0 77 (dk_at dksX0_part_4 6 rfl rfl)
theorem dX0_part_104 : decode cX0_part 104 = .ok (.if_icmp .ge 27, 3) := dk_162 0 27 (dk_at dksX0_part_4 9 rfl rfl)
theorem dX0_part_107 : decode cX0_part 107 = .ok (.iload 8, 2) := dk_21 8 (dk_at dksX0_part_4 12 rfl rfl)
theorem dX0_part_109 : decode cX0_part 109 = .ok (.ifCond .ne 22, 3) := dk_154 0 22 (dk_at dksX0_part_4 14 rfl rfl)
theorem dX0_part_112 : decode cX0_part 112 = .ok (.aload_n 0, 1) := dk_42 (dk_at dksX0_part_4 17 rfl rfl)
theorem dX0_part_113 : decode cX0_part 113 = .ok (.aload 7, 2) := dk_25 7 (dk_at dksX0_part_4 18 rfl rfl)
theorem dX0_part_115 : decode cX0_part 115 = .ok (.aload_n 3, 1) := dk_45 (dk_at dksX0_part_4 20 rfl rfl)
theorem dX0_part_116 : decode cX0_part 116 = .ok (.aload 4, 2) := dk_25 4 (dk_at dksX0_part_4 21 rfl rfl)
theorem dX0_part_118 : decode cX0_part 118 = .ok (.iload 9, 2) := dk_21 9 (dk_at dksX0_part_5 0 rfl rfl)
theorem dX0_part_120 : decode cX0_part 120 = .ok (.invokevirtual 303, 3) := dk_182 1 47 (dk_at dksX0_part_5 2 rfl rfl)
theorem dX0_part_123 : decode cX0_part 123 = .ok (.istore 8, 2) := dk_54 8 (dk_at dksX0_part_5 5 rfl rfl)
theorem dX0_part_125 : decode cX0_part 125 = .ok (.iinc 9 1, 3) := dk_132 9 1 (dk_at dksX0_part_5 7 rfl rfl)
theorem dX0_part_128 : decode cX0_part 128 = .ok (.goto (-31), 3) := dk_167 255 225 (dk_at dksX0_part_5 10 rfl rfl)
theorem dX0_part_131 : decode cX0_part 131 = .ok (.iload 8, 2) := dk_21 8 (dk_at dksX0_part_5 13 rfl rfl)
theorem dX0_part_133 : decode cX0_part 133 = .ok (.ifCond .eq 7, 3) := dk_153 0 7 (dk_at dksX0_part_5 15 rfl rfl)
theorem dX0_part_136 : decode cX0_part 136 = .ok (.iload 6, 2) := dk_21 6 (dk_at dksX0_part_5 18 rfl rfl)
theorem dX0_part_138 : decode cX0_part 138 = .ok (.istore 5, 2) := dk_54 5 (dk_at dksX0_part_5 20 rfl rfl)
theorem dX0_part_140 : decode cX0_part 140 = .ok (.iinc 6 1, 3) := dk_132 6 1 (dk_at dksX0_part_6 0 rfl rfl)
theorem dX0_part_143 : decode cX0_part 143 = .ok (.goto (-105), 3) := dk_167 255 151 (dk_at dksX0_part_6 3 rfl rfl)
theorem dX0_part_146 : decode cX0_part 146 = .ok (.iload 5, 2) := dk_21 5 (dk_at dksX0_part_6 6 rfl rfl)
theorem dX0_part_148 : decode cX0_part 148 = .ok (.ireturn, 1) := dk_172 (dk_at dksX0_part_6 8 rfl rfl)
abbrev cX0_write : ByteArray := prog_1_method_45_code
def yX0_write : MethodName := ⟨RX0, "write", "(I)I"⟩
def dkwX0_write_3 : List UInt8 := [167, 255, 211, 28, 172]
abbrev dktX0_write_3 : List UInt8 := dkwX0_write_3 ++ []
def dkwX0_write_2 : List UInt8 := [162, 0, 19, 42, 42, 180, 0, 21, 27, 50, 29, 182, 1, 51, 153, 0, 5, 29, 61, 132, 3, 1]
abbrev dktX0_write_2 : List UInt8 := dkwX0_write_2 ++ dktX0_write_3
def dkwX0_write_1 : List UInt8 := [4, 42, 180, 0, 140, 120, 162, 0, 41, 28, 2, 159, 0, 14, 29, 184, 1, 32, 28, 184, 1, 32]
abbrev dktX0_write_1 : List UInt8 := dkwX0_write_1 ++ dktX0_write_2
def dkwX0_write_0 : List UInt8 := [42, 27, 3, 182, 0, 188, 153, 0, 10, 42, 180, 0, 129, 154, 0, 6, 16, 254, 172, 2, 61, 3, 62, 29]
abbrev dktX0_write_0 : List UInt8 := dkwX0_write_0 ++ dktX0_write_1
theorem dksX0_write_0 : cX0_write.data.toList.drop 0 = dktX0_write_0 := by decide +kernel
theorem dksX0_write_1 : cX0_write.data.toList.drop 24 = dktX0_write_1 := dk_seg dksX0_write_0 24 rfl rfl
theorem dksX0_write_2 : cX0_write.data.toList.drop 46 = dktX0_write_2 := dk_seg dksX0_write_1 22 rfl rfl
theorem dksX0_write_3 : cX0_write.data.toList.drop 68 = dktX0_write_3 := dk_seg dksX0_write_2 22 rfl rfl
theorem dX0_write_0 : decode cX0_write 0 = .ok (.aload_n 0, 1) := dk_42 (dk_at dksX0_write_0 0 rfl rfl)
theorem dX0_write_1 : decode cX0_write 1 = .ok (.iload_n 1, 1) := dk_27 (dk_at dksX0_write_0 1 rfl rfl)
theorem dX0_write_2 : decode cX0_write 2 = .ok (.iconst 0, 1) := dk_3 (dk_at dksX0_write_0 2 rfl rfl)
theorem dX0_write_3 : decode cX0_write 3 = .ok (.invokevirtual 188, 3) := dk_182 0 188 (dk_at dksX0_write_0 3 rfl rfl)
theorem dX0_write_6 : decode cX0_write 6 = .ok (.ifCond .eq 10, 3) := dk_153 0 10 (dk_at dksX0_write_0 6 rfl rfl)
theorem dX0_write_9 : decode cX0_write 9 = .ok (.aload_n 0, 1) := dk_42 (dk_at dksX0_write_0 9 rfl rfl)
theorem dX0_write_10 : decode cX0_write 10 = .ok (.getfield 129, 3) := dk_180 0 129 (dk_at dksX0_write_0 10 rfl rfl)
theorem dX0_write_13 : decode cX0_write 13 = .ok (.ifCond .ne 6, 3) := dk_154 0 6 (dk_at dksX0_write_0 13 rfl rfl)
theorem dX0_write_16 : decode cX0_write 16 = .ok (.bipush (-2), 2) := dk_16 254 (dk_at dksX0_write_0 16 rfl rfl)
theorem dX0_write_18 : decode cX0_write 18 = .ok (.ireturn, 1) := dk_172 (dk_at dksX0_write_0 18 rfl rfl)
theorem dX0_write_19 : decode cX0_write 19 = .ok (.iconst (-1), 1) := dk_2 (dk_at dksX0_write_0 19 rfl rfl)
theorem dX0_write_20 : decode cX0_write 20 = .ok (.istore_n 2, 1) := dk_61 (dk_at dksX0_write_0 20 rfl rfl)
theorem dX0_write_21 : decode cX0_write 21 = .ok (.iconst 0, 1) := dk_3 (dk_at dksX0_write_0 21 rfl rfl)
theorem dX0_write_22 : decode cX0_write 22 = .ok (.istore_n 3, 1) := dk_62 (dk_at dksX0_write_0 22 rfl rfl)
theorem dX0_write_23 : decode cX0_write 23 = .ok (.iload_n 3, 1) := dk_29 (dk_at dksX0_write_0 23 rfl rfl)
theorem dX0_write_24 : decode cX0_write 24 = .ok (.iconst 1, 1) := dk_4 (dk_at dksX0_write_1 0 rfl rfl)
theorem dX0_write_25 : decode cX0_write 25 = .ok (.aload_n 0, 1) := dk_42 (dk_at dksX0_write_1 1 rfl rfl)
theorem dX0_write_26 : decode cX0_write 26 = .ok (.getfield 140, 3) := dk_180 0 140 (dk_at dksX0_write_1 2 rfl rfl)
theorem dX0_write_29 : decode cX0_write 29 = .ok (.ishl, 1) := dk_120 (dk_at dksX0_write_1 5 rfl rfl)
theorem dX0_write_30 : decode cX0_write 30 = .ok (.if_icmp .ge 41, 3) := dk_162 0 41 (dk_at dksX0_write_1 6 rfl rfl)
theorem dX0_write_33 : decode cX0_write 33 = .ok (.iload_n 2, 1) := dk_28 (dk_at dksX0_write_1 9 rfl rfl)
theorem dX0_write_34 : decode cX0_write 34 = .ok (.iconst (-1), 1) := dk_2 (dk_at dksX0_write_1 10 rfl rfl)
theorem dX0_write_35 : decode cX0_write 35 = .ok (.if_icmp .eq 14, 3) := dk_159 0 14 (dk_at dksX0_write_1 11 rfl rfl)
theorem dX0_write_38 : decode cX0_write 38 = .ok (.iload_n 3, 1) := dk_29 (dk_at dksX0_write_1 14 rfl rfl)
theorem dX0_write_39 : decode cX0_write 39 = .ok (.invokestatic 288, 3) := dk_184 1 32 (dk_at dksX0_write_1 15 rfl rfl)
theorem dX0_write_42 : decode cX0_write 42 = .ok (.iload_n 2, 1) := dk_28 (dk_at dksX0_write_1 18 rfl rfl)
theorem dX0_write_43 : decode cX0_write 43 = .ok (.invokestatic 288, 3) := dk_184 1 32 (dk_at dksX0_write_1 19 rfl rfl)
theorem dX0_write_46 : decode cX0_write 46 = .ok (.if_icmp .ge 19, 3) := dk_162 0 19 (dk_at dksX0_write_2 0 rfl rfl)
theorem dX0_write_49 : decode cX0_write 49 = .ok (.aload_n 0, 1) := dk_42 (dk_at dksX0_write_2 3 rfl rfl)
theorem dX0_write_50 : decode cX0_write 50 = .ok (.aload_n 0, 1) := dk_42 (dk_at dksX0_write_2 4 rfl rfl)
theorem dX0_write_51 : decode cX0_write 51 = .ok (.getfield 21, 3) := dk_180 0 21 (dk_at dksX0_write_2 5 rfl rfl)
theorem dX0_write_54 : decode cX0_write 54 = .ok (.iload_n 1, 1) := dk_27 (dk_at dksX0_write_2 8 rfl rfl)
theorem dX0_write_55 : decode cX0_write 55 = .ok (.aaload, 1) := dk_50 (dk_at dksX0_write_2 9 rfl rfl)
theorem dX0_write_56 : decode cX0_write 56 = .ok (.iload_n 3, 1) := dk_29 (dk_at dksX0_write_2 10 rfl rfl)
theorem dX0_write_57 : decode cX0_write 57 = .ok (.invokevirtual 307, 3) := dk_182 1 51 (dk_at dksX0_write_2 11 rfl rfl)
theorem dX0_write_60 : decode cX0_write 60 = .ok (.ifCond .eq 5, 3) := dk_153 0 5 (dk_at dksX0_write_2 14 rfl rfl)
theorem dX0_write_63 : decode cX0_write 63 = .ok (.iload_n 3, 1) := dk_29 (dk_at dksX0_write_2 17 rfl rfl)
theorem dX0_write_64 : decode cX0_write 64 = .ok (.istore_n 2, 1) := dk_61 (dk_at dksX0_write_2 18 rfl rfl)
theorem dX0_write_65 : decode cX0_write 65 = .ok (.iinc 3 1, 3) := dk_132 3 1 (dk_at dksX0_write_2 19 rfl rfl)
theorem dX0_write_68 : decode cX0_write 68 = .ok (.goto (-45), 3) := dk_167 255 211 (dk_at dksX0_write_3 0 rfl rfl)
theorem dX0_write_71 : decode cX0_write 71 = .ok (.iload_n 2, 1) := dk_28 (dk_at dksX0_write_3 3 rfl rfl)
theorem dX0_write_72 : decode cX0_write 72 = .ok (.ireturn, 1) := dk_172 (dk_at dksX0_write_3 4 rfl rfl)
abbrev cX0_isSure : ByteArray := prog_1_method_44_code
def yX0_isSure : MethodName := ⟨RX0, "isSure", "(LCrossingWords$Case;I)Z"⟩
def dkwX0_isSure_4 : List UInt8 := [167, 255, 163, 4, 172]
abbrev dktX0_isSure_4 : List UInt8 := dkwX0_isSure_4 ++ []
def dkwX0_isSure_3 : List UInt8 := [25, 4, 21, 5, 182, 0, 213, 182, 0, 83, 154, 0, 5, 3, 172, 132, 5, 1, 167, 255, 227, 132, 3, 1]
abbrev dktX0_isSure_3 : List UInt8 := dkwX0_isSure_3 ++ dktX0_isSure_4
def dkwX0_isSure_2 : List UInt8 := [50, 182, 0, 87, 132, 5, 1, 167, 255, 222, 3, 54, 5, 21, 5, 43, 182, 0, 77, 162, 0, 26, 42, 43]
abbrev dktX0_isSure_2 : List UInt8 := dkwX0_isSure_2 ++ dktX0_isSure_3
def dkwX0_isSure_1 : List UInt8 := [180, 0, 140, 162, 0, 31, 28, 21, 5, 122, 4, 126, 4, 160, 0, 15, 25, 4, 42, 180, 0, 31, 21, 5]
abbrev dktX0_isSure_1 : List UInt8 := dkwX0_isSure_1 ++ dktX0_isSure_2
def dkwX0_isSure_0 : List UInt8 := [3, 62, 29, 42, 180, 0, 129, 162, 0, 91, 42, 29, 182, 0, 203, 58, 4, 3, 54, 5, 21, 5, 42]
abbrev dktX0_isSure_0 : List UInt8 := dkwX0_isSure_0 ++ dktX0_isSure_1
theorem dksX0_isSure_0 : cX0_isSure.data.toList.drop 0 = dktX0_isSure_0 := by decide +kernel
theorem dksX0_isSure_1 : cX0_isSure.data.toList.drop 23 = dktX0_isSure_1 := dk_seg dksX0_isSure_0 23 rfl rfl
theorem dksX0_isSure_2 : cX0_isSure.data.toList.drop 47 = dktX0_isSure_2 := dk_seg dksX0_isSure_1 24 rfl rfl
theorem dksX0_isSure_3 : cX0_isSure.data.toList.drop 71 = dktX0_isSure_3 := dk_seg dksX0_isSure_2 24 rfl rfl
theorem dksX0_isSure_4 : cX0_isSure.data.toList.drop 95 = dktX0_isSure_4 := dk_seg dksX0_isSure_3 24 rfl rfl
theorem dX0_isSure_0 : decode cX0_isSure 0 = .ok (.iconst 0, 1) := dk_3 (dk_at dksX0_isSure_0 0 rfl rfl)
theorem dX0_isSure_1 : decode cX0_isSure 1 = .ok (.istore_n 3, 1) := dk_62 (dk_at dksX0_isSure_0 1 rfl rfl)
theorem dX0_isSure_2 : decode cX0_isSure 2 = .ok (.iload_n 3, 1) := dk_29 (dk_at dksX0_isSure_0 2 rfl rfl)
theorem dX0_isSure_3 : decode cX0_isSure 3 = .ok (.aload_n 0, 1) := dk_42 (dk_at dksX0_isSure_0 3 rfl rfl)
theorem dX0_isSure_4 : decode cX0_isSure 4 = .ok (.getfield 129, 3) := dk_180 0 129 (dk_at dksX0_isSure_0 4 rfl rfl)
theorem dX0_isSure_7 : decode cX0_isSure 7 = .ok (.if_icmp .ge 91, 3) := dk_162 0 91 (dk_at dksX0_isSure_0 7 rfl rfl)
theorem dX0_isSure_10 : decode cX0_isSure 10 = .ok (.aload_n 0, 1) := dk_42 (dk_at dksX0_isSure_0 10 rfl rfl)
theorem dX0_isSure_11 : decode cX0_isSure 11 = .ok (.iload_n 3, 1) := dk_29 (dk_at dksX0_isSure_0 11 rfl rfl)
theorem dX0_isSure_12 : decode cX0_isSure 12 = .ok (.invokevirtual 203, 3) := dk_182 0 203 (dk_at dksX0_isSure_0 12 rfl rfl)
theorem dX0_isSure_15 : decode cX0_isSure 15 = .ok (.astore 4, 2) := dk_58 4 (dk_at dksX0_isSure_0 15 rfl rfl)
theorem dX0_isSure_17 : decode cX0_isSure 17 = .ok (.iconst 0, 1) := dk_3 (dk_at dksX0_isSure_0 17 rfl rfl)
theorem dX0_isSure_18 : decode cX0_isSure 18 = .ok (.istore 5, 2) := dk_54 5 (dk_at dksX0_isSure_0 18 rfl rfl)
theorem dX0_isSure_20 : decode cX0_isSure 20 = .ok (.iload 5, 2) := dk_21 5 (dk_at dksX0_isSure_0 20 rfl rfl)
theorem dX0_isSure_22 : decode cX0_isSure 22 = .ok (.aload_n 0, 1) := dk_42 (dk_at dksX0_isSure_0 22 rfl rfl)
theorem dX0_isSure_23 : decode cX0_isSure 23 = .ok (.getfield 140, 3) := dk_180 0 140 (dk_at dksX0_isSure_1 0 rfl rfl)
theorem dX0_isSure_26 : decode cX0_isSure 26 = .ok (.if_icmp .ge 31, 3) := dk_162 0 31 (dk_at dksX0_isSure_1 3 rfl rfl)
theorem dX0_isSure_29 : decode cX0_isSure 29 = .ok (.iload_n 2, 1) := dk_28 (dk_at dksX0_isSure_1 6 rfl rfl)
theorem dX0_isSure_30 : decode cX0_isSure 30 = .ok (.iload 5, 2) := dk_21 5 (dk_at dksX0_isSure_1 7 rfl rfl)
theorem dX0_isSure_32 : decode cX0_isSure 32 = .ok (.ishr, 1) := dk_122 (dk_at dksX0_isSure_1 9 rfl rfl)
theorem dX0_isSure_33 : decode cX0_isSure 33 = .ok (.iconst 1, 1) := dk_4 (dk_at dksX0_isSure_1 10 rfl rfl)
theorem dX0_isSure_34 : decode cX0_isSure 34 = .ok (.iand, 1) := dk_126 (dk_at dksX0_isSure_1 11 rfl rfl)
theorem dX0_isSure_35 : decode cX0_isSure 35 = .ok (.iconst 1, 1) := dk_4 (dk_at dksX0_isSure_1 12 rfl rfl)
theorem dX0_isSure_36 : decode cX0_isSure 36 = .ok (.if_icmp .ne 15, 3) := dk_160 0 15 (dk_at dksX0_isSure_1 13 rfl rfl)
theorem dX0_isSure_39 : decode cX0_isSure 39 = .ok (.aload 4, 2) := dk_25 4 (dk_at dksX0_isSure_1 16 rfl rfl)
theorem dX0_isSure_41 : decode cX0_isSure 41 = .ok (.aload_n 0, 1) := dk_42 (dk_at dksX0_isSure_1 18 rfl rfl)
theorem dX0_isSure_42 : decode cX0_isSure 42 = .ok (.getfield 31, 3) := dk_180 0 31 (dk_at dksX0_isSure_1 19 rfl rfl)
theorem dX0_isSure_45 : decode cX0_isSure 45 = .ok (.iload 5, 2) := dk_21 5 (dk_at dksX0_isSure_1 22 rfl rfl)
theorem dX0_isSure_47 : decode cX0_isSure 47 = .ok (.aaload, 1) := dk_50 (dk_at dksX0_isSure_2 0 rfl rfl)
theorem dX0_isSure_48 : decode cX0_isSure 48 = .ok (.invokevirtual 87, 3) := dk_182 0 87 (dk_at dksX0_isSure_2 1 rfl rfl)
theorem dX0_isSure_51 : decode cX0_isSure 51 = .ok (.iinc 5 1, 3) := dk_132 5 1 (dk_at dksX0_isSure_2 4 rfl rfl)
theorem dX0_isSure_54 : decode cX0_isSure 54 = .ok (.goto (-34), 3) := dk_167 255 222 (dk_at dksX0_isSure_2 7 rfl rfl)
theorem dX0_isSure_57 : decode cX0_isSure 57 = .ok (.iconst 0, 1) := dk_3 (dk_at dksX0_isSure_2 10 rfl rfl)
theorem dX0_isSure_58 : decode cX0_isSure 58 = .ok (.istore 5, 2) := dk_54 5 (dk_at dksX0_isSure_2 11 rfl rfl)
theorem dX0_isSure_60 : decode cX0_isSure 60 = .ok (.iload 5, 2) := dk_21 5 (dk_at dksX0_isSure_2 13 rfl rfl)
theorem dX0_isSure_62 : decode cX0_isSure 62 = .ok (.aload_n 1, 1) := dk_43 (dk_at dksX0_isSure_2 15 rfl rfl)
theorem dX0_isSure_63 : decode cX0_isSure 63 = .ok (.invokevirtual 77, 3) := dk_182 0 77 (dk_at dksX0_isSure_2 16 rfl rfl)
theorem dX0_isSure_66 : decode cX0_isSure 66 = .ok (.if_icmp .ge 26, 3) := dk_162 0 26 (dk_at dksX0_isSure_2 19 rfl rfl)
theorem dX0_isSure_69 : decode cX0_isSure 69 = .ok (.aload_n 0, 1) := dk_42 (dk_at dksX0_isSure_2 22 rfl rfl)
theorem dX0_isSure_70 : decode cX0_isSure 70 = .ok (.aload_n 1, 1) := dk_43 (dk_at dksX0_isSure_2 23 rfl rfl)
theorem dX0_isSure_71 : decode cX0_isSure 71 = .ok (.aload 4, 2) := dk_25 4 (dk_at dksX0_isSure_3 0 rfl rfl)
theorem dX0_isSure_73 : decode cX0_isSure 73 = .ok (.iload 5, 2) := dk_21 5 (dk_at dksX0_isSure_3 2 rfl rfl)
theorem dX0_isSure_75 : decode cX0_isSure 75 = .ok (.invokevirtual 213, 3) := dk_182 0 213 (dk_at dksX0_isSure_3 4 rfl rfl)
theorem dX0_isSure_78 : decode cX0_isSure 78 = .ok (.invokevirtual 83, 3) := dk_182 0 83 (dk_at dksX0_isSure_3 7 rfl rfl)
theorem dX0_isSure_81 : decode cX0_isSure 81 = .ok (.ifCond .ne 5, 3) := dk_154 0 5 (dk_at dksX0_isSure_3 10 rfl rfl)
theorem dX0_isSure_84 : decode cX0_isSure 84 = .ok (.iconst 0, 1) := dk_3 (dk_at dksX0_isSure_3 13 rfl rfl)
theorem dX0_isSure_85 : decode cX0_isSure 85 = .ok (.ireturn, 1) := dk_172 (dk_at dksX0_isSure_3 14 rfl rfl)
theorem dX0_isSure_86 : decode cX0_isSure 86 = .ok (.iinc 5 1, 3) := dk_132 5 1 (dk_at dksX0_isSure_3 15 rfl rfl)
theorem dX0_isSure_89 : decode cX0_isSure 89 = .ok (.goto (-29), 3) := dk_167 255 227 (dk_at dksX0_isSure_3 18 rfl rfl)
theorem dX0_isSure_92 : decode cX0_isSure 92 = .ok (.iinc 3 1, 3) := dk_132 3 1 (dk_at dksX0_isSure_3 21 rfl rfl)
theorem dX0_isSure_95 : decode cX0_isSure 95 = .ok (.goto (-93), 3) := dk_167 255 163 (dk_at dksX0_isSure_4 0 rfl rfl)
theorem dX0_isSure_98 : decode cX0_isSure 98 = .ok (.iconst 1, 1) := dk_4 (dk_at dksX0_isSure_4 3 rfl rfl)
theorem dX0_isSure_99 : decode cX0_isSure 99 = .ok (.ireturn, 1) := dk_172 (dk_at dksX0_isSure_4 4 rfl rfl)
abbrev cX0_count : ByteArray := prog_1_method_46_code
def yX0_count : MethodName := ⟨RX0, "count", "(I)I"⟩
def dkwX0_count_4 : List UInt8 := [28, 172, 42, 180, 1, 22, 172, 2, 172]
abbrev dktX0_count_4 : List UInt8 := dkwX0_count_4 ++ []
def dkwX0_count_3 : List UInt8 := [180, 0, 106, 162, 0, 21, 28, 42, 180, 0, 21, 29, 50, 180, 0, 126, 96, 61, 132, 3, 1, 167, 255, 233]
abbrev dktX0_count_3 : List UInt8 := dkwX0_count_3 ++ dktX0_count_4
def dkwX0_count_2 : List UInt8 := [42, 180, 0, 106, 172, 42, 180, 0, 129, 172, 42, 180, 0, 140, 172, 42, 180, 0, 91, 172, 3, 62, 29, 42]
abbrev dktX0_count_2 : List UInt8 := dkwX0_count_2 ++ dktX0_count_3
def dkwX0_count_1 : List UInt8 := [170, 0, 0, 0, 92, 0, 0, 0, 0, 0, 0, 0, 5, 0, 0, 0, 37, 0, 0, 0, 42, 0, 0, 0, 47, 0, 0, 0, 52, 0, 0, 0, 57, 0, 0, 0, 87]
abbrev dktX0_count_1 : List UInt8 := dkwX0_count_1 ++ dktX0_count_2
def dkwX0_count_0 : List UInt8 := [3, 61, 27]
abbrev dktX0_count_0 : List UInt8 := dkwX0_count_0 ++ dktX0_count_1
theorem dksX0_count_0 : cX0_count.data.toList.drop 0 = dktX0_count_0 := by decide +kernel
theorem dksX0_count_1 : cX0_count.data.toList.drop 3 = dktX0_count_1 := dk_seg dksX0_count_0 3 rfl rfl
theorem dksX0_count_2 : cX0_count.data.toList.drop 40 = dktX0_count_2 := dk_seg dksX0_count_1 37 rfl rfl
theorem dksX0_count_3 : cX0_count.data.toList.drop 64 = dktX0_count_3 := dk_seg dksX0_count_2 24 rfl rfl
theorem dksX0_count_4 : cX0_count.data.toList.drop 88 = dktX0_count_4 := dk_seg dksX0_count_3 24 rfl rfl
theorem dX0_count_0 : decode cX0_count 0 = .ok (.iconst 0, 1) := dk_3 (dk_at dksX0_count_0 0 rfl rfl)
theorem dX0_count_1 : decode cX0_count 1 = .ok (.istore_n 2, 1) := dk_61 (dk_at dksX0_count_0 1 rfl rfl)
theorem dX0_count_2 : decode cX0_count 2 = .ok (.iload_n 1, 1) := dk_27 (dk_at dksX0_count_0 2 rfl rfl)
theorem dX0_count_3 : decode cX0_count 3 = .ok (.tableswitch 92 0 5 #[37, 42, 47, 52, 57, 87], 37) := by decide +kernel
theorem dX0_count_40 : decode cX0_count 40 = .ok (.aload_n 0, 1) := dk_42 (dk_at dksX0_count_2 0 rfl rfl)
theorem dX0_count_41 : decode cX0_count 41 = .ok (.getfield 106, 3) := dk_180 0 106 (dk_at dksX0_count_2 1 rfl rfl)
theorem dX0_count_44 : decode cX0_count 44 = .ok (.ireturn, 1) := dk_172 (dk_at dksX0_count_2 4 rfl rfl)
theorem dX0_count_45 : decode cX0_count 45 = .ok (.aload_n 0, 1) := dk_42 (dk_at dksX0_count_2 5 rfl rfl)
theorem dX0_count_46 : decode cX0_count 46 = .ok (.getfield 129, 3) := dk_180 0 129 (dk_at dksX0_count_2 6 rfl rfl)
theorem dX0_count_49 : decode cX0_count 49 = .ok (.ireturn, 1) := dk_172 (dk_at dksX0_count_2 9 rfl rfl)
theorem dX0_count_50 : decode cX0_count 50 = .ok (.aload_n 0, 1) := dk_42 (dk_at dksX0_count_2 10 rfl rfl)
theorem dX0_count_51 : decode cX0_count 51 = .ok (.getfield 140, 3) := dk_180 0 140 (dk_at dksX0_count_2 11 rfl rfl)
theorem dX0_count_54 : decode cX0_count 54 = .ok (.ireturn, 1) := dk_172 (dk_at dksX0_count_2 14 rfl rfl)
theorem dX0_count_55 : decode cX0_count 55 = .ok (.aload_n 0, 1) := dk_42 (dk_at dksX0_count_2 15 rfl rfl)
theorem dX0_count_56 : decode cX0_count 56 = .ok (.getfield 91, 3) := dk_180 0 91 (dk_at dksX0_count_2 16 rfl rfl)
theorem dX0_count_59 : decode cX0_count 59 = .ok (.ireturn, 1) := dk_172 (dk_at dksX0_count_2 19 rfl rfl)
theorem dX0_count_60 : decode cX0_count 60 = .ok (.iconst 0, 1) := dk_3 (dk_at dksX0_count_2 20 rfl rfl)
theorem dX0_count_61 : decode cX0_count 61 = .ok (.istore_n 3, 1) := dk_62 (dk_at dksX0_count_2 21 rfl rfl)
theorem dX0_count_62 : decode cX0_count 62 = .ok (.iload_n 3, 1) := dk_29 (dk_at dksX0_count_2 22 rfl rfl)
theorem dX0_count_63 : decode cX0_count 63 = .ok (.aload_n 0, 1) := dk_42 (dk_at dksX0_count_2 23 rfl rfl)
theorem dX0_count_64 : decode cX0_count 64 = .ok (.getfield 106, 3) := dk_180 0 106 (dk_at dksX0_count_3 0 rfl rfl)
theorem dX0_count_67 : decode cX0_count 67 = .ok (.if_icmp .ge 21, 3) := dk_162 0 21 (dk_at dksX0_count_3 3 rfl rfl)
theorem dX0_count_70 : decode cX0_count 70 = .ok (.iload_n 2, 1) := dk_28 (dk_at dksX0_count_3 6 rfl rfl)
theorem dX0_count_71 : decode cX0_count 71 = .ok (.aload_n 0, 1) := dk_42 (dk_at dksX0_count_3 7 rfl rfl)
theorem dX0_count_72 : decode cX0_count 72 = .ok (.getfield 21, 3) := dk_180 0 21 (dk_at dksX0_count_3 8 rfl rfl)
theorem dX0_count_75 : decode cX0_count 75 = .ok (.iload_n 3, 1) := dk_29 (dk_at dksX0_count_3 11 rfl rfl)
theorem dX0_count_76 : decode cX0_count 76 = .ok (.aaload, 1) := dk_50 (dk_at dksX0_count_3 12 rfl rfl)
theorem dX0_count_77 : decode cX0_count 77 = .ok (.getfield 126, 3) := dk_180 0 126 (dk_at dksX0_count_3 13 rfl rfl)
theorem dX0_count_80 : decode cX0_count 80 = .ok (.iadd, 1) := dk_96 (dk_at dksX0_count_3 16 rfl rfl)
theorem dX0_count_81 : decode cX0_count 81 = .ok (.istore_n 2, 1) := dk_61 (dk_at dksX0_count_3 17 rfl rfl)
theorem dX0_count_82 : decode cX0_count 82 = .ok (.iinc 3 1, 3) := dk_132 3 1 (dk_at dksX0_count_3 18 rfl rfl)
theorem dX0_count_85 : decode cX0_count 85 = .ok (.goto (-23), 3) := dk_167 255 233 (dk_at dksX0_count_3 21 rfl rfl)
theorem dX0_count_88 : decode cX0_count 88 = .ok (.iload_n 2, 1) := dk_28 (dk_at dksX0_count_4 0 rfl rfl)
theorem dX0_count_89 : decode cX0_count 89 = .ok (.ireturn, 1) := dk_172 (dk_at dksX0_count_4 1 rfl rfl)
theorem dX0_count_90 : decode cX0_count 90 = .ok (.aload_n 0, 1) := dk_42 (dk_at dksX0_count_4 2 rfl rfl)
theorem dX0_count_91 : decode cX0_count 91 = .ok (.getfield 278, 3) := dk_180 1 22 (dk_at dksX0_count_4 3 rfl rfl)
theorem dX0_count_94 : decode cX0_count 94 = .ok (.ireturn, 1) := dk_172 (dk_at dksX0_count_4 6 rfl rfl)
theorem dX0_count_95 : decode cX0_count 95 = .ok (.iconst (-1), 1) := dk_2 (dk_at dksX0_count_4 7 rfl rfl)
theorem dX0_count_96 : decode cX0_count 96 = .ok (.ireturn, 1) := dk_172 (dk_at dksX0_count_4 8 rfl rfl)
theorem q95 : (Jvm.Cond.initialized "CrossingWords") ∈ lw_all := lw_g (lw_at lw_m1 1 rfl) rfl
theorem q121 : (Jvm.Cond.instantiable "CrossingWords" (15 : Nat)) ∈ lw_all := lw_g (lw_at lw_m1 27 rfl) rfl
theorem q123 : (Jvm.Cond.instanceMethod ({ cls := "CrossingWords", name := "<init>", desc := "()V" } : Jvm.MethodName)) ∈ lw_all := lw_g (lw_at lw_m1 29 rfl) rfl
theorem q124 : (Jvm.Cond.code ({ cls := "CrossingWords", name := "<init>", desc := "()V" } : Jvm.MethodName) prog_1_method_4_code (2 : Nat) (Option.none : Option Jvm.ClassFile.FieldType)) ∈ lw_all := lw_g (lw_at lw_m1 30 rfl) rfl
theorem q125 : (Jvm.Cond.methodLink "CrossingWords" (13 : Nat) ({ cls := "java/lang/Object", name := "<init>", desc := "()V" } : Jvm.MethodName)) ∈ lw_all := lw_g (lw_at lw_m1 31 rfl) rfl
theorem q128 : (Jvm.Cond.classLink "CrossingWords" (19 : Nat) "CrossingWords$Case") ∈ lw_all := lw_g (lw_at lw_m1 34 rfl) rfl
theorem q130 : (Jvm.Cond.classLink "CrossingWords" (25 : Nat) "CrossingWords$Text") ∈ lw_all := lw_g (lw_at lw_m1 36 rfl) rfl
theorem q132 : (Jvm.Cond.classLink "CrossingWords" (38 : Nat) "CrossingWords$Run") ∈ lw_all := lw_g (lw_at lw_m1 38 rfl) rfl
theorem q134 : (Jvm.Cond.classLink "CrossingWords" (48 : Nat) "CrossingWords$Image") ∈ lw_all := lw_g (lw_at lw_m1 40 rfl) rfl
theorem q137 : (Jvm.Cond.methodLinkNest "CrossingWords" (62 : Nat) ({ cls := "CrossingWords$Run", name := "<init>", desc := "(LCrossingWords;)V" } : Jvm.MethodName) "CrossingWords") ∈ lw_tbl := lw_at lw_m1 43 rfl
theorem q143 : (Jvm.Cond.fieldLinkNest "CrossingWords" (234 : Nat) "CrossingWords$Run" "from" "[I" "CrossingWords") ∈ lw_tbl := lw_at lw_m1 49 rfl
theorem q145 : (Jvm.Cond.fieldLinkNest "CrossingWords" (237 : Nat) "CrossingWords$Run" "ends" "[I" "CrossingWords") ∈ lw_tbl := lw_at lw_m1 51 rfl
theorem q147 : (Jvm.Cond.fieldLinkNest "CrossingWords" (240 : Nat) "CrossingWords$Run" "why" "[I" "CrossingWords") ∈ lw_tbl := lw_at lw_m1 53 rfl
theorem q152 : (Jvm.Cond.fieldLink "CrossingWords" (217 : Nat) "CrossingWords$Run" "yes" "I") ∈ lw_all := lw_g (lw_at lw_m1 58 rfl) rfl
theorem q154 : (Jvm.Cond.fieldLink "CrossingWords" (224 : Nat) "CrossingWords$Run" "since" "I") ∈ lw_all := lw_g (lw_at lw_m1 60 rfl) rfl
theorem q156 : (Jvm.Cond.fieldLink "CrossingWords" (220 : Nat) "CrossingWords$Run" "offer" "LCrossingWords$Saying;") ∈ lw_all := lw_g (lw_at lw_m1 62 rfl) rfl
theorem q185 : (Jvm.Cond.fieldLink "CrossingWords" (21 : Nat) "CrossingWords" "cases" "[LCrossingWords$Case;") ∈ lw_all := lw_g (lw_at lw_m1 91 rfl) rfl
theorem q187 : (Jvm.Cond.fieldLink "CrossingWords" (27 : Nat) "CrossingWords" "laws" "[LCrossingWords$Text;") ∈ lw_all := lw_g (lw_at lw_m1 93 rfl) rfl
theorem q189 : (Jvm.Cond.fieldLink "CrossingWords" (31 : Nat) "CrossingWords" "clauses" "[LCrossingWords$Text;") ∈ lw_all := lw_g (lw_at lw_m1 95 rfl) rfl
theorem q190 : (Jvm.Cond.fieldLink "CrossingWords" (34 : Nat) "CrossingWords" "tape" "[B") ∈ lw_all := lw_g (lw_at lw_m1 96 rfl) rfl
theorem q191 : (Jvm.Cond.fieldLink "CrossingWords" (40 : Nat) "CrossingWords" "runs" "[LCrossingWords$Run;") ∈ lw_all := lw_g (lw_at lw_m1 97 rfl) rfl
theorem q192 : (Jvm.Cond.fieldLink "CrossingWords" (91 : Nat) "CrossingWords" "taped" "I") ∈ lw_all := lw_g (lw_at lw_m1 98 rfl) rfl
theorem q194 : (Jvm.Cond.fieldLink "CrossingWords" (106 : Nat) "CrossingWords" "caseMany" "I") ∈ lw_all := lw_g (lw_at lw_m1 100 rfl) rfl
theorem q196 : (Jvm.Cond.fieldLink "CrossingWords" (129 : Nat) "CrossingWords" "lawMany" "I") ∈ lw_all := lw_g (lw_at lw_m1 102 rfl) rfl
theorem q198 : (Jvm.Cond.fieldLink "CrossingWords" (140 : Nat) "CrossingWords" "clauseMany" "I") ∈ lw_all := lw_g (lw_at lw_m1 104 rfl) rfl
theorem q199 : (Jvm.Cond.fieldLink "CrossingWords" (44 : Nat) "CrossingWords" "fault" "I") ∈ lw_all := lw_g (lw_at lw_m1 105 rfl) rfl
theorem q200 : (Jvm.Cond.fieldLink "CrossingWords" (70 : Nat) "CrossingWords" "deep" "I") ∈ lw_all := lw_g (lw_at lw_m1 106 rfl) rfl
theorem q201 : (Jvm.Cond.fieldLink "CrossingWords" (50 : Nat) "CrossingWords" "images" "[LCrossingWords$Image;") ∈ lw_all := lw_g (lw_at lw_m1 107 rfl) rfl
theorem q202 : (Jvm.Cond.fieldLink "CrossingWords" (278 : Nat) "CrossingWords" "imageMany" "I") ∈ lw_all := lw_g (lw_at lw_m1 108 rfl) rfl
theorem q203 : (Jvm.Cond.fieldLink "CrossingWords" (54 : Nat) "CrossingWords" "outcome" "[Z") ∈ lw_all := lw_g (lw_at lw_m1 109 rfl) rfl
theorem q204 : (Jvm.Cond.fieldLink "CrossingWords" (58 : Nat) "CrossingWords" "told" "[I") ∈ lw_all := lw_g (lw_at lw_m1 110 rfl) rfl
theorem q205 : (Jvm.Cond.laysFinal "CrossingWords" "CrossingWords" "cases" "[LCrossingWords$Case;") ∈ lw_all := lw_g (lw_at lw_m1 111 rfl) rfl
theorem q206 : (Jvm.Cond.soleField "CrossingWords" "cases") ∈ lw_all := lw_g (lw_at lw_m1 112 rfl) rfl
theorem q207 : (Jvm.Cond.laysFinal "CrossingWords" "CrossingWords" "laws" "[LCrossingWords$Text;") ∈ lw_all := lw_g (lw_at lw_m1 113 rfl) rfl
theorem q208 : (Jvm.Cond.soleField "CrossingWords" "laws") ∈ lw_all := lw_g (lw_at lw_m1 114 rfl) rfl
theorem q209 : (Jvm.Cond.laysFinal "CrossingWords" "CrossingWords" "clauses" "[LCrossingWords$Text;") ∈ lw_all := lw_g (lw_at lw_m1 115 rfl) rfl
theorem q210 : (Jvm.Cond.soleField "CrossingWords" "clauses") ∈ lw_all := lw_g (lw_at lw_m1 116 rfl) rfl
theorem q211 : (Jvm.Cond.laysFinal "CrossingWords" "CrossingWords" "tape" "[B") ∈ lw_all := lw_g (lw_at lw_m1 117 rfl) rfl
theorem q212 : (Jvm.Cond.soleField "CrossingWords" "tape") ∈ lw_all := lw_g (lw_at lw_m1 118 rfl) rfl
theorem q213 : (Jvm.Cond.laysFinal "CrossingWords" "CrossingWords" "runs" "[LCrossingWords$Run;") ∈ lw_all := lw_g (lw_at lw_m1 119 rfl) rfl
theorem q214 : (Jvm.Cond.soleField "CrossingWords" "runs") ∈ lw_all := lw_g (lw_at lw_m1 120 rfl) rfl
theorem q215 : (Jvm.Cond.lays "CrossingWords" "CrossingWords" "taped" "I") ∈ lw_all := lw_g (lw_at lw_m1 121 rfl) rfl
theorem q216 : (Jvm.Cond.soleField "CrossingWords" "taped") ∈ lw_all := lw_g (lw_at lw_m1 122 rfl) rfl
theorem q217 : (Jvm.Cond.lays "CrossingWords" "CrossingWords" "caseMany" "I") ∈ lw_all := lw_g (lw_at lw_m1 123 rfl) rfl
theorem q218 : (Jvm.Cond.soleField "CrossingWords" "caseMany") ∈ lw_all := lw_g (lw_at lw_m1 124 rfl) rfl
theorem q219 : (Jvm.Cond.lays "CrossingWords" "CrossingWords" "lawMany" "I") ∈ lw_all := lw_g (lw_at lw_m1 125 rfl) rfl
theorem q220 : (Jvm.Cond.soleField "CrossingWords" "lawMany") ∈ lw_all := lw_g (lw_at lw_m1 126 rfl) rfl
theorem q221 : (Jvm.Cond.lays "CrossingWords" "CrossingWords" "clauseMany" "I") ∈ lw_all := lw_g (lw_at lw_m1 127 rfl) rfl
theorem q222 : (Jvm.Cond.soleField "CrossingWords" "clauseMany") ∈ lw_all := lw_g (lw_at lw_m1 128 rfl) rfl
theorem q223 : (Jvm.Cond.lays "CrossingWords" "CrossingWords" "fault" "I") ∈ lw_all := lw_g (lw_at lw_m1 129 rfl) rfl
theorem q224 : (Jvm.Cond.soleField "CrossingWords" "fault") ∈ lw_all := lw_g (lw_at lw_m1 130 rfl) rfl
theorem q225 : (Jvm.Cond.lays "CrossingWords" "CrossingWords" "deep" "I") ∈ lw_all := lw_g (lw_at lw_m1 131 rfl) rfl
theorem q226 : (Jvm.Cond.soleField "CrossingWords" "deep") ∈ lw_all := lw_g (lw_at lw_m1 132 rfl) rfl
theorem q227 : (Jvm.Cond.laysFinal "CrossingWords" "CrossingWords" "images" "[LCrossingWords$Image;") ∈ lw_all := lw_g (lw_at lw_m1 133 rfl) rfl
theorem q228 : (Jvm.Cond.soleField "CrossingWords" "images") ∈ lw_all := lw_g (lw_at lw_m1 134 rfl) rfl
theorem q229 : (Jvm.Cond.lays "CrossingWords" "CrossingWords" "imageMany" "I") ∈ lw_all := lw_g (lw_at lw_m1 135 rfl) rfl
theorem q230 : (Jvm.Cond.soleField "CrossingWords" "imageMany") ∈ lw_all := lw_g (lw_at lw_m1 136 rfl) rfl
theorem q231 : (Jvm.Cond.laysFinal "CrossingWords" "CrossingWords" "outcome" "[Z") ∈ lw_all := lw_g (lw_at lw_m1 137 rfl) rfl
theorem q232 : (Jvm.Cond.soleField "CrossingWords" "outcome") ∈ lw_all := lw_g (lw_at lw_m1 138 rfl) rfl
theorem q233 : (Jvm.Cond.laysFinal "CrossingWords" "CrossingWords" "told" "[I") ∈ lw_all := lw_g (lw_at lw_m1 139 rfl) rfl
theorem q234 : (Jvm.Cond.soleField "CrossingWords" "told") ∈ lw_all := lw_g (lw_at lw_m1 140 rfl) rfl
theorem q235 : (Jvm.Cond.superclass "CrossingWords" "java/lang/Object") ∈ lw_all := lw_g (lw_at lw_m1 141 rfl) rfl
theorem q237 : (Jvm.Cond.instanceMethod ({ cls := "CrossingWords", name := "feed", desc := "(IIIII)I" } : Jvm.MethodName)) ∈ lw_all := lw_g (lw_at lw_m1 143 rfl) rfl
theorem q238 : (Jvm.Cond.selects "CrossingWords" ({ cls := "CrossingWords", name := "feed", desc := "(IIIII)I" } : Jvm.MethodName) ({ cls := "CrossingWords", name := "feed", desc := "(IIIII)I" } : Jvm.MethodName)) ∈ lw_all := lw_g (lw_at lw_m1 144 rfl) rfl
theorem q239 : (Jvm.Cond.code ({ cls := "CrossingWords", name := "feed", desc := "(IIIII)I" } : Jvm.MethodName) prog_1_method_8_code (8 : Nat) (Option.some Jvm.ClassFile.FieldType.int)) ∈ lw_all := lw_g (lw_at lw_m1 145 rfl) rfl
theorem q241 : (Jvm.Cond.instanceMethod ({ cls := "CrossingWords", name := "tell", desc := "(I)I" } : Jvm.MethodName)) ∈ lw_all := lw_g (lw_at lw_m1 147 rfl) rfl
theorem q242 : (Jvm.Cond.selects "CrossingWords" ({ cls := "CrossingWords", name := "tell", desc := "(I)I" } : Jvm.MethodName) ({ cls := "CrossingWords", name := "tell", desc := "(I)I" } : Jvm.MethodName)) ∈ lw_all := lw_g (lw_at lw_m1 148 rfl) rfl
theorem q243 : (Jvm.Cond.code ({ cls := "CrossingWords", name := "tell", desc := "(I)I" } : Jvm.MethodName) prog_1_method_10_code (3 : Nat) (Option.some Jvm.ClassFile.FieldType.int)) ∈ lw_all := lw_g (lw_at lw_m1 149 rfl) rfl
theorem q244 : (Jvm.Cond.methodLink "CrossingWords" (102 : Nat) ({ cls := "CrossingWords", name := "isIn", desc := "(III)Z" } : Jvm.MethodName)) ∈ lw_all := lw_g (lw_at lw_m1 150 rfl) rfl
theorem q245 : (Jvm.Cond.static ({ cls := "CrossingWords", name := "isIn", desc := "(III)Z" } : Jvm.MethodName)) ∈ lw_all := lw_g (lw_at lw_m1 151 rfl) rfl
theorem q246 : (Jvm.Cond.code ({ cls := "CrossingWords", name := "isIn", desc := "(III)Z" } : Jvm.MethodName) prog_1_method_1_code (3 : Nat) (Option.some Jvm.ClassFile.FieldType.boolean)) ∈ lw_all := lw_g (lw_at lw_m1 152 rfl) rfl
theorem q247 : (Jvm.Cond.classLink "CrossingWords" (109 : Nat) "CrossingWords$CaseReader") ∈ lw_all := lw_g (lw_at lw_m1 153 rfl) rfl
theorem q249 : (Jvm.Cond.methodLink "CrossingWords" (111 : Nat) ({ cls := "CrossingWords$CaseReader", name := "<init>", desc := "([BILCrossingWords$Case;I)V" } : Jvm.MethodName)) ∈ lw_all := lw_g (lw_at lw_m1 155 rfl) rfl
theorem q282 : (Jvm.Cond.fieldLink "CrossingWords" (143 : Nat) "CrossingWords$Case" "sayings" "[LCrossingWords$Saying;") ∈ lw_all := lw_g (lw_at lw_m1 188 rfl) rfl
theorem q288 : (Jvm.Cond.fieldLinkNest "CrossingWords" (285 : Nat) "CrossingWords$Case" "askedMany" "[I" "CrossingWords") ∈ lw_tbl := lw_at lw_m1 194 rfl
theorem q292 : (Jvm.Cond.fieldLink "CrossingWords" (126 : Nat) "CrossingWords$Case" "many" "I") ∈ lw_all := lw_g (lw_at lw_m1 198 rfl) rfl
theorem q295 : (Jvm.Cond.fieldLink "CrossingWords" (182 : Nat) "CrossingWords$Case" "asked" "I") ∈ lw_all := lw_g (lw_at lw_m1 201 rfl) rfl
theorem q333 : (Jvm.Cond.fieldLink "CrossingWords" (118 : Nat) "CrossingWords$CaseReader" "own" "LCrossingWords$Case;") ∈ lw_all := lw_g (lw_at lw_m1 239 rfl) rfl
theorem q370 : (Jvm.Cond.methodLink "CrossingWords" (114 : Nat) ({ cls := "CrossingWords", name := "isTaken", desc := "(LCrossingWords$Reader;)Z" } : Jvm.MethodName)) ∈ lw_all := lw_g (lw_at lw_m2 36 rfl) rfl
theorem q371 : (Jvm.Cond.privateMethod ({ cls := "CrossingWords", name := "isTaken", desc := "(LCrossingWords$Reader;)Z" } : Jvm.MethodName)) ∈ lw_tbl := lw_at lw_m2 37 rfl
theorem q372 : (Jvm.Cond.instanceMethod ({ cls := "CrossingWords", name := "isTaken", desc := "(LCrossingWords$Reader;)Z" } : Jvm.MethodName)) ∈ lw_all := lw_g (lw_at lw_m2 38 rfl) rfl
theorem q373 : (Jvm.Cond.code ({ cls := "CrossingWords", name := "isTaken", desc := "(LCrossingWords$Reader;)Z" } : Jvm.MethodName) prog_1_method_9_code (3 : Nat) (Option.some Jvm.ClassFile.FieldType.boolean)) ∈ lw_all := lw_g (lw_at lw_m2 39 rfl) rfl
theorem q374 : (Jvm.Cond.methodLink "CrossingWords" (94 : Nat) ({ cls := "CrossingWords$Reader", name := "reads", desc := "()Z" } : Jvm.MethodName)) ∈ lw_all := lw_g (lw_at lw_m2 40 rfl) rfl
theorem q396 : (Jvm.Cond.laysStatic "CrossingWords" "KINDS" "[J") ∈ lw_tbl := lw_at lw_m2 62 rfl
theorem q410 : (Jvm.Cond.static ({ cls := "CrossingWords", name := "find", desc := "([JJ)I" } : Jvm.MethodName)) ∈ lw_all := lw_g (lw_at lw_m2 76 rfl) rfl
theorem q411 : (Jvm.Cond.code ({ cls := "CrossingWords", name := "find", desc := "([JJ)I" } : Jvm.MethodName) prog_1_method_3_code (4 : Nat) (Option.some Jvm.ClassFile.FieldType.int)) ∈ lw_all := lw_g (lw_at lw_m2 77 rfl) rfl
theorem q422 : (Jvm.Cond.laysStatic "CrossingWords" "HAND_NAMES" "[J") ∈ lw_tbl := lw_at lw_m2 88 rfl
theorem q449 : (Jvm.Cond.fieldLink "CrossingWords" (162 : Nat) "CrossingWords$Saying" "index" "I") ∈ lw_all := lw_g (lw_at lw_m2 115 rfl) rfl
theorem q454 : (Jvm.Cond.fieldLink "CrossingWords" (152 : Nat) "CrossingWords$Saying" "hand" "I") ∈ lw_all := lw_g (lw_at lw_m2 120 rfl) rfl
theorem q459 : (Jvm.Cond.fieldLink "CrossingWords" (165 : Nat) "CrossingWords$Saying" "times" "LCrossingWords$Times;") ∈ lw_all := lw_g (lw_at lw_m2 125 rfl) rfl
theorem q476 : (Jvm.Cond.laysStatic "CrossingWords" "TERM_NAMES" "[J") ∈ lw_tbl := lw_at lw_m2 142 rfl
theorem q511 : (Jvm.Cond.laysStatic "CrossingWords" "HOLD" "J") ∈ lw_tbl := lw_at lw_m2 177 rfl
theorem q519 : (Jvm.Cond.laysStatic "CrossingWords" "GIVEN" "J") ∈ lw_tbl := lw_at lw_m2 185 rfl
theorem q585 : (Jvm.Cond.laysStatic "CrossingWords" "BUT_WORD" "J") ∈ lw_tbl := lw_at lw_m3 11 rfl
theorem q669 : (Jvm.Cond.laysStatic "CrossingWords" "WAYS" "[J") ∈ lw_tbl := lw_at lw_m3 95 rfl
theorem q671 : (Jvm.Cond.laysStatic "CrossingWords" "AT" "J") ∈ lw_tbl := lw_at lw_m3 97 rfl
theorem q685 : (Jvm.Cond.laysStatic "CrossingWords" "TO" "J") ∈ lw_tbl := lw_at lw_m3 111 rfl
theorem q704 : (Jvm.Cond.laysStatic "CrossingWords" "AT_ONCE" "LCrossingWords$Span;") ∈ lw_tbl := lw_at lw_m3 130 rfl
theorem q711 : (Jvm.Cond.fieldLink "CrossingWords" (169 : Nat) "CrossingWords$Times" "way" "I") ∈ lw_all := lw_g (lw_at lw_m3 137 rfl) rfl
theorem q739 : (Jvm.Cond.laysStatic "CrossingWords" "AFTER" "J") ∈ lw_tbl := lw_at lw_m3 165 rfl
theorem q741 : (Jvm.Cond.laysStatic "CrossingWords" "READ_WORD" "J") ∈ lw_tbl := lw_at lw_m3 167 rfl
theorem q743 : (Jvm.Cond.laysStatic "CrossingWords" "LOST" "J") ∈ lw_tbl := lw_at lw_m3 169 rfl
theorem q750 : (Jvm.Cond.laysStatic "CrossingWords" "RULE_NAMES" "[J") ∈ lw_tbl := lw_at lw_m3 176 rfl
theorem q760 : (Jvm.Cond.laysStatic "CrossingWords" "YES_WAYS" "[J") ∈ lw_tbl := lw_at lw_m3 186 rfl
theorem q762 : (Jvm.Cond.laysStatic "CrossingWords" "WHENS" "[J") ∈ lw_tbl := lw_at lw_m3 188 rfl
theorem q768 : (Jvm.Cond.laysStatic "CrossingWords" "HOLDS" "[J") ∈ lw_tbl := lw_at lw_m3 194 rfl
theorem q773 : (Jvm.Cond.laysStatic "CrossingWords" "BUTS" "[J") ∈ lw_tbl := lw_at lw_m3 199 rfl
theorem q775 : (Jvm.Cond.laysStatic "CrossingWords" "FORMS" "[J") ∈ lw_tbl := lw_at lw_m3 201 rfl
theorem q777 : (Jvm.Cond.laysStatic "CrossingWords" "DEEDS" "[J") ∈ lw_tbl := lw_at lw_m3 203 rfl
theorem q779 : (Jvm.Cond.laysStatic "CrossingWords" "RISKS" "[J") ∈ lw_tbl := lw_at lw_m3 205 rfl
theorem q793 : (Jvm.Cond.methodLink "CrossingWords" (99 : Nat) ({ cls := "CrossingWords$Reader", name := "place", desc := "()I" } : Jvm.MethodName)) ∈ lw_all := lw_g (lw_at lw_m3 219 rfl) rfl
theorem q800 : (Jvm.Cond.instanceMethod ({ cls := "CrossingWords", name := "more", desc := "(II)I" } : Jvm.MethodName)) ∈ lw_all := lw_g (lw_at lw_m3 226 rfl) rfl
theorem q801 : (Jvm.Cond.selects "CrossingWords" ({ cls := "CrossingWords", name := "more", desc := "(II)I" } : Jvm.MethodName) ({ cls := "CrossingWords", name := "more", desc := "(II)I" } : Jvm.MethodName)) ∈ lw_all := lw_g (lw_at lw_m3 227 rfl) rfl
theorem q802 : (Jvm.Cond.code ({ cls := "CrossingWords", name := "more", desc := "(II)I" } : Jvm.MethodName) prog_1_method_12_code (4 : Nat) (Option.some Jvm.ClassFile.FieldType.int)) ∈ lw_all := lw_g (lw_at lw_m3 228 rfl) rfl
theorem q803 : (Jvm.Cond.methodLink "CrossingWords" (122 : Nat) ({ cls := "CrossingWords", name := "isCase", desc := "(I)Z" } : Jvm.MethodName)) ∈ lw_all := lw_g (lw_at lw_m3 229 rfl) rfl
theorem q804 : (Jvm.Cond.privateMethod ({ cls := "CrossingWords", name := "isCase", desc := "(I)Z" } : Jvm.MethodName)) ∈ lw_tbl := lw_at lw_m3 230 rfl
theorem q805 : (Jvm.Cond.instanceMethod ({ cls := "CrossingWords", name := "isCase", desc := "(I)Z" } : Jvm.MethodName)) ∈ lw_all := lw_g (lw_at lw_m3 231 rfl) rfl
theorem q806 : (Jvm.Cond.code ({ cls := "CrossingWords", name := "isCase", desc := "(I)Z" } : Jvm.MethodName) prog_1_method_11_code (2 : Nat) (Option.some Jvm.ClassFile.FieldType.boolean)) ∈ lw_all := lw_g (lw_at lw_m3 232 rfl) rfl
theorem q808 : (Jvm.Cond.instanceMethod ({ cls := "CrossingWords", name := "law", desc := "(I)I" } : Jvm.MethodName)) ∈ lw_all := lw_g (lw_at lw_m3 234 rfl) rfl
theorem q809 : (Jvm.Cond.selects "CrossingWords" ({ cls := "CrossingWords", name := "law", desc := "(I)I" } : Jvm.MethodName) ({ cls := "CrossingWords", name := "law", desc := "(I)I" } : Jvm.MethodName)) ∈ lw_all := lw_g (lw_at lw_m3 235 rfl) rfl
theorem q810 : (Jvm.Cond.code ({ cls := "CrossingWords", name := "law", desc := "(I)I" } : Jvm.MethodName) prog_1_method_13_code (3 : Nat) (Option.some Jvm.ClassFile.FieldType.int)) ∈ lw_all := lw_g (lw_at lw_m3 236 rfl) rfl
theorem q811 : (Jvm.Cond.classLink "CrossingWords" (132 : Nat) "CrossingWords$LawReader") ∈ lw_all := lw_g (lw_at lw_m3 237 rfl) rfl
theorem q812 : (Jvm.Cond.methodLink "CrossingWords" (134 : Nat) ({ cls := "CrossingWords$LawReader", name := "<init>", desc := "([BII)V" } : Jvm.MethodName)) ∈ lw_all := lw_g (lw_at lw_m3 238 rfl) rfl
theorem q829 : (Jvm.Cond.fieldLink "CrossingWords" (200 : Nat) "CrossingWords$Text" "rules" "I") ∈ lw_all := lw_g (lw_at lw_m4 15 rfl) rfl
theorem q840 : (Jvm.Cond.fieldLink "CrossingWords" (137 : Nat) "CrossingWords$LawReader" "own" "LCrossingWords$Text;") ∈ lw_all := lw_g (lw_at lw_m4 26 rfl) rfl
theorem q855 : (Jvm.Cond.instanceMethod ({ cls := "CrossingWords", name := "clause", desc := "(I)I" } : Jvm.MethodName)) ∈ lw_all := lw_g (lw_at lw_m4 41 rfl) rfl
theorem q856 : (Jvm.Cond.selects "CrossingWords" ({ cls := "CrossingWords", name := "clause", desc := "(I)I" } : Jvm.MethodName) ({ cls := "CrossingWords", name := "clause", desc := "(I)I" } : Jvm.MethodName)) ∈ lw_all := lw_g (lw_at lw_m4 42 rfl) rfl
theorem q857 : (Jvm.Cond.code ({ cls := "CrossingWords", name := "clause", desc := "(I)I" } : Jvm.MethodName) prog_1_method_14_code (3 : Nat) (Option.some Jvm.ClassFile.FieldType.int)) ∈ lw_all := lw_g (lw_at lw_m4 43 rfl) rfl
theorem q859 : (Jvm.Cond.instanceMethod ({ cls := "CrossingWords", name := "fault", desc := "()I" } : Jvm.MethodName)) ∈ lw_all := lw_g (lw_at lw_m4 45 rfl) rfl
theorem q860 : (Jvm.Cond.selects "CrossingWords" ({ cls := "CrossingWords", name := "fault", desc := "()I" } : Jvm.MethodName) ({ cls := "CrossingWords", name := "fault", desc := "()I" } : Jvm.MethodName)) ∈ lw_all := lw_g (lw_at lw_m4 46 rfl) rfl
theorem q861 : (Jvm.Cond.code ({ cls := "CrossingWords", name := "fault", desc := "()I" } : Jvm.MethodName) prog_1_method_15_code (1 : Nat) (Option.some Jvm.ClassFile.FieldType.int)) ∈ lw_all := lw_g (lw_at lw_m4 47 rfl) rfl
theorem q863 : (Jvm.Cond.instanceMethod ({ cls := "CrossingWords", name := "saying", desc := "(III)I" } : Jvm.MethodName)) ∈ lw_all := lw_g (lw_at lw_m4 49 rfl) rfl
theorem q864 : (Jvm.Cond.selects "CrossingWords" ({ cls := "CrossingWords", name := "saying", desc := "(III)I" } : Jvm.MethodName) ({ cls := "CrossingWords", name := "saying", desc := "(III)I" } : Jvm.MethodName)) ∈ lw_all := lw_g (lw_at lw_m4 50 rfl) rfl
theorem q865 : (Jvm.Cond.code ({ cls := "CrossingWords", name := "saying", desc := "(III)I" } : Jvm.MethodName) prog_1_method_16_code (5 : Nat) (Option.some Jvm.ClassFile.FieldType.int)) ∈ lw_all := lw_g (lw_at lw_m4 51 rfl) rfl
theorem q866 : (Jvm.Cond.methodLink "CrossingWords" (147 : Nat) ({ cls := "CrossingWords$Saying", name := "kind", desc := "()I" } : Jvm.MethodName)) ∈ lw_all := lw_g (lw_at lw_m4 52 rfl) rfl
theorem q867 : (Jvm.Cond.methodLink "CrossingWords" (155 : Nat) ({ cls := "CrossingWords$Saying", name := "to", desc := "()I" } : Jvm.MethodName)) ∈ lw_all := lw_g (lw_at lw_m4 53 rfl) rfl
theorem q868 : (Jvm.Cond.methodLink "CrossingWords" (158 : Nat) ({ cls := "CrossingWords$Saying", name := "said", desc := "()LCrossingWords$Saying;" } : Jvm.MethodName)) ∈ lw_all := lw_g (lw_at lw_m4 54 rfl) rfl
theorem q880 : (Jvm.Cond.methodLink "CrossingWords" (174 : Nat) ({ cls := "CrossingWords$Saying", name := "hold", desc := "()I" } : Jvm.MethodName)) ∈ lw_all := lw_g (lw_at lw_m4 66 rfl) rfl
theorem q894 : (Jvm.Cond.methodLink "CrossingWords" (177 : Nat) ({ cls := "CrossingWords$Saying", name := "given", desc := "()I" } : Jvm.MethodName)) ∈ lw_all := lw_g (lw_at lw_m4 80 rfl) rfl
theorem q908 : (Jvm.Cond.methodLink "CrossingWords" (179 : Nat) ({ cls := "CrossingWords$Saying", name := "own", desc := "(I)I" } : Jvm.MethodName)) ∈ lw_all := lw_g (lw_at lw_m4 94 rfl) rfl
theorem q925 : (Jvm.Cond.instanceMethod ({ cls := "CrossingWords", name := "asked", desc := "(II)I" } : Jvm.MethodName)) ∈ lw_all := lw_g (lw_at lw_m4 111 rfl) rfl
theorem q926 : (Jvm.Cond.selects "CrossingWords" ({ cls := "CrossingWords", name := "asked", desc := "(II)I" } : Jvm.MethodName) ({ cls := "CrossingWords", name := "asked", desc := "(II)I" } : Jvm.MethodName)) ∈ lw_all := lw_g (lw_at lw_m4 112 rfl) rfl
theorem q927 : (Jvm.Cond.code ({ cls := "CrossingWords", name := "asked", desc := "(II)I" } : Jvm.MethodName) prog_1_method_17_code (4 : Nat) (Option.some Jvm.ClassFile.FieldType.int)) ∈ lw_all := lw_g (lw_at lw_m4 113 rfl) rfl
theorem q928 : (Jvm.Cond.methodLink "CrossingWords" (73 : Nat) ({ cls := "CrossingWords$Case", name := "isLooked", desc := "()Z" } : Jvm.MethodName)) ∈ lw_all := lw_g (lw_at lw_m4 114 rfl) rfl
theorem q933 : (Jvm.Cond.methodLink "CrossingWords" (77 : Nat) ({ cls := "CrossingWords$Case", name := "combos", desc := "()I" } : Jvm.MethodName)) ∈ lw_all := lw_g (lw_at lw_m4 119 rfl) rfl
theorem q938 : (Jvm.Cond.instanceMethod ({ cls := "CrossingWords", name := "hour", desc := "(IIII)I" } : Jvm.MethodName)) ∈ lw_all := lw_g (lw_at lw_m4 124 rfl) rfl
theorem q939 : (Jvm.Cond.selects "CrossingWords" ({ cls := "CrossingWords", name := "hour", desc := "(IIII)I" } : Jvm.MethodName) ({ cls := "CrossingWords", name := "hour", desc := "(IIII)I" } : Jvm.MethodName)) ∈ lw_all := lw_g (lw_at lw_m4 125 rfl) rfl
theorem q940 : (Jvm.Cond.code ({ cls := "CrossingWords", name := "hour", desc := "(IIII)I" } : Jvm.MethodName) prog_1_method_21_code (6 : Nat) (Option.some Jvm.ClassFile.FieldType.int)) ∈ lw_all := lw_g (lw_at lw_m4 126 rfl) rfl
theorem q941 : (Jvm.Cond.methodLink "CrossingWords" (188 : Nat) ({ cls := "CrossingWords", name := "isCombo", desc := "(II)Z" } : Jvm.MethodName)) ∈ lw_all := lw_g (lw_at lw_m4 127 rfl) rfl
theorem q942 : (Jvm.Cond.privateMethod ({ cls := "CrossingWords", name := "isCombo", desc := "(II)Z" } : Jvm.MethodName)) ∈ lw_tbl := lw_at lw_m4 128 rfl
theorem q943 : (Jvm.Cond.instanceMethod ({ cls := "CrossingWords", name := "isCombo", desc := "(II)Z" } : Jvm.MethodName)) ∈ lw_all := lw_g (lw_at lw_m4 129 rfl) rfl
theorem q944 : (Jvm.Cond.code ({ cls := "CrossingWords", name := "isCombo", desc := "(II)Z" } : Jvm.MethodName) prog_1_method_18_code (3 : Nat) (Option.some Jvm.ClassFile.FieldType.boolean)) ∈ lw_all := lw_g (lw_at lw_m4 130 rfl) rfl
theorem q945 : (Jvm.Cond.methodLink "CrossingWords" (192 : Nat) ({ cls := "CrossingWords$Run", name := "lays", desc := "(LCrossingWords$Case;I)V" } : Jvm.MethodName)) ∈ lw_all := lw_g (lw_at lw_m4 131 rfl) rfl
theorem q953 : (Jvm.Cond.methodLink "CrossingWords" (196 : Nat) ({ cls := "CrossingWords$Run", name := "hour", desc := "(LCrossingWords$Saying;I)I" } : Jvm.MethodName)) ∈ lw_all := lw_g (lw_at lw_m4 139 rfl) rfl
theorem q958 : (Jvm.Cond.instanceMethod ({ cls := "CrossingWords", name := "rule", desc := "(II)I" } : Jvm.MethodName)) ∈ lw_all := lw_g (lw_at lw_m4 144 rfl) rfl
theorem q959 : (Jvm.Cond.selects "CrossingWords" ({ cls := "CrossingWords", name := "rule", desc := "(II)I" } : Jvm.MethodName) ({ cls := "CrossingWords", name := "rule", desc := "(II)I" } : Jvm.MethodName)) ∈ lw_all := lw_g (lw_at lw_m4 145 rfl) rfl
theorem q960 : (Jvm.Cond.code ({ cls := "CrossingWords", name := "rule", desc := "(II)I" } : Jvm.MethodName) prog_1_method_22_code (3 : Nat) (Option.some Jvm.ClassFile.FieldType.int)) ∈ lw_all := lw_g (lw_at lw_m4 146 rfl) rfl
theorem q961 : (Jvm.Cond.methodLink "CrossingWords" (185 : Nat) ({ cls := "CrossingWords", name := "isLaw", desc := "(I)Z" } : Jvm.MethodName)) ∈ lw_all := lw_g (lw_at lw_m4 147 rfl) rfl
theorem q962 : (Jvm.Cond.privateMethod ({ cls := "CrossingWords", name := "isLaw", desc := "(I)Z" } : Jvm.MethodName)) ∈ lw_tbl := lw_at lw_m4 148 rfl
theorem q963 : (Jvm.Cond.instanceMethod ({ cls := "CrossingWords", name := "isLaw", desc := "(I)Z" } : Jvm.MethodName)) ∈ lw_all := lw_g (lw_at lw_m4 149 rfl) rfl
theorem q964 : (Jvm.Cond.code ({ cls := "CrossingWords", name := "isLaw", desc := "(I)Z" } : Jvm.MethodName) prog_1_method_19_code (2 : Nat) (Option.some Jvm.ClassFile.FieldType.boolean)) ∈ lw_all := lw_g (lw_at lw_m4 150 rfl) rfl
theorem q965 : (Jvm.Cond.methodLink "CrossingWords" (203 : Nat) ({ cls := "CrossingWords", name := "rulesOf", desc := "(I)LCrossingWords$Rules;" } : Jvm.MethodName)) ∈ lw_all := lw_g (lw_at lw_m4 151 rfl) rfl
theorem q966 : (Jvm.Cond.privateMethod ({ cls := "CrossingWords", name := "rulesOf", desc := "(I)LCrossingWords$Rules;" } : Jvm.MethodName)) ∈ lw_tbl := lw_at lw_m4 152 rfl
theorem q967 : (Jvm.Cond.instanceMethod ({ cls := "CrossingWords", name := "rulesOf", desc := "(I)LCrossingWords$Rules;" } : Jvm.MethodName)) ∈ lw_all := lw_g (lw_at lw_m4 153 rfl) rfl
theorem q968 : (Jvm.Cond.code ({ cls := "CrossingWords", name := "rulesOf", desc := "(I)LCrossingWords$Rules;" } : Jvm.MethodName) prog_1_method_6_code (3 : Nat) (Option.some (Jvm.ClassFile.FieldType.object "CrossingWords$Rules"))) ∈ lw_all := lw_g (lw_at lw_m4 154 rfl) rfl
theorem q969 : (Jvm.Cond.classLink "CrossingWords" (66 : Nat) "CrossingWords$Rules") ∈ lw_all := lw_g (lw_at lw_m4 155 rfl) rfl
theorem q971 : (Jvm.Cond.methodLinkNest "CrossingWords" (86 : Nat) ({ cls := "CrossingWords$Rules", name := "<init>", desc := "()V" } : Jvm.MethodName) "CrossingWords") ∈ lw_tbl := lw_at lw_m4 157 rfl
theorem q977 : (Jvm.Cond.fieldLinkNest "CrossingWords" (65 : Nat) "CrossingWords$Rules" "given" "[I" "CrossingWords") ∈ lw_tbl := lw_at lw_m4 163 rfl
theorem q983 : (Jvm.Cond.methodLink "CrossingWords" (87 : Nat) ({ cls := "CrossingWords$Rules", name := "takes", desc := "(LCrossingWords$Text;)V" } : Jvm.MethodName)) ∈ lw_all := lw_g (lw_at lw_m4 169 rfl) rfl
theorem q987 : (Jvm.Cond.methodLink "CrossingWords" (207 : Nat) ({ cls := "CrossingWords$Rules", name := "at", desc := "(I)I" } : Jvm.MethodName)) ∈ lw_all := lw_g (lw_at lw_m4 173 rfl) rfl
theorem q992 : (Jvm.Cond.instanceMethod ({ cls := "CrossingWords", name := "run", desc := "(IIII)I" } : Jvm.MethodName)) ∈ lw_all := lw_g (lw_at lw_m4 178 rfl) rfl
theorem q993 : (Jvm.Cond.selects "CrossingWords" ({ cls := "CrossingWords", name := "run", desc := "(IIII)I" } : Jvm.MethodName) ({ cls := "CrossingWords", name := "run", desc := "(IIII)I" } : Jvm.MethodName)) ∈ lw_all := lw_g (lw_at lw_m4 179 rfl) rfl
theorem q994 : (Jvm.Cond.code ({ cls := "CrossingWords", name := "run", desc := "(IIII)I" } : Jvm.MethodName) prog_1_method_23_code (6 : Nat) (Option.some Jvm.ClassFile.FieldType.int)) ∈ lw_all := lw_g (lw_at lw_m4 180 rfl) rfl
theorem q995 : (Jvm.Cond.methodLink "CrossingWords" (210 : Nat) ({ cls := "CrossingWords", name := "isRun", desc := "(III)Z" } : Jvm.MethodName)) ∈ lw_all := lw_g (lw_at lw_m4 181 rfl) rfl
theorem q996 : (Jvm.Cond.privateMethod ({ cls := "CrossingWords", name := "isRun", desc := "(III)Z" } : Jvm.MethodName)) ∈ lw_tbl := lw_at lw_m4 182 rfl
theorem q997 : (Jvm.Cond.instanceMethod ({ cls := "CrossingWords", name := "isRun", desc := "(III)Z" } : Jvm.MethodName)) ∈ lw_all := lw_g (lw_at lw_m4 183 rfl) rfl
theorem q998 : (Jvm.Cond.code ({ cls := "CrossingWords", name := "isRun", desc := "(III)Z" } : Jvm.MethodName) prog_1_method_20_code (4 : Nat) (Option.some Jvm.ClassFile.FieldType.boolean)) ∈ lw_all := lw_g (lw_at lw_m4 184 rfl) rfl
theorem q999 : (Jvm.Cond.methodLink "CrossingWords" (213 : Nat) ({ cls := "CrossingWords", name := "ran", desc := "(LCrossingWords$Case;LCrossingWords$Rules;I)LCrossingWords$Run;" } : Jvm.MethodName)) ∈ lw_all := lw_g (lw_at lw_m4 185 rfl) rfl
theorem q1000 : (Jvm.Cond.privateMethod ({ cls := "CrossingWords", name := "ran", desc := "(LCrossingWords$Case;LCrossingWords$Rules;I)LCrossingWords$Run;" } : Jvm.MethodName)) ∈ lw_tbl := lw_at lw_m4 186 rfl
theorem q1001 : (Jvm.Cond.instanceMethod ({ cls := "CrossingWords", name := "ran", desc := "(LCrossingWords$Case;LCrossingWords$Rules;I)LCrossingWords$Run;" } : Jvm.MethodName)) ∈ lw_all := lw_g (lw_at lw_m4 187 rfl) rfl
theorem q1002 : (Jvm.Cond.code ({ cls := "CrossingWords", name := "ran", desc := "(LCrossingWords$Case;LCrossingWords$Rules;I)LCrossingWords$Run;" } : Jvm.MethodName) prog_1_method_7_code (4 : Nat) (Option.some (Jvm.ClassFile.FieldType.object "CrossingWords$Run"))) ∈ lw_all := lw_g (lw_at lw_m4 188 rfl) rfl
theorem q1003 : (Jvm.Cond.methodLink "CrossingWords" (80 : Nat) ({ cls := "CrossingWords$Run", name := "runs", desc := "(LCrossingWords$Case;LCrossingWords$Rules;I)V" } : Jvm.MethodName)) ∈ lw_all := lw_g (lw_at lw_m4 189 rfl) rfl
theorem q1038 : (Jvm.Cond.privateMethod ({ cls := "CrossingWords", name := "hasGiven", desc := "(ILCrossingWords$Rules;)Z" } : Jvm.MethodName)) ∈ lw_tbl := lw_at lw_m4 224 rfl
theorem q1039 : (Jvm.Cond.instanceMethod ({ cls := "CrossingWords", name := "hasGiven", desc := "(ILCrossingWords$Rules;)Z" } : Jvm.MethodName)) ∈ lw_all := lw_g (lw_at lw_m4 225 rfl) rfl
theorem q1040 : (Jvm.Cond.code ({ cls := "CrossingWords", name := "hasGiven", desc := "(ILCrossingWords$Rules;)Z" } : Jvm.MethodName) prog_1_method_5_code (7 : Nat) (Option.some Jvm.ClassFile.FieldType.boolean)) ∈ lw_all := lw_g (lw_at lw_m4 226 rfl) rfl
theorem q1041 : (Jvm.Cond.methodLink "CrossingWords" (83 : Nat) ({ cls := "CrossingWords$Run", name := "isBargain", desc := "()Z" } : Jvm.MethodName)) ∈ lw_all := lw_g (lw_at lw_m4 227 rfl) rfl
theorem q1143 : (Jvm.Cond.methodLink "CrossingWords" (227 : Nat) ({ cls := "CrossingWords$Run", name := "term", desc := "(I)I" } : Jvm.MethodName)) ∈ lw_all := lw_g (lw_at lw_m5 89 rfl) rfl
theorem q1165 : (Jvm.Cond.instanceMethod ({ cls := "CrossingWords", name := "open", desc := "(IIIII)I" } : Jvm.MethodName)) ∈ lw_all := lw_g (lw_at lw_m5 111 rfl) rfl
theorem q1166 : (Jvm.Cond.selects "CrossingWords" ({ cls := "CrossingWords", name := "open", desc := "(IIIII)I" } : Jvm.MethodName) ({ cls := "CrossingWords", name := "open", desc := "(IIIII)I" } : Jvm.MethodName)) ∈ lw_all := lw_g (lw_at lw_m5 112 rfl) rfl
theorem q1167 : (Jvm.Cond.code ({ cls := "CrossingWords", name := "open", desc := "(IIIII)I" } : Jvm.MethodName) prog_1_method_24_code (8 : Nat) (Option.some Jvm.ClassFile.FieldType.int)) ∈ lw_all := lw_g (lw_at lw_m5 113 rfl) rfl
theorem q1168 : (Jvm.Cond.methodLink "CrossingWords" (230 : Nat) ({ cls := "CrossingWords$Saying", name := "isOffer", desc := "(LCrossingWords$Rules;)Z" } : Jvm.MethodName)) ∈ lw_all := lw_g (lw_at lw_m5 114 rfl) rfl
theorem q1170 : (Jvm.Cond.instanceMethod ({ cls := "CrossingWords", name := "binds", desc := "(III)I" } : Jvm.MethodName)) ∈ lw_all := lw_g (lw_at lw_m5 116 rfl) rfl
theorem q1171 : (Jvm.Cond.selects "CrossingWords" ({ cls := "CrossingWords", name := "binds", desc := "(III)I" } : Jvm.MethodName) ({ cls := "CrossingWords", name := "binds", desc := "(III)I" } : Jvm.MethodName)) ∈ lw_all := lw_g (lw_at lw_m5 117 rfl) rfl
theorem q1172 : (Jvm.Cond.code ({ cls := "CrossingWords", name := "binds", desc := "(III)I" } : Jvm.MethodName) prog_1_method_25_code (5 : Nat) (Option.some Jvm.ClassFile.FieldType.int)) ∈ lw_all := lw_g (lw_at lw_m5 118 rfl) rfl
theorem q1174 : (Jvm.Cond.instanceMethod ({ cls := "CrossingWords", name := "sure", desc := "(III)I" } : Jvm.MethodName)) ∈ lw_all := lw_g (lw_at lw_m5 120 rfl) rfl
theorem q1175 : (Jvm.Cond.selects "CrossingWords" ({ cls := "CrossingWords", name := "sure", desc := "(III)I" } : Jvm.MethodName) ({ cls := "CrossingWords", name := "sure", desc := "(III)I" } : Jvm.MethodName)) ∈ lw_all := lw_g (lw_at lw_m5 121 rfl) rfl
theorem q1176 : (Jvm.Cond.code ({ cls := "CrossingWords", name := "sure", desc := "(III)I" } : Jvm.MethodName) prog_1_method_26_code (13 : Nat) (Option.some Jvm.ClassFile.FieldType.int)) ∈ lw_all := lw_g (lw_at lw_m5 122 rfl) rfl
theorem q1177 : (Jvm.Cond.methodLink "CrossingWords" (243 : Nat) ({ cls := "java/lang/Math", name := "max", desc := "(II)I" } : Jvm.MethodName)) ∈ lw_all := lw_g (lw_at lw_m5 123 rfl) rfl
theorem q1179 : (Jvm.Cond.instanceMethod ({ cls := "CrossingWords", name := "does", desc := "(IIII)I" } : Jvm.MethodName)) ∈ lw_all := lw_g (lw_at lw_m5 125 rfl) rfl
theorem q1180 : (Jvm.Cond.selects "CrossingWords" ({ cls := "CrossingWords", name := "does", desc := "(IIII)I" } : Jvm.MethodName) ({ cls := "CrossingWords", name := "does", desc := "(IIII)I" } : Jvm.MethodName)) ∈ lw_all := lw_g (lw_at lw_m5 126 rfl) rfl
theorem q1181 : (Jvm.Cond.code ({ cls := "CrossingWords", name := "does", desc := "(IIII)I" } : Jvm.MethodName) prog_1_method_27_code (5 : Nat) (Option.some Jvm.ClassFile.FieldType.int)) ∈ lw_all := lw_g (lw_at lw_m5 127 rfl) rfl
theorem q1182 : (Jvm.Cond.methodLink "CrossingWords" (249 : Nat) ({ cls := "CrossingWords$Run", name := "does", desc := "(LCrossingWords$Saying;)I" } : Jvm.MethodName)) ∈ lw_all := lw_g (lw_at lw_m5 128 rfl) rfl
theorem q1192 : (Jvm.Cond.instanceMethod ({ cls := "CrossingWords", name := "can", desc := "(IIIII)I" } : Jvm.MethodName)) ∈ lw_all := lw_g (lw_at lw_m5 138 rfl) rfl
theorem q1193 : (Jvm.Cond.selects "CrossingWords" ({ cls := "CrossingWords", name := "can", desc := "(IIIII)I" } : Jvm.MethodName) ({ cls := "CrossingWords", name := "can", desc := "(IIIII)I" } : Jvm.MethodName)) ∈ lw_all := lw_g (lw_at lw_m5 139 rfl) rfl
theorem q1194 : (Jvm.Cond.code ({ cls := "CrossingWords", name := "can", desc := "(IIIII)I" } : Jvm.MethodName) prog_1_method_29_code (6 : Nat) (Option.some Jvm.ClassFile.FieldType.int)) ∈ lw_all := lw_g (lw_at lw_m5 140 rfl) rfl
theorem q1195 : (Jvm.Cond.methodLink "CrossingWords" (253 : Nat) ({ cls := "CrossingWords", name := "isHand", desc := "(I)Z" } : Jvm.MethodName)) ∈ lw_all := lw_g (lw_at lw_m5 141 rfl) rfl
theorem q1196 : (Jvm.Cond.static ({ cls := "CrossingWords", name := "isHand", desc := "(I)Z" } : Jvm.MethodName)) ∈ lw_all := lw_g (lw_at lw_m5 142 rfl) rfl
theorem q1197 : (Jvm.Cond.code ({ cls := "CrossingWords", name := "isHand", desc := "(I)Z" } : Jvm.MethodName) prog_1_method_28_code (1 : Nat) (Option.some Jvm.ClassFile.FieldType.boolean)) ∈ lw_all := lw_g (lw_at lw_m5 143 rfl) rfl
theorem q1198 : (Jvm.Cond.methodLink "CrossingWords" (256 : Nat) ({ cls := "CrossingWords$Run", name := "can", desc := "(II)I" } : Jvm.MethodName)) ∈ lw_all := lw_g (lw_at lw_m5 144 rfl) rfl
theorem q1204 : (Jvm.Cond.instanceMethod ({ cls := "CrossingWords", name := "until", desc := "(IIIII)I" } : Jvm.MethodName)) ∈ lw_all := lw_g (lw_at lw_m5 150 rfl) rfl
theorem q1205 : (Jvm.Cond.selects "CrossingWords" ({ cls := "CrossingWords", name := "until", desc := "(IIIII)I" } : Jvm.MethodName) ({ cls := "CrossingWords", name := "until", desc := "(IIIII)I" } : Jvm.MethodName)) ∈ lw_all := lw_g (lw_at lw_m5 151 rfl) rfl
theorem q1206 : (Jvm.Cond.code ({ cls := "CrossingWords", name := "until", desc := "(IIIII)I" } : Jvm.MethodName) prog_1_method_30_code (8 : Nat) (Option.some Jvm.ClassFile.FieldType.int)) ∈ lw_all := lw_g (lw_at lw_m5 152 rfl) rfl
theorem q1208 : (Jvm.Cond.instanceMethod ({ cls := "CrossingWords", name := "lost", desc := "(III)I" } : Jvm.MethodName)) ∈ lw_all := lw_g (lw_at lw_m5 154 rfl) rfl
theorem q1209 : (Jvm.Cond.selects "CrossingWords" ({ cls := "CrossingWords", name := "lost", desc := "(III)I" } : Jvm.MethodName) ({ cls := "CrossingWords", name := "lost", desc := "(III)I" } : Jvm.MethodName)) ∈ lw_all := lw_g (lw_at lw_m5 155 rfl) rfl
theorem q1210 : (Jvm.Cond.code ({ cls := "CrossingWords", name := "lost", desc := "(III)I" } : Jvm.MethodName) prog_1_method_33_code (4 : Nat) (Option.some Jvm.ClassFile.FieldType.int)) ∈ lw_all := lw_g (lw_at lw_m5 156 rfl) rfl
theorem q1211 : (Jvm.Cond.methodLink "CrossingWords" (264 : Nat) ({ cls := "CrossingWords", name := "isSaying", desc := "(II)Z" } : Jvm.MethodName)) ∈ lw_all := lw_g (lw_at lw_m5 157 rfl) rfl
theorem q1212 : (Jvm.Cond.privateMethod ({ cls := "CrossingWords", name := "isSaying", desc := "(II)Z" } : Jvm.MethodName)) ∈ lw_tbl := lw_at lw_m5 158 rfl
theorem q1213 : (Jvm.Cond.instanceMethod ({ cls := "CrossingWords", name := "isSaying", desc := "(II)Z" } : Jvm.MethodName)) ∈ lw_all := lw_g (lw_at lw_m5 159 rfl) rfl
theorem q1214 : (Jvm.Cond.code ({ cls := "CrossingWords", name := "isSaying", desc := "(II)Z" } : Jvm.MethodName) prog_1_method_32_code (3 : Nat) (Option.some Jvm.ClassFile.FieldType.boolean)) ∈ lw_all := lw_g (lw_at lw_m5 160 rfl) rfl
theorem q1215 : (Jvm.Cond.methodLink "CrossingWords" (267 : Nat) ({ cls := "CrossingWords$Times", name := "lost", desc := "()LCrossingWords$Times;" } : Jvm.MethodName)) ∈ lw_all := lw_g (lw_at lw_m5 161 rfl) rfl
theorem q1221 : (Jvm.Cond.methodLink "CrossingWords" (271 : Nat) ({ cls := "CrossingWords", name := "with", desc := "(IIILCrossingWords$Times;)I" } : Jvm.MethodName)) ∈ lw_all := lw_g (lw_at lw_m5 167 rfl) rfl
theorem q1222 : (Jvm.Cond.privateMethod ({ cls := "CrossingWords", name := "with", desc := "(IIILCrossingWords$Times;)I" } : Jvm.MethodName)) ∈ lw_tbl := lw_at lw_m5 168 rfl
theorem q1223 : (Jvm.Cond.instanceMethod ({ cls := "CrossingWords", name := "with", desc := "(IIILCrossingWords$Times;)I" } : Jvm.MethodName)) ∈ lw_all := lw_g (lw_at lw_m5 169 rfl) rfl
theorem q1224 : (Jvm.Cond.code ({ cls := "CrossingWords", name := "with", desc := "(IIILCrossingWords$Times;)I" } : Jvm.MethodName) prog_1_method_31_code (11 : Nat) (Option.some Jvm.ClassFile.FieldType.int)) ∈ lw_all := lw_g (lw_at lw_m5 170 rfl) rfl
theorem q1225 : (Jvm.Cond.methodLinkNest "CrossingWords" (259 : Nat) ({ cls := "CrossingWords$Case", name := "<init>", desc := "()V" } : Jvm.MethodName) "CrossingWords") ∈ lw_tbl := lw_at lw_m5 171 rfl
theorem q1226 : (Jvm.Cond.methodLink "CrossingWords" (260 : Nat) ({ cls := "CrossingWords$Case", name := "is", desc := "(LCrossingWords$Case;)V" } : Jvm.MethodName)) ∈ lw_all := lw_g (lw_at lw_m5 172 rfl) rfl
theorem q1228 : (Jvm.Cond.instanceMethod ({ cls := "CrossingWords", name := "wired", desc := "(III)I" } : Jvm.MethodName)) ∈ lw_all := lw_g (lw_at lw_m5 174 rfl) rfl
theorem q1229 : (Jvm.Cond.selects "CrossingWords" ({ cls := "CrossingWords", name := "wired", desc := "(III)I" } : Jvm.MethodName) ({ cls := "CrossingWords", name := "wired", desc := "(III)I" } : Jvm.MethodName)) ∈ lw_all := lw_g (lw_at lw_m5 175 rfl) rfl
theorem q1230 : (Jvm.Cond.code ({ cls := "CrossingWords", name := "wired", desc := "(III)I" } : Jvm.MethodName) prog_1_method_34_code (4 : Nat) (Option.some Jvm.ClassFile.FieldType.int)) ∈ lw_all := lw_g (lw_at lw_m5 176 rfl) rfl
theorem q1231 : (Jvm.Cond.methodLink "CrossingWords" (275 : Nat) ({ cls := "CrossingWords$Times", name := "wired", desc := "()LCrossingWords$Times;" } : Jvm.MethodName)) ∈ lw_all := lw_g (lw_at lw_m5 177 rfl) rfl
theorem q1237 : (Jvm.Cond.instanceMethod ({ cls := "CrossingWords", name := "image", desc := "()I" } : Jvm.MethodName)) ∈ lw_all := lw_g (lw_at lw_m5 183 rfl) rfl
theorem q1238 : (Jvm.Cond.selects "CrossingWords" ({ cls := "CrossingWords", name := "image", desc := "()I" } : Jvm.MethodName) ({ cls := "CrossingWords", name := "image", desc := "()I" } : Jvm.MethodName)) ∈ lw_all := lw_g (lw_at lw_m5 184 rfl) rfl
theorem q1239 : (Jvm.Cond.code ({ cls := "CrossingWords", name := "image", desc := "()I" } : Jvm.MethodName) prog_1_method_35_code (1 : Nat) (Option.some Jvm.ClassFile.FieldType.int)) ∈ lw_all := lw_g (lw_at lw_m5 185 rfl) rfl
theorem q1241 : (Jvm.Cond.methodLink "CrossingWords" (281 : Nat) ({ cls := "CrossingWords$Image", name := "<init>", desc := "(LCrossingWords;)V" } : Jvm.MethodName)) ∈ lw_all := lw_g (lw_at lw_m5 187 rfl) rfl
theorem q1270 : (Jvm.Cond.instanceMethod ({ cls := "CrossingWords", name := "back", desc := "(I)Z" } : Jvm.MethodName)) ∈ lw_all := lw_g (lw_at lw_m5 216 rfl) rfl
theorem q1271 : (Jvm.Cond.selects "CrossingWords" ({ cls := "CrossingWords", name := "back", desc := "(I)Z" } : Jvm.MethodName) ({ cls := "CrossingWords", name := "back", desc := "(I)Z" } : Jvm.MethodName)) ∈ lw_all := lw_g (lw_at lw_m5 217 rfl) rfl
theorem q1272 : (Jvm.Cond.code ({ cls := "CrossingWords", name := "back", desc := "(I)Z" } : Jvm.MethodName) prog_1_method_36_code (2 : Nat) (Option.some Jvm.ClassFile.FieldType.boolean)) ∈ lw_all := lw_g (lw_at lw_m5 218 rfl) rfl
theorem q1273 : (Jvm.Cond.methodLink "CrossingWords" (282 : Nat) ({ cls := "CrossingWords$Image", name := "puts", desc := "(LCrossingWords;)V" } : Jvm.MethodName)) ∈ lw_all := lw_g (lw_at lw_m5 219 rfl) rfl
theorem q1278 : (Jvm.Cond.instanceMethod ({ cls := "CrossingWords", name := "hang", desc := "(II)I" } : Jvm.MethodName)) ∈ lw_all := lw_g (lw_at lw_m5 224 rfl) rfl
theorem q1279 : (Jvm.Cond.selects "CrossingWords" ({ cls := "CrossingWords", name := "hang", desc := "(II)I" } : Jvm.MethodName) ({ cls := "CrossingWords", name := "hang", desc := "(II)I" } : Jvm.MethodName)) ∈ lw_all := lw_g (lw_at lw_m5 225 rfl) rfl
theorem q1280 : (Jvm.Cond.code ({ cls := "CrossingWords", name := "hang", desc := "(II)I" } : Jvm.MethodName) prog_1_method_38_code (7 : Nat) (Option.some Jvm.ClassFile.FieldType.int)) ∈ lw_all := lw_g (lw_at lw_m5 226 rfl) rfl
theorem q1281 : (Jvm.Cond.methodLink "CrossingWords" (288 : Nat) ({ cls := "java/lang/Integer", name := "bitCount", desc := "(I)I" } : Jvm.MethodName)) ∈ lw_all := lw_g (lw_at lw_m5 227 rfl) rfl
theorem q1287 : (Jvm.Cond.methodLink "CrossingWords" (293 : Nat) ({ cls := "CrossingWords", name := "tells", desc := "(LCrossingWords$Case;I)Z" } : Jvm.MethodName)) ∈ lw_all := lw_g (lw_at lw_m5 233 rfl) rfl
theorem q1288 : (Jvm.Cond.privateMethod ({ cls := "CrossingWords", name := "tells", desc := "(LCrossingWords$Case;I)Z" } : Jvm.MethodName)) ∈ lw_tbl := lw_at lw_m5 234 rfl
theorem q1289 : (Jvm.Cond.instanceMethod ({ cls := "CrossingWords", name := "tells", desc := "(LCrossingWords$Case;I)Z" } : Jvm.MethodName)) ∈ lw_all := lw_g (lw_at lw_m5 235 rfl) rfl
theorem q1290 : (Jvm.Cond.code ({ cls := "CrossingWords", name := "tells", desc := "(LCrossingWords$Case;I)Z" } : Jvm.MethodName) prog_1_method_37_code (8 : Nat) (Option.some Jvm.ClassFile.FieldType.boolean)) ∈ lw_all := lw_g (lw_at lw_m5 236 rfl) rfl
theorem q1292 : (Jvm.Cond.instanceMethod ({ cls := "CrossingWords", name := "bears", desc := "(IIII)I" } : Jvm.MethodName)) ∈ lw_all := lw_g (lw_at lw_m5 238 rfl) rfl
theorem q1293 : (Jvm.Cond.selects "CrossingWords" ({ cls := "CrossingWords", name := "bears", desc := "(IIII)I" } : Jvm.MethodName) ({ cls := "CrossingWords", name := "bears", desc := "(IIII)I" } : Jvm.MethodName)) ∈ lw_all := lw_g (lw_at lw_m5 239 rfl) rfl
theorem q1294 : (Jvm.Cond.code ({ cls := "CrossingWords", name := "bears", desc := "(IIII)I" } : Jvm.MethodName) prog_1_method_39_code (6 : Nat) (Option.some Jvm.ClassFile.FieldType.int)) ∈ lw_all := lw_g (lw_at lw_m6 0 rfl) rfl
theorem q1295 : (Jvm.Cond.methodLink "CrossingWords" (297 : Nat) ({ cls := "java/lang/Math", name := "min", desc := "(II)I" } : Jvm.MethodName)) ∈ lw_all := lw_g (lw_at lw_m6 1 rfl) rfl
theorem q1296 : (Jvm.Cond.methodLink "CrossingWords" (300 : Nat) ({ cls := "CrossingWords$Run", name := "bears", desc := "(I)I" } : Jvm.MethodName)) ∈ lw_all := lw_g (lw_at lw_m6 2 rfl) rfl
theorem q1307 : (Jvm.Cond.instanceMethod ({ cls := "CrossingWords", name := "judge", desc := "(IIIII)I" } : Jvm.MethodName)) ∈ lw_all := lw_g (lw_at lw_m6 13 rfl) rfl
theorem q1308 : (Jvm.Cond.selects "CrossingWords" ({ cls := "CrossingWords", name := "judge", desc := "(IIIII)I" } : Jvm.MethodName) ({ cls := "CrossingWords", name := "judge", desc := "(IIIII)I" } : Jvm.MethodName)) ∈ lw_all := lw_g (lw_at lw_m6 14 rfl) rfl
theorem q1309 : (Jvm.Cond.code ({ cls := "CrossingWords", name := "judge", desc := "(IIIII)I" } : Jvm.MethodName) prog_1_method_40_code (7 : Nat) (Option.some Jvm.ClassFile.FieldType.int)) ∈ lw_all := lw_g (lw_at lw_m6 15 rfl) rfl
theorem q1311 : (Jvm.Cond.instanceMethod ({ cls := "CrossingWords", name := "apart", desc := "(IIII)I" } : Jvm.MethodName)) ∈ lw_all := lw_g (lw_at lw_m6 17 rfl) rfl
theorem q1312 : (Jvm.Cond.selects "CrossingWords" ({ cls := "CrossingWords", name := "apart", desc := "(IIII)I" } : Jvm.MethodName) ({ cls := "CrossingWords", name := "apart", desc := "(IIII)I" } : Jvm.MethodName)) ∈ lw_all := lw_g (lw_at lw_m6 18 rfl) rfl
theorem q1313 : (Jvm.Cond.code ({ cls := "CrossingWords", name := "apart", desc := "(IIII)I" } : Jvm.MethodName) prog_1_method_42_code (10 : Nat) (Option.some Jvm.ClassFile.FieldType.int)) ∈ lw_all := lw_g (lw_at lw_m6 19 rfl) rfl
theorem q1314 : (Jvm.Cond.methodLink "CrossingWords" (303 : Nat) ({ cls := "CrossingWords", name := "areApart", desc := "(LCrossingWords$Case;LCrossingWords$Rules;LCrossingWords$Rules;I)Z" } : Jvm.MethodName)) ∈ lw_all := lw_g (lw_at lw_m6 20 rfl) rfl
theorem q1315 : (Jvm.Cond.privateMethod ({ cls := "CrossingWords", name := "areApart", desc := "(LCrossingWords$Case;LCrossingWords$Rules;LCrossingWords$Rules;I)Z" } : Jvm.MethodName)) ∈ lw_tbl := lw_at lw_m6 21 rfl
theorem q1316 : (Jvm.Cond.instanceMethod ({ cls := "CrossingWords", name := "areApart", desc := "(LCrossingWords$Case;LCrossingWords$Rules;LCrossingWords$Rules;I)Z" } : Jvm.MethodName)) ∈ lw_all := lw_g (lw_at lw_m6 22 rfl) rfl
theorem q1317 : (Jvm.Cond.code ({ cls := "CrossingWords", name := "areApart", desc := "(LCrossingWords$Case;LCrossingWords$Rules;LCrossingWords$Rules;I)Z" } : Jvm.MethodName) prog_1_method_41_code (9 : Nat) (Option.some Jvm.ClassFile.FieldType.boolean)) ∈ lw_all := lw_g (lw_at lw_m6 23 rfl) rfl
theorem q1319 : (Jvm.Cond.instanceMethod ({ cls := "CrossingWords", name := "part", desc := "(II)I" } : Jvm.MethodName)) ∈ lw_all := lw_g (lw_at lw_m6 25 rfl) rfl
theorem q1320 : (Jvm.Cond.selects "CrossingWords" ({ cls := "CrossingWords", name := "part", desc := "(II)I" } : Jvm.MethodName) ({ cls := "CrossingWords", name := "part", desc := "(II)I" } : Jvm.MethodName)) ∈ lw_all := lw_g (lw_at lw_m6 26 rfl) rfl
theorem q1321 : (Jvm.Cond.code ({ cls := "CrossingWords", name := "part", desc := "(II)I" } : Jvm.MethodName) prog_1_method_43_code (10 : Nat) (Option.some Jvm.ClassFile.FieldType.int)) ∈ lw_all := lw_g (lw_at lw_m6 27 rfl) rfl
theorem q1323 : (Jvm.Cond.instanceMethod ({ cls := "CrossingWords", name := "write", desc := "(I)I" } : Jvm.MethodName)) ∈ lw_all := lw_g (lw_at lw_m6 29 rfl) rfl
theorem q1324 : (Jvm.Cond.selects "CrossingWords" ({ cls := "CrossingWords", name := "write", desc := "(I)I" } : Jvm.MethodName) ({ cls := "CrossingWords", name := "write", desc := "(I)I" } : Jvm.MethodName)) ∈ lw_all := lw_g (lw_at lw_m6 30 rfl) rfl
theorem q1325 : (Jvm.Cond.code ({ cls := "CrossingWords", name := "write", desc := "(I)I" } : Jvm.MethodName) prog_1_method_45_code (4 : Nat) (Option.some Jvm.ClassFile.FieldType.int)) ∈ lw_all := lw_g (lw_at lw_m6 31 rfl) rfl
theorem q1326 : (Jvm.Cond.methodLink "CrossingWords" (307 : Nat) ({ cls := "CrossingWords", name := "isSure", desc := "(LCrossingWords$Case;I)Z" } : Jvm.MethodName)) ∈ lw_all := lw_g (lw_at lw_m6 32 rfl) rfl
theorem q1327 : (Jvm.Cond.privateMethod ({ cls := "CrossingWords", name := "isSure", desc := "(LCrossingWords$Case;I)Z" } : Jvm.MethodName)) ∈ lw_tbl := lw_at lw_m6 33 rfl
theorem q1328 : (Jvm.Cond.instanceMethod ({ cls := "CrossingWords", name := "isSure", desc := "(LCrossingWords$Case;I)Z" } : Jvm.MethodName)) ∈ lw_all := lw_g (lw_at lw_m6 34 rfl) rfl
theorem q1329 : (Jvm.Cond.code ({ cls := "CrossingWords", name := "isSure", desc := "(LCrossingWords$Case;I)Z" } : Jvm.MethodName) prog_1_method_44_code (6 : Nat) (Option.some Jvm.ClassFile.FieldType.boolean)) ∈ lw_all := lw_g (lw_at lw_m6 35 rfl) rfl
theorem q1331 : (Jvm.Cond.instanceMethod ({ cls := "CrossingWords", name := "count", desc := "(I)I" } : Jvm.MethodName)) ∈ lw_all := lw_g (lw_at lw_m6 37 rfl) rfl
theorem q1332 : (Jvm.Cond.selects "CrossingWords" ({ cls := "CrossingWords", name := "count", desc := "(I)I" } : Jvm.MethodName) ({ cls := "CrossingWords", name := "count", desc := "(I)I" } : Jvm.MethodName)) ∈ lw_all := lw_g (lw_at lw_m6 38 rfl) rfl
theorem q1333 : (Jvm.Cond.code ({ cls := "CrossingWords", name := "count", desc := "(I)I" } : Jvm.MethodName) prog_1_method_46_code (4 : Nat) (Option.some Jvm.ClassFile.FieldType.int)) ∈ lw_all := lw_g (lw_at lw_m6 39 rfl) rfl
theorem in_X0 : ∀ w ∈ wsX00, w ∈ lw_all := lw_in wsX00 [205, 207, 209, 211, 213, 215, 217, 219, 221, 223, 225, 227, 229, 231, 233] (by decide +kernel) (by decide +kernel)
